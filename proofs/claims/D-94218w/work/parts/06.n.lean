set_option maxRecDepth 100000
abbrev cX6_at : ByteArray := prog_29_method_53_code
def yX6_at : MethodName := ⟨RX6, "at", "(II)I"⟩
def dkwX6_at_0 : List UInt8 := [42, 180, 0, 51, 42, 180, 0, 48, 46, 28, 104, 27, 96, 172]
abbrev dktX6_at_0 : List UInt8 := dkwX6_at_0 ++ []
theorem dksX6_at_0 : cX6_at.data.toList.drop 0 = dktX6_at_0 := by decide +kernel
theorem dX6_at_0 : decode cX6_at 0 = .ok (.aload_n 0, 1) := dk_42 (dk_at dksX6_at_0 0 rfl rfl)
theorem dX6_at_1 : decode cX6_at 1 = .ok (.getfield 51, 3) := dk_180 0 51 (dk_at dksX6_at_0 1 rfl rfl)
theorem dX6_at_4 : decode cX6_at 4 = .ok (.aload_n 0, 1) := dk_42 (dk_at dksX6_at_0 4 rfl rfl)
theorem dX6_at_5 : decode cX6_at 5 = .ok (.getfield 48, 3) := dk_180 0 48 (dk_at dksX6_at_0 5 rfl rfl)
theorem dX6_at_8 : decode cX6_at 8 = .ok (.iaload, 1) := dk_46 (dk_at dksX6_at_0 8 rfl rfl)
theorem dX6_at_9 : decode cX6_at 9 = .ok (.iload_n 2, 1) := dk_28 (dk_at dksX6_at_0 9 rfl rfl)
theorem dX6_at_10 : decode cX6_at 10 = .ok (.imul, 1) := dk_104 (dk_at dksX6_at_0 10 rfl rfl)
theorem dX6_at_11 : decode cX6_at 11 = .ok (.iload_n 1, 1) := dk_27 (dk_at dksX6_at_0 11 rfl rfl)
theorem dX6_at_12 : decode cX6_at 12 = .ok (.iadd, 1) := dk_96 (dk_at dksX6_at_0 12 rfl rfl)
theorem dX6_at_13 : decode cX6_at 13 = .ok (.ireturn, 1) := dk_172 (dk_at dksX6_at_0 13 rfl rfl)
abbrev cX6_isQuiet : ByteArray := prog_29_method_59_code
def yX6_isQuiet : MethodName := ⟨RX6, "isQuiet", "(II)Z"⟩
def dkwX6_isQuiet_0 : List UInt8 := [42, 5, 27, 28, 42, 180, 0, 180, 27, 46, 182, 1, 217, 2, 159, 0, 7, 4, 167, 0, 4, 3, 172]
abbrev dktX6_isQuiet_0 : List UInt8 := dkwX6_isQuiet_0 ++ []
theorem dksX6_isQuiet_0 : cX6_isQuiet.data.toList.drop 0 = dktX6_isQuiet_0 := by decide +kernel
theorem dX6_isQuiet_0 : decode cX6_isQuiet 0 = .ok (.aload_n 0, 1) := dk_42 (dk_at dksX6_isQuiet_0 0 rfl rfl)
theorem dX6_isQuiet_1 : decode cX6_isQuiet 1 = .ok (.iconst 2, 1) := dk_5 (dk_at dksX6_isQuiet_0 1 rfl rfl)
theorem dX6_isQuiet_2 : decode cX6_isQuiet 2 = .ok (.iload_n 1, 1) := dk_27 (dk_at dksX6_isQuiet_0 2 rfl rfl)
theorem dX6_isQuiet_3 : decode cX6_isQuiet 3 = .ok (.iload_n 2, 1) := dk_28 (dk_at dksX6_isQuiet_0 3 rfl rfl)
theorem dX6_isQuiet_4 : decode cX6_isQuiet 4 = .ok (.aload_n 0, 1) := dk_42 (dk_at dksX6_isQuiet_0 4 rfl rfl)
theorem dX6_isQuiet_5 : decode cX6_isQuiet 5 = .ok (.getfield 180, 3) := dk_180 0 180 (dk_at dksX6_isQuiet_0 5 rfl rfl)
theorem dX6_isQuiet_8 : decode cX6_isQuiet 8 = .ok (.iload_n 1, 1) := dk_27 (dk_at dksX6_isQuiet_0 8 rfl rfl)
theorem dX6_isQuiet_9 : decode cX6_isQuiet 9 = .ok (.iaload, 1) := dk_46 (dk_at dksX6_isQuiet_0 9 rfl rfl)
theorem dX6_isQuiet_10 : decode cX6_isQuiet 10 = .ok (.invokevirtual 473, 3) := dk_182 1 217 (dk_at dksX6_isQuiet_0 10 rfl rfl)
theorem dX6_isQuiet_13 : decode cX6_isQuiet 13 = .ok (.iconst (-1), 1) := dk_2 (dk_at dksX6_isQuiet_0 13 rfl rfl)
theorem dX6_isQuiet_14 : decode cX6_isQuiet 14 = .ok (.if_icmp .eq 7, 3) := dk_159 0 7 (dk_at dksX6_isQuiet_0 14 rfl rfl)
theorem dX6_isQuiet_17 : decode cX6_isQuiet 17 = .ok (.iconst 1, 1) := dk_4 (dk_at dksX6_isQuiet_0 17 rfl rfl)
theorem dX6_isQuiet_18 : decode cX6_isQuiet 18 = .ok (.goto 4, 3) := dk_167 0 4 (dk_at dksX6_isQuiet_0 18 rfl rfl)
theorem dX6_isQuiet_21 : decode cX6_isQuiet 21 = .ok (.iconst 0, 1) := dk_3 (dk_at dksX6_isQuiet_0 21 rfl rfl)
theorem dX6_isQuiet_22 : decode cX6_isQuiet 22 = .ok (.ireturn, 1) := dk_172 (dk_at dksX6_isQuiet_0 22 rfl rfl)
abbrev cX6_has : ByteArray := prog_29_method_67_code
def yX6_has : MethodName := ⟨RX6, "has", "(I)I"⟩
def dkwX6_has_6 : List UInt8 := [167, 0, 4, 3, 96, 61, 132, 3, 1, 167, 255, 224, 28, 172, 2, 172]
abbrev dktX6_has_6 : List UInt8 := dkwX6_has_6 ++ []
def dkwX6_has_5 : List UInt8 := [29, 42, 180, 0, 69, 42, 180, 0, 48, 46, 162, 0, 25, 28, 42, 29, 182, 1, 246, 158, 0, 7, 4]
abbrev dktX6_has_5 : List UInt8 := dkwX6_has_5 ++ dktX6_has_6
def dkwX6_has_4 : List UInt8 := [46, 172, 42, 180, 0, 113, 42, 180, 0, 48, 46, 172, 42, 180, 0, 125, 42, 180, 0, 48, 46, 172, 3, 62]
abbrev dktX6_has_4 : List UInt8 := dkwX6_has_4 ++ dktX6_has_5
def dkwX6_has_3 : List UInt8 := [42, 180, 0, 48, 46, 172, 42, 180, 0, 88, 42, 180, 0, 48, 46, 172, 42, 180, 0, 98, 42, 180, 0, 48]
abbrev dktX6_has_3 : List UInt8 := dkwX6_has_3 ++ dktX6_has_4
def dkwX6_has_2 : List UInt8 := [42, 180, 0, 51, 42, 180, 0, 48, 46, 172, 42, 180, 0, 54, 42, 180, 0, 48, 46, 172, 42, 180, 0, 69]
abbrev dktX6_has_2 : List UInt8 := dkwX6_has_2 ++ dktX6_has_3
def dkwX6_has_1 : List UInt8 := [170, 0, 0, 0, 154, 0, 0, 0, 0, 0, 0, 0, 7, 0, 0, 0, 45, 0, 0, 0, 55, 0, 0, 0, 65, 0, 0, 0, 75, 0, 0, 0, 85, 0, 0, 0, 95, 0, 0, 0, 105, 0, 0, 0, 115]
abbrev dktX6_has_1 : List UInt8 := dkwX6_has_1 ++ dktX6_has_2
def dkwX6_has_0 : List UInt8 := [3, 61, 27]
abbrev dktX6_has_0 : List UInt8 := dkwX6_has_0 ++ dktX6_has_1
theorem dksX6_has_0 : cX6_has.data.toList.drop 0 = dktX6_has_0 := by decide +kernel
theorem dksX6_has_1 : cX6_has.data.toList.drop 3 = dktX6_has_1 := dk_seg dksX6_has_0 3 rfl rfl
theorem dksX6_has_2 : cX6_has.data.toList.drop 48 = dktX6_has_2 := dk_seg dksX6_has_1 45 rfl rfl
theorem dksX6_has_3 : cX6_has.data.toList.drop 72 = dktX6_has_3 := dk_seg dksX6_has_2 24 rfl rfl
theorem dksX6_has_4 : cX6_has.data.toList.drop 96 = dktX6_has_4 := dk_seg dksX6_has_3 24 rfl rfl
theorem dksX6_has_5 : cX6_has.data.toList.drop 120 = dktX6_has_5 := dk_seg dksX6_has_4 24 rfl rfl
theorem dksX6_has_6 : cX6_has.data.toList.drop 143 = dktX6_has_6 := dk_seg dksX6_has_5 23 rfl rfl
theorem dX6_has_0 : decode cX6_has 0 = .ok (.iconst 0, 1) := dk_3 (dk_at dksX6_has_0 0 rfl rfl)
theorem dX6_has_1 : decode cX6_has 1 = .ok (.istore_n 2, 1) := dk_61 (dk_at dksX6_has_0 1 rfl rfl)
theorem dX6_has_2 : decode cX6_has 2 = .ok (.iload_n 1, 1) := dk_27 (dk_at dksX6_has_0 2 rfl rfl)
theorem dX6_has_3 : decode cX6_has 3 = .ok (.tableswitch 154 0 7 #[45, 55, 65, 75, 85, 95, 105, 115], 45) := by decide +kernel
theorem dX6_has_48 : decode cX6_has 48 = .ok (.aload_n 0, 1) := dk_42 (dk_at dksX6_has_2 0 rfl rfl)
theorem dX6_has_49 : decode cX6_has 49 = .ok (.getfield 51, 3) := dk_180 0 51 (dk_at dksX6_has_2 1 rfl rfl)
theorem dX6_has_52 : decode cX6_has 52 = .ok (.aload_n 0, 1) := dk_42 (dk_at dksX6_has_2 4 rfl rfl)
theorem dX6_has_53 : decode cX6_has 53 = .ok (.getfield 48, 3) := dk_180 0 48 (dk_at dksX6_has_2 5 rfl rfl)
theorem dX6_has_56 : decode cX6_has 56 = .ok (.iaload, 1) := dk_46 (dk_at dksX6_has_2 8 rfl rfl)
theorem dX6_has_57 : decode cX6_has 57 = .ok (.ireturn, 1) := dk_172 (dk_at dksX6_has_2 9 rfl rfl)
theorem dX6_has_58 : decode cX6_has 58 = .ok (.aload_n 0, 1) := dk_42 (dk_at dksX6_has_2 10 rfl rfl)
theorem dX6_has_59 : decode cX6_has 59 = .ok (.getfield 54, 3) := dk_180 0 54 (dk_at dksX6_has_2 11 rfl rfl)
theorem dX6_has_62 : decode cX6_has 62 = .ok (.aload_n 0, 1) := dk_42 (dk_at dksX6_has_2 14 rfl rfl)
theorem dX6_has_63 : decode cX6_has 63 = .ok (.getfield 48, 3) := dk_180 0 48 (dk_at dksX6_has_2 15 rfl rfl)
theorem dX6_has_66 : decode cX6_has 66 = .ok (.iaload, 1) := dk_46 (dk_at dksX6_has_2 18 rfl rfl)
theorem dX6_has_67 : decode cX6_has 67 = .ok (.ireturn, 1) := dk_172 (dk_at dksX6_has_2 19 rfl rfl)
theorem dX6_has_68 : decode cX6_has 68 = .ok (.aload_n 0, 1) := dk_42 (dk_at dksX6_has_2 20 rfl rfl)
theorem dX6_has_69 : decode cX6_has 69 = .ok (.getfield 69, 3) := dk_180 0 69 (dk_at dksX6_has_2 21 rfl rfl)
theorem dX6_has_72 : decode cX6_has 72 = .ok (.aload_n 0, 1) := dk_42 (dk_at dksX6_has_3 0 rfl rfl)
theorem dX6_has_73 : decode cX6_has 73 = .ok (.getfield 48, 3) := dk_180 0 48 (dk_at dksX6_has_3 1 rfl rfl)
theorem dX6_has_76 : decode cX6_has 76 = .ok (.iaload, 1) := dk_46 (dk_at dksX6_has_3 4 rfl rfl)
theorem dX6_has_77 : decode cX6_has 77 = .ok (.ireturn, 1) := dk_172 (dk_at dksX6_has_3 5 rfl rfl)
theorem dX6_has_78 : decode cX6_has 78 = .ok (.aload_n 0, 1) := dk_42 (dk_at dksX6_has_3 6 rfl rfl)
theorem dX6_has_79 : decode cX6_has 79 = .ok (.getfield 88, 3) := dk_180 0 88 (dk_at dksX6_has_3 7 rfl rfl)
theorem dX6_has_82 : decode cX6_has 82 = .ok (.aload_n 0, 1) := dk_42 (dk_at dksX6_has_3 10 rfl rfl)
theorem dX6_has_83 : decode cX6_has 83 = .ok (.getfield 48, 3) := dk_180 0 48 (dk_at dksX6_has_3 11 rfl rfl)
theorem dX6_has_86 : decode cX6_has 86 = .ok (.iaload, 1) := dk_46 (dk_at dksX6_has_3 14 rfl rfl)
theorem dX6_has_87 : decode cX6_has 87 = .ok (.ireturn, 1) := dk_172 (dk_at dksX6_has_3 15 rfl rfl)
theorem dX6_has_88 : decode cX6_has 88 = .ok (.aload_n 0, 1) := dk_42 (dk_at dksX6_has_3 16 rfl rfl)
theorem dX6_has_89 : decode cX6_has 89 = .ok (.getfield 98, 3) := dk_180 0 98 (dk_at dksX6_has_3 17 rfl rfl)
theorem dX6_has_92 : decode cX6_has 92 = .ok (.aload_n 0, 1) := dk_42 (dk_at dksX6_has_3 20 rfl rfl)
theorem dX6_has_93 : decode cX6_has 93 = .ok (.getfield 48, 3) := dk_180 0 48 (dk_at dksX6_has_3 21 rfl rfl)
theorem dX6_has_96 : decode cX6_has 96 = .ok (.iaload, 1) := dk_46 (dk_at dksX6_has_4 0 rfl rfl)
theorem dX6_has_97 : decode cX6_has 97 = .ok (.ireturn, 1) := dk_172 (dk_at dksX6_has_4 1 rfl rfl)
theorem dX6_has_98 : decode cX6_has 98 = .ok (.aload_n 0, 1) := dk_42 (dk_at dksX6_has_4 2 rfl rfl)
theorem dX6_has_99 : decode cX6_has 99 = .ok (.getfield 113, 3) := dk_180 0 113 (dk_at dksX6_has_4 3 rfl rfl)
theorem dX6_has_102 : decode cX6_has 102 = .ok (.aload_n 0, 1) := dk_42 (dk_at dksX6_has_4 6 rfl rfl)
theorem dX6_has_103 : decode cX6_has 103 = .ok (.getfield 48, 3) := dk_180 0 48 (dk_at dksX6_has_4 7 rfl rfl)
theorem dX6_has_106 : decode cX6_has 106 = .ok (.iaload, 1) := dk_46 (dk_at dksX6_has_4 10 rfl rfl)
theorem dX6_has_107 : decode cX6_has 107 = .ok (.ireturn, 1) := dk_172 (dk_at dksX6_has_4 11 rfl rfl)
theorem dX6_has_108 : decode cX6_has 108 = .ok (.aload_n 0, 1) := dk_42 (dk_at dksX6_has_4 12 rfl rfl)
theorem dX6_has_109 : decode cX6_has 109 = .ok (.getfield 125, 3) := dk_180 0 125 (dk_at dksX6_has_4 13 rfl rfl)
theorem dX6_has_112 : decode cX6_has 112 = .ok (.aload_n 0, 1) := dk_42 (dk_at dksX6_has_4 16 rfl rfl)
theorem dX6_has_113 : decode cX6_has 113 = .ok (.getfield 48, 3) := dk_180 0 48 (dk_at dksX6_has_4 17 rfl rfl)
theorem dX6_has_116 : decode cX6_has 116 = .ok (.iaload, 1) := dk_46 (dk_at dksX6_has_4 20 rfl rfl)
theorem dX6_has_117 : decode cX6_has 117 = .ok (.ireturn, 1) := dk_172 (dk_at dksX6_has_4 21 rfl rfl)
theorem dX6_has_118 : decode cX6_has 118 = .ok (.iconst 0, 1) := dk_3 (dk_at dksX6_has_4 22 rfl rfl)
theorem dX6_has_119 : decode cX6_has 119 = .ok (.istore_n 3, 1) := dk_62 (dk_at dksX6_has_4 23 rfl rfl)
theorem dX6_has_120 : decode cX6_has 120 = .ok (.iload_n 3, 1) := dk_29 (dk_at dksX6_has_5 0 rfl rfl)
theorem dX6_has_121 : decode cX6_has 121 = .ok (.aload_n 0, 1) := dk_42 (dk_at dksX6_has_5 1 rfl rfl)
theorem dX6_has_122 : decode cX6_has 122 = .ok (.getfield 69, 3) := dk_180 0 69 (dk_at dksX6_has_5 2 rfl rfl)
theorem dX6_has_125 : decode cX6_has 125 = .ok (.aload_n 0, 1) := dk_42 (dk_at dksX6_has_5 5 rfl rfl)
theorem dX6_has_126 : decode cX6_has 126 = .ok (.getfield 48, 3) := dk_180 0 48 (dk_at dksX6_has_5 6 rfl rfl)
theorem dX6_has_129 : decode cX6_has 129 = .ok (.iaload, 1) := dk_46 (dk_at dksX6_has_5 9 rfl rfl)
theorem dX6_has_130 : decode cX6_has 130 = .ok (.if_icmp .ge 25, 3) := dk_162 0 25 (dk_at dksX6_has_5 10 rfl rfl)
theorem dX6_has_133 : decode cX6_has 133 = .ok (.iload_n 2, 1) := dk_28 (dk_at dksX6_has_5 13 rfl rfl)
theorem dX6_has_134 : decode cX6_has 134 = .ok (.aload_n 0, 1) := dk_42 (dk_at dksX6_has_5 14 rfl rfl)
theorem dX6_has_135 : decode cX6_has 135 = .ok (.iload_n 3, 1) := dk_29 (dk_at dksX6_has_5 15 rfl rfl)
theorem dX6_has_136 : decode cX6_has 136 = .ok (.invokevirtual 502, 3) := dk_182 1 246 (dk_at dksX6_has_5 16 rfl rfl)
theorem dX6_has_139 : decode cX6_has 139 = .ok (.ifCond .le 7, 3) := dk_158 0 7 (dk_at dksX6_has_5 19 rfl rfl)
theorem dX6_has_142 : decode cX6_has 142 = .ok (.iconst 1, 1) := dk_4 (dk_at dksX6_has_5 22 rfl rfl)
theorem dX6_has_143 : decode cX6_has 143 = .ok (.goto 4, 3) := dk_167 0 4 (dk_at dksX6_has_6 0 rfl rfl)
theorem dX6_has_146 : decode cX6_has 146 = .ok (.iconst 0, 1) := dk_3 (dk_at dksX6_has_6 3 rfl rfl)
theorem dX6_has_147 : decode cX6_has 147 = .ok (.iadd, 1) := dk_96 (dk_at dksX6_has_6 4 rfl rfl)
theorem dX6_has_148 : decode cX6_has 148 = .ok (.istore_n 2, 1) := dk_61 (dk_at dksX6_has_6 5 rfl rfl)
theorem dX6_has_149 : decode cX6_has 149 = .ok (.iinc 3 1, 3) := dk_132 3 1 (dk_at dksX6_has_6 6 rfl rfl)
theorem dX6_has_152 : decode cX6_has 152 = .ok (.goto (-32), 3) := dk_167 255 224 (dk_at dksX6_has_6 9 rfl rfl)
theorem dX6_has_155 : decode cX6_has 155 = .ok (.iload_n 2, 1) := dk_28 (dk_at dksX6_has_6 12 rfl rfl)
theorem dX6_has_156 : decode cX6_has 156 = .ok (.ireturn, 1) := dk_172 (dk_at dksX6_has_6 13 rfl rfl)
theorem dX6_has_157 : decode cX6_has 157 = .ok (.iconst (-1), 1) := dk_2 (dk_at dksX6_has_6 14 rfl rfl)
theorem dX6_has_158 : decode cX6_has 158 = .ok (.ireturn, 1) := dk_172 (dk_at dksX6_has_6 15 rfl rfl)
abbrev cX6_sayingsOf : ByteArray := prog_29_method_63_code
def yX6_sayingsOf : MethodName := ⟨RX6, "sayingsOf", "(I)I"⟩
def dkwX6_sayingsOf_1 : List UInt8 := [167, 0, 4, 3, 96, 61, 132, 3, 1, 167, 255, 229, 28, 172]
abbrev dktX6_sayingsOf_1 : List UInt8 := dkwX6_sayingsOf_1 ++ []
def dkwX6_sayingsOf_0 : List UInt8 := [3, 61, 3, 62, 29, 16, 48, 162, 0, 27, 28, 42, 27, 29, 182, 1, 243, 2, 159, 0, 7, 4]
abbrev dktX6_sayingsOf_0 : List UInt8 := dkwX6_sayingsOf_0 ++ dktX6_sayingsOf_1
theorem dksX6_sayingsOf_0 : cX6_sayingsOf.data.toList.drop 0 = dktX6_sayingsOf_0 := by decide +kernel
theorem dksX6_sayingsOf_1 : cX6_sayingsOf.data.toList.drop 22 = dktX6_sayingsOf_1 := dk_seg dksX6_sayingsOf_0 22 rfl rfl
theorem dX6_sayingsOf_0 : decode cX6_sayingsOf 0 = .ok (.iconst 0, 1) := dk_3 (dk_at dksX6_sayingsOf_0 0 rfl rfl)
theorem dX6_sayingsOf_1 : decode cX6_sayingsOf 1 = .ok (.istore_n 2, 1) := dk_61 (dk_at dksX6_sayingsOf_0 1 rfl rfl)
theorem dX6_sayingsOf_2 : decode cX6_sayingsOf 2 = .ok (.iconst 0, 1) := dk_3 (dk_at dksX6_sayingsOf_0 2 rfl rfl)
theorem dX6_sayingsOf_3 : decode cX6_sayingsOf 3 = .ok (.istore_n 3, 1) := dk_62 (dk_at dksX6_sayingsOf_0 3 rfl rfl)
theorem dX6_sayingsOf_4 : decode cX6_sayingsOf 4 = .ok (.iload_n 3, 1) := dk_29 (dk_at dksX6_sayingsOf_0 4 rfl rfl)
theorem dX6_sayingsOf_5 : decode cX6_sayingsOf 5 = .ok (.bipush 48, 2) := dk_16 48 (dk_at dksX6_sayingsOf_0 5 rfl rfl)
theorem dX6_sayingsOf_7 : decode cX6_sayingsOf 7 = .ok (.if_icmp .ge 27, 3) := dk_162 0 27 (dk_at dksX6_sayingsOf_0 7 rfl rfl)
theorem dX6_sayingsOf_10 : decode cX6_sayingsOf 10 = .ok (.iload_n 2, 1) := dk_28 (dk_at dksX6_sayingsOf_0 10 rfl rfl)
theorem dX6_sayingsOf_11 : decode cX6_sayingsOf 11 = .ok (.aload_n 0, 1) := dk_42 (dk_at dksX6_sayingsOf_0 11 rfl rfl)
theorem dX6_sayingsOf_12 : decode cX6_sayingsOf 12 = .ok (.iload_n 1, 1) := dk_27 (dk_at dksX6_sayingsOf_0 12 rfl rfl)
theorem dX6_sayingsOf_13 : decode cX6_sayingsOf 13 = .ok (.iload_n 3, 1) := dk_29 (dk_at dksX6_sayingsOf_0 13 rfl rfl)
theorem dX6_sayingsOf_14 : decode cX6_sayingsOf 14 = .ok (.invokevirtual 499, 3) := dk_182 1 243 (dk_at dksX6_sayingsOf_0 14 rfl rfl)
theorem dX6_sayingsOf_17 : decode cX6_sayingsOf 17 = .ok (.iconst (-1), 1) := dk_2 (dk_at dksX6_sayingsOf_0 17 rfl rfl)
theorem dX6_sayingsOf_18 : decode cX6_sayingsOf 18 = .ok (.if_icmp .eq 7, 3) := dk_159 0 7 (dk_at dksX6_sayingsOf_0 18 rfl rfl)
theorem dX6_sayingsOf_21 : decode cX6_sayingsOf 21 = .ok (.iconst 1, 1) := dk_4 (dk_at dksX6_sayingsOf_0 21 rfl rfl)
theorem dX6_sayingsOf_22 : decode cX6_sayingsOf 22 = .ok (.goto 4, 3) := dk_167 0 4 (dk_at dksX6_sayingsOf_1 0 rfl rfl)
theorem dX6_sayingsOf_25 : decode cX6_sayingsOf 25 = .ok (.iconst 0, 1) := dk_3 (dk_at dksX6_sayingsOf_1 3 rfl rfl)
theorem dX6_sayingsOf_26 : decode cX6_sayingsOf 26 = .ok (.iadd, 1) := dk_96 (dk_at dksX6_sayingsOf_1 4 rfl rfl)
theorem dX6_sayingsOf_27 : decode cX6_sayingsOf 27 = .ok (.istore_n 2, 1) := dk_61 (dk_at dksX6_sayingsOf_1 5 rfl rfl)
theorem dX6_sayingsOf_28 : decode cX6_sayingsOf 28 = .ok (.iinc 3 1, 3) := dk_132 3 1 (dk_at dksX6_sayingsOf_1 6 rfl rfl)
theorem dX6_sayingsOf_31 : decode cX6_sayingsOf 31 = .ok (.goto (-27), 3) := dk_167 255 229 (dk_at dksX6_sayingsOf_1 9 rfl rfl)
theorem dX6_sayingsOf_34 : decode cX6_sayingsOf 34 = .ok (.iload_n 2, 1) := dk_28 (dk_at dksX6_sayingsOf_1 12 rfl rfl)
theorem dX6_sayingsOf_35 : decode cX6_sayingsOf 35 = .ok (.ireturn, 1) := dk_172 (dk_at dksX6_sayingsOf_1 13 rfl rfl)
abbrev cX6_said : ByteArray := prog_29_method_61_code
def yX6_said : MethodName := ⟨RX6, "said", "(II)I"⟩
def dkwX6_said_0 : List UInt8 := [42, 180, 0, 91, 17, 1, 128, 42, 180, 0, 48, 104, 16, 48, 27, 104, 96, 28, 96, 46, 172]
abbrev dktX6_said_0 : List UInt8 := dkwX6_said_0 ++ []
theorem dksX6_said_0 : cX6_said.data.toList.drop 0 = dktX6_said_0 := by decide +kernel
theorem dX6_said_0 : decode cX6_said 0 = .ok (.aload_n 0, 1) := dk_42 (dk_at dksX6_said_0 0 rfl rfl)
theorem dX6_said_1 : decode cX6_said 1 = .ok (.getfield 91, 3) := dk_180 0 91 (dk_at dksX6_said_0 1 rfl rfl)
theorem dX6_said_4 : decode cX6_said 4 = .ok (.sipush 384, 3) := dk_17 1 128 (dk_at dksX6_said_0 4 rfl rfl)
theorem dX6_said_7 : decode cX6_said 7 = .ok (.aload_n 0, 1) := dk_42 (dk_at dksX6_said_0 7 rfl rfl)
theorem dX6_said_8 : decode cX6_said 8 = .ok (.getfield 48, 3) := dk_180 0 48 (dk_at dksX6_said_0 8 rfl rfl)
theorem dX6_said_11 : decode cX6_said 11 = .ok (.imul, 1) := dk_104 (dk_at dksX6_said_0 11 rfl rfl)
theorem dX6_said_12 : decode cX6_said 12 = .ok (.bipush 48, 2) := dk_16 48 (dk_at dksX6_said_0 12 rfl rfl)
theorem dX6_said_14 : decode cX6_said 14 = .ok (.iload_n 1, 1) := dk_27 (dk_at dksX6_said_0 14 rfl rfl)
theorem dX6_said_15 : decode cX6_said 15 = .ok (.imul, 1) := dk_104 (dk_at dksX6_said_0 15 rfl rfl)
theorem dX6_said_16 : decode cX6_said 16 = .ok (.iadd, 1) := dk_96 (dk_at dksX6_said_0 16 rfl rfl)
theorem dX6_said_17 : decode cX6_said 17 = .ok (.iload_n 2, 1) := dk_28 (dk_at dksX6_said_0 17 rfl rfl)
theorem dX6_said_18 : decode cX6_said 18 = .ok (.iadd, 1) := dk_96 (dk_at dksX6_said_0 18 rfl rfl)
theorem dX6_said_19 : decode cX6_said 19 = .ok (.iaload, 1) := dk_46 (dk_at dksX6_said_0 19 rfl rfl)
theorem dX6_said_20 : decode cX6_said 20 = .ok (.ireturn, 1) := dk_172 (dk_at dksX6_said_0 20 rfl rfl)
abbrev cX6_letter : ByteArray := prog_29_method_68_code
def yX6_letter : MethodName := ⟨RX6, "letter", "(II)I"⟩
def dkwX6_letter_3 : List UInt8 := [28, 100, 104, 125, 20, 1, 252, 127, 136, 172]
abbrev dktX6_letter_3 : List UInt8 := dkwX6_letter_3 ++ []
def dkwX6_letter_2 : List UInt8 := [167, 255, 239, 28, 155, 0, 9, 28, 21, 5, 161, 0, 7, 2, 167, 0, 19, 33, 16, 8, 21, 5, 4, 100]
abbrev dktX6_letter_2 : List UInt8 := dkwX6_letter_2 ++ dktX6_letter_3
def dkwX6_letter_1 : List UInt8 := [66, 3, 54, 5, 33, 55, 6, 22, 6, 9, 148, 153, 0, 16, 132, 5, 1, 22, 6, 16, 8, 125, 55, 6]
abbrev dktX6_letter_1 : List UInt8 := dkwX6_letter_1 ++ dktX6_letter_2
def dkwX6_letter_0 : List UInt8 := [42, 27, 182, 1, 249, 154, 0, 5, 2, 172, 42, 180, 0, 72, 16, 8, 42, 180, 0, 48, 104, 27, 96, 47]
abbrev dktX6_letter_0 : List UInt8 := dkwX6_letter_0 ++ dktX6_letter_1
theorem dksX6_letter_0 : cX6_letter.data.toList.drop 0 = dktX6_letter_0 := by decide +kernel
theorem dksX6_letter_1 : cX6_letter.data.toList.drop 24 = dktX6_letter_1 := dk_seg dksX6_letter_0 24 rfl rfl
theorem dksX6_letter_2 : cX6_letter.data.toList.drop 48 = dktX6_letter_2 := dk_seg dksX6_letter_1 24 rfl rfl
theorem dksX6_letter_3 : cX6_letter.data.toList.drop 72 = dktX6_letter_3 := dk_seg dksX6_letter_2 24 rfl rfl
theorem dX6_letter_0 : decode cX6_letter 0 = .ok (.aload_n 0, 1) := dk_42 (dk_at dksX6_letter_0 0 rfl rfl)
theorem dX6_letter_1 : decode cX6_letter 1 = .ok (.iload_n 1, 1) := dk_27 (dk_at dksX6_letter_0 1 rfl rfl)
theorem dX6_letter_2 : decode cX6_letter 2 = .ok (.invokevirtual 505, 3) := dk_182 1 249 (dk_at dksX6_letter_0 2 rfl rfl)
theorem dX6_letter_5 : decode cX6_letter 5 = .ok (.ifCond .ne 5, 3) := dk_154 0 5 (dk_at dksX6_letter_0 5 rfl rfl)
theorem dX6_letter_8 : decode cX6_letter 8 = .ok (.iconst (-1), 1) := dk_2 (dk_at dksX6_letter_0 8 rfl rfl)
theorem dX6_letter_9 : decode cX6_letter 9 = .ok (.ireturn, 1) := dk_172 (dk_at dksX6_letter_0 9 rfl rfl)
theorem dX6_letter_10 : decode cX6_letter 10 = .ok (.aload_n 0, 1) := dk_42 (dk_at dksX6_letter_0 10 rfl rfl)
theorem dX6_letter_11 : decode cX6_letter 11 = .ok (.getfield 72, 3) := dk_180 0 72 (dk_at dksX6_letter_0 11 rfl rfl)
theorem dX6_letter_14 : decode cX6_letter 14 = .ok (.bipush 8, 2) := dk_16 8 (dk_at dksX6_letter_0 14 rfl rfl)
theorem dX6_letter_16 : decode cX6_letter 16 = .ok (.aload_n 0, 1) := dk_42 (dk_at dksX6_letter_0 16 rfl rfl)
theorem dX6_letter_17 : decode cX6_letter 17 = .ok (.getfield 48, 3) := dk_180 0 48 (dk_at dksX6_letter_0 17 rfl rfl)
theorem dX6_letter_20 : decode cX6_letter 20 = .ok (.imul, 1) := dk_104 (dk_at dksX6_letter_0 20 rfl rfl)
theorem dX6_letter_21 : decode cX6_letter 21 = .ok (.iload_n 1, 1) := dk_27 (dk_at dksX6_letter_0 21 rfl rfl)
theorem dX6_letter_22 : decode cX6_letter 22 = .ok (.iadd, 1) := dk_96 (dk_at dksX6_letter_0 22 rfl rfl)
theorem dX6_letter_23 : decode cX6_letter 23 = .ok (.laload, 1) := dk_47 (dk_at dksX6_letter_0 23 rfl rfl)
theorem dX6_letter_24 : decode cX6_letter 24 = .ok (.lstore_n 3, 1) := dk_66 (dk_at dksX6_letter_1 0 rfl rfl)
theorem dX6_letter_25 : decode cX6_letter 25 = .ok (.iconst 0, 1) := dk_3 (dk_at dksX6_letter_1 1 rfl rfl)
theorem dX6_letter_26 : decode cX6_letter 26 = .ok (.istore 5, 2) := dk_54 5 (dk_at dksX6_letter_1 2 rfl rfl)
theorem dX6_letter_28 : decode cX6_letter 28 = .ok (.lload_n 3, 1) := dk_33 (dk_at dksX6_letter_1 4 rfl rfl)
theorem dX6_letter_29 : decode cX6_letter 29 = .ok (.lstore 6, 2) := dk_55 6 (dk_at dksX6_letter_1 5 rfl rfl)
theorem dX6_letter_31 : decode cX6_letter 31 = .ok (.lload 6, 2) := dk_22 6 (dk_at dksX6_letter_1 7 rfl rfl)
theorem dX6_letter_33 : decode cX6_letter 33 = .ok (.lconst 0, 1) := dk_9 (dk_at dksX6_letter_1 9 rfl rfl)
theorem dX6_letter_34 : decode cX6_letter 34 = .ok (.lcmp, 1) := dk_148 (dk_at dksX6_letter_1 10 rfl rfl)
theorem dX6_letter_35 : decode cX6_letter 35 = .ok (.ifCond .eq 16, 3) := dk_153 0 16 (dk_at dksX6_letter_1 11 rfl rfl)
theorem dX6_letter_38 : decode cX6_letter 38 = .ok (.iinc 5 1, 3) := dk_132 5 1 (dk_at dksX6_letter_1 14 rfl rfl)
theorem dX6_letter_41 : decode cX6_letter 41 = .ok (.lload 6, 2) := dk_22 6 (dk_at dksX6_letter_1 17 rfl rfl)
theorem dX6_letter_43 : decode cX6_letter 43 = .ok (.bipush 8, 2) := dk_16 8 (dk_at dksX6_letter_1 19 rfl rfl)
theorem dX6_letter_45 : decode cX6_letter 45 = .ok (.lushr, 1) := dk_125 (dk_at dksX6_letter_1 21 rfl rfl)
theorem dX6_letter_46 : decode cX6_letter 46 = .ok (.lstore 6, 2) := dk_55 6 (dk_at dksX6_letter_1 22 rfl rfl)
theorem dX6_letter_48 : decode cX6_letter 48 = .ok (.goto (-17), 3) := dk_167 255 239 (dk_at dksX6_letter_2 0 rfl rfl)
theorem dX6_letter_51 : decode cX6_letter 51 = .ok (.iload_n 2, 1) := dk_28 (dk_at dksX6_letter_2 3 rfl rfl)
theorem dX6_letter_52 : decode cX6_letter 52 = .ok (.ifCond .lt 9, 3) := dk_155 0 9 (dk_at dksX6_letter_2 4 rfl rfl)
theorem dX6_letter_55 : decode cX6_letter 55 = .ok (.iload_n 2, 1) := dk_28 (dk_at dksX6_letter_2 7 rfl rfl)
theorem dX6_letter_56 : decode cX6_letter 56 = .ok (.iload 5, 2) := dk_21 5 (dk_at dksX6_letter_2 8 rfl rfl)
theorem dX6_letter_58 : decode cX6_letter 58 = .ok (.if_icmp .lt 7, 3) := dk_161 0 7 (dk_at dksX6_letter_2 10 rfl rfl)
theorem dX6_letter_61 : decode cX6_letter 61 = .ok (.iconst (-1), 1) := dk_2 (dk_at dksX6_letter_2 13 rfl rfl)
theorem dX6_letter_62 : decode cX6_letter 62 = .ok (.goto 19, 3) := dk_167 0 19 (dk_at dksX6_letter_2 14 rfl rfl)
theorem dX6_letter_65 : decode cX6_letter 65 = .ok (.lload_n 3, 1) := dk_33 (dk_at dksX6_letter_2 17 rfl rfl)
theorem dX6_letter_66 : decode cX6_letter 66 = .ok (.bipush 8, 2) := dk_16 8 (dk_at dksX6_letter_2 18 rfl rfl)
theorem dX6_letter_68 : decode cX6_letter 68 = .ok (.iload 5, 2) := dk_21 5 (dk_at dksX6_letter_2 20 rfl rfl)
theorem dX6_letter_70 : decode cX6_letter 70 = .ok (.iconst 1, 1) := dk_4 (dk_at dksX6_letter_2 22 rfl rfl)
theorem dX6_letter_71 : decode cX6_letter 71 = .ok (.isub, 1) := dk_100 (dk_at dksX6_letter_2 23 rfl rfl)
theorem dX6_letter_72 : decode cX6_letter 72 = .ok (.iload_n 2, 1) := dk_28 (dk_at dksX6_letter_3 0 rfl rfl)
theorem dX6_letter_73 : decode cX6_letter 73 = .ok (.isub, 1) := dk_100 (dk_at dksX6_letter_3 1 rfl rfl)
theorem dX6_letter_74 : decode cX6_letter 74 = .ok (.imul, 1) := dk_104 (dk_at dksX6_letter_3 2 rfl rfl)
theorem dX6_letter_75 : decode cX6_letter 75 = .ok (.lushr, 1) := dk_125 (dk_at dksX6_letter_3 3 rfl rfl)
theorem dX6_letter_76 : decode cX6_letter 76 = .ok (.ldc2_w 508, 3) := dk_20 1 252 (dk_at dksX6_letter_3 4 rfl rfl)
theorem dX6_letter_79 : decode cX6_letter 79 = .ok (.land, 1) := dk_127 (dk_at dksX6_letter_3 7 rfl rfl)
theorem dX6_letter_80 : decode cX6_letter 80 = .ok (.l2i, 1) := dk_136 (dk_at dksX6_letter_3 8 rfl rfl)
theorem dX6_letter_81 : decode cX6_letter 81 = .ok (.ireturn, 1) := dk_172 (dk_at dksX6_letter_3 9 rfl rfl)
abbrev cX6_isShip : ByteArray := prog_29_method_55_code
def yX6_isShip : MethodName := ⟨RX6, "isShip", "(I)Z"⟩
def dkwX6_isShip_0 : List UInt8 := [27, 3, 42, 180, 0, 69, 42, 180, 0, 48, 46, 4, 100, 184, 1, 87, 172]
abbrev dktX6_isShip_0 : List UInt8 := dkwX6_isShip_0 ++ []
theorem dksX6_isShip_0 : cX6_isShip.data.toList.drop 0 = dktX6_isShip_0 := by decide +kernel
theorem dX6_isShip_0 : decode cX6_isShip 0 = .ok (.iload_n 1, 1) := dk_27 (dk_at dksX6_isShip_0 0 rfl rfl)
theorem dX6_isShip_1 : decode cX6_isShip 1 = .ok (.iconst 0, 1) := dk_3 (dk_at dksX6_isShip_0 1 rfl rfl)
theorem dX6_isShip_2 : decode cX6_isShip 2 = .ok (.aload_n 0, 1) := dk_42 (dk_at dksX6_isShip_0 2 rfl rfl)
theorem dX6_isShip_3 : decode cX6_isShip 3 = .ok (.getfield 69, 3) := dk_180 0 69 (dk_at dksX6_isShip_0 3 rfl rfl)
theorem dX6_isShip_6 : decode cX6_isShip 6 = .ok (.aload_n 0, 1) := dk_42 (dk_at dksX6_isShip_0 6 rfl rfl)
theorem dX6_isShip_7 : decode cX6_isShip 7 = .ok (.getfield 48, 3) := dk_180 0 48 (dk_at dksX6_isShip_0 7 rfl rfl)
theorem dX6_isShip_10 : decode cX6_isShip 10 = .ok (.iaload, 1) := dk_46 (dk_at dksX6_isShip_0 10 rfl rfl)
theorem dX6_isShip_11 : decode cX6_isShip 11 = .ok (.iconst 1, 1) := dk_4 (dk_at dksX6_isShip_0 11 rfl rfl)
theorem dX6_isShip_12 : decode cX6_isShip 12 = .ok (.isub, 1) := dk_100 (dk_at dksX6_isShip_0 12 rfl rfl)
theorem dX6_isShip_13 : decode cX6_isShip 13 = .ok (.invokestatic 343, 3) := dk_184 1 87 (dk_at dksX6_isShip_0 13 rfl rfl)
theorem dX6_isShip_16 : decode cX6_isShip 16 = .ok (.ireturn, 1) := dk_172 (dk_at dksX6_isShip_0 16 rfl rfl)
abbrev cX6_far : ByteArray := prog_29_method_74_code
def yX6_far : MethodName := ⟨RX6, "far", "(IIIII)I"⟩
def dkwX6_far_3 : List UInt8 := [172]
abbrev dktX6_far_3 : List UInt8 := dkwX6_far_3 ++ []
def dkwX6_far_2 : List UInt8 := [21, 5, 182, 1, 237, 182, 2, 8, 54, 6, 21, 6, 17, 3, 232, 160, 0, 7, 2, 167, 0, 5, 21, 6]
abbrev dktX6_far_2 : List UInt8 := dkwX6_far_2 ++ dktX6_far_3
def dkwX6_far_1 : List UInt8 := [182, 1, 230, 154, 0, 5, 2, 172, 42, 27, 42, 28, 29, 182, 1, 237, 182, 2, 5, 42, 27, 42, 21, 4]
abbrev dktX6_far_1 : List UInt8 := dkwX6_far_1 ++ dktX6_far_2
def dkwX6_far_0 : List UInt8 := [42, 27, 182, 1, 249, 153, 0, 23, 42, 28, 29, 182, 1, 230, 153, 0, 14, 42, 21, 4, 21, 5]
abbrev dktX6_far_0 : List UInt8 := dkwX6_far_0 ++ dktX6_far_1
theorem dksX6_far_0 : cX6_far.data.toList.drop 0 = dktX6_far_0 := by decide +kernel
theorem dksX6_far_1 : cX6_far.data.toList.drop 22 = dktX6_far_1 := dk_seg dksX6_far_0 22 rfl rfl
theorem dksX6_far_2 : cX6_far.data.toList.drop 46 = dktX6_far_2 := dk_seg dksX6_far_1 24 rfl rfl
theorem dksX6_far_3 : cX6_far.data.toList.drop 70 = dktX6_far_3 := dk_seg dksX6_far_2 24 rfl rfl
theorem dX6_far_0 : decode cX6_far 0 = .ok (.aload_n 0, 1) := dk_42 (dk_at dksX6_far_0 0 rfl rfl)
theorem dX6_far_1 : decode cX6_far 1 = .ok (.iload_n 1, 1) := dk_27 (dk_at dksX6_far_0 1 rfl rfl)
theorem dX6_far_2 : decode cX6_far 2 = .ok (.invokevirtual 505, 3) := dk_182 1 249 (dk_at dksX6_far_0 2 rfl rfl)
theorem dX6_far_5 : decode cX6_far 5 = .ok (.ifCond .eq 23, 3) := dk_153 0 23 (dk_at dksX6_far_0 5 rfl rfl)
theorem dX6_far_8 : decode cX6_far 8 = .ok (.aload_n 0, 1) := dk_42 (dk_at dksX6_far_0 8 rfl rfl)
theorem dX6_far_9 : decode cX6_far 9 = .ok (.iload_n 2, 1) := dk_28 (dk_at dksX6_far_0 9 rfl rfl)
theorem dX6_far_10 : decode cX6_far 10 = .ok (.iload_n 3, 1) := dk_29 (dk_at dksX6_far_0 10 rfl rfl)
theorem dX6_far_11 : decode cX6_far 11 = .ok (.invokevirtual 486, 3) := dk_182 1 230 (dk_at dksX6_far_0 11 rfl rfl)
theorem dX6_far_14 : decode cX6_far 14 = .ok (.ifCond .eq 14, 3) := dk_153 0 14 (dk_at dksX6_far_0 14 rfl rfl)
theorem dX6_far_17 : decode cX6_far 17 = .ok (.aload_n 0, 1) := dk_42 (dk_at dksX6_far_0 17 rfl rfl)
theorem dX6_far_18 : decode cX6_far 18 = .ok (.iload 4, 2) := dk_21 4 (dk_at dksX6_far_0 18 rfl rfl)
theorem dX6_far_20 : decode cX6_far 20 = .ok (.iload 5, 2) := dk_21 5 (dk_at dksX6_far_0 20 rfl rfl)
theorem dX6_far_22 : decode cX6_far 22 = .ok (.invokevirtual 486, 3) := dk_182 1 230 (dk_at dksX6_far_1 0 rfl rfl)
theorem dX6_far_25 : decode cX6_far 25 = .ok (.ifCond .ne 5, 3) := dk_154 0 5 (dk_at dksX6_far_1 3 rfl rfl)
theorem dX6_far_28 : decode cX6_far 28 = .ok (.iconst (-1), 1) := dk_2 (dk_at dksX6_far_1 6 rfl rfl)
theorem dX6_far_29 : decode cX6_far 29 = .ok (.ireturn, 1) := dk_172 (dk_at dksX6_far_1 7 rfl rfl)
theorem dX6_far_30 : decode cX6_far 30 = .ok (.aload_n 0, 1) := dk_42 (dk_at dksX6_far_1 8 rfl rfl)
theorem dX6_far_31 : decode cX6_far 31 = .ok (.iload_n 1, 1) := dk_27 (dk_at dksX6_far_1 9 rfl rfl)
theorem dX6_far_32 : decode cX6_far 32 = .ok (.aload_n 0, 1) := dk_42 (dk_at dksX6_far_1 10 rfl rfl)
theorem dX6_far_33 : decode cX6_far 33 = .ok (.iload_n 2, 1) := dk_28 (dk_at dksX6_far_1 11 rfl rfl)
theorem dX6_far_34 : decode cX6_far 34 = .ok (.iload_n 3, 1) := dk_29 (dk_at dksX6_far_1 12 rfl rfl)
theorem dX6_far_35 : decode cX6_far 35 = .ok (.invokevirtual 493, 3) := dk_182 1 237 (dk_at dksX6_far_1 13 rfl rfl)
theorem dX6_far_38 : decode cX6_far 38 = .ok (.invokevirtual 517, 3) := dk_182 2 5 (dk_at dksX6_far_1 16 rfl rfl)
theorem dX6_far_41 : decode cX6_far 41 = .ok (.aload_n 0, 1) := dk_42 (dk_at dksX6_far_1 19 rfl rfl)
theorem dX6_far_42 : decode cX6_far 42 = .ok (.iload_n 1, 1) := dk_27 (dk_at dksX6_far_1 20 rfl rfl)
theorem dX6_far_43 : decode cX6_far 43 = .ok (.aload_n 0, 1) := dk_42 (dk_at dksX6_far_1 21 rfl rfl)
theorem dX6_far_44 : decode cX6_far 44 = .ok (.iload 4, 2) := dk_21 4 (dk_at dksX6_far_1 22 rfl rfl)
theorem dX6_far_46 : decode cX6_far 46 = .ok (.iload 5, 2) := dk_21 5 (dk_at dksX6_far_2 0 rfl rfl)
theorem dX6_far_48 : decode cX6_far 48 = .ok (.invokevirtual 493, 3) := dk_182 1 237 (dk_at dksX6_far_2 2 rfl rfl)
theorem dX6_far_51 : decode cX6_far 51 = .ok (.invokevirtual 520, 3) := dk_182 2 8 (dk_at dksX6_far_2 5 rfl rfl)
theorem dX6_far_54 : decode cX6_far 54 = .ok (.istore 6, 2) := dk_54 6 (dk_at dksX6_far_2 8 rfl rfl)
theorem dX6_far_56 : decode cX6_far 56 = .ok (.iload 6, 2) := dk_21 6 (dk_at dksX6_far_2 10 rfl rfl)
theorem dX6_far_58 : decode cX6_far 58 = .ok (.sipush 1000, 3) := dk_17 3 232 (dk_at dksX6_far_2 12 rfl rfl)
theorem dX6_far_61 : decode cX6_far 61 = .ok (.if_icmp .ne 7, 3) := dk_160 0 7 (dk_at dksX6_far_2 15 rfl rfl)
theorem dX6_far_64 : decode cX6_far 64 = .ok (.iconst (-1), 1) := dk_2 (dk_at dksX6_far_2 18 rfl rfl)
theorem dX6_far_65 : decode cX6_far 65 = .ok (.goto 5, 3) := dk_167 0 5 (dk_at dksX6_far_2 19 rfl rfl)
theorem dX6_far_68 : decode cX6_far 68 = .ok (.iload 6, 2) := dk_21 6 (dk_at dksX6_far_2 22 rfl rfl)
theorem dX6_far_70 : decode cX6_far 70 = .ok (.ireturn, 1) := dk_172 (dk_at dksX6_far_3 0 rfl rfl)
abbrev cX6_goes : ByteArray := prog_29_method_72_code
def yX6_goes : MethodName := ⟨RX6, "goes", "(II)V"⟩
def dkwX6_goes_6 : List UInt8 := [21, 6, 4, 96, 42, 180, 0, 186, 21, 4, 46, 4, 96, 182, 2, 1, 132, 3, 1, 167, 255, 141, 177]
abbrev dktX6_goes_6 : List UInt8 := dkwX6_goes_6 ++ []
def dkwX6_goes_5 : List UInt8 := [27, 21, 5, 21, 6, 4, 100, 42, 180, 0, 186, 21, 4, 46, 4, 96, 182, 2, 1, 42, 27, 21, 5]
abbrev dktX6_goes_5 : List UInt8 := dkwX6_goes_5 ++ dktX6_goes_6
def dkwX6_goes_4 : List UInt8 := [182, 2, 1, 42, 27, 21, 5, 4, 96, 21, 6, 42, 180, 0, 186, 21, 4, 46, 4, 96, 182, 2, 1, 42]
abbrev dktX6_goes_4 : List UInt8 := dkwX6_goes_4 ++ dktX6_goes_5
def dkwX6_goes_3 : List UInt8 := [21, 4, 182, 1, 210, 54, 6, 42, 27, 21, 5, 4, 100, 21, 6, 42, 180, 0, 186, 21, 4, 46, 4, 96]
abbrev dktX6_goes_3 : List UInt8 := dkwX6_goes_3 ++ dktX6_goes_4
def dkwX6_goes_2 : List UInt8 := [180, 0, 192, 162, 0, 113, 42, 180, 0, 189, 29, 46, 54, 4, 42, 21, 4, 182, 1, 207, 54, 5, 42]
abbrev dktX6_goes_2 : List UInt8 := dkwX6_goes_2 ++ dktX6_goes_3
def dkwX6_goes_1 : List UInt8 := [3, 181, 0, 192, 42, 27, 42, 28, 182, 1, 207, 42, 28, 182, 1, 210, 3, 182, 2, 1, 3, 62, 29, 42]
abbrev dktX6_goes_1 : List UInt8 := dkwX6_goes_1 ++ dktX6_goes_2
def dkwX6_goes_0 : List UInt8 := [3, 62, 29, 42, 182, 1, 223, 162, 0, 16, 42, 180, 0, 186, 29, 2, 79, 132, 3, 1, 167, 255, 238, 42]
abbrev dktX6_goes_0 : List UInt8 := dkwX6_goes_0 ++ dktX6_goes_1
theorem dksX6_goes_0 : cX6_goes.data.toList.drop 0 = dktX6_goes_0 := by decide +kernel
theorem dksX6_goes_1 : cX6_goes.data.toList.drop 24 = dktX6_goes_1 := dk_seg dksX6_goes_0 24 rfl rfl
theorem dksX6_goes_2 : cX6_goes.data.toList.drop 48 = dktX6_goes_2 := dk_seg dksX6_goes_1 24 rfl rfl
theorem dksX6_goes_3 : cX6_goes.data.toList.drop 71 = dktX6_goes_3 := dk_seg dksX6_goes_2 23 rfl rfl
theorem dksX6_goes_4 : cX6_goes.data.toList.drop 95 = dktX6_goes_4 := dk_seg dksX6_goes_3 24 rfl rfl
theorem dksX6_goes_5 : cX6_goes.data.toList.drop 119 = dktX6_goes_5 := dk_seg dksX6_goes_4 24 rfl rfl
theorem dksX6_goes_6 : cX6_goes.data.toList.drop 142 = dktX6_goes_6 := dk_seg dksX6_goes_5 23 rfl rfl
theorem dX6_goes_0 : decode cX6_goes 0 = .ok (.iconst 0, 1) := dk_3 (dk_at dksX6_goes_0 0 rfl rfl)
theorem dX6_goes_1 : decode cX6_goes 1 = .ok (.istore_n 3, 1) := dk_62 (dk_at dksX6_goes_0 1 rfl rfl)
theorem dX6_goes_2 : decode cX6_goes 2 = .ok (.iload_n 3, 1) := dk_29 (dk_at dksX6_goes_0 2 rfl rfl)
theorem dX6_goes_3 : decode cX6_goes 3 = .ok (.aload_n 0, 1) := dk_42 (dk_at dksX6_goes_0 3 rfl rfl)
theorem dX6_goes_4 : decode cX6_goes 4 = .ok (.invokevirtual 479, 3) := dk_182 1 223 (dk_at dksX6_goes_0 4 rfl rfl)
theorem dX6_goes_7 : decode cX6_goes 7 = .ok (.if_icmp .ge 16, 3) := dk_162 0 16 (dk_at dksX6_goes_0 7 rfl rfl)
theorem dX6_goes_10 : decode cX6_goes 10 = .ok (.aload_n 0, 1) := dk_42 (dk_at dksX6_goes_0 10 rfl rfl)
theorem dX6_goes_11 : decode cX6_goes 11 = .ok (.getfield 186, 3) := dk_180 0 186 (dk_at dksX6_goes_0 11 rfl rfl)
theorem dX6_goes_14 : decode cX6_goes 14 = .ok (.iload_n 3, 1) := dk_29 (dk_at dksX6_goes_0 14 rfl rfl)
theorem dX6_goes_15 : decode cX6_goes 15 = .ok (.iconst (-1), 1) := dk_2 (dk_at dksX6_goes_0 15 rfl rfl)
theorem dX6_goes_16 : decode cX6_goes 16 = .ok (.iastore, 1) := dk_79 (dk_at dksX6_goes_0 16 rfl rfl)
theorem dX6_goes_17 : decode cX6_goes 17 = .ok (.iinc 3 1, 3) := dk_132 3 1 (dk_at dksX6_goes_0 17 rfl rfl)
theorem dX6_goes_20 : decode cX6_goes 20 = .ok (.goto (-18), 3) := dk_167 255 238 (dk_at dksX6_goes_0 20 rfl rfl)
theorem dX6_goes_23 : decode cX6_goes 23 = .ok (.aload_n 0, 1) := dk_42 (dk_at dksX6_goes_0 23 rfl rfl)
theorem dX6_goes_24 : decode cX6_goes 24 = .ok (.iconst 0, 1) := dk_3 (dk_at dksX6_goes_1 0 rfl rfl)
theorem dX6_goes_25 : decode cX6_goes 25 = .ok (.putfield 192, 3) := dk_181 0 192 (dk_at dksX6_goes_1 1 rfl rfl)
theorem dX6_goes_28 : decode cX6_goes 28 = .ok (.aload_n 0, 1) := dk_42 (dk_at dksX6_goes_1 4 rfl rfl)
theorem dX6_goes_29 : decode cX6_goes 29 = .ok (.iload_n 1, 1) := dk_27 (dk_at dksX6_goes_1 5 rfl rfl)
theorem dX6_goes_30 : decode cX6_goes 30 = .ok (.aload_n 0, 1) := dk_42 (dk_at dksX6_goes_1 6 rfl rfl)
theorem dX6_goes_31 : decode cX6_goes 31 = .ok (.iload_n 2, 1) := dk_28 (dk_at dksX6_goes_1 7 rfl rfl)
theorem dX6_goes_32 : decode cX6_goes 32 = .ok (.invokevirtual 463, 3) := dk_182 1 207 (dk_at dksX6_goes_1 8 rfl rfl)
theorem dX6_goes_35 : decode cX6_goes 35 = .ok (.aload_n 0, 1) := dk_42 (dk_at dksX6_goes_1 11 rfl rfl)
theorem dX6_goes_36 : decode cX6_goes 36 = .ok (.iload_n 2, 1) := dk_28 (dk_at dksX6_goes_1 12 rfl rfl)
theorem dX6_goes_37 : decode cX6_goes 37 = .ok (.invokevirtual 466, 3) := dk_182 1 210 (dk_at dksX6_goes_1 13 rfl rfl)
theorem dX6_goes_40 : decode cX6_goes 40 = .ok (.iconst 0, 1) := dk_3 (dk_at dksX6_goes_1 16 rfl rfl)
theorem dX6_goes_41 : decode cX6_goes 41 = .ok (.invokevirtual 513, 3) := dk_182 2 1 (dk_at dksX6_goes_1 17 rfl rfl)
theorem dX6_goes_44 : decode cX6_goes 44 = .ok (.iconst 0, 1) := dk_3 (dk_at dksX6_goes_1 20 rfl rfl)
theorem dX6_goes_45 : decode cX6_goes 45 = .ok (.istore_n 3, 1) := dk_62 (dk_at dksX6_goes_1 21 rfl rfl)
theorem dX6_goes_46 : decode cX6_goes 46 = .ok (.iload_n 3, 1) := dk_29 (dk_at dksX6_goes_1 22 rfl rfl)
theorem dX6_goes_47 : decode cX6_goes 47 = .ok (.aload_n 0, 1) := dk_42 (dk_at dksX6_goes_1 23 rfl rfl)
theorem dX6_goes_48 : decode cX6_goes 48 = .ok (.getfield 192, 3) := dk_180 0 192 (dk_at dksX6_goes_2 0 rfl rfl)
theorem dX6_goes_51 : decode cX6_goes 51 = .ok (.if_icmp .ge 113, 3) := dk_162 0 113 (dk_at dksX6_goes_2 3 rfl rfl)
theorem dX6_goes_54 : decode cX6_goes 54 = .ok (.aload_n 0, 1) := dk_42 (dk_at dksX6_goes_2 6 rfl rfl)
theorem dX6_goes_55 : decode cX6_goes 55 = .ok (.getfield 189, 3) := dk_180 0 189 (dk_at dksX6_goes_2 7 rfl rfl)
theorem dX6_goes_58 : decode cX6_goes 58 = .ok (.iload_n 3, 1) := dk_29 (dk_at dksX6_goes_2 10 rfl rfl)
theorem dX6_goes_59 : decode cX6_goes 59 = .ok (.iaload, 1) := dk_46 (dk_at dksX6_goes_2 11 rfl rfl)
theorem dX6_goes_60 : decode cX6_goes 60 = .ok (.istore 4, 2) := dk_54 4 (dk_at dksX6_goes_2 12 rfl rfl)
theorem dX6_goes_62 : decode cX6_goes 62 = .ok (.aload_n 0, 1) := dk_42 (dk_at dksX6_goes_2 14 rfl rfl)
theorem dX6_goes_63 : decode cX6_goes 63 = .ok (.iload 4, 2) := dk_21 4 (dk_at dksX6_goes_2 15 rfl rfl)
theorem dX6_goes_65 : decode cX6_goes 65 = .ok (.invokevirtual 463, 3) := dk_182 1 207 (dk_at dksX6_goes_2 17 rfl rfl)
theorem dX6_goes_68 : decode cX6_goes 68 = .ok (.istore 5, 2) := dk_54 5 (dk_at dksX6_goes_2 20 rfl rfl)
theorem dX6_goes_70 : decode cX6_goes 70 = .ok (.aload_n 0, 1) := dk_42 (dk_at dksX6_goes_2 22 rfl rfl)
theorem dX6_goes_71 : decode cX6_goes 71 = .ok (.iload 4, 2) := dk_21 4 (dk_at dksX6_goes_3 0 rfl rfl)
theorem dX6_goes_73 : decode cX6_goes 73 = .ok (.invokevirtual 466, 3) := dk_182 1 210 (dk_at dksX6_goes_3 2 rfl rfl)
theorem dX6_goes_76 : decode cX6_goes 76 = .ok (.istore 6, 2) := dk_54 6 (dk_at dksX6_goes_3 5 rfl rfl)
theorem dX6_goes_78 : decode cX6_goes 78 = .ok (.aload_n 0, 1) := dk_42 (dk_at dksX6_goes_3 7 rfl rfl)
theorem dX6_goes_79 : decode cX6_goes 79 = .ok (.iload_n 1, 1) := dk_27 (dk_at dksX6_goes_3 8 rfl rfl)
theorem dX6_goes_80 : decode cX6_goes 80 = .ok (.iload 5, 2) := dk_21 5 (dk_at dksX6_goes_3 9 rfl rfl)
theorem dX6_goes_82 : decode cX6_goes 82 = .ok (.iconst 1, 1) := dk_4 (dk_at dksX6_goes_3 11 rfl rfl)
theorem dX6_goes_83 : decode cX6_goes 83 = .ok (.isub, 1) := dk_100 (dk_at dksX6_goes_3 12 rfl rfl)
theorem dX6_goes_84 : decode cX6_goes 84 = .ok (.iload 6, 2) := dk_21 6 (dk_at dksX6_goes_3 13 rfl rfl)
theorem dX6_goes_86 : decode cX6_goes 86 = .ok (.aload_n 0, 1) := dk_42 (dk_at dksX6_goes_3 15 rfl rfl)
theorem dX6_goes_87 : decode cX6_goes 87 = .ok (.getfield 186, 3) := dk_180 0 186 (dk_at dksX6_goes_3 16 rfl rfl)
theorem dX6_goes_90 : decode cX6_goes 90 = .ok (.iload 4, 2) := dk_21 4 (dk_at dksX6_goes_3 19 rfl rfl)
theorem dX6_goes_92 : decode cX6_goes 92 = .ok (.iaload, 1) := dk_46 (dk_at dksX6_goes_3 21 rfl rfl)
theorem dX6_goes_93 : decode cX6_goes 93 = .ok (.iconst 1, 1) := dk_4 (dk_at dksX6_goes_3 22 rfl rfl)
theorem dX6_goes_94 : decode cX6_goes 94 = .ok (.iadd, 1) := dk_96 (dk_at dksX6_goes_3 23 rfl rfl)
theorem dX6_goes_95 : decode cX6_goes 95 = .ok (.invokevirtual 513, 3) := dk_182 2 1 (dk_at dksX6_goes_4 0 rfl rfl)
theorem dX6_goes_98 : decode cX6_goes 98 = .ok (.aload_n 0, 1) := dk_42 (dk_at dksX6_goes_4 3 rfl rfl)
theorem dX6_goes_99 : decode cX6_goes 99 = .ok (.iload_n 1, 1) := dk_27 (dk_at dksX6_goes_4 4 rfl rfl)
theorem dX6_goes_100 : decode cX6_goes 100 = .ok (.iload 5, 2) := dk_21 5 (dk_at dksX6_goes_4 5 rfl rfl)
theorem dX6_goes_102 : decode cX6_goes 102 = .ok (.iconst 1, 1) := dk_4 (dk_at dksX6_goes_4 7 rfl rfl)
theorem dX6_goes_103 : decode cX6_goes 103 = .ok (.iadd, 1) := dk_96 (dk_at dksX6_goes_4 8 rfl rfl)
theorem dX6_goes_104 : decode cX6_goes 104 = .ok (.iload 6, 2) := dk_21 6 (dk_at dksX6_goes_4 9 rfl rfl)
theorem dX6_goes_106 : decode cX6_goes 106 = .ok (.aload_n 0, 1) := dk_42 (dk_at dksX6_goes_4 11 rfl rfl)
theorem dX6_goes_107 : decode cX6_goes 107 = .ok (.getfield 186, 3) := dk_180 0 186 (dk_at dksX6_goes_4 12 rfl rfl)
theorem dX6_goes_110 : decode cX6_goes 110 = .ok (.iload 4, 2) := dk_21 4 (dk_at dksX6_goes_4 15 rfl rfl)
theorem dX6_goes_112 : decode cX6_goes 112 = .ok (.iaload, 1) := dk_46 (dk_at dksX6_goes_4 17 rfl rfl)
theorem dX6_goes_113 : decode cX6_goes 113 = .ok (.iconst 1, 1) := dk_4 (dk_at dksX6_goes_4 18 rfl rfl)
theorem dX6_goes_114 : decode cX6_goes 114 = .ok (.iadd, 1) := dk_96 (dk_at dksX6_goes_4 19 rfl rfl)
theorem dX6_goes_115 : decode cX6_goes 115 = .ok (.invokevirtual 513, 3) := dk_182 2 1 (dk_at dksX6_goes_4 20 rfl rfl)
theorem dX6_goes_118 : decode cX6_goes 118 = .ok (.aload_n 0, 1) := dk_42 (dk_at dksX6_goes_4 23 rfl rfl)
theorem dX6_goes_119 : decode cX6_goes 119 = .ok (.iload_n 1, 1) := dk_27 (dk_at dksX6_goes_5 0 rfl rfl)
theorem dX6_goes_120 : decode cX6_goes 120 = .ok (.iload 5, 2) := dk_21 5 (dk_at dksX6_goes_5 1 rfl rfl)
theorem dX6_goes_122 : decode cX6_goes 122 = .ok (.iload 6, 2) := dk_21 6 (dk_at dksX6_goes_5 3 rfl rfl)
theorem dX6_goes_124 : decode cX6_goes 124 = .ok (.iconst 1, 1) := dk_4 (dk_at dksX6_goes_5 5 rfl rfl)
theorem dX6_goes_125 : decode cX6_goes 125 = .ok (.isub, 1) := dk_100 (dk_at dksX6_goes_5 6 rfl rfl)
theorem dX6_goes_126 : decode cX6_goes 126 = .ok (.aload_n 0, 1) := dk_42 (dk_at dksX6_goes_5 7 rfl rfl)
theorem dX6_goes_127 : decode cX6_goes 127 = .ok (.getfield 186, 3) := dk_180 0 186 (dk_at dksX6_goes_5 8 rfl rfl)
theorem dX6_goes_130 : decode cX6_goes 130 = .ok (.iload 4, 2) := dk_21 4 (dk_at dksX6_goes_5 11 rfl rfl)
theorem dX6_goes_132 : decode cX6_goes 132 = .ok (.iaload, 1) := dk_46 (dk_at dksX6_goes_5 13 rfl rfl)
theorem dX6_goes_133 : decode cX6_goes 133 = .ok (.iconst 1, 1) := dk_4 (dk_at dksX6_goes_5 14 rfl rfl)
theorem dX6_goes_134 : decode cX6_goes 134 = .ok (.iadd, 1) := dk_96 (dk_at dksX6_goes_5 15 rfl rfl)
theorem dX6_goes_135 : decode cX6_goes 135 = .ok (.invokevirtual 513, 3) := dk_182 2 1 (dk_at dksX6_goes_5 16 rfl rfl)
theorem dX6_goes_138 : decode cX6_goes 138 = .ok (.aload_n 0, 1) := dk_42 (dk_at dksX6_goes_5 19 rfl rfl)
theorem dX6_goes_139 : decode cX6_goes 139 = .ok (.iload_n 1, 1) := dk_27 (dk_at dksX6_goes_5 20 rfl rfl)
theorem dX6_goes_140 : decode cX6_goes 140 = .ok (.iload 5, 2) := dk_21 5 (dk_at dksX6_goes_5 21 rfl rfl)
theorem dX6_goes_142 : decode cX6_goes 142 = .ok (.iload 6, 2) := dk_21 6 (dk_at dksX6_goes_6 0 rfl rfl)
theorem dX6_goes_144 : decode cX6_goes 144 = .ok (.iconst 1, 1) := dk_4 (dk_at dksX6_goes_6 2 rfl rfl)
theorem dX6_goes_145 : decode cX6_goes 145 = .ok (.iadd, 1) := dk_96 (dk_at dksX6_goes_6 3 rfl rfl)
theorem dX6_goes_146 : decode cX6_goes 146 = .ok (.aload_n 0, 1) := dk_42 (dk_at dksX6_goes_6 4 rfl rfl)
theorem dX6_goes_147 : decode cX6_goes 147 = .ok (.getfield 186, 3) := dk_180 0 186 (dk_at dksX6_goes_6 5 rfl rfl)
theorem dX6_goes_150 : decode cX6_goes 150 = .ok (.iload 4, 2) := dk_21 4 (dk_at dksX6_goes_6 8 rfl rfl)
theorem dX6_goes_152 : decode cX6_goes 152 = .ok (.iaload, 1) := dk_46 (dk_at dksX6_goes_6 10 rfl rfl)
theorem dX6_goes_153 : decode cX6_goes 153 = .ok (.iconst 1, 1) := dk_4 (dk_at dksX6_goes_6 11 rfl rfl)
theorem dX6_goes_154 : decode cX6_goes 154 = .ok (.iadd, 1) := dk_96 (dk_at dksX6_goes_6 12 rfl rfl)
theorem dX6_goes_155 : decode cX6_goes 155 = .ok (.invokevirtual 513, 3) := dk_182 2 1 (dk_at dksX6_goes_6 13 rfl rfl)
theorem dX6_goes_158 : decode cX6_goes 158 = .ok (.iinc 3 1, 3) := dk_132 3 1 (dk_at dksX6_goes_6 16 rfl rfl)
theorem dX6_goes_161 : decode cX6_goes 161 = .ok (.goto (-115), 3) := dk_167 255 141 (dk_at dksX6_goes_6 19 rfl rfl)
theorem dX6_goes_164 : decode cX6_goes 164 = .ok (.return_, 1) := dk_177 (dk_at dksX6_goes_6 22 rfl rfl)
abbrev cX6_reaches : ByteArray := prog_29_method_71_code
def yX6_reaches : MethodName := ⟨RX6, "reaches", "(IIII)V"⟩
def dkwX6_reaches_2 : List UInt8 := [79, 42, 180, 0, 189, 42, 180, 0, 192, 21, 5, 79, 42, 89, 180, 0, 192, 4, 96, 181, 0, 192, 177]
abbrev dktX6_reaches_2 : List UInt8 := dkwX6_reaches_2 ++ []
def dkwX6_reaches_1 : List UInt8 := [46, 2, 160, 0, 13, 42, 27, 21, 5, 182, 1, 254, 154, 0, 4, 177, 42, 180, 0, 186, 21, 5, 21, 4]
abbrev dktX6_reaches_1 : List UInt8 := dkwX6_reaches_1 ++ dktX6_reaches_2
def dkwX6_reaches_0 : List UInt8 := [42, 28, 29, 182, 1, 230, 154, 0, 4, 177, 42, 28, 29, 182, 1, 237, 54, 5, 42, 180, 0, 186, 21, 5]
abbrev dktX6_reaches_0 : List UInt8 := dkwX6_reaches_0 ++ dktX6_reaches_1
theorem dksX6_reaches_0 : cX6_reaches.data.toList.drop 0 = dktX6_reaches_0 := by decide +kernel
theorem dksX6_reaches_1 : cX6_reaches.data.toList.drop 24 = dktX6_reaches_1 := dk_seg dksX6_reaches_0 24 rfl rfl
theorem dksX6_reaches_2 : cX6_reaches.data.toList.drop 48 = dktX6_reaches_2 := dk_seg dksX6_reaches_1 24 rfl rfl
theorem dX6_reaches_0 : decode cX6_reaches 0 = .ok (.aload_n 0, 1) := dk_42 (dk_at dksX6_reaches_0 0 rfl rfl)
theorem dX6_reaches_1 : decode cX6_reaches 1 = .ok (.iload_n 2, 1) := dk_28 (dk_at dksX6_reaches_0 1 rfl rfl)
theorem dX6_reaches_2 : decode cX6_reaches 2 = .ok (.iload_n 3, 1) := dk_29 (dk_at dksX6_reaches_0 2 rfl rfl)
theorem dX6_reaches_3 : decode cX6_reaches 3 = .ok (.invokevirtual 486, 3) := dk_182 1 230 (dk_at dksX6_reaches_0 3 rfl rfl)
theorem dX6_reaches_6 : decode cX6_reaches 6 = .ok (.ifCond .ne 4, 3) := dk_154 0 4 (dk_at dksX6_reaches_0 6 rfl rfl)
theorem dX6_reaches_9 : decode cX6_reaches 9 = .ok (.return_, 1) := dk_177 (dk_at dksX6_reaches_0 9 rfl rfl)
theorem dX6_reaches_10 : decode cX6_reaches 10 = .ok (.aload_n 0, 1) := dk_42 (dk_at dksX6_reaches_0 10 rfl rfl)
theorem dX6_reaches_11 : decode cX6_reaches 11 = .ok (.iload_n 2, 1) := dk_28 (dk_at dksX6_reaches_0 11 rfl rfl)
theorem dX6_reaches_12 : decode cX6_reaches 12 = .ok (.iload_n 3, 1) := dk_29 (dk_at dksX6_reaches_0 12 rfl rfl)
theorem dX6_reaches_13 : decode cX6_reaches 13 = .ok (.invokevirtual 493, 3) := dk_182 1 237 (dk_at dksX6_reaches_0 13 rfl rfl)
theorem dX6_reaches_16 : decode cX6_reaches 16 = .ok (.istore 5, 2) := dk_54 5 (dk_at dksX6_reaches_0 16 rfl rfl)
theorem dX6_reaches_18 : decode cX6_reaches 18 = .ok (.aload_n 0, 1) := dk_42 (dk_at dksX6_reaches_0 18 rfl rfl)
theorem dX6_reaches_19 : decode cX6_reaches 19 = .ok (.getfield 186, 3) := dk_180 0 186 (dk_at dksX6_reaches_0 19 rfl rfl)
theorem dX6_reaches_22 : decode cX6_reaches 22 = .ok (.iload 5, 2) := dk_21 5 (dk_at dksX6_reaches_0 22 rfl rfl)
theorem dX6_reaches_24 : decode cX6_reaches 24 = .ok (.iaload, 1) := dk_46 (dk_at dksX6_reaches_1 0 rfl rfl)
theorem dX6_reaches_25 : decode cX6_reaches 25 = .ok (.iconst (-1), 1) := dk_2 (dk_at dksX6_reaches_1 1 rfl rfl)
theorem dX6_reaches_26 : decode cX6_reaches 26 = .ok (.if_icmp .ne 13, 3) := dk_160 0 13 (dk_at dksX6_reaches_1 2 rfl rfl)
theorem dX6_reaches_29 : decode cX6_reaches 29 = .ok (.aload_n 0, 1) := dk_42 (dk_at dksX6_reaches_1 5 rfl rfl)
theorem dX6_reaches_30 : decode cX6_reaches 30 = .ok (.iload_n 1, 1) := dk_27 (dk_at dksX6_reaches_1 6 rfl rfl)
theorem dX6_reaches_31 : decode cX6_reaches 31 = .ok (.iload 5, 2) := dk_21 5 (dk_at dksX6_reaches_1 7 rfl rfl)
theorem dX6_reaches_33 : decode cX6_reaches 33 = .ok (.invokevirtual 510, 3) := dk_182 1 254 (dk_at dksX6_reaches_1 9 rfl rfl)
theorem dX6_reaches_36 : decode cX6_reaches 36 = .ok (.ifCond .ne 4, 3) := dk_154 0 4 (dk_at dksX6_reaches_1 12 rfl rfl)
theorem dX6_reaches_39 : decode cX6_reaches 39 = .ok (.return_, 1) := dk_177 (dk_at dksX6_reaches_1 15 rfl rfl)
theorem dX6_reaches_40 : decode cX6_reaches 40 = .ok (.aload_n 0, 1) := dk_42 (dk_at dksX6_reaches_1 16 rfl rfl)
theorem dX6_reaches_41 : decode cX6_reaches 41 = .ok (.getfield 186, 3) := dk_180 0 186 (dk_at dksX6_reaches_1 17 rfl rfl)
theorem dX6_reaches_44 : decode cX6_reaches 44 = .ok (.iload 5, 2) := dk_21 5 (dk_at dksX6_reaches_1 20 rfl rfl)
theorem dX6_reaches_46 : decode cX6_reaches 46 = .ok (.iload 4, 2) := dk_21 4 (dk_at dksX6_reaches_1 22 rfl rfl)
theorem dX6_reaches_48 : decode cX6_reaches 48 = .ok (.iastore, 1) := dk_79 (dk_at dksX6_reaches_2 0 rfl rfl)
theorem dX6_reaches_49 : decode cX6_reaches 49 = .ok (.aload_n 0, 1) := dk_42 (dk_at dksX6_reaches_2 1 rfl rfl)
theorem dX6_reaches_50 : decode cX6_reaches 50 = .ok (.getfield 189, 3) := dk_180 0 189 (dk_at dksX6_reaches_2 2 rfl rfl)
theorem dX6_reaches_53 : decode cX6_reaches 53 = .ok (.aload_n 0, 1) := dk_42 (dk_at dksX6_reaches_2 5 rfl rfl)
theorem dX6_reaches_54 : decode cX6_reaches 54 = .ok (.getfield 192, 3) := dk_180 0 192 (dk_at dksX6_reaches_2 6 rfl rfl)
theorem dX6_reaches_57 : decode cX6_reaches 57 = .ok (.iload 5, 2) := dk_21 5 (dk_at dksX6_reaches_2 9 rfl rfl)
theorem dX6_reaches_59 : decode cX6_reaches 59 = .ok (.iastore, 1) := dk_79 (dk_at dksX6_reaches_2 11 rfl rfl)
theorem dX6_reaches_60 : decode cX6_reaches 60 = .ok (.aload_n 0, 1) := dk_42 (dk_at dksX6_reaches_2 12 rfl rfl)
theorem dX6_reaches_61 : decode cX6_reaches 61 = .ok (.dup, 1) := dk_89 (dk_at dksX6_reaches_2 13 rfl rfl)
theorem dX6_reaches_62 : decode cX6_reaches 62 = .ok (.getfield 192, 3) := dk_180 0 192 (dk_at dksX6_reaches_2 14 rfl rfl)
theorem dX6_reaches_65 : decode cX6_reaches 65 = .ok (.iconst 1, 1) := dk_4 (dk_at dksX6_reaches_2 17 rfl rfl)
theorem dX6_reaches_66 : decode cX6_reaches 66 = .ok (.iadd, 1) := dk_96 (dk_at dksX6_reaches_2 18 rfl rfl)
theorem dX6_reaches_67 : decode cX6_reaches 67 = .ok (.putfield 192, 3) := dk_181 0 192 (dk_at dksX6_reaches_2 19 rfl rfl)
theorem dX6_reaches_70 : decode cX6_reaches 70 = .ok (.return_, 1) := dk_177 (dk_at dksX6_reaches_2 22 rfl rfl)
abbrev cX6_isWater : ByteArray := prog_29_method_69_code
def yX6_isWater : MethodName := ⟨RX6, "isWater", "(II)Z"⟩
def dkwX6_isWater_1 : List UInt8 := [167, 0, 4, 3, 172]
abbrev dktX6_isWater_1 : List UInt8 := dkwX6_isWater_1 ++ []
def dkwX6_isWater_0 : List UInt8 := [42, 180, 0, 180, 28, 46, 42, 180, 0, 82, 16, 8, 42, 180, 0, 48, 104, 27, 96, 46, 161, 0, 7, 4]
abbrev dktX6_isWater_0 : List UInt8 := dkwX6_isWater_0 ++ dktX6_isWater_1
theorem dksX6_isWater_0 : cX6_isWater.data.toList.drop 0 = dktX6_isWater_0 := by decide +kernel
theorem dksX6_isWater_1 : cX6_isWater.data.toList.drop 24 = dktX6_isWater_1 := dk_seg dksX6_isWater_0 24 rfl rfl
theorem dX6_isWater_0 : decode cX6_isWater 0 = .ok (.aload_n 0, 1) := dk_42 (dk_at dksX6_isWater_0 0 rfl rfl)
theorem dX6_isWater_1 : decode cX6_isWater 1 = .ok (.getfield 180, 3) := dk_180 0 180 (dk_at dksX6_isWater_0 1 rfl rfl)
theorem dX6_isWater_4 : decode cX6_isWater 4 = .ok (.iload_n 2, 1) := dk_28 (dk_at dksX6_isWater_0 4 rfl rfl)
theorem dX6_isWater_5 : decode cX6_isWater 5 = .ok (.iaload, 1) := dk_46 (dk_at dksX6_isWater_0 5 rfl rfl)
theorem dX6_isWater_6 : decode cX6_isWater 6 = .ok (.aload_n 0, 1) := dk_42 (dk_at dksX6_isWater_0 6 rfl rfl)
theorem dX6_isWater_7 : decode cX6_isWater 7 = .ok (.getfield 82, 3) := dk_180 0 82 (dk_at dksX6_isWater_0 7 rfl rfl)
theorem dX6_isWater_10 : decode cX6_isWater 10 = .ok (.bipush 8, 2) := dk_16 8 (dk_at dksX6_isWater_0 10 rfl rfl)
theorem dX6_isWater_12 : decode cX6_isWater 12 = .ok (.aload_n 0, 1) := dk_42 (dk_at dksX6_isWater_0 12 rfl rfl)
theorem dX6_isWater_13 : decode cX6_isWater 13 = .ok (.getfield 48, 3) := dk_180 0 48 (dk_at dksX6_isWater_0 13 rfl rfl)
theorem dX6_isWater_16 : decode cX6_isWater 16 = .ok (.imul, 1) := dk_104 (dk_at dksX6_isWater_0 16 rfl rfl)
theorem dX6_isWater_17 : decode cX6_isWater 17 = .ok (.iload_n 1, 1) := dk_27 (dk_at dksX6_isWater_0 17 rfl rfl)
theorem dX6_isWater_18 : decode cX6_isWater 18 = .ok (.iadd, 1) := dk_96 (dk_at dksX6_isWater_0 18 rfl rfl)
theorem dX6_isWater_19 : decode cX6_isWater 19 = .ok (.iaload, 1) := dk_46 (dk_at dksX6_isWater_0 19 rfl rfl)
theorem dX6_isWater_20 : decode cX6_isWater 20 = .ok (.if_icmp .lt 7, 3) := dk_161 0 7 (dk_at dksX6_isWater_0 20 rfl rfl)
theorem dX6_isWater_23 : decode cX6_isWater 23 = .ok (.iconst 1, 1) := dk_4 (dk_at dksX6_isWater_0 23 rfl rfl)
theorem dX6_isWater_24 : decode cX6_isWater 24 = .ok (.goto 4, 3) := dk_167 0 4 (dk_at dksX6_isWater_1 0 rfl rfl)
theorem dX6_isWater_27 : decode cX6_isWater 27 = .ok (.iconst 0, 1) := dk_3 (dk_at dksX6_isWater_1 3 rfl rfl)
theorem dX6_isWater_28 : decode cX6_isWater 28 = .ok (.ireturn, 1) := dk_172 (dk_at dksX6_isWater_1 4 rfl rfl)
abbrev cX6_hoursTo : ByteArray := prog_29_method_73_code
def yX6_hoursTo : MethodName := ⟨RX6, "hoursTo", "(II)I"⟩
def dkwX6_hoursTo_1 : List UInt8 := [160, 0, 9, 17, 3, 232, 167, 0, 15, 42, 180, 0, 186, 28, 46, 29, 96, 4, 100, 29, 108, 172]
abbrev dktX6_hoursTo_1 : List UInt8 := dkwX6_hoursTo_1 ++ []
def dkwX6_hoursTo_0 : List UInt8 := [42, 180, 0, 79, 16, 8, 42, 180, 0, 48, 104, 27, 96, 46, 62, 42, 180, 0, 186, 28, 46, 2]
abbrev dktX6_hoursTo_0 : List UInt8 := dkwX6_hoursTo_0 ++ dktX6_hoursTo_1
theorem dksX6_hoursTo_0 : cX6_hoursTo.data.toList.drop 0 = dktX6_hoursTo_0 := by decide +kernel
theorem dksX6_hoursTo_1 : cX6_hoursTo.data.toList.drop 22 = dktX6_hoursTo_1 := dk_seg dksX6_hoursTo_0 22 rfl rfl
theorem dX6_hoursTo_0 : decode cX6_hoursTo 0 = .ok (.aload_n 0, 1) := dk_42 (dk_at dksX6_hoursTo_0 0 rfl rfl)
theorem dX6_hoursTo_1 : decode cX6_hoursTo 1 = .ok (.getfield 79, 3) := dk_180 0 79 (dk_at dksX6_hoursTo_0 1 rfl rfl)
theorem dX6_hoursTo_4 : decode cX6_hoursTo 4 = .ok (.bipush 8, 2) := dk_16 8 (dk_at dksX6_hoursTo_0 4 rfl rfl)
theorem dX6_hoursTo_6 : decode cX6_hoursTo 6 = .ok (.aload_n 0, 1) := dk_42 (dk_at dksX6_hoursTo_0 6 rfl rfl)
theorem dX6_hoursTo_7 : decode cX6_hoursTo 7 = .ok (.getfield 48, 3) := dk_180 0 48 (dk_at dksX6_hoursTo_0 7 rfl rfl)
theorem dX6_hoursTo_10 : decode cX6_hoursTo 10 = .ok (.imul, 1) := dk_104 (dk_at dksX6_hoursTo_0 10 rfl rfl)
theorem dX6_hoursTo_11 : decode cX6_hoursTo 11 = .ok (.iload_n 1, 1) := dk_27 (dk_at dksX6_hoursTo_0 11 rfl rfl)
theorem dX6_hoursTo_12 : decode cX6_hoursTo 12 = .ok (.iadd, 1) := dk_96 (dk_at dksX6_hoursTo_0 12 rfl rfl)
theorem dX6_hoursTo_13 : decode cX6_hoursTo 13 = .ok (.iaload, 1) := dk_46 (dk_at dksX6_hoursTo_0 13 rfl rfl)
theorem dX6_hoursTo_14 : decode cX6_hoursTo 14 = .ok (.istore_n 3, 1) := dk_62 (dk_at dksX6_hoursTo_0 14 rfl rfl)
theorem dX6_hoursTo_15 : decode cX6_hoursTo 15 = .ok (.aload_n 0, 1) := dk_42 (dk_at dksX6_hoursTo_0 15 rfl rfl)
theorem dX6_hoursTo_16 : decode cX6_hoursTo 16 = .ok (.getfield 186, 3) := dk_180 0 186 (dk_at dksX6_hoursTo_0 16 rfl rfl)
theorem dX6_hoursTo_19 : decode cX6_hoursTo 19 = .ok (.iload_n 2, 1) := dk_28 (dk_at dksX6_hoursTo_0 19 rfl rfl)
theorem dX6_hoursTo_20 : decode cX6_hoursTo 20 = .ok (.iaload, 1) := dk_46 (dk_at dksX6_hoursTo_0 20 rfl rfl)
theorem dX6_hoursTo_21 : decode cX6_hoursTo 21 = .ok (.iconst (-1), 1) := dk_2 (dk_at dksX6_hoursTo_0 21 rfl rfl)
theorem dX6_hoursTo_22 : decode cX6_hoursTo 22 = .ok (.if_icmp .ne 9, 3) := dk_160 0 9 (dk_at dksX6_hoursTo_1 0 rfl rfl)
theorem dX6_hoursTo_25 : decode cX6_hoursTo 25 = .ok (.sipush 1000, 3) := dk_17 3 232 (dk_at dksX6_hoursTo_1 3 rfl rfl)
theorem dX6_hoursTo_28 : decode cX6_hoursTo 28 = .ok (.goto 15, 3) := dk_167 0 15 (dk_at dksX6_hoursTo_1 6 rfl rfl)
theorem dX6_hoursTo_31 : decode cX6_hoursTo 31 = .ok (.aload_n 0, 1) := dk_42 (dk_at dksX6_hoursTo_1 9 rfl rfl)
theorem dX6_hoursTo_32 : decode cX6_hoursTo 32 = .ok (.getfield 186, 3) := dk_180 0 186 (dk_at dksX6_hoursTo_1 10 rfl rfl)
theorem dX6_hoursTo_35 : decode cX6_hoursTo 35 = .ok (.iload_n 2, 1) := dk_28 (dk_at dksX6_hoursTo_1 13 rfl rfl)
theorem dX6_hoursTo_36 : decode cX6_hoursTo 36 = .ok (.iaload, 1) := dk_46 (dk_at dksX6_hoursTo_1 14 rfl rfl)
theorem dX6_hoursTo_37 : decode cX6_hoursTo 37 = .ok (.iload_n 3, 1) := dk_29 (dk_at dksX6_hoursTo_1 15 rfl rfl)
theorem dX6_hoursTo_38 : decode cX6_hoursTo 38 = .ok (.iadd, 1) := dk_96 (dk_at dksX6_hoursTo_1 16 rfl rfl)
theorem dX6_hoursTo_39 : decode cX6_hoursTo 39 = .ok (.iconst 1, 1) := dk_4 (dk_at dksX6_hoursTo_1 17 rfl rfl)
theorem dX6_hoursTo_40 : decode cX6_hoursTo 40 = .ok (.isub, 1) := dk_100 (dk_at dksX6_hoursTo_1 18 rfl rfl)
theorem dX6_hoursTo_41 : decode cX6_hoursTo 41 = .ok (.iload_n 3, 1) := dk_29 (dk_at dksX6_hoursTo_1 19 rfl rfl)
theorem dX6_hoursTo_42 : decode cX6_hoursTo 42 = .ok (.idiv, 1) := dk_108 (dk_at dksX6_hoursTo_1 20 rfl rfl)
theorem dX6_hoursTo_43 : decode cX6_hoursTo 43 = .ok (.ireturn, 1) := dk_172 (dk_at dksX6_hoursTo_1 21 rfl rfl)
abbrev cX6_ship_2 : ByteArray := prog_29_method_88_code
def yX6_ship_2 : MethodName := ⟨RX6, "ship", "(II)I"⟩
def dkwX6_ship_2_6 : List UInt8 := [167, 0, 12, 42, 180, 0, 210, 42, 180, 0, 213, 100, 172]
abbrev dktX6_ship_2_6 : List UInt8 := dkwX6_ship_2_6 ++ []
def dkwX6_ship_2_5 : List UInt8 := [153, 0, 7, 4, 167, 0, 4, 3, 172, 42, 27, 182, 2, 40, 28, 8, 160, 0, 10, 42, 180, 0, 213]
abbrev dktX6_ship_2_5 : List UInt8 := dkwX6_ship_2_5 ++ dktX6_ship_2_6
def dkwX6_ship_2_4 : List UInt8 := [180, 0, 85, 29, 46, 172, 42, 27, 182, 1, 246, 172, 42, 27, 182, 2, 46, 172, 42, 27, 182, 2, 34]
abbrev dktX6_ship_2_4 : List UInt8 := dkwX6_ship_2_4 ++ dktX6_ship_2_5
def dkwX6_ship_2_3 : List UInt8 := [42, 180, 0, 76, 29, 46, 172, 42, 180, 0, 79, 29, 46, 172, 42, 180, 0, 82, 29, 46, 172, 42]
abbrev dktX6_ship_2_3 : List UInt8 := dkwX6_ship_2_3 ++ dktX6_ship_2_4
def dkwX6_ship_2_2 : List UInt8 := [170, 0, 0, 0, 103, 0, 0, 0, 0, 0, 0, 0, 8, 0, 0, 0, 49, 0, 0, 0, 56, 0, 0, 0, 63, 0, 0, 0, 70, 0, 0, 0, 77, 0, 0, 0, 103, 0, 0, 0, 103, 0, 0, 0, 83, 0, 0, 0, 89]
abbrev dktX6_ship_2_2 : List UInt8 := dkwX6_ship_2_2 ++ dktX6_ship_2_3
def dkwX6_ship_2_1 : List UInt8 := [180, 0, 48, 104, 27, 96, 62, 28]
abbrev dktX6_ship_2_1 : List UInt8 := dkwX6_ship_2_1 ++ dktX6_ship_2_2
def dkwX6_ship_2_0 : List UInt8 := [42, 27, 182, 1, 249, 153, 0, 13, 28, 3, 16, 8, 184, 1, 87, 154, 0, 5, 2, 172, 16, 8, 42]
abbrev dktX6_ship_2_0 : List UInt8 := dkwX6_ship_2_0 ++ dktX6_ship_2_1
theorem dksX6_ship_2_0 : cX6_ship_2.data.toList.drop 0 = dktX6_ship_2_0 := by decide +kernel
theorem dksX6_ship_2_1 : cX6_ship_2.data.toList.drop 23 = dktX6_ship_2_1 := dk_seg dksX6_ship_2_0 23 rfl rfl
theorem dksX6_ship_2_2 : cX6_ship_2.data.toList.drop 31 = dktX6_ship_2_2 := dk_seg dksX6_ship_2_1 8 rfl rfl
theorem dksX6_ship_2_3 : cX6_ship_2.data.toList.drop 80 = dktX6_ship_2_3 := dk_seg dksX6_ship_2_2 49 rfl rfl
theorem dksX6_ship_2_4 : cX6_ship_2.data.toList.drop 102 = dktX6_ship_2_4 := dk_seg dksX6_ship_2_3 22 rfl rfl
theorem dksX6_ship_2_5 : cX6_ship_2.data.toList.drop 125 = dktX6_ship_2_5 := dk_seg dksX6_ship_2_4 23 rfl rfl
theorem dksX6_ship_2_6 : cX6_ship_2.data.toList.drop 148 = dktX6_ship_2_6 := dk_seg dksX6_ship_2_5 23 rfl rfl
theorem dX6_ship_2_0 : decode cX6_ship_2 0 = .ok (.aload_n 0, 1) := dk_42 (dk_at dksX6_ship_2_0 0 rfl rfl)
theorem dX6_ship_2_1 : decode cX6_ship_2 1 = .ok (.iload_n 1, 1) := dk_27 (dk_at dksX6_ship_2_0 1 rfl rfl)
theorem dX6_ship_2_2 : decode cX6_ship_2 2 = .ok (.invokevirtual 505, 3) := dk_182 1 249 (dk_at dksX6_ship_2_0 2 rfl rfl)
theorem dX6_ship_2_5 : decode cX6_ship_2 5 = .ok (.ifCond .eq 13, 3) := dk_153 0 13 (dk_at dksX6_ship_2_0 5 rfl rfl)
theorem dX6_ship_2_8 : decode cX6_ship_2 8 = .ok (.iload_n 2, 1) := dk_28 (dk_at dksX6_ship_2_0 8 rfl rfl)
theorem dX6_ship_2_9 : decode cX6_ship_2 9 = .ok (.iconst 0, 1) := dk_3 (dk_at dksX6_ship_2_0 9 rfl rfl)
theorem dX6_ship_2_10 : decode cX6_ship_2 10 = .ok (.bipush 8, 2) := dk_16 8 (dk_at dksX6_ship_2_0 10 rfl rfl)
theorem dX6_ship_2_12 : decode cX6_ship_2 12 = .ok (.invokestatic 343, 3) := dk_184 1 87 (dk_at dksX6_ship_2_0 12 rfl rfl)
theorem dX6_ship_2_15 : decode cX6_ship_2 15 = .ok (.ifCond .ne 5, 3) := dk_154 0 5 (dk_at dksX6_ship_2_0 15 rfl rfl)
theorem dX6_ship_2_18 : decode cX6_ship_2 18 = .ok (.iconst (-1), 1) := dk_2 (dk_at dksX6_ship_2_0 18 rfl rfl)
theorem dX6_ship_2_19 : decode cX6_ship_2 19 = .ok (.ireturn, 1) := dk_172 (dk_at dksX6_ship_2_0 19 rfl rfl)
theorem dX6_ship_2_20 : decode cX6_ship_2 20 = .ok (.bipush 8, 2) := dk_16 8 (dk_at dksX6_ship_2_0 20 rfl rfl)
theorem dX6_ship_2_22 : decode cX6_ship_2 22 = .ok (.aload_n 0, 1) := dk_42 (dk_at dksX6_ship_2_0 22 rfl rfl)
theorem dX6_ship_2_23 : decode cX6_ship_2 23 = .ok (.getfield 48, 3) := dk_180 0 48 (dk_at dksX6_ship_2_1 0 rfl rfl)
theorem dX6_ship_2_26 : decode cX6_ship_2 26 = .ok (.imul, 1) := dk_104 (dk_at dksX6_ship_2_1 3 rfl rfl)
theorem dX6_ship_2_27 : decode cX6_ship_2 27 = .ok (.iload_n 1, 1) := dk_27 (dk_at dksX6_ship_2_1 4 rfl rfl)
theorem dX6_ship_2_28 : decode cX6_ship_2 28 = .ok (.iadd, 1) := dk_96 (dk_at dksX6_ship_2_1 5 rfl rfl)
theorem dX6_ship_2_29 : decode cX6_ship_2 29 = .ok (.istore_n 3, 1) := dk_62 (dk_at dksX6_ship_2_1 6 rfl rfl)
theorem dX6_ship_2_30 : decode cX6_ship_2 30 = .ok (.iload_n 2, 1) := dk_28 (dk_at dksX6_ship_2_1 7 rfl rfl)
theorem dX6_ship_2_31 : decode cX6_ship_2 31 = .ok (.tableswitch 103 0 8 #[49, 56, 63, 70, 77, 103, 103, 83, 89], 49) := by decide +kernel
theorem dX6_ship_2_80 : decode cX6_ship_2 80 = .ok (.aload_n 0, 1) := dk_42 (dk_at dksX6_ship_2_3 0 rfl rfl)
theorem dX6_ship_2_81 : decode cX6_ship_2 81 = .ok (.getfield 76, 3) := dk_180 0 76 (dk_at dksX6_ship_2_3 1 rfl rfl)
theorem dX6_ship_2_84 : decode cX6_ship_2 84 = .ok (.iload_n 3, 1) := dk_29 (dk_at dksX6_ship_2_3 4 rfl rfl)
theorem dX6_ship_2_85 : decode cX6_ship_2 85 = .ok (.iaload, 1) := dk_46 (dk_at dksX6_ship_2_3 5 rfl rfl)
theorem dX6_ship_2_86 : decode cX6_ship_2 86 = .ok (.ireturn, 1) := dk_172 (dk_at dksX6_ship_2_3 6 rfl rfl)
theorem dX6_ship_2_87 : decode cX6_ship_2 87 = .ok (.aload_n 0, 1) := dk_42 (dk_at dksX6_ship_2_3 7 rfl rfl)
theorem dX6_ship_2_88 : decode cX6_ship_2 88 = .ok (.getfield 79, 3) := dk_180 0 79 (dk_at dksX6_ship_2_3 8 rfl rfl)
theorem dX6_ship_2_91 : decode cX6_ship_2 91 = .ok (.iload_n 3, 1) := dk_29 (dk_at dksX6_ship_2_3 11 rfl rfl)
theorem dX6_ship_2_92 : decode cX6_ship_2 92 = .ok (.iaload, 1) := dk_46 (dk_at dksX6_ship_2_3 12 rfl rfl)
theorem dX6_ship_2_93 : decode cX6_ship_2 93 = .ok (.ireturn, 1) := dk_172 (dk_at dksX6_ship_2_3 13 rfl rfl)
theorem dX6_ship_2_94 : decode cX6_ship_2 94 = .ok (.aload_n 0, 1) := dk_42 (dk_at dksX6_ship_2_3 14 rfl rfl)
theorem dX6_ship_2_95 : decode cX6_ship_2 95 = .ok (.getfield 82, 3) := dk_180 0 82 (dk_at dksX6_ship_2_3 15 rfl rfl)
theorem dX6_ship_2_98 : decode cX6_ship_2 98 = .ok (.iload_n 3, 1) := dk_29 (dk_at dksX6_ship_2_3 18 rfl rfl)
theorem dX6_ship_2_99 : decode cX6_ship_2 99 = .ok (.iaload, 1) := dk_46 (dk_at dksX6_ship_2_3 19 rfl rfl)
theorem dX6_ship_2_100 : decode cX6_ship_2 100 = .ok (.ireturn, 1) := dk_172 (dk_at dksX6_ship_2_3 20 rfl rfl)
theorem dX6_ship_2_101 : decode cX6_ship_2 101 = .ok (.aload_n 0, 1) := dk_42 (dk_at dksX6_ship_2_3 21 rfl rfl)
theorem dX6_ship_2_102 : decode cX6_ship_2 102 = .ok (.getfield 85, 3) := dk_180 0 85 (dk_at dksX6_ship_2_4 0 rfl rfl)
theorem dX6_ship_2_105 : decode cX6_ship_2 105 = .ok (.iload_n 3, 1) := dk_29 (dk_at dksX6_ship_2_4 3 rfl rfl)
theorem dX6_ship_2_106 : decode cX6_ship_2 106 = .ok (.iaload, 1) := dk_46 (dk_at dksX6_ship_2_4 4 rfl rfl)
theorem dX6_ship_2_107 : decode cX6_ship_2 107 = .ok (.ireturn, 1) := dk_172 (dk_at dksX6_ship_2_4 5 rfl rfl)
theorem dX6_ship_2_108 : decode cX6_ship_2 108 = .ok (.aload_n 0, 1) := dk_42 (dk_at dksX6_ship_2_4 6 rfl rfl)
theorem dX6_ship_2_109 : decode cX6_ship_2 109 = .ok (.iload_n 1, 1) := dk_27 (dk_at dksX6_ship_2_4 7 rfl rfl)
theorem dX6_ship_2_110 : decode cX6_ship_2 110 = .ok (.invokevirtual 502, 3) := dk_182 1 246 (dk_at dksX6_ship_2_4 8 rfl rfl)
theorem dX6_ship_2_113 : decode cX6_ship_2 113 = .ok (.ireturn, 1) := dk_172 (dk_at dksX6_ship_2_4 11 rfl rfl)
theorem dX6_ship_2_114 : decode cX6_ship_2 114 = .ok (.aload_n 0, 1) := dk_42 (dk_at dksX6_ship_2_4 12 rfl rfl)
theorem dX6_ship_2_115 : decode cX6_ship_2 115 = .ok (.iload_n 1, 1) := dk_27 (dk_at dksX6_ship_2_4 13 rfl rfl)
theorem dX6_ship_2_116 : decode cX6_ship_2 116 = .ok (.invokevirtual 558, 3) := dk_182 2 46 (dk_at dksX6_ship_2_4 14 rfl rfl)
theorem dX6_ship_2_119 : decode cX6_ship_2 119 = .ok (.ireturn, 1) := dk_172 (dk_at dksX6_ship_2_4 17 rfl rfl)
theorem dX6_ship_2_120 : decode cX6_ship_2 120 = .ok (.aload_n 0, 1) := dk_42 (dk_at dksX6_ship_2_4 18 rfl rfl)
theorem dX6_ship_2_121 : decode cX6_ship_2 121 = .ok (.iload_n 1, 1) := dk_27 (dk_at dksX6_ship_2_4 19 rfl rfl)
theorem dX6_ship_2_122 : decode cX6_ship_2 122 = .ok (.invokevirtual 546, 3) := dk_182 2 34 (dk_at dksX6_ship_2_4 20 rfl rfl)
theorem dX6_ship_2_125 : decode cX6_ship_2 125 = .ok (.ifCond .eq 7, 3) := dk_153 0 7 (dk_at dksX6_ship_2_5 0 rfl rfl)
theorem dX6_ship_2_128 : decode cX6_ship_2 128 = .ok (.iconst 1, 1) := dk_4 (dk_at dksX6_ship_2_5 3 rfl rfl)
theorem dX6_ship_2_129 : decode cX6_ship_2 129 = .ok (.goto 4, 3) := dk_167 0 4 (dk_at dksX6_ship_2_5 4 rfl rfl)
theorem dX6_ship_2_132 : decode cX6_ship_2 132 = .ok (.iconst 0, 1) := dk_3 (dk_at dksX6_ship_2_5 7 rfl rfl)
theorem dX6_ship_2_133 : decode cX6_ship_2 133 = .ok (.ireturn, 1) := dk_172 (dk_at dksX6_ship_2_5 8 rfl rfl)
theorem dX6_ship_2_134 : decode cX6_ship_2 134 = .ok (.aload_n 0, 1) := dk_42 (dk_at dksX6_ship_2_5 9 rfl rfl)
theorem dX6_ship_2_135 : decode cX6_ship_2 135 = .ok (.iload_n 1, 1) := dk_27 (dk_at dksX6_ship_2_5 10 rfl rfl)
theorem dX6_ship_2_136 : decode cX6_ship_2 136 = .ok (.invokevirtual 552, 3) := dk_182 2 40 (dk_at dksX6_ship_2_5 11 rfl rfl)
theorem dX6_ship_2_139 : decode cX6_ship_2 139 = .ok (.iload_n 2, 1) := dk_28 (dk_at dksX6_ship_2_5 14 rfl rfl)
theorem dX6_ship_2_140 : decode cX6_ship_2 140 = .ok (.iconst 5, 1) := dk_8 (dk_at dksX6_ship_2_5 15 rfl rfl)
theorem dX6_ship_2_141 : decode cX6_ship_2 141 = .ok (.if_icmp .ne 10, 3) := dk_160 0 10 (dk_at dksX6_ship_2_5 16 rfl rfl)
theorem dX6_ship_2_144 : decode cX6_ship_2 144 = .ok (.aload_n 0, 1) := dk_42 (dk_at dksX6_ship_2_5 19 rfl rfl)
theorem dX6_ship_2_145 : decode cX6_ship_2 145 = .ok (.getfield 213, 3) := dk_180 0 213 (dk_at dksX6_ship_2_5 20 rfl rfl)
theorem dX6_ship_2_148 : decode cX6_ship_2 148 = .ok (.goto 12, 3) := dk_167 0 12 (dk_at dksX6_ship_2_6 0 rfl rfl)
theorem dX6_ship_2_151 : decode cX6_ship_2 151 = .ok (.aload_n 0, 1) := dk_42 (dk_at dksX6_ship_2_6 3 rfl rfl)
theorem dX6_ship_2_152 : decode cX6_ship_2 152 = .ok (.getfield 210, 3) := dk_180 0 210 (dk_at dksX6_ship_2_6 4 rfl rfl)
theorem dX6_ship_2_155 : decode cX6_ship_2 155 = .ok (.aload_n 0, 1) := dk_42 (dk_at dksX6_ship_2_6 7 rfl rfl)
theorem dX6_ship_2_156 : decode cX6_ship_2 156 = .ok (.getfield 213, 3) := dk_180 0 213 (dk_at dksX6_ship_2_6 8 rfl rfl)
theorem dX6_ship_2_159 : decode cX6_ship_2 159 = .ok (.isub, 1) := dk_100 (dk_at dksX6_ship_2_6 11 rfl rfl)
theorem dX6_ship_2_160 : decode cX6_ship_2 160 = .ok (.ireturn, 1) := dk_172 (dk_at dksX6_ship_2_6 12 rfl rfl)
abbrev cX6_booksOf : ByteArray := prog_29_method_66_code
def yX6_booksOf : MethodName := ⟨RX6, "booksOf", "(I)I"⟩
def dkwX6_booksOf_2 : List UInt8 := [167, 255, 214, 28, 172]
abbrev dktX6_booksOf_2 : List UInt8 := dkwX6_booksOf_2 ++ []
def dkwX6_booksOf_1 : List UInt8 := [42, 180, 0, 48, 104, 29, 96, 46, 27, 160, 0, 7, 4, 167, 0, 4, 3, 96, 61, 132, 3, 1]
abbrev dktX6_booksOf_1 : List UInt8 := dkwX6_booksOf_1 ++ dktX6_booksOf_2
def dkwX6_booksOf_0 : List UInt8 := [3, 61, 3, 62, 29, 42, 180, 0, 98, 42, 180, 0, 48, 46, 162, 0, 35, 28, 42, 180, 0, 101, 16, 12]
abbrev dktX6_booksOf_0 : List UInt8 := dkwX6_booksOf_0 ++ dktX6_booksOf_1
theorem dksX6_booksOf_0 : cX6_booksOf.data.toList.drop 0 = dktX6_booksOf_0 := by decide +kernel
theorem dksX6_booksOf_1 : cX6_booksOf.data.toList.drop 24 = dktX6_booksOf_1 := dk_seg dksX6_booksOf_0 24 rfl rfl
theorem dksX6_booksOf_2 : cX6_booksOf.data.toList.drop 46 = dktX6_booksOf_2 := dk_seg dksX6_booksOf_1 22 rfl rfl
theorem dX6_booksOf_0 : decode cX6_booksOf 0 = .ok (.iconst 0, 1) := dk_3 (dk_at dksX6_booksOf_0 0 rfl rfl)
theorem dX6_booksOf_1 : decode cX6_booksOf 1 = .ok (.istore_n 2, 1) := dk_61 (dk_at dksX6_booksOf_0 1 rfl rfl)
theorem dX6_booksOf_2 : decode cX6_booksOf 2 = .ok (.iconst 0, 1) := dk_3 (dk_at dksX6_booksOf_0 2 rfl rfl)
theorem dX6_booksOf_3 : decode cX6_booksOf 3 = .ok (.istore_n 3, 1) := dk_62 (dk_at dksX6_booksOf_0 3 rfl rfl)
theorem dX6_booksOf_4 : decode cX6_booksOf 4 = .ok (.iload_n 3, 1) := dk_29 (dk_at dksX6_booksOf_0 4 rfl rfl)
theorem dX6_booksOf_5 : decode cX6_booksOf 5 = .ok (.aload_n 0, 1) := dk_42 (dk_at dksX6_booksOf_0 5 rfl rfl)
theorem dX6_booksOf_6 : decode cX6_booksOf 6 = .ok (.getfield 98, 3) := dk_180 0 98 (dk_at dksX6_booksOf_0 6 rfl rfl)
theorem dX6_booksOf_9 : decode cX6_booksOf 9 = .ok (.aload_n 0, 1) := dk_42 (dk_at dksX6_booksOf_0 9 rfl rfl)
theorem dX6_booksOf_10 : decode cX6_booksOf 10 = .ok (.getfield 48, 3) := dk_180 0 48 (dk_at dksX6_booksOf_0 10 rfl rfl)
theorem dX6_booksOf_13 : decode cX6_booksOf 13 = .ok (.iaload, 1) := dk_46 (dk_at dksX6_booksOf_0 13 rfl rfl)
theorem dX6_booksOf_14 : decode cX6_booksOf 14 = .ok (.if_icmp .ge 35, 3) := dk_162 0 35 (dk_at dksX6_booksOf_0 14 rfl rfl)
theorem dX6_booksOf_17 : decode cX6_booksOf 17 = .ok (.iload_n 2, 1) := dk_28 (dk_at dksX6_booksOf_0 17 rfl rfl)
theorem dX6_booksOf_18 : decode cX6_booksOf 18 = .ok (.aload_n 0, 1) := dk_42 (dk_at dksX6_booksOf_0 18 rfl rfl)
theorem dX6_booksOf_19 : decode cX6_booksOf 19 = .ok (.getfield 101, 3) := dk_180 0 101 (dk_at dksX6_booksOf_0 19 rfl rfl)
theorem dX6_booksOf_22 : decode cX6_booksOf 22 = .ok (.bipush 12, 2) := dk_16 12 (dk_at dksX6_booksOf_0 22 rfl rfl)
theorem dX6_booksOf_24 : decode cX6_booksOf 24 = .ok (.aload_n 0, 1) := dk_42 (dk_at dksX6_booksOf_1 0 rfl rfl)
theorem dX6_booksOf_25 : decode cX6_booksOf 25 = .ok (.getfield 48, 3) := dk_180 0 48 (dk_at dksX6_booksOf_1 1 rfl rfl)
theorem dX6_booksOf_28 : decode cX6_booksOf 28 = .ok (.imul, 1) := dk_104 (dk_at dksX6_booksOf_1 4 rfl rfl)
theorem dX6_booksOf_29 : decode cX6_booksOf 29 = .ok (.iload_n 3, 1) := dk_29 (dk_at dksX6_booksOf_1 5 rfl rfl)
theorem dX6_booksOf_30 : decode cX6_booksOf 30 = .ok (.iadd, 1) := dk_96 (dk_at dksX6_booksOf_1 6 rfl rfl)
theorem dX6_booksOf_31 : decode cX6_booksOf 31 = .ok (.iaload, 1) := dk_46 (dk_at dksX6_booksOf_1 7 rfl rfl)
theorem dX6_booksOf_32 : decode cX6_booksOf 32 = .ok (.iload_n 1, 1) := dk_27 (dk_at dksX6_booksOf_1 8 rfl rfl)
theorem dX6_booksOf_33 : decode cX6_booksOf 33 = .ok (.if_icmp .ne 7, 3) := dk_160 0 7 (dk_at dksX6_booksOf_1 9 rfl rfl)
theorem dX6_booksOf_36 : decode cX6_booksOf 36 = .ok (.iconst 1, 1) := dk_4 (dk_at dksX6_booksOf_1 12 rfl rfl)
theorem dX6_booksOf_37 : decode cX6_booksOf 37 = .ok (.goto 4, 3) := dk_167 0 4 (dk_at dksX6_booksOf_1 13 rfl rfl)
theorem dX6_booksOf_40 : decode cX6_booksOf 40 = .ok (.iconst 0, 1) := dk_3 (dk_at dksX6_booksOf_1 16 rfl rfl)
theorem dX6_booksOf_41 : decode cX6_booksOf 41 = .ok (.iadd, 1) := dk_96 (dk_at dksX6_booksOf_1 17 rfl rfl)
theorem dX6_booksOf_42 : decode cX6_booksOf 42 = .ok (.istore_n 2, 1) := dk_61 (dk_at dksX6_booksOf_1 18 rfl rfl)
theorem dX6_booksOf_43 : decode cX6_booksOf 43 = .ok (.iinc 3 1, 3) := dk_132 3 1 (dk_at dksX6_booksOf_1 19 rfl rfl)
theorem dX6_booksOf_46 : decode cX6_booksOf 46 = .ok (.goto (-42), 3) := dk_167 255 214 (dk_at dksX6_booksOf_2 0 rfl rfl)
theorem dX6_booksOf_49 : decode cX6_booksOf 49 = .ok (.iload_n 2, 1) := dk_28 (dk_at dksX6_booksOf_2 3 rfl rfl)
theorem dX6_booksOf_50 : decode cX6_booksOf 50 = .ok (.ireturn, 1) := dk_172 (dk_at dksX6_booksOf_2 4 rfl rfl)
abbrev cX6_booksFit : ByteArray := prog_29_method_80_code
def yX6_booksFit : MethodName := ⟨RX6, "booksFit", "(I)Z"⟩
def dkwX6_booksFit_0 : List UInt8 := [42, 3, 181, 0, 195, 42, 27, 182, 2, 25, 42, 27, 182, 2, 28, 172]
abbrev dktX6_booksFit_0 : List UInt8 := dkwX6_booksFit_0 ++ []
theorem dksX6_booksFit_0 : cX6_booksFit.data.toList.drop 0 = dktX6_booksFit_0 := by decide +kernel
theorem dX6_booksFit_0 : decode cX6_booksFit 0 = .ok (.aload_n 0, 1) := dk_42 (dk_at dksX6_booksFit_0 0 rfl rfl)
theorem dX6_booksFit_1 : decode cX6_booksFit 1 = .ok (.iconst 0, 1) := dk_3 (dk_at dksX6_booksFit_0 1 rfl rfl)
theorem dX6_booksFit_2 : decode cX6_booksFit 2 = .ok (.putfield 195, 3) := dk_181 0 195 (dk_at dksX6_booksFit_0 2 rfl rfl)
theorem dX6_booksFit_5 : decode cX6_booksFit 5 = .ok (.aload_n 0, 1) := dk_42 (dk_at dksX6_booksFit_0 5 rfl rfl)
theorem dX6_booksFit_6 : decode cX6_booksFit 6 = .ok (.iload_n 1, 1) := dk_27 (dk_at dksX6_booksFit_0 6 rfl rfl)
theorem dX6_booksFit_7 : decode cX6_booksFit 7 = .ok (.invokevirtual 537, 3) := dk_182 2 25 (dk_at dksX6_booksFit_0 7 rfl rfl)
theorem dX6_booksFit_10 : decode cX6_booksFit 10 = .ok (.aload_n 0, 1) := dk_42 (dk_at dksX6_booksFit_0 10 rfl rfl)
theorem dX6_booksFit_11 : decode cX6_booksFit 11 = .ok (.iload_n 1, 1) := dk_27 (dk_at dksX6_booksFit_0 11 rfl rfl)
theorem dX6_booksFit_12 : decode cX6_booksFit 12 = .ok (.invokevirtual 540, 3) := dk_182 2 28 (dk_at dksX6_booksFit_0 12 rfl rfl)
theorem dX6_booksFit_15 : decode cX6_booksFit 15 = .ok (.ireturn, 1) := dk_172 (dk_at dksX6_booksFit_0 15 rfl rfl)
abbrev cX6_addBooks : ByteArray := prog_29_method_76_code
def yX6_addBooks : MethodName := ⟨RX6, "addBooks", "(I)V"⟩
def dkwX6_addBooks_2 : List UInt8 := [180, 0, 107, 28, 46, 42, 180, 0, 110, 28, 46, 182, 2, 11, 132, 2, 1, 167, 255, 200, 177]
abbrev dktX6_addBooks_2 : List UInt8 := dkwX6_addBooks_2 ++ []
def dkwX6_addBooks_1 : List UInt8 := [46, 96, 162, 0, 41, 42, 180, 0, 101, 28, 46, 27, 160, 0, 25, 42, 42, 180, 0, 104, 28, 46, 42]
abbrev dktX6_addBooks_1 : List UInt8 := dkwX6_addBooks_1 ++ dktX6_addBooks_2
def dkwX6_addBooks_0 : List UInt8 := [16, 12, 42, 180, 0, 48, 104, 61, 28, 16, 12, 42, 180, 0, 48, 104, 42, 180, 0, 98, 42, 180, 0, 48]
abbrev dktX6_addBooks_0 : List UInt8 := dkwX6_addBooks_0 ++ dktX6_addBooks_1
theorem dksX6_addBooks_0 : cX6_addBooks.data.toList.drop 0 = dktX6_addBooks_0 := by decide +kernel
theorem dksX6_addBooks_1 : cX6_addBooks.data.toList.drop 24 = dktX6_addBooks_1 := dk_seg dksX6_addBooks_0 24 rfl rfl
theorem dksX6_addBooks_2 : cX6_addBooks.data.toList.drop 47 = dktX6_addBooks_2 := dk_seg dksX6_addBooks_1 23 rfl rfl
theorem dX6_addBooks_0 : decode cX6_addBooks 0 = .ok (.bipush 12, 2) := dk_16 12 (dk_at dksX6_addBooks_0 0 rfl rfl)
theorem dX6_addBooks_2 : decode cX6_addBooks 2 = .ok (.aload_n 0, 1) := dk_42 (dk_at dksX6_addBooks_0 2 rfl rfl)
theorem dX6_addBooks_3 : decode cX6_addBooks 3 = .ok (.getfield 48, 3) := dk_180 0 48 (dk_at dksX6_addBooks_0 3 rfl rfl)
theorem dX6_addBooks_6 : decode cX6_addBooks 6 = .ok (.imul, 1) := dk_104 (dk_at dksX6_addBooks_0 6 rfl rfl)
theorem dX6_addBooks_7 : decode cX6_addBooks 7 = .ok (.istore_n 2, 1) := dk_61 (dk_at dksX6_addBooks_0 7 rfl rfl)
theorem dX6_addBooks_8 : decode cX6_addBooks 8 = .ok (.iload_n 2, 1) := dk_28 (dk_at dksX6_addBooks_0 8 rfl rfl)
theorem dX6_addBooks_9 : decode cX6_addBooks 9 = .ok (.bipush 12, 2) := dk_16 12 (dk_at dksX6_addBooks_0 9 rfl rfl)
theorem dX6_addBooks_11 : decode cX6_addBooks 11 = .ok (.aload_n 0, 1) := dk_42 (dk_at dksX6_addBooks_0 11 rfl rfl)
theorem dX6_addBooks_12 : decode cX6_addBooks 12 = .ok (.getfield 48, 3) := dk_180 0 48 (dk_at dksX6_addBooks_0 12 rfl rfl)
theorem dX6_addBooks_15 : decode cX6_addBooks 15 = .ok (.imul, 1) := dk_104 (dk_at dksX6_addBooks_0 15 rfl rfl)
theorem dX6_addBooks_16 : decode cX6_addBooks 16 = .ok (.aload_n 0, 1) := dk_42 (dk_at dksX6_addBooks_0 16 rfl rfl)
theorem dX6_addBooks_17 : decode cX6_addBooks 17 = .ok (.getfield 98, 3) := dk_180 0 98 (dk_at dksX6_addBooks_0 17 rfl rfl)
theorem dX6_addBooks_20 : decode cX6_addBooks 20 = .ok (.aload_n 0, 1) := dk_42 (dk_at dksX6_addBooks_0 20 rfl rfl)
theorem dX6_addBooks_21 : decode cX6_addBooks 21 = .ok (.getfield 48, 3) := dk_180 0 48 (dk_at dksX6_addBooks_0 21 rfl rfl)
theorem dX6_addBooks_24 : decode cX6_addBooks 24 = .ok (.iaload, 1) := dk_46 (dk_at dksX6_addBooks_1 0 rfl rfl)
theorem dX6_addBooks_25 : decode cX6_addBooks 25 = .ok (.iadd, 1) := dk_96 (dk_at dksX6_addBooks_1 1 rfl rfl)
theorem dX6_addBooks_26 : decode cX6_addBooks 26 = .ok (.if_icmp .ge 41, 3) := dk_162 0 41 (dk_at dksX6_addBooks_1 2 rfl rfl)
theorem dX6_addBooks_29 : decode cX6_addBooks 29 = .ok (.aload_n 0, 1) := dk_42 (dk_at dksX6_addBooks_1 5 rfl rfl)
theorem dX6_addBooks_30 : decode cX6_addBooks 30 = .ok (.getfield 101, 3) := dk_180 0 101 (dk_at dksX6_addBooks_1 6 rfl rfl)
theorem dX6_addBooks_33 : decode cX6_addBooks 33 = .ok (.iload_n 2, 1) := dk_28 (dk_at dksX6_addBooks_1 9 rfl rfl)
theorem dX6_addBooks_34 : decode cX6_addBooks 34 = .ok (.iaload, 1) := dk_46 (dk_at dksX6_addBooks_1 10 rfl rfl)
theorem dX6_addBooks_35 : decode cX6_addBooks 35 = .ok (.iload_n 1, 1) := dk_27 (dk_at dksX6_addBooks_1 11 rfl rfl)
theorem dX6_addBooks_36 : decode cX6_addBooks 36 = .ok (.if_icmp .ne 25, 3) := dk_160 0 25 (dk_at dksX6_addBooks_1 12 rfl rfl)
theorem dX6_addBooks_39 : decode cX6_addBooks 39 = .ok (.aload_n 0, 1) := dk_42 (dk_at dksX6_addBooks_1 15 rfl rfl)
theorem dX6_addBooks_40 : decode cX6_addBooks 40 = .ok (.aload_n 0, 1) := dk_42 (dk_at dksX6_addBooks_1 16 rfl rfl)
theorem dX6_addBooks_41 : decode cX6_addBooks 41 = .ok (.getfield 104, 3) := dk_180 0 104 (dk_at dksX6_addBooks_1 17 rfl rfl)
theorem dX6_addBooks_44 : decode cX6_addBooks 44 = .ok (.iload_n 2, 1) := dk_28 (dk_at dksX6_addBooks_1 20 rfl rfl)
theorem dX6_addBooks_45 : decode cX6_addBooks 45 = .ok (.iaload, 1) := dk_46 (dk_at dksX6_addBooks_1 21 rfl rfl)
theorem dX6_addBooks_46 : decode cX6_addBooks 46 = .ok (.aload_n 0, 1) := dk_42 (dk_at dksX6_addBooks_1 22 rfl rfl)
theorem dX6_addBooks_47 : decode cX6_addBooks 47 = .ok (.getfield 107, 3) := dk_180 0 107 (dk_at dksX6_addBooks_2 0 rfl rfl)
theorem dX6_addBooks_50 : decode cX6_addBooks 50 = .ok (.iload_n 2, 1) := dk_28 (dk_at dksX6_addBooks_2 3 rfl rfl)
theorem dX6_addBooks_51 : decode cX6_addBooks 51 = .ok (.iaload, 1) := dk_46 (dk_at dksX6_addBooks_2 4 rfl rfl)
theorem dX6_addBooks_52 : decode cX6_addBooks 52 = .ok (.aload_n 0, 1) := dk_42 (dk_at dksX6_addBooks_2 5 rfl rfl)
theorem dX6_addBooks_53 : decode cX6_addBooks 53 = .ok (.getfield 110, 3) := dk_180 0 110 (dk_at dksX6_addBooks_2 6 rfl rfl)
theorem dX6_addBooks_56 : decode cX6_addBooks 56 = .ok (.iload_n 2, 1) := dk_28 (dk_at dksX6_addBooks_2 9 rfl rfl)
theorem dX6_addBooks_57 : decode cX6_addBooks 57 = .ok (.iaload, 1) := dk_46 (dk_at dksX6_addBooks_2 10 rfl rfl)
theorem dX6_addBooks_58 : decode cX6_addBooks 58 = .ok (.invokevirtual 523, 3) := dk_182 2 11 (dk_at dksX6_addBooks_2 11 rfl rfl)
theorem dX6_addBooks_61 : decode cX6_addBooks 61 = .ok (.iinc 2 1, 3) := dk_132 2 1 (dk_at dksX6_addBooks_2 14 rfl rfl)
theorem dX6_addBooks_64 : decode cX6_addBooks 64 = .ok (.goto (-56), 3) := dk_167 255 200 (dk_at dksX6_addBooks_2 17 rfl rfl)
theorem dX6_addBooks_67 : decode cX6_addBooks 67 = .ok (.return_, 1) := dk_177 (dk_at dksX6_addBooks_2 20 rfl rfl)
abbrev cX6_fact : ByteArray := prog_29_method_75_code
def yX6_fact : MethodName := ⟨RX6, "fact", "(III)V"⟩
def dkwX6_fact_1 : List UInt8 := [42, 180, 0, 195, 29, 79, 42, 89, 180, 0, 195, 4, 96, 181, 0, 195, 177]
abbrev dktX6_fact_1 : List UInt8 := dkwX6_fact_1 ++ []
def dkwX6_fact_0 : List UInt8 := [42, 180, 0, 198, 42, 180, 0, 195, 27, 79, 42, 180, 0, 201, 42, 180, 0, 195, 28, 79, 42, 180, 0, 204]
abbrev dktX6_fact_0 : List UInt8 := dkwX6_fact_0 ++ dktX6_fact_1
theorem dksX6_fact_0 : cX6_fact.data.toList.drop 0 = dktX6_fact_0 := by decide +kernel
theorem dksX6_fact_1 : cX6_fact.data.toList.drop 24 = dktX6_fact_1 := dk_seg dksX6_fact_0 24 rfl rfl
theorem dX6_fact_0 : decode cX6_fact 0 = .ok (.aload_n 0, 1) := dk_42 (dk_at dksX6_fact_0 0 rfl rfl)
theorem dX6_fact_1 : decode cX6_fact 1 = .ok (.getfield 198, 3) := dk_180 0 198 (dk_at dksX6_fact_0 1 rfl rfl)
theorem dX6_fact_4 : decode cX6_fact 4 = .ok (.aload_n 0, 1) := dk_42 (dk_at dksX6_fact_0 4 rfl rfl)
theorem dX6_fact_5 : decode cX6_fact 5 = .ok (.getfield 195, 3) := dk_180 0 195 (dk_at dksX6_fact_0 5 rfl rfl)
theorem dX6_fact_8 : decode cX6_fact 8 = .ok (.iload_n 1, 1) := dk_27 (dk_at dksX6_fact_0 8 rfl rfl)
theorem dX6_fact_9 : decode cX6_fact 9 = .ok (.iastore, 1) := dk_79 (dk_at dksX6_fact_0 9 rfl rfl)
theorem dX6_fact_10 : decode cX6_fact 10 = .ok (.aload_n 0, 1) := dk_42 (dk_at dksX6_fact_0 10 rfl rfl)
theorem dX6_fact_11 : decode cX6_fact 11 = .ok (.getfield 201, 3) := dk_180 0 201 (dk_at dksX6_fact_0 11 rfl rfl)
theorem dX6_fact_14 : decode cX6_fact 14 = .ok (.aload_n 0, 1) := dk_42 (dk_at dksX6_fact_0 14 rfl rfl)
theorem dX6_fact_15 : decode cX6_fact 15 = .ok (.getfield 195, 3) := dk_180 0 195 (dk_at dksX6_fact_0 15 rfl rfl)
theorem dX6_fact_18 : decode cX6_fact 18 = .ok (.iload_n 2, 1) := dk_28 (dk_at dksX6_fact_0 18 rfl rfl)
theorem dX6_fact_19 : decode cX6_fact 19 = .ok (.iastore, 1) := dk_79 (dk_at dksX6_fact_0 19 rfl rfl)
theorem dX6_fact_20 : decode cX6_fact 20 = .ok (.aload_n 0, 1) := dk_42 (dk_at dksX6_fact_0 20 rfl rfl)
theorem dX6_fact_21 : decode cX6_fact 21 = .ok (.getfield 204, 3) := dk_180 0 204 (dk_at dksX6_fact_0 21 rfl rfl)
theorem dX6_fact_24 : decode cX6_fact 24 = .ok (.aload_n 0, 1) := dk_42 (dk_at dksX6_fact_1 0 rfl rfl)
theorem dX6_fact_25 : decode cX6_fact 25 = .ok (.getfield 195, 3) := dk_180 0 195 (dk_at dksX6_fact_1 1 rfl rfl)
theorem dX6_fact_28 : decode cX6_fact 28 = .ok (.iload_n 3, 1) := dk_29 (dk_at dksX6_fact_1 4 rfl rfl)
theorem dX6_fact_29 : decode cX6_fact 29 = .ok (.iastore, 1) := dk_79 (dk_at dksX6_fact_1 5 rfl rfl)
theorem dX6_fact_30 : decode cX6_fact 30 = .ok (.aload_n 0, 1) := dk_42 (dk_at dksX6_fact_1 6 rfl rfl)
theorem dX6_fact_31 : decode cX6_fact 31 = .ok (.dup, 1) := dk_89 (dk_at dksX6_fact_1 7 rfl rfl)
theorem dX6_fact_32 : decode cX6_fact 32 = .ok (.getfield 195, 3) := dk_180 0 195 (dk_at dksX6_fact_1 8 rfl rfl)
theorem dX6_fact_35 : decode cX6_fact 35 = .ok (.iconst 1, 1) := dk_4 (dk_at dksX6_fact_1 11 rfl rfl)
theorem dX6_fact_36 : decode cX6_fact 36 = .ok (.iadd, 1) := dk_96 (dk_at dksX6_fact_1 12 rfl rfl)
theorem dX6_fact_37 : decode cX6_fact 37 = .ok (.putfield 195, 3) := dk_181 0 195 (dk_at dksX6_fact_1 13 rfl rfl)
theorem dX6_fact_40 : decode cX6_fact 40 = .ok (.return_, 1) := dk_177 (dk_at dksX6_fact_1 16 rfl rfl)
abbrev cX6_fit : ByteArray := prog_29_method_79_code
def yX6_fit : MethodName := ⟨RX6, "fit", "(I)Z"⟩
def dkwX6_fit_3 : List UInt8 := [3, 172, 132, 3, 1, 167, 255, 202, 132, 2, 1, 167, 255, 175, 4, 172]
abbrev dktX6_fit_3 : List UInt8 := dkwX6_fit_3 ++ []
def dkwX6_fit_2 : List UInt8 := [42, 180, 0, 204, 28, 46, 42, 180, 0, 201, 29, 46, 42, 180, 0, 204, 29, 46, 184, 2, 22, 164, 0, 5]
abbrev dktX6_fit_2 : List UInt8 := dkwX6_fit_2 ++ dktX6_fit_3
def dkwX6_fit_1 : List UInt8 := [42, 180, 0, 195, 162, 0, 52, 42, 27, 42, 180, 0, 198, 29, 46, 182, 2, 8, 42, 180, 0, 201, 28, 46]
abbrev dktX6_fit_1 : List UInt8 := dkwX6_fit_1 ++ dktX6_fit_2
def dkwX6_fit_0 : List UInt8 := [3, 61, 28, 42, 180, 0, 195, 162, 0, 79, 42, 27, 42, 180, 0, 198, 28, 46, 182, 2, 5, 3, 62, 29]
abbrev dktX6_fit_0 : List UInt8 := dkwX6_fit_0 ++ dktX6_fit_1
theorem dksX6_fit_0 : cX6_fit.data.toList.drop 0 = dktX6_fit_0 := by decide +kernel
theorem dksX6_fit_1 : cX6_fit.data.toList.drop 24 = dktX6_fit_1 := dk_seg dksX6_fit_0 24 rfl rfl
theorem dksX6_fit_2 : cX6_fit.data.toList.drop 48 = dktX6_fit_2 := dk_seg dksX6_fit_1 24 rfl rfl
theorem dksX6_fit_3 : cX6_fit.data.toList.drop 72 = dktX6_fit_3 := dk_seg dksX6_fit_2 24 rfl rfl
theorem dX6_fit_0 : decode cX6_fit 0 = .ok (.iconst 0, 1) := dk_3 (dk_at dksX6_fit_0 0 rfl rfl)
theorem dX6_fit_1 : decode cX6_fit 1 = .ok (.istore_n 2, 1) := dk_61 (dk_at dksX6_fit_0 1 rfl rfl)
theorem dX6_fit_2 : decode cX6_fit 2 = .ok (.iload_n 2, 1) := dk_28 (dk_at dksX6_fit_0 2 rfl rfl)
theorem dX6_fit_3 : decode cX6_fit 3 = .ok (.aload_n 0, 1) := dk_42 (dk_at dksX6_fit_0 3 rfl rfl)
theorem dX6_fit_4 : decode cX6_fit 4 = .ok (.getfield 195, 3) := dk_180 0 195 (dk_at dksX6_fit_0 4 rfl rfl)
theorem dX6_fit_7 : decode cX6_fit 7 = .ok (.if_icmp .ge 79, 3) := dk_162 0 79 (dk_at dksX6_fit_0 7 rfl rfl)
theorem dX6_fit_10 : decode cX6_fit 10 = .ok (.aload_n 0, 1) := dk_42 (dk_at dksX6_fit_0 10 rfl rfl)
theorem dX6_fit_11 : decode cX6_fit 11 = .ok (.iload_n 1, 1) := dk_27 (dk_at dksX6_fit_0 11 rfl rfl)
theorem dX6_fit_12 : decode cX6_fit 12 = .ok (.aload_n 0, 1) := dk_42 (dk_at dksX6_fit_0 12 rfl rfl)
theorem dX6_fit_13 : decode cX6_fit 13 = .ok (.getfield 198, 3) := dk_180 0 198 (dk_at dksX6_fit_0 13 rfl rfl)
theorem dX6_fit_16 : decode cX6_fit 16 = .ok (.iload_n 2, 1) := dk_28 (dk_at dksX6_fit_0 16 rfl rfl)
theorem dX6_fit_17 : decode cX6_fit 17 = .ok (.iaload, 1) := dk_46 (dk_at dksX6_fit_0 17 rfl rfl)
theorem dX6_fit_18 : decode cX6_fit 18 = .ok (.invokevirtual 517, 3) := dk_182 2 5 (dk_at dksX6_fit_0 18 rfl rfl)
theorem dX6_fit_21 : decode cX6_fit 21 = .ok (.iconst 0, 1) := dk_3 (dk_at dksX6_fit_0 21 rfl rfl)
theorem dX6_fit_22 : decode cX6_fit 22 = .ok (.istore_n 3, 1) := dk_62 (dk_at dksX6_fit_0 22 rfl rfl)
theorem dX6_fit_23 : decode cX6_fit 23 = .ok (.iload_n 3, 1) := dk_29 (dk_at dksX6_fit_0 23 rfl rfl)
theorem dX6_fit_24 : decode cX6_fit 24 = .ok (.aload_n 0, 1) := dk_42 (dk_at dksX6_fit_1 0 rfl rfl)
theorem dX6_fit_25 : decode cX6_fit 25 = .ok (.getfield 195, 3) := dk_180 0 195 (dk_at dksX6_fit_1 1 rfl rfl)
theorem dX6_fit_28 : decode cX6_fit 28 = .ok (.if_icmp .ge 52, 3) := dk_162 0 52 (dk_at dksX6_fit_1 4 rfl rfl)
theorem dX6_fit_31 : decode cX6_fit 31 = .ok (.aload_n 0, 1) := dk_42 (dk_at dksX6_fit_1 7 rfl rfl)
theorem dX6_fit_32 : decode cX6_fit 32 = .ok (.iload_n 1, 1) := dk_27 (dk_at dksX6_fit_1 8 rfl rfl)
theorem dX6_fit_33 : decode cX6_fit 33 = .ok (.aload_n 0, 1) := dk_42 (dk_at dksX6_fit_1 9 rfl rfl)
theorem dX6_fit_34 : decode cX6_fit 34 = .ok (.getfield 198, 3) := dk_180 0 198 (dk_at dksX6_fit_1 10 rfl rfl)
theorem dX6_fit_37 : decode cX6_fit 37 = .ok (.iload_n 3, 1) := dk_29 (dk_at dksX6_fit_1 13 rfl rfl)
theorem dX6_fit_38 : decode cX6_fit 38 = .ok (.iaload, 1) := dk_46 (dk_at dksX6_fit_1 14 rfl rfl)
theorem dX6_fit_39 : decode cX6_fit 39 = .ok (.invokevirtual 520, 3) := dk_182 2 8 (dk_at dksX6_fit_1 15 rfl rfl)
theorem dX6_fit_42 : decode cX6_fit 42 = .ok (.aload_n 0, 1) := dk_42 (dk_at dksX6_fit_1 18 rfl rfl)
theorem dX6_fit_43 : decode cX6_fit 43 = .ok (.getfield 201, 3) := dk_180 0 201 (dk_at dksX6_fit_1 19 rfl rfl)
theorem dX6_fit_46 : decode cX6_fit 46 = .ok (.iload_n 2, 1) := dk_28 (dk_at dksX6_fit_1 22 rfl rfl)
theorem dX6_fit_47 : decode cX6_fit 47 = .ok (.iaload, 1) := dk_46 (dk_at dksX6_fit_1 23 rfl rfl)
theorem dX6_fit_48 : decode cX6_fit 48 = .ok (.aload_n 0, 1) := dk_42 (dk_at dksX6_fit_2 0 rfl rfl)
theorem dX6_fit_49 : decode cX6_fit 49 = .ok (.getfield 204, 3) := dk_180 0 204 (dk_at dksX6_fit_2 1 rfl rfl)
theorem dX6_fit_52 : decode cX6_fit 52 = .ok (.iload_n 2, 1) := dk_28 (dk_at dksX6_fit_2 4 rfl rfl)
theorem dX6_fit_53 : decode cX6_fit 53 = .ok (.iaload, 1) := dk_46 (dk_at dksX6_fit_2 5 rfl rfl)
theorem dX6_fit_54 : decode cX6_fit 54 = .ok (.aload_n 0, 1) := dk_42 (dk_at dksX6_fit_2 6 rfl rfl)
theorem dX6_fit_55 : decode cX6_fit 55 = .ok (.getfield 201, 3) := dk_180 0 201 (dk_at dksX6_fit_2 7 rfl rfl)
theorem dX6_fit_58 : decode cX6_fit 58 = .ok (.iload_n 3, 1) := dk_29 (dk_at dksX6_fit_2 10 rfl rfl)
theorem dX6_fit_59 : decode cX6_fit 59 = .ok (.iaload, 1) := dk_46 (dk_at dksX6_fit_2 11 rfl rfl)
theorem dX6_fit_60 : decode cX6_fit 60 = .ok (.aload_n 0, 1) := dk_42 (dk_at dksX6_fit_2 12 rfl rfl)
theorem dX6_fit_61 : decode cX6_fit 61 = .ok (.getfield 204, 3) := dk_180 0 204 (dk_at dksX6_fit_2 13 rfl rfl)
theorem dX6_fit_64 : decode cX6_fit 64 = .ok (.iload_n 3, 1) := dk_29 (dk_at dksX6_fit_2 16 rfl rfl)
theorem dX6_fit_65 : decode cX6_fit 65 = .ok (.iaload, 1) := dk_46 (dk_at dksX6_fit_2 17 rfl rfl)
theorem dX6_fit_66 : decode cX6_fit 66 = .ok (.invokestatic 534, 3) := dk_184 2 22 (dk_at dksX6_fit_2 18 rfl rfl)
theorem dX6_fit_69 : decode cX6_fit 69 = .ok (.if_icmp .le 5, 3) := dk_164 0 5 (dk_at dksX6_fit_2 21 rfl rfl)
theorem dX6_fit_72 : decode cX6_fit 72 = .ok (.iconst 0, 1) := dk_3 (dk_at dksX6_fit_3 0 rfl rfl)
theorem dX6_fit_73 : decode cX6_fit 73 = .ok (.ireturn, 1) := dk_172 (dk_at dksX6_fit_3 1 rfl rfl)
theorem dX6_fit_74 : decode cX6_fit 74 = .ok (.iinc 3 1, 3) := dk_132 3 1 (dk_at dksX6_fit_3 2 rfl rfl)
theorem dX6_fit_77 : decode cX6_fit 77 = .ok (.goto (-54), 3) := dk_167 255 202 (dk_at dksX6_fit_3 5 rfl rfl)
theorem dX6_fit_80 : decode cX6_fit 80 = .ok (.iinc 2 1, 3) := dk_132 2 1 (dk_at dksX6_fit_3 8 rfl rfl)
theorem dX6_fit_83 : decode cX6_fit 83 = .ok (.goto (-81), 3) := dk_167 255 175 (dk_at dksX6_fit_3 11 rfl rfl)
theorem dX6_fit_86 : decode cX6_fit 86 = .ok (.iconst 1, 1) := dk_4 (dk_at dksX6_fit_3 14 rfl rfl)
theorem dX6_fit_87 : decode cX6_fit 87 = .ok (.ireturn, 1) := dk_172 (dk_at dksX6_fit_3 15 rfl rfl)
abbrev cX6_between : ByteArray := prog_29_method_78_code
def yX6_between : MethodName := ⟨RX6, "between", "(IIII)I"⟩
def dkwX6_between_0 : List UInt8 := [28, 27, 164, 0, 9, 28, 27, 100, 167, 0, 15, 26, 29, 164, 0, 9, 26, 29, 100, 167, 0, 4, 3, 172]
abbrev dktX6_between_0 : List UInt8 := dkwX6_between_0 ++ []
theorem dksX6_between_0 : cX6_between.data.toList.drop 0 = dktX6_between_0 := by decide +kernel
theorem dX6_between_0 : decode cX6_between 0 = .ok (.iload_n 2, 1) := dk_28 (dk_at dksX6_between_0 0 rfl rfl)
theorem dX6_between_1 : decode cX6_between 1 = .ok (.iload_n 1, 1) := dk_27 (dk_at dksX6_between_0 1 rfl rfl)
theorem dX6_between_2 : decode cX6_between 2 = .ok (.if_icmp .le 9, 3) := dk_164 0 9 (dk_at dksX6_between_0 2 rfl rfl)
theorem dX6_between_5 : decode cX6_between 5 = .ok (.iload_n 2, 1) := dk_28 (dk_at dksX6_between_0 5 rfl rfl)
theorem dX6_between_6 : decode cX6_between 6 = .ok (.iload_n 1, 1) := dk_27 (dk_at dksX6_between_0 6 rfl rfl)
theorem dX6_between_7 : decode cX6_between 7 = .ok (.isub, 1) := dk_100 (dk_at dksX6_between_0 7 rfl rfl)
theorem dX6_between_8 : decode cX6_between 8 = .ok (.goto 15, 3) := dk_167 0 15 (dk_at dksX6_between_0 8 rfl rfl)
theorem dX6_between_11 : decode cX6_between 11 = .ok (.iload_n 0, 1) := dk_26 (dk_at dksX6_between_0 11 rfl rfl)
theorem dX6_between_12 : decode cX6_between 12 = .ok (.iload_n 3, 1) := dk_29 (dk_at dksX6_between_0 12 rfl rfl)
theorem dX6_between_13 : decode cX6_between 13 = .ok (.if_icmp .le 9, 3) := dk_164 0 9 (dk_at dksX6_between_0 13 rfl rfl)
theorem dX6_between_16 : decode cX6_between 16 = .ok (.iload_n 0, 1) := dk_26 (dk_at dksX6_between_0 16 rfl rfl)
theorem dX6_between_17 : decode cX6_between 17 = .ok (.iload_n 3, 1) := dk_29 (dk_at dksX6_between_0 17 rfl rfl)
theorem dX6_between_18 : decode cX6_between 18 = .ok (.isub, 1) := dk_100 (dk_at dksX6_between_0 18 rfl rfl)
theorem dX6_between_19 : decode cX6_between 19 = .ok (.goto 4, 3) := dk_167 0 4 (dk_at dksX6_between_0 19 rfl rfl)
theorem dX6_between_22 : decode cX6_between 22 = .ok (.iconst 0, 1) := dk_3 (dk_at dksX6_between_0 22 rfl rfl)
theorem dX6_between_23 : decode cX6_between 23 = .ok (.ireturn, 1) := dk_172 (dk_at dksX6_between_0 23 rfl rfl)
abbrev cX6_keeps : ByteArray := prog_29_method_83_code
def yX6_keeps : MethodName := ⟨RX6, "keeps", "(I)V"⟩
def dkwX6_keeps_11 : List UInt8 := [180, 0, 222, 21, 4, 4, 84, 21, 4, 62, 132, 2, 255, 132, 4, 1, 167, 255, 192, 177]
abbrev dktX6_keeps_11 : List UInt8 := dkwX6_keeps_11 ++ []
def dkwX6_keeps_10 : List UInt8 := [159, 0, 21, 42, 180, 0, 225, 16, 48, 29, 104, 21, 4, 96, 51, 154, 0, 6, 167, 0, 17, 42]
abbrev dktX6_keeps_10 : List UInt8 := dkwX6_keeps_10 ++ dktX6_keeps_11
def dkwX6_keeps_9 : List UInt8 := [180, 0, 210, 162, 0, 61, 28, 158, 0, 57, 42, 180, 0, 228, 21, 4, 46, 28, 160, 0, 40, 29, 2]
abbrev dktX6_keeps_9 : List UInt8 := dkwX6_keeps_9 ++ dktX6_keeps_10
def dkwX6_keeps_8 : List UInt8 := [167, 0, 4, 28, 61, 132, 3, 255, 167, 255, 121, 42, 28, 181, 0, 213, 2, 62, 3, 54, 4, 21, 4, 42]
abbrev dktX6_keeps_8 : List UInt8 := dkwX6_keeps_8 ++ dktX6_keeps_9
def dkwX6_keeps_7 : List UInt8 := [96, 79, 132, 4, 1, 167, 255, 177, 42, 180, 0, 228, 29, 46, 28, 164, 0, 12, 42, 180, 0, 228, 29, 46]
abbrev dktX6_keeps_7 : List UInt8 := dkwX6_keeps_7 ++ dktX6_keeps_8
def dkwX6_keeps_6 : List UInt8 := [4, 96, 42, 180, 0, 228, 29, 46, 164, 0, 18, 42, 180, 0, 228, 29, 42, 180, 0, 228, 21, 4, 46, 4]
abbrev dktX6_keeps_6 : List UInt8 := dkwX6_keeps_6 ++ dktX6_keeps_7
def dkwX6_keeps_5 : List UInt8 := [21, 4, 96, 51, 153, 0, 46, 42, 180, 0, 219, 21, 4, 51, 153, 0, 36, 42, 180, 0, 228, 21, 4, 46]
abbrev dktX6_keeps_5 : List UInt8 := dkwX6_keeps_5 ++ dktX6_keeps_6
def dkwX6_keeps_4 : List UInt8 := [180, 0, 210, 162, 0, 76, 42, 180, 0, 219, 29, 51, 153, 0, 67, 42, 180, 0, 225, 16, 48, 29, 104]
abbrev dktX6_keeps_4 : List UInt8 := dkwX6_keeps_4 ++ dktX6_keeps_5
def dkwX6_keeps_3 : List UInt8 := [180, 0, 219, 29, 51, 153, 0, 7, 4, 167, 0, 4, 3, 79, 29, 4, 96, 54, 4, 21, 4, 42]
abbrev dktX6_keeps_3 : List UInt8 := dkwX6_keeps_3 ++ dktX6_keeps_4
def dkwX6_keeps_2 : List UInt8 := [154, 0, 4, 177, 3, 61, 42, 180, 0, 210, 4, 100, 62, 29, 155, 0, 137, 42, 180, 0, 228, 29, 42]
abbrev dktX6_keeps_2 : List UInt8 := dkwX6_keeps_2 ++ dktX6_keeps_3
def dkwX6_keeps_1 : List UInt8 := [180, 0, 210, 162, 0, 16, 42, 180, 0, 222, 28, 3, 84, 132, 2, 1, 167, 255, 238, 42, 180, 0, 207]
abbrev dktX6_keeps_1 : List UInt8 := dkwX6_keeps_1 ++ dktX6_keeps_2
def dkwX6_keeps_0 : List UInt8 := [42, 42, 27, 182, 2, 34, 181, 0, 207, 42, 27, 182, 2, 37, 42, 3, 181, 0, 213, 3, 61, 28, 42]
abbrev dktX6_keeps_0 : List UInt8 := dkwX6_keeps_0 ++ dktX6_keeps_1
theorem dksX6_keeps_0 : cX6_keeps.data.toList.drop 0 = dktX6_keeps_0 := by decide +kernel
theorem dksX6_keeps_1 : cX6_keeps.data.toList.drop 23 = dktX6_keeps_1 := dk_seg dksX6_keeps_0 23 rfl rfl
theorem dksX6_keeps_2 : cX6_keeps.data.toList.drop 46 = dktX6_keeps_2 := dk_seg dksX6_keeps_1 23 rfl rfl
theorem dksX6_keeps_3 : cX6_keeps.data.toList.drop 69 = dktX6_keeps_3 := dk_seg dksX6_keeps_2 23 rfl rfl
theorem dksX6_keeps_4 : cX6_keeps.data.toList.drop 91 = dktX6_keeps_4 := dk_seg dksX6_keeps_3 22 rfl rfl
theorem dksX6_keeps_5 : cX6_keeps.data.toList.drop 114 = dktX6_keeps_5 := dk_seg dksX6_keeps_4 23 rfl rfl
theorem dksX6_keeps_6 : cX6_keeps.data.toList.drop 138 = dktX6_keeps_6 := dk_seg dksX6_keeps_5 24 rfl rfl
theorem dksX6_keeps_7 : cX6_keeps.data.toList.drop 162 = dktX6_keeps_7 := dk_seg dksX6_keeps_6 24 rfl rfl
theorem dksX6_keeps_8 : cX6_keeps.data.toList.drop 186 = dktX6_keeps_8 := dk_seg dksX6_keeps_7 24 rfl rfl
theorem dksX6_keeps_9 : cX6_keeps.data.toList.drop 210 = dktX6_keeps_9 := dk_seg dksX6_keeps_8 24 rfl rfl
theorem dksX6_keeps_10 : cX6_keeps.data.toList.drop 233 = dktX6_keeps_10 := dk_seg dksX6_keeps_9 23 rfl rfl
theorem dksX6_keeps_11 : cX6_keeps.data.toList.drop 255 = dktX6_keeps_11 := dk_seg dksX6_keeps_10 22 rfl rfl
theorem dX6_keeps_0 : decode cX6_keeps 0 = .ok (.aload_n 0, 1) := dk_42 (dk_at dksX6_keeps_0 0 rfl rfl)
theorem dX6_keeps_1 : decode cX6_keeps 1 = .ok (.aload_n 0, 1) := dk_42 (dk_at dksX6_keeps_0 1 rfl rfl)
theorem dX6_keeps_2 : decode cX6_keeps 2 = .ok (.iload_n 1, 1) := dk_27 (dk_at dksX6_keeps_0 2 rfl rfl)
theorem dX6_keeps_3 : decode cX6_keeps 3 = .ok (.invokevirtual 546, 3) := dk_182 2 34 (dk_at dksX6_keeps_0 3 rfl rfl)
theorem dX6_keeps_6 : decode cX6_keeps 6 = .ok (.putfield 207, 3) := dk_181 0 207 (dk_at dksX6_keeps_0 6 rfl rfl)
theorem dX6_keeps_9 : decode cX6_keeps 9 = .ok (.aload_n 0, 1) := dk_42 (dk_at dksX6_keeps_0 9 rfl rfl)
theorem dX6_keeps_10 : decode cX6_keeps 10 = .ok (.iload_n 1, 1) := dk_27 (dk_at dksX6_keeps_0 10 rfl rfl)
theorem dX6_keeps_11 : decode cX6_keeps 11 = .ok (.invokevirtual 549, 3) := dk_182 2 37 (dk_at dksX6_keeps_0 11 rfl rfl)
theorem dX6_keeps_14 : decode cX6_keeps 14 = .ok (.aload_n 0, 1) := dk_42 (dk_at dksX6_keeps_0 14 rfl rfl)
theorem dX6_keeps_15 : decode cX6_keeps 15 = .ok (.iconst 0, 1) := dk_3 (dk_at dksX6_keeps_0 15 rfl rfl)
theorem dX6_keeps_16 : decode cX6_keeps 16 = .ok (.putfield 213, 3) := dk_181 0 213 (dk_at dksX6_keeps_0 16 rfl rfl)
theorem dX6_keeps_19 : decode cX6_keeps 19 = .ok (.iconst 0, 1) := dk_3 (dk_at dksX6_keeps_0 19 rfl rfl)
theorem dX6_keeps_20 : decode cX6_keeps 20 = .ok (.istore_n 2, 1) := dk_61 (dk_at dksX6_keeps_0 20 rfl rfl)
theorem dX6_keeps_21 : decode cX6_keeps 21 = .ok (.iload_n 2, 1) := dk_28 (dk_at dksX6_keeps_0 21 rfl rfl)
theorem dX6_keeps_22 : decode cX6_keeps 22 = .ok (.aload_n 0, 1) := dk_42 (dk_at dksX6_keeps_0 22 rfl rfl)
theorem dX6_keeps_23 : decode cX6_keeps 23 = .ok (.getfield 210, 3) := dk_180 0 210 (dk_at dksX6_keeps_1 0 rfl rfl)
theorem dX6_keeps_26 : decode cX6_keeps 26 = .ok (.if_icmp .ge 16, 3) := dk_162 0 16 (dk_at dksX6_keeps_1 3 rfl rfl)
theorem dX6_keeps_29 : decode cX6_keeps 29 = .ok (.aload_n 0, 1) := dk_42 (dk_at dksX6_keeps_1 6 rfl rfl)
theorem dX6_keeps_30 : decode cX6_keeps 30 = .ok (.getfield 222, 3) := dk_180 0 222 (dk_at dksX6_keeps_1 7 rfl rfl)
theorem dX6_keeps_33 : decode cX6_keeps 33 = .ok (.iload_n 2, 1) := dk_28 (dk_at dksX6_keeps_1 10 rfl rfl)
theorem dX6_keeps_34 : decode cX6_keeps 34 = .ok (.iconst 0, 1) := dk_3 (dk_at dksX6_keeps_1 11 rfl rfl)
theorem dX6_keeps_35 : decode cX6_keeps 35 = .ok (.bastore, 1) := dk_84 (dk_at dksX6_keeps_1 12 rfl rfl)
theorem dX6_keeps_36 : decode cX6_keeps 36 = .ok (.iinc 2 1, 3) := dk_132 2 1 (dk_at dksX6_keeps_1 13 rfl rfl)
theorem dX6_keeps_39 : decode cX6_keeps 39 = .ok (.goto (-18), 3) := dk_167 255 238 (dk_at dksX6_keeps_1 16 rfl rfl)
theorem dX6_keeps_42 : decode cX6_keeps 42 = .ok (.aload_n 0, 1) := dk_42 (dk_at dksX6_keeps_1 19 rfl rfl)
theorem dX6_keeps_43 : decode cX6_keeps 43 = .ok (.getfield 207, 3) := dk_180 0 207 (dk_at dksX6_keeps_1 20 rfl rfl)
theorem dX6_keeps_46 : decode cX6_keeps 46 = .ok (.ifCond .ne 4, 3) := dk_154 0 4 (dk_at dksX6_keeps_2 0 rfl rfl)
theorem dX6_keeps_49 : decode cX6_keeps 49 = .ok (.return_, 1) := dk_177 (dk_at dksX6_keeps_2 3 rfl rfl)
theorem dX6_keeps_50 : decode cX6_keeps 50 = .ok (.iconst 0, 1) := dk_3 (dk_at dksX6_keeps_2 4 rfl rfl)
theorem dX6_keeps_51 : decode cX6_keeps 51 = .ok (.istore_n 2, 1) := dk_61 (dk_at dksX6_keeps_2 5 rfl rfl)
theorem dX6_keeps_52 : decode cX6_keeps 52 = .ok (.aload_n 0, 1) := dk_42 (dk_at dksX6_keeps_2 6 rfl rfl)
theorem dX6_keeps_53 : decode cX6_keeps 53 = .ok (.getfield 210, 3) := dk_180 0 210 (dk_at dksX6_keeps_2 7 rfl rfl)
theorem dX6_keeps_56 : decode cX6_keeps 56 = .ok (.iconst 1, 1) := dk_4 (dk_at dksX6_keeps_2 10 rfl rfl)
theorem dX6_keeps_57 : decode cX6_keeps 57 = .ok (.isub, 1) := dk_100 (dk_at dksX6_keeps_2 11 rfl rfl)
theorem dX6_keeps_58 : decode cX6_keeps 58 = .ok (.istore_n 3, 1) := dk_62 (dk_at dksX6_keeps_2 12 rfl rfl)
theorem dX6_keeps_59 : decode cX6_keeps 59 = .ok (.iload_n 3, 1) := dk_29 (dk_at dksX6_keeps_2 13 rfl rfl)
theorem dX6_keeps_60 : decode cX6_keeps 60 = .ok (.ifCond .lt 137, 3) := dk_155 0 137 (dk_at dksX6_keeps_2 14 rfl rfl)
theorem dX6_keeps_63 : decode cX6_keeps 63 = .ok (.aload_n 0, 1) := dk_42 (dk_at dksX6_keeps_2 17 rfl rfl)
theorem dX6_keeps_64 : decode cX6_keeps 64 = .ok (.getfield 228, 3) := dk_180 0 228 (dk_at dksX6_keeps_2 18 rfl rfl)
theorem dX6_keeps_67 : decode cX6_keeps 67 = .ok (.iload_n 3, 1) := dk_29 (dk_at dksX6_keeps_2 21 rfl rfl)
theorem dX6_keeps_68 : decode cX6_keeps 68 = .ok (.aload_n 0, 1) := dk_42 (dk_at dksX6_keeps_2 22 rfl rfl)
theorem dX6_keeps_69 : decode cX6_keeps 69 = .ok (.getfield 219, 3) := dk_180 0 219 (dk_at dksX6_keeps_3 0 rfl rfl)
theorem dX6_keeps_72 : decode cX6_keeps 72 = .ok (.iload_n 3, 1) := dk_29 (dk_at dksX6_keeps_3 3 rfl rfl)
theorem dX6_keeps_73 : decode cX6_keeps 73 = .ok (.baload, 1) := dk_51 (dk_at dksX6_keeps_3 4 rfl rfl)
theorem dX6_keeps_74 : decode cX6_keeps 74 = .ok (.ifCond .eq 7, 3) := dk_153 0 7 (dk_at dksX6_keeps_3 5 rfl rfl)
theorem dX6_keeps_77 : decode cX6_keeps 77 = .ok (.iconst 1, 1) := dk_4 (dk_at dksX6_keeps_3 8 rfl rfl)
theorem dX6_keeps_78 : decode cX6_keeps 78 = .ok (.goto 4, 3) := dk_167 0 4 (dk_at dksX6_keeps_3 9 rfl rfl)
theorem dX6_keeps_81 : decode cX6_keeps 81 = .ok (.iconst 0, 1) := dk_3 (dk_at dksX6_keeps_3 12 rfl rfl)
theorem dX6_keeps_82 : decode cX6_keeps 82 = .ok (.iastore, 1) := dk_79 (dk_at dksX6_keeps_3 13 rfl rfl)
theorem dX6_keeps_83 : decode cX6_keeps 83 = .ok (.iload_n 3, 1) := dk_29 (dk_at dksX6_keeps_3 14 rfl rfl)
theorem dX6_keeps_84 : decode cX6_keeps 84 = .ok (.iconst 1, 1) := dk_4 (dk_at dksX6_keeps_3 15 rfl rfl)
theorem dX6_keeps_85 : decode cX6_keeps 85 = .ok (.iadd, 1) := dk_96 (dk_at dksX6_keeps_3 16 rfl rfl)
theorem dX6_keeps_86 : decode cX6_keeps 86 = .ok (.istore 4, 2) := dk_54 4 (dk_at dksX6_keeps_3 17 rfl rfl)
theorem dX6_keeps_88 : decode cX6_keeps 88 = .ok (.iload 4, 2) := dk_21 4 (dk_at dksX6_keeps_3 19 rfl rfl)
theorem dX6_keeps_90 : decode cX6_keeps 90 = .ok (.aload_n 0, 1) := dk_42 (dk_at dksX6_keeps_3 21 rfl rfl)
theorem dX6_keeps_91 : decode cX6_keeps 91 = .ok (.getfield 210, 3) := dk_180 0 210 (dk_at dksX6_keeps_4 0 rfl rfl)
theorem dX6_keeps_94 : decode cX6_keeps 94 = .ok (.if_icmp .ge 76, 3) := dk_162 0 76 (dk_at dksX6_keeps_4 3 rfl rfl)
theorem dX6_keeps_97 : decode cX6_keeps 97 = .ok (.aload_n 0, 1) := dk_42 (dk_at dksX6_keeps_4 6 rfl rfl)
theorem dX6_keeps_98 : decode cX6_keeps 98 = .ok (.getfield 219, 3) := dk_180 0 219 (dk_at dksX6_keeps_4 7 rfl rfl)
theorem dX6_keeps_101 : decode cX6_keeps 101 = .ok (.iload_n 3, 1) := dk_29 (dk_at dksX6_keeps_4 10 rfl rfl)
theorem dX6_keeps_102 : decode cX6_keeps 102 = .ok (.baload, 1) := dk_51 (dk_at dksX6_keeps_4 11 rfl rfl)
theorem dX6_keeps_103 : decode cX6_keeps 103 = .ok (.ifCond .eq 67, 3) := dk_153 0 67 (dk_at dksX6_keeps_4 12 rfl rfl)
theorem dX6_keeps_106 : decode cX6_keeps 106 = .ok (.aload_n 0, 1) := dk_42 (dk_at dksX6_keeps_4 15 rfl rfl)
theorem dX6_keeps_107 : decode cX6_keeps 107 = .ok (.getfield 225, 3) := dk_180 0 225 (dk_at dksX6_keeps_4 16 rfl rfl)
theorem dX6_keeps_110 : decode cX6_keeps 110 = .ok (.bipush 48, 2) := dk_16 48 (dk_at dksX6_keeps_4 19 rfl rfl)
theorem dX6_keeps_112 : decode cX6_keeps 112 = .ok (.iload_n 3, 1) := dk_29 (dk_at dksX6_keeps_4 21 rfl rfl)
theorem dX6_keeps_113 : decode cX6_keeps 113 = .ok (.imul, 1) := dk_104 (dk_at dksX6_keeps_4 22 rfl rfl)
theorem dX6_keeps_114 : decode cX6_keeps 114 = .ok (.iload 4, 2) := dk_21 4 (dk_at dksX6_keeps_5 0 rfl rfl)
theorem dX6_keeps_116 : decode cX6_keeps 116 = .ok (.iadd, 1) := dk_96 (dk_at dksX6_keeps_5 2 rfl rfl)
theorem dX6_keeps_117 : decode cX6_keeps 117 = .ok (.baload, 1) := dk_51 (dk_at dksX6_keeps_5 3 rfl rfl)
theorem dX6_keeps_118 : decode cX6_keeps 118 = .ok (.ifCond .eq 46, 3) := dk_153 0 46 (dk_at dksX6_keeps_5 4 rfl rfl)
theorem dX6_keeps_121 : decode cX6_keeps 121 = .ok (.aload_n 0, 1) := dk_42 (dk_at dksX6_keeps_5 7 rfl rfl)
theorem dX6_keeps_122 : decode cX6_keeps 122 = .ok (.getfield 219, 3) := dk_180 0 219 (dk_at dksX6_keeps_5 8 rfl rfl)
theorem dX6_keeps_125 : decode cX6_keeps 125 = .ok (.iload 4, 2) := dk_21 4 (dk_at dksX6_keeps_5 11 rfl rfl)
theorem dX6_keeps_127 : decode cX6_keeps 127 = .ok (.baload, 1) := dk_51 (dk_at dksX6_keeps_5 13 rfl rfl)
theorem dX6_keeps_128 : decode cX6_keeps 128 = .ok (.ifCond .eq 36, 3) := dk_153 0 36 (dk_at dksX6_keeps_5 14 rfl rfl)
theorem dX6_keeps_131 : decode cX6_keeps 131 = .ok (.aload_n 0, 1) := dk_42 (dk_at dksX6_keeps_5 17 rfl rfl)
theorem dX6_keeps_132 : decode cX6_keeps 132 = .ok (.getfield 228, 3) := dk_180 0 228 (dk_at dksX6_keeps_5 18 rfl rfl)
theorem dX6_keeps_135 : decode cX6_keeps 135 = .ok (.iload 4, 2) := dk_21 4 (dk_at dksX6_keeps_5 21 rfl rfl)
theorem dX6_keeps_137 : decode cX6_keeps 137 = .ok (.iaload, 1) := dk_46 (dk_at dksX6_keeps_5 23 rfl rfl)
theorem dX6_keeps_138 : decode cX6_keeps 138 = .ok (.iconst 1, 1) := dk_4 (dk_at dksX6_keeps_6 0 rfl rfl)
theorem dX6_keeps_139 : decode cX6_keeps 139 = .ok (.iadd, 1) := dk_96 (dk_at dksX6_keeps_6 1 rfl rfl)
theorem dX6_keeps_140 : decode cX6_keeps 140 = .ok (.aload_n 0, 1) := dk_42 (dk_at dksX6_keeps_6 2 rfl rfl)
theorem dX6_keeps_141 : decode cX6_keeps 141 = .ok (.getfield 228, 3) := dk_180 0 228 (dk_at dksX6_keeps_6 3 rfl rfl)
theorem dX6_keeps_144 : decode cX6_keeps 144 = .ok (.iload_n 3, 1) := dk_29 (dk_at dksX6_keeps_6 6 rfl rfl)
theorem dX6_keeps_145 : decode cX6_keeps 145 = .ok (.iaload, 1) := dk_46 (dk_at dksX6_keeps_6 7 rfl rfl)
theorem dX6_keeps_146 : decode cX6_keeps 146 = .ok (.if_icmp .le 18, 3) := dk_164 0 18 (dk_at dksX6_keeps_6 8 rfl rfl)
theorem dX6_keeps_149 : decode cX6_keeps 149 = .ok (.aload_n 0, 1) := dk_42 (dk_at dksX6_keeps_6 11 rfl rfl)
theorem dX6_keeps_150 : decode cX6_keeps 150 = .ok (.getfield 228, 3) := dk_180 0 228 (dk_at dksX6_keeps_6 12 rfl rfl)
theorem dX6_keeps_153 : decode cX6_keeps 153 = .ok (.iload_n 3, 1) := dk_29 (dk_at dksX6_keeps_6 15 rfl rfl)
theorem dX6_keeps_154 : decode cX6_keeps 154 = .ok (.aload_n 0, 1) := dk_42 (dk_at dksX6_keeps_6 16 rfl rfl)
theorem dX6_keeps_155 : decode cX6_keeps 155 = .ok (.getfield 228, 3) := dk_180 0 228 (dk_at dksX6_keeps_6 17 rfl rfl)
theorem dX6_keeps_158 : decode cX6_keeps 158 = .ok (.iload 4, 2) := dk_21 4 (dk_at dksX6_keeps_6 20 rfl rfl)
theorem dX6_keeps_160 : decode cX6_keeps 160 = .ok (.iaload, 1) := dk_46 (dk_at dksX6_keeps_6 22 rfl rfl)
theorem dX6_keeps_161 : decode cX6_keeps 161 = .ok (.iconst 1, 1) := dk_4 (dk_at dksX6_keeps_6 23 rfl rfl)
theorem dX6_keeps_162 : decode cX6_keeps 162 = .ok (.iadd, 1) := dk_96 (dk_at dksX6_keeps_7 0 rfl rfl)
theorem dX6_keeps_163 : decode cX6_keeps 163 = .ok (.iastore, 1) := dk_79 (dk_at dksX6_keeps_7 1 rfl rfl)
theorem dX6_keeps_164 : decode cX6_keeps 164 = .ok (.iinc 4 1, 3) := dk_132 4 1 (dk_at dksX6_keeps_7 2 rfl rfl)
theorem dX6_keeps_167 : decode cX6_keeps 167 = .ok (.goto (-79), 3) := dk_167 255 177 (dk_at dksX6_keeps_7 5 rfl rfl)
theorem dX6_keeps_170 : decode cX6_keeps 170 = .ok (.aload_n 0, 1) := dk_42 (dk_at dksX6_keeps_7 8 rfl rfl)
theorem dX6_keeps_171 : decode cX6_keeps 171 = .ok (.getfield 228, 3) := dk_180 0 228 (dk_at dksX6_keeps_7 9 rfl rfl)
theorem dX6_keeps_174 : decode cX6_keeps 174 = .ok (.iload_n 3, 1) := dk_29 (dk_at dksX6_keeps_7 12 rfl rfl)
theorem dX6_keeps_175 : decode cX6_keeps 175 = .ok (.iaload, 1) := dk_46 (dk_at dksX6_keeps_7 13 rfl rfl)
theorem dX6_keeps_176 : decode cX6_keeps 176 = .ok (.iload_n 2, 1) := dk_28 (dk_at dksX6_keeps_7 14 rfl rfl)
theorem dX6_keeps_177 : decode cX6_keeps 177 = .ok (.if_icmp .le 12, 3) := dk_164 0 12 (dk_at dksX6_keeps_7 15 rfl rfl)
theorem dX6_keeps_180 : decode cX6_keeps 180 = .ok (.aload_n 0, 1) := dk_42 (dk_at dksX6_keeps_7 18 rfl rfl)
theorem dX6_keeps_181 : decode cX6_keeps 181 = .ok (.getfield 228, 3) := dk_180 0 228 (dk_at dksX6_keeps_7 19 rfl rfl)
theorem dX6_keeps_184 : decode cX6_keeps 184 = .ok (.iload_n 3, 1) := dk_29 (dk_at dksX6_keeps_7 22 rfl rfl)
theorem dX6_keeps_185 : decode cX6_keeps 185 = .ok (.iaload, 1) := dk_46 (dk_at dksX6_keeps_7 23 rfl rfl)
theorem dX6_keeps_186 : decode cX6_keeps 186 = .ok (.goto 4, 3) := dk_167 0 4 (dk_at dksX6_keeps_8 0 rfl rfl)
theorem dX6_keeps_189 : decode cX6_keeps 189 = .ok (.iload_n 2, 1) := dk_28 (dk_at dksX6_keeps_8 3 rfl rfl)
theorem dX6_keeps_190 : decode cX6_keeps 190 = .ok (.istore_n 2, 1) := dk_61 (dk_at dksX6_keeps_8 4 rfl rfl)
theorem dX6_keeps_191 : decode cX6_keeps 191 = .ok (.iinc 3 (-1), 3) := dk_132 3 255 (dk_at dksX6_keeps_8 5 rfl rfl)
theorem dX6_keeps_194 : decode cX6_keeps 194 = .ok (.goto (-135), 3) := dk_167 255 121 (dk_at dksX6_keeps_8 8 rfl rfl)
theorem dX6_keeps_197 : decode cX6_keeps 197 = .ok (.aload_n 0, 1) := dk_42 (dk_at dksX6_keeps_8 11 rfl rfl)
theorem dX6_keeps_198 : decode cX6_keeps 198 = .ok (.iload_n 2, 1) := dk_28 (dk_at dksX6_keeps_8 12 rfl rfl)
theorem dX6_keeps_199 : decode cX6_keeps 199 = .ok (.putfield 213, 3) := dk_181 0 213 (dk_at dksX6_keeps_8 13 rfl rfl)
theorem dX6_keeps_202 : decode cX6_keeps 202 = .ok (.iconst (-1), 1) := dk_2 (dk_at dksX6_keeps_8 16 rfl rfl)
theorem dX6_keeps_203 : decode cX6_keeps 203 = .ok (.istore_n 3, 1) := dk_62 (dk_at dksX6_keeps_8 17 rfl rfl)
theorem dX6_keeps_204 : decode cX6_keeps 204 = .ok (.iconst 0, 1) := dk_3 (dk_at dksX6_keeps_8 18 rfl rfl)
theorem dX6_keeps_205 : decode cX6_keeps 205 = .ok (.istore 4, 2) := dk_54 4 (dk_at dksX6_keeps_8 19 rfl rfl)
theorem dX6_keeps_207 : decode cX6_keeps 207 = .ok (.iload 4, 2) := dk_21 4 (dk_at dksX6_keeps_8 21 rfl rfl)
theorem dX6_keeps_209 : decode cX6_keeps 209 = .ok (.aload_n 0, 1) := dk_42 (dk_at dksX6_keeps_8 23 rfl rfl)
theorem dX6_keeps_210 : decode cX6_keeps 210 = .ok (.getfield 210, 3) := dk_180 0 210 (dk_at dksX6_keeps_9 0 rfl rfl)
theorem dX6_keeps_213 : decode cX6_keeps 213 = .ok (.if_icmp .ge 61, 3) := dk_162 0 61 (dk_at dksX6_keeps_9 3 rfl rfl)
theorem dX6_keeps_216 : decode cX6_keeps 216 = .ok (.iload_n 2, 1) := dk_28 (dk_at dksX6_keeps_9 6 rfl rfl)
theorem dX6_keeps_217 : decode cX6_keeps 217 = .ok (.ifCond .le 57, 3) := dk_158 0 57 (dk_at dksX6_keeps_9 7 rfl rfl)
theorem dX6_keeps_220 : decode cX6_keeps 220 = .ok (.aload_n 0, 1) := dk_42 (dk_at dksX6_keeps_9 10 rfl rfl)
theorem dX6_keeps_221 : decode cX6_keeps 221 = .ok (.getfield 228, 3) := dk_180 0 228 (dk_at dksX6_keeps_9 11 rfl rfl)
theorem dX6_keeps_224 : decode cX6_keeps 224 = .ok (.iload 4, 2) := dk_21 4 (dk_at dksX6_keeps_9 14 rfl rfl)
theorem dX6_keeps_226 : decode cX6_keeps 226 = .ok (.iaload, 1) := dk_46 (dk_at dksX6_keeps_9 16 rfl rfl)
theorem dX6_keeps_227 : decode cX6_keeps 227 = .ok (.iload_n 2, 1) := dk_28 (dk_at dksX6_keeps_9 17 rfl rfl)
theorem dX6_keeps_228 : decode cX6_keeps 228 = .ok (.if_icmp .ne 40, 3) := dk_160 0 40 (dk_at dksX6_keeps_9 18 rfl rfl)
theorem dX6_keeps_231 : decode cX6_keeps 231 = .ok (.iload_n 3, 1) := dk_29 (dk_at dksX6_keeps_9 21 rfl rfl)
theorem dX6_keeps_232 : decode cX6_keeps 232 = .ok (.iconst (-1), 1) := dk_2 (dk_at dksX6_keeps_9 22 rfl rfl)
theorem dX6_keeps_233 : decode cX6_keeps 233 = .ok (.if_icmp .eq 21, 3) := dk_159 0 21 (dk_at dksX6_keeps_10 0 rfl rfl)
theorem dX6_keeps_236 : decode cX6_keeps 236 = .ok (.aload_n 0, 1) := dk_42 (dk_at dksX6_keeps_10 3 rfl rfl)
theorem dX6_keeps_237 : decode cX6_keeps 237 = .ok (.getfield 225, 3) := dk_180 0 225 (dk_at dksX6_keeps_10 4 rfl rfl)
theorem dX6_keeps_240 : decode cX6_keeps 240 = .ok (.bipush 48, 2) := dk_16 48 (dk_at dksX6_keeps_10 7 rfl rfl)
theorem dX6_keeps_242 : decode cX6_keeps 242 = .ok (.iload_n 3, 1) := dk_29 (dk_at dksX6_keeps_10 9 rfl rfl)
theorem dX6_keeps_243 : decode cX6_keeps 243 = .ok (.imul, 1) := dk_104 (dk_at dksX6_keeps_10 10 rfl rfl)
theorem dX6_keeps_244 : decode cX6_keeps 244 = .ok (.iload 4, 2) := dk_21 4 (dk_at dksX6_keeps_10 11 rfl rfl)
theorem dX6_keeps_246 : decode cX6_keeps 246 = .ok (.iadd, 1) := dk_96 (dk_at dksX6_keeps_10 13 rfl rfl)
theorem dX6_keeps_247 : decode cX6_keeps 247 = .ok (.baload, 1) := dk_51 (dk_at dksX6_keeps_10 14 rfl rfl)
theorem dX6_keeps_248 : decode cX6_keeps 248 = .ok (.ifCond .ne 6, 3) := dk_154 0 6 (dk_at dksX6_keeps_10 15 rfl rfl)
theorem dX6_keeps_251 : decode cX6_keeps 251 = .ok (.goto 17, 3) := dk_167 0 17 (dk_at dksX6_keeps_10 18 rfl rfl)
theorem dX6_keeps_254 : decode cX6_keeps 254 = .ok (.aload_n 0, 1) := dk_42 (dk_at dksX6_keeps_10 21 rfl rfl)
theorem dX6_keeps_255 : decode cX6_keeps 255 = .ok (.getfield 222, 3) := dk_180 0 222 (dk_at dksX6_keeps_11 0 rfl rfl)
theorem dX6_keeps_258 : decode cX6_keeps 258 = .ok (.iload 4, 2) := dk_21 4 (dk_at dksX6_keeps_11 3 rfl rfl)
theorem dX6_keeps_260 : decode cX6_keeps 260 = .ok (.iconst 1, 1) := dk_4 (dk_at dksX6_keeps_11 5 rfl rfl)
theorem dX6_keeps_261 : decode cX6_keeps 261 = .ok (.bastore, 1) := dk_84 (dk_at dksX6_keeps_11 6 rfl rfl)
theorem dX6_keeps_262 : decode cX6_keeps 262 = .ok (.iload 4, 2) := dk_21 4 (dk_at dksX6_keeps_11 7 rfl rfl)
theorem dX6_keeps_264 : decode cX6_keeps 264 = .ok (.istore_n 3, 1) := dk_62 (dk_at dksX6_keeps_11 9 rfl rfl)
theorem dX6_keeps_265 : decode cX6_keeps 265 = .ok (.iinc 2 (-1), 3) := dk_132 2 255 (dk_at dksX6_keeps_11 10 rfl rfl)
theorem dX6_keeps_268 : decode cX6_keeps 268 = .ok (.iinc 4 1, 3) := dk_132 4 1 (dk_at dksX6_keeps_11 13 rfl rfl)
theorem dX6_keeps_271 : decode cX6_keeps 271 = .ok (.goto (-64), 3) := dk_167 255 192 (dk_at dksX6_keeps_11 16 rfl rfl)
theorem dX6_keeps_274 : decode cX6_keeps 274 = .ok (.return_, 1) := dk_177 (dk_at dksX6_keeps_11 19 rfl rfl)
abbrev cX6_pairs : ByteArray := prog_29_method_82_code
def yX6_pairs : MethodName := ⟨RX6, "pairs", "(I)V"⟩
def dkwX6_pairs_10 : List UInt8 := [167, 255, 79, 177]
abbrev dktX6_pairs_10 : List UInt8 := dkwX6_pairs_10 ++ []
def dkwX6_pairs_9 : List UInt8 := [21, 4, 46, 100, 163, 0, 7, 4, 167, 0, 4, 3, 84, 132, 4, 1, 167, 255, 160, 132, 2, 1]
abbrev dktX6_pairs_9 : List UInt8 := dkwX6_pairs_9 ++ dktX6_pairs_10
def dkwX6_pairs_8 : List UInt8 := [21, 4, 46, 42, 180, 0, 216, 28, 46, 100, 167, 0, 17, 42, 180, 0, 216, 28, 46, 42, 180, 0, 216]
abbrev dktX6_pairs_8 : List UInt8 := dkwX6_pairs_8 ++ dktX6_pairs_9
def dkwX6_pairs_7 : List UInt8 := [182, 2, 8, 42, 180, 0, 216, 28, 46, 42, 180, 0, 216, 21, 4, 46, 162, 0, 20, 42, 180, 0, 216]
abbrev dktX6_pairs_7 : List UInt8 := dkwX6_pairs_7 ++ dktX6_pairs_8
def dkwX6_pairs_6 : List UInt8 := [180, 0, 225, 16, 48, 28, 104, 21, 4, 96, 42, 27, 42, 27, 42, 180, 0, 216, 21, 4, 46, 182, 1, 243]
abbrev dktX6_pairs_6 : List UInt8 := dkwX6_pairs_6 ++ dktX6_pairs_7
def dkwX6_pairs_5 : List UInt8 := [167, 0, 4, 3, 84, 42, 27, 29, 182, 2, 5, 3, 54, 4, 21, 4, 42, 180, 0, 210, 162, 0, 93, 42]
abbrev dktX6_pairs_5 : List UInt8 := dkwX6_pairs_5 ++ dktX6_pairs_6
def dkwX6_pairs_4 : List UInt8 := [182, 2, 18, 153, 0, 22, 42, 27, 29, 42, 180, 0, 216, 28, 46, 182, 2, 31, 153, 0, 7, 4]
abbrev dktX6_pairs_4 : List UInt8 := dkwX6_pairs_4 ++ dktX6_pairs_5
def dkwX6_pairs_3 : List UInt8 := [182, 1, 243, 62, 42, 180, 0, 219, 28, 42, 27, 29, 42, 27, 42, 180, 0, 216, 28, 46, 182, 2, 15]
abbrev dktX6_pairs_3 : List UInt8 := dkwX6_pairs_3 ++ dktX6_pairs_4
def dkwX6_pairs_2 : List UInt8 := [132, 2, 1, 167, 255, 214, 3, 61, 28, 42, 180, 0, 210, 162, 0, 175, 42, 27, 42, 180, 0, 216, 28, 46]
abbrev dktX6_pairs_2 : List UInt8 := dkwX6_pairs_2 ++ dktX6_pairs_3
def dkwX6_pairs_1 : List UInt8 := [167, 0, 23, 42, 180, 0, 216, 42, 180, 0, 210, 28, 79, 42, 89, 180, 0, 210, 4, 96, 181, 0, 210]
abbrev dktX6_pairs_1 : List UInt8 := dkwX6_pairs_1 ++ dktX6_pairs_2
def dkwX6_pairs_0 : List UInt8 := [42, 3, 181, 0, 210, 3, 61, 28, 16, 48, 162, 0, 42, 42, 27, 28, 182, 1, 243, 2, 160, 0, 6]
abbrev dktX6_pairs_0 : List UInt8 := dkwX6_pairs_0 ++ dktX6_pairs_1
theorem dksX6_pairs_0 : cX6_pairs.data.toList.drop 0 = dktX6_pairs_0 := by decide +kernel
theorem dksX6_pairs_1 : cX6_pairs.data.toList.drop 23 = dktX6_pairs_1 := dk_seg dksX6_pairs_0 23 rfl rfl
theorem dksX6_pairs_2 : cX6_pairs.data.toList.drop 46 = dktX6_pairs_2 := dk_seg dksX6_pairs_1 23 rfl rfl
theorem dksX6_pairs_3 : cX6_pairs.data.toList.drop 70 = dktX6_pairs_3 := dk_seg dksX6_pairs_2 24 rfl rfl
theorem dksX6_pairs_4 : cX6_pairs.data.toList.drop 93 = dktX6_pairs_4 := dk_seg dksX6_pairs_3 23 rfl rfl
theorem dksX6_pairs_5 : cX6_pairs.data.toList.drop 115 = dktX6_pairs_5 := dk_seg dksX6_pairs_4 22 rfl rfl
theorem dksX6_pairs_6 : cX6_pairs.data.toList.drop 139 = dktX6_pairs_6 := dk_seg dksX6_pairs_5 24 rfl rfl
theorem dksX6_pairs_7 : cX6_pairs.data.toList.drop 163 = dktX6_pairs_7 := dk_seg dksX6_pairs_6 24 rfl rfl
theorem dksX6_pairs_8 : cX6_pairs.data.toList.drop 186 = dktX6_pairs_8 := dk_seg dksX6_pairs_7 23 rfl rfl
theorem dksX6_pairs_9 : cX6_pairs.data.toList.drop 209 = dktX6_pairs_9 := dk_seg dksX6_pairs_8 23 rfl rfl
theorem dksX6_pairs_10 : cX6_pairs.data.toList.drop 231 = dktX6_pairs_10 := dk_seg dksX6_pairs_9 22 rfl rfl
theorem dX6_pairs_0 : decode cX6_pairs 0 = .ok (.aload_n 0, 1) := dk_42 (dk_at dksX6_pairs_0 0 rfl rfl)
theorem dX6_pairs_1 : decode cX6_pairs 1 = .ok (.iconst 0, 1) := dk_3 (dk_at dksX6_pairs_0 1 rfl rfl)
theorem dX6_pairs_2 : decode cX6_pairs 2 = .ok (.putfield 210, 3) := dk_181 0 210 (dk_at dksX6_pairs_0 2 rfl rfl)
theorem dX6_pairs_5 : decode cX6_pairs 5 = .ok (.iconst 0, 1) := dk_3 (dk_at dksX6_pairs_0 5 rfl rfl)
theorem dX6_pairs_6 : decode cX6_pairs 6 = .ok (.istore_n 2, 1) := dk_61 (dk_at dksX6_pairs_0 6 rfl rfl)
theorem dX6_pairs_7 : decode cX6_pairs 7 = .ok (.iload_n 2, 1) := dk_28 (dk_at dksX6_pairs_0 7 rfl rfl)
theorem dX6_pairs_8 : decode cX6_pairs 8 = .ok (.bipush 48, 2) := dk_16 48 (dk_at dksX6_pairs_0 8 rfl rfl)
theorem dX6_pairs_10 : decode cX6_pairs 10 = .ok (.if_icmp .ge 42, 3) := dk_162 0 42 (dk_at dksX6_pairs_0 10 rfl rfl)
theorem dX6_pairs_13 : decode cX6_pairs 13 = .ok (.aload_n 0, 1) := dk_42 (dk_at dksX6_pairs_0 13 rfl rfl)
theorem dX6_pairs_14 : decode cX6_pairs 14 = .ok (.iload_n 1, 1) := dk_27 (dk_at dksX6_pairs_0 14 rfl rfl)
theorem dX6_pairs_15 : decode cX6_pairs 15 = .ok (.iload_n 2, 1) := dk_28 (dk_at dksX6_pairs_0 15 rfl rfl)
theorem dX6_pairs_16 : decode cX6_pairs 16 = .ok (.invokevirtual 499, 3) := dk_182 1 243 (dk_at dksX6_pairs_0 16 rfl rfl)
theorem dX6_pairs_19 : decode cX6_pairs 19 = .ok (.iconst (-1), 1) := dk_2 (dk_at dksX6_pairs_0 19 rfl rfl)
theorem dX6_pairs_20 : decode cX6_pairs 20 = .ok (.if_icmp .ne 6, 3) := dk_160 0 6 (dk_at dksX6_pairs_0 20 rfl rfl)
theorem dX6_pairs_23 : decode cX6_pairs 23 = .ok (.goto 23, 3) := dk_167 0 23 (dk_at dksX6_pairs_1 0 rfl rfl)
theorem dX6_pairs_26 : decode cX6_pairs 26 = .ok (.aload_n 0, 1) := dk_42 (dk_at dksX6_pairs_1 3 rfl rfl)
theorem dX6_pairs_27 : decode cX6_pairs 27 = .ok (.getfield 216, 3) := dk_180 0 216 (dk_at dksX6_pairs_1 4 rfl rfl)
theorem dX6_pairs_30 : decode cX6_pairs 30 = .ok (.aload_n 0, 1) := dk_42 (dk_at dksX6_pairs_1 7 rfl rfl)
theorem dX6_pairs_31 : decode cX6_pairs 31 = .ok (.getfield 210, 3) := dk_180 0 210 (dk_at dksX6_pairs_1 8 rfl rfl)
theorem dX6_pairs_34 : decode cX6_pairs 34 = .ok (.iload_n 2, 1) := dk_28 (dk_at dksX6_pairs_1 11 rfl rfl)
theorem dX6_pairs_35 : decode cX6_pairs 35 = .ok (.iastore, 1) := dk_79 (dk_at dksX6_pairs_1 12 rfl rfl)
theorem dX6_pairs_36 : decode cX6_pairs 36 = .ok (.aload_n 0, 1) := dk_42 (dk_at dksX6_pairs_1 13 rfl rfl)
theorem dX6_pairs_37 : decode cX6_pairs 37 = .ok (.dup, 1) := dk_89 (dk_at dksX6_pairs_1 14 rfl rfl)
theorem dX6_pairs_38 : decode cX6_pairs 38 = .ok (.getfield 210, 3) := dk_180 0 210 (dk_at dksX6_pairs_1 15 rfl rfl)
theorem dX6_pairs_41 : decode cX6_pairs 41 = .ok (.iconst 1, 1) := dk_4 (dk_at dksX6_pairs_1 18 rfl rfl)
theorem dX6_pairs_42 : decode cX6_pairs 42 = .ok (.iadd, 1) := dk_96 (dk_at dksX6_pairs_1 19 rfl rfl)
theorem dX6_pairs_43 : decode cX6_pairs 43 = .ok (.putfield 210, 3) := dk_181 0 210 (dk_at dksX6_pairs_1 20 rfl rfl)
theorem dX6_pairs_46 : decode cX6_pairs 46 = .ok (.iinc 2 1, 3) := dk_132 2 1 (dk_at dksX6_pairs_2 0 rfl rfl)
theorem dX6_pairs_49 : decode cX6_pairs 49 = .ok (.goto (-42), 3) := dk_167 255 214 (dk_at dksX6_pairs_2 3 rfl rfl)
theorem dX6_pairs_52 : decode cX6_pairs 52 = .ok (.iconst 0, 1) := dk_3 (dk_at dksX6_pairs_2 6 rfl rfl)
theorem dX6_pairs_53 : decode cX6_pairs 53 = .ok (.istore_n 2, 1) := dk_61 (dk_at dksX6_pairs_2 7 rfl rfl)
theorem dX6_pairs_54 : decode cX6_pairs 54 = .ok (.iload_n 2, 1) := dk_28 (dk_at dksX6_pairs_2 8 rfl rfl)
theorem dX6_pairs_55 : decode cX6_pairs 55 = .ok (.aload_n 0, 1) := dk_42 (dk_at dksX6_pairs_2 9 rfl rfl)
theorem dX6_pairs_56 : decode cX6_pairs 56 = .ok (.getfield 210, 3) := dk_180 0 210 (dk_at dksX6_pairs_2 10 rfl rfl)
theorem dX6_pairs_59 : decode cX6_pairs 59 = .ok (.if_icmp .ge 175, 3) := dk_162 0 175 (dk_at dksX6_pairs_2 13 rfl rfl)
theorem dX6_pairs_62 : decode cX6_pairs 62 = .ok (.aload_n 0, 1) := dk_42 (dk_at dksX6_pairs_2 16 rfl rfl)
theorem dX6_pairs_63 : decode cX6_pairs 63 = .ok (.iload_n 1, 1) := dk_27 (dk_at dksX6_pairs_2 17 rfl rfl)
theorem dX6_pairs_64 : decode cX6_pairs 64 = .ok (.aload_n 0, 1) := dk_42 (dk_at dksX6_pairs_2 18 rfl rfl)
theorem dX6_pairs_65 : decode cX6_pairs 65 = .ok (.getfield 216, 3) := dk_180 0 216 (dk_at dksX6_pairs_2 19 rfl rfl)
theorem dX6_pairs_68 : decode cX6_pairs 68 = .ok (.iload_n 2, 1) := dk_28 (dk_at dksX6_pairs_2 22 rfl rfl)
theorem dX6_pairs_69 : decode cX6_pairs 69 = .ok (.iaload, 1) := dk_46 (dk_at dksX6_pairs_2 23 rfl rfl)
theorem dX6_pairs_70 : decode cX6_pairs 70 = .ok (.invokevirtual 499, 3) := dk_182 1 243 (dk_at dksX6_pairs_3 0 rfl rfl)
theorem dX6_pairs_73 : decode cX6_pairs 73 = .ok (.istore_n 3, 1) := dk_62 (dk_at dksX6_pairs_3 3 rfl rfl)
theorem dX6_pairs_74 : decode cX6_pairs 74 = .ok (.aload_n 0, 1) := dk_42 (dk_at dksX6_pairs_3 4 rfl rfl)
theorem dX6_pairs_75 : decode cX6_pairs 75 = .ok (.getfield 219, 3) := dk_180 0 219 (dk_at dksX6_pairs_3 5 rfl rfl)
theorem dX6_pairs_78 : decode cX6_pairs 78 = .ok (.iload_n 2, 1) := dk_28 (dk_at dksX6_pairs_3 8 rfl rfl)
theorem dX6_pairs_79 : decode cX6_pairs 79 = .ok (.aload_n 0, 1) := dk_42 (dk_at dksX6_pairs_3 9 rfl rfl)
theorem dX6_pairs_80 : decode cX6_pairs 80 = .ok (.iload_n 1, 1) := dk_27 (dk_at dksX6_pairs_3 10 rfl rfl)
theorem dX6_pairs_81 : decode cX6_pairs 81 = .ok (.iload_n 3, 1) := dk_29 (dk_at dksX6_pairs_3 11 rfl rfl)
theorem dX6_pairs_82 : decode cX6_pairs 82 = .ok (.aload_n 0, 1) := dk_42 (dk_at dksX6_pairs_3 12 rfl rfl)
theorem dX6_pairs_83 : decode cX6_pairs 83 = .ok (.iload_n 1, 1) := dk_27 (dk_at dksX6_pairs_3 13 rfl rfl)
theorem dX6_pairs_84 : decode cX6_pairs 84 = .ok (.aload_n 0, 1) := dk_42 (dk_at dksX6_pairs_3 14 rfl rfl)
theorem dX6_pairs_85 : decode cX6_pairs 85 = .ok (.getfield 216, 3) := dk_180 0 216 (dk_at dksX6_pairs_3 15 rfl rfl)
theorem dX6_pairs_88 : decode cX6_pairs 88 = .ok (.iload_n 2, 1) := dk_28 (dk_at dksX6_pairs_3 18 rfl rfl)
theorem dX6_pairs_89 : decode cX6_pairs 89 = .ok (.iaload, 1) := dk_46 (dk_at dksX6_pairs_3 19 rfl rfl)
theorem dX6_pairs_90 : decode cX6_pairs 90 = .ok (.invokevirtual 527, 3) := dk_182 2 15 (dk_at dksX6_pairs_3 20 rfl rfl)
theorem dX6_pairs_93 : decode cX6_pairs 93 = .ok (.invokevirtual 530, 3) := dk_182 2 18 (dk_at dksX6_pairs_4 0 rfl rfl)
theorem dX6_pairs_96 : decode cX6_pairs 96 = .ok (.ifCond .eq 22, 3) := dk_153 0 22 (dk_at dksX6_pairs_4 3 rfl rfl)
theorem dX6_pairs_99 : decode cX6_pairs 99 = .ok (.aload_n 0, 1) := dk_42 (dk_at dksX6_pairs_4 6 rfl rfl)
theorem dX6_pairs_100 : decode cX6_pairs 100 = .ok (.iload_n 1, 1) := dk_27 (dk_at dksX6_pairs_4 7 rfl rfl)
theorem dX6_pairs_101 : decode cX6_pairs 101 = .ok (.iload_n 3, 1) := dk_29 (dk_at dksX6_pairs_4 8 rfl rfl)
theorem dX6_pairs_102 : decode cX6_pairs 102 = .ok (.aload_n 0, 1) := dk_42 (dk_at dksX6_pairs_4 9 rfl rfl)
theorem dX6_pairs_103 : decode cX6_pairs 103 = .ok (.getfield 216, 3) := dk_180 0 216 (dk_at dksX6_pairs_4 10 rfl rfl)
theorem dX6_pairs_106 : decode cX6_pairs 106 = .ok (.iload_n 2, 1) := dk_28 (dk_at dksX6_pairs_4 13 rfl rfl)
theorem dX6_pairs_107 : decode cX6_pairs 107 = .ok (.iaload, 1) := dk_46 (dk_at dksX6_pairs_4 14 rfl rfl)
theorem dX6_pairs_108 : decode cX6_pairs 108 = .ok (.invokevirtual 543, 3) := dk_182 2 31 (dk_at dksX6_pairs_4 15 rfl rfl)
theorem dX6_pairs_111 : decode cX6_pairs 111 = .ok (.ifCond .eq 7, 3) := dk_153 0 7 (dk_at dksX6_pairs_4 18 rfl rfl)
theorem dX6_pairs_114 : decode cX6_pairs 114 = .ok (.iconst 1, 1) := dk_4 (dk_at dksX6_pairs_4 21 rfl rfl)
theorem dX6_pairs_115 : decode cX6_pairs 115 = .ok (.goto 4, 3) := dk_167 0 4 (dk_at dksX6_pairs_5 0 rfl rfl)
theorem dX6_pairs_118 : decode cX6_pairs 118 = .ok (.iconst 0, 1) := dk_3 (dk_at dksX6_pairs_5 3 rfl rfl)
theorem dX6_pairs_119 : decode cX6_pairs 119 = .ok (.bastore, 1) := dk_84 (dk_at dksX6_pairs_5 4 rfl rfl)
theorem dX6_pairs_120 : decode cX6_pairs 120 = .ok (.aload_n 0, 1) := dk_42 (dk_at dksX6_pairs_5 5 rfl rfl)
theorem dX6_pairs_121 : decode cX6_pairs 121 = .ok (.iload_n 1, 1) := dk_27 (dk_at dksX6_pairs_5 6 rfl rfl)
theorem dX6_pairs_122 : decode cX6_pairs 122 = .ok (.iload_n 3, 1) := dk_29 (dk_at dksX6_pairs_5 7 rfl rfl)
theorem dX6_pairs_123 : decode cX6_pairs 123 = .ok (.invokevirtual 517, 3) := dk_182 2 5 (dk_at dksX6_pairs_5 8 rfl rfl)
theorem dX6_pairs_126 : decode cX6_pairs 126 = .ok (.iconst 0, 1) := dk_3 (dk_at dksX6_pairs_5 11 rfl rfl)
theorem dX6_pairs_127 : decode cX6_pairs 127 = .ok (.istore 4, 2) := dk_54 4 (dk_at dksX6_pairs_5 12 rfl rfl)
theorem dX6_pairs_129 : decode cX6_pairs 129 = .ok (.iload 4, 2) := dk_21 4 (dk_at dksX6_pairs_5 14 rfl rfl)
theorem dX6_pairs_131 : decode cX6_pairs 131 = .ok (.aload_n 0, 1) := dk_42 (dk_at dksX6_pairs_5 16 rfl rfl)
theorem dX6_pairs_132 : decode cX6_pairs 132 = .ok (.getfield 210, 3) := dk_180 0 210 (dk_at dksX6_pairs_5 17 rfl rfl)
theorem dX6_pairs_135 : decode cX6_pairs 135 = .ok (.if_icmp .ge 93, 3) := dk_162 0 93 (dk_at dksX6_pairs_5 20 rfl rfl)
theorem dX6_pairs_138 : decode cX6_pairs 138 = .ok (.aload_n 0, 1) := dk_42 (dk_at dksX6_pairs_5 23 rfl rfl)
theorem dX6_pairs_139 : decode cX6_pairs 139 = .ok (.getfield 225, 3) := dk_180 0 225 (dk_at dksX6_pairs_6 0 rfl rfl)
theorem dX6_pairs_142 : decode cX6_pairs 142 = .ok (.bipush 48, 2) := dk_16 48 (dk_at dksX6_pairs_6 3 rfl rfl)
theorem dX6_pairs_144 : decode cX6_pairs 144 = .ok (.iload_n 2, 1) := dk_28 (dk_at dksX6_pairs_6 5 rfl rfl)
theorem dX6_pairs_145 : decode cX6_pairs 145 = .ok (.imul, 1) := dk_104 (dk_at dksX6_pairs_6 6 rfl rfl)
theorem dX6_pairs_146 : decode cX6_pairs 146 = .ok (.iload 4, 2) := dk_21 4 (dk_at dksX6_pairs_6 7 rfl rfl)
theorem dX6_pairs_148 : decode cX6_pairs 148 = .ok (.iadd, 1) := dk_96 (dk_at dksX6_pairs_6 9 rfl rfl)
theorem dX6_pairs_149 : decode cX6_pairs 149 = .ok (.aload_n 0, 1) := dk_42 (dk_at dksX6_pairs_6 10 rfl rfl)
theorem dX6_pairs_150 : decode cX6_pairs 150 = .ok (.iload_n 1, 1) := dk_27 (dk_at dksX6_pairs_6 11 rfl rfl)
theorem dX6_pairs_151 : decode cX6_pairs 151 = .ok (.aload_n 0, 1) := dk_42 (dk_at dksX6_pairs_6 12 rfl rfl)
theorem dX6_pairs_152 : decode cX6_pairs 152 = .ok (.iload_n 1, 1) := dk_27 (dk_at dksX6_pairs_6 13 rfl rfl)
theorem dX6_pairs_153 : decode cX6_pairs 153 = .ok (.aload_n 0, 1) := dk_42 (dk_at dksX6_pairs_6 14 rfl rfl)
theorem dX6_pairs_154 : decode cX6_pairs 154 = .ok (.getfield 216, 3) := dk_180 0 216 (dk_at dksX6_pairs_6 15 rfl rfl)
theorem dX6_pairs_157 : decode cX6_pairs 157 = .ok (.iload 4, 2) := dk_21 4 (dk_at dksX6_pairs_6 18 rfl rfl)
theorem dX6_pairs_159 : decode cX6_pairs 159 = .ok (.iaload, 1) := dk_46 (dk_at dksX6_pairs_6 20 rfl rfl)
theorem dX6_pairs_160 : decode cX6_pairs 160 = .ok (.invokevirtual 499, 3) := dk_182 1 243 (dk_at dksX6_pairs_6 21 rfl rfl)
theorem dX6_pairs_163 : decode cX6_pairs 163 = .ok (.invokevirtual 520, 3) := dk_182 2 8 (dk_at dksX6_pairs_7 0 rfl rfl)
theorem dX6_pairs_166 : decode cX6_pairs 166 = .ok (.aload_n 0, 1) := dk_42 (dk_at dksX6_pairs_7 3 rfl rfl)
theorem dX6_pairs_167 : decode cX6_pairs 167 = .ok (.getfield 216, 3) := dk_180 0 216 (dk_at dksX6_pairs_7 4 rfl rfl)
theorem dX6_pairs_170 : decode cX6_pairs 170 = .ok (.iload_n 2, 1) := dk_28 (dk_at dksX6_pairs_7 7 rfl rfl)
theorem dX6_pairs_171 : decode cX6_pairs 171 = .ok (.iaload, 1) := dk_46 (dk_at dksX6_pairs_7 8 rfl rfl)
theorem dX6_pairs_172 : decode cX6_pairs 172 = .ok (.aload_n 0, 1) := dk_42 (dk_at dksX6_pairs_7 9 rfl rfl)
theorem dX6_pairs_173 : decode cX6_pairs 173 = .ok (.getfield 216, 3) := dk_180 0 216 (dk_at dksX6_pairs_7 10 rfl rfl)
theorem dX6_pairs_176 : decode cX6_pairs 176 = .ok (.iload 4, 2) := dk_21 4 (dk_at dksX6_pairs_7 13 rfl rfl)
theorem dX6_pairs_178 : decode cX6_pairs 178 = .ok (.iaload, 1) := dk_46 (dk_at dksX6_pairs_7 15 rfl rfl)
theorem dX6_pairs_179 : decode cX6_pairs 179 = .ok (.if_icmp .ge 20, 3) := dk_162 0 20 (dk_at dksX6_pairs_7 16 rfl rfl)
theorem dX6_pairs_182 : decode cX6_pairs 182 = .ok (.aload_n 0, 1) := dk_42 (dk_at dksX6_pairs_7 19 rfl rfl)
theorem dX6_pairs_183 : decode cX6_pairs 183 = .ok (.getfield 216, 3) := dk_180 0 216 (dk_at dksX6_pairs_7 20 rfl rfl)
theorem dX6_pairs_186 : decode cX6_pairs 186 = .ok (.iload 4, 2) := dk_21 4 (dk_at dksX6_pairs_8 0 rfl rfl)
theorem dX6_pairs_188 : decode cX6_pairs 188 = .ok (.iaload, 1) := dk_46 (dk_at dksX6_pairs_8 2 rfl rfl)
theorem dX6_pairs_189 : decode cX6_pairs 189 = .ok (.aload_n 0, 1) := dk_42 (dk_at dksX6_pairs_8 3 rfl rfl)
theorem dX6_pairs_190 : decode cX6_pairs 190 = .ok (.getfield 216, 3) := dk_180 0 216 (dk_at dksX6_pairs_8 4 rfl rfl)
theorem dX6_pairs_193 : decode cX6_pairs 193 = .ok (.iload_n 2, 1) := dk_28 (dk_at dksX6_pairs_8 7 rfl rfl)
theorem dX6_pairs_194 : decode cX6_pairs 194 = .ok (.iaload, 1) := dk_46 (dk_at dksX6_pairs_8 8 rfl rfl)
theorem dX6_pairs_195 : decode cX6_pairs 195 = .ok (.isub, 1) := dk_100 (dk_at dksX6_pairs_8 9 rfl rfl)
theorem dX6_pairs_196 : decode cX6_pairs 196 = .ok (.goto 17, 3) := dk_167 0 17 (dk_at dksX6_pairs_8 10 rfl rfl)
theorem dX6_pairs_199 : decode cX6_pairs 199 = .ok (.aload_n 0, 1) := dk_42 (dk_at dksX6_pairs_8 13 rfl rfl)
theorem dX6_pairs_200 : decode cX6_pairs 200 = .ok (.getfield 216, 3) := dk_180 0 216 (dk_at dksX6_pairs_8 14 rfl rfl)
theorem dX6_pairs_203 : decode cX6_pairs 203 = .ok (.iload_n 2, 1) := dk_28 (dk_at dksX6_pairs_8 17 rfl rfl)
theorem dX6_pairs_204 : decode cX6_pairs 204 = .ok (.iaload, 1) := dk_46 (dk_at dksX6_pairs_8 18 rfl rfl)
theorem dX6_pairs_205 : decode cX6_pairs 205 = .ok (.aload_n 0, 1) := dk_42 (dk_at dksX6_pairs_8 19 rfl rfl)
theorem dX6_pairs_206 : decode cX6_pairs 206 = .ok (.getfield 216, 3) := dk_180 0 216 (dk_at dksX6_pairs_8 20 rfl rfl)
theorem dX6_pairs_209 : decode cX6_pairs 209 = .ok (.iload 4, 2) := dk_21 4 (dk_at dksX6_pairs_9 0 rfl rfl)
theorem dX6_pairs_211 : decode cX6_pairs 211 = .ok (.iaload, 1) := dk_46 (dk_at dksX6_pairs_9 2 rfl rfl)
theorem dX6_pairs_212 : decode cX6_pairs 212 = .ok (.isub, 1) := dk_100 (dk_at dksX6_pairs_9 3 rfl rfl)
theorem dX6_pairs_213 : decode cX6_pairs 213 = .ok (.if_icmp .gt 7, 3) := dk_163 0 7 (dk_at dksX6_pairs_9 4 rfl rfl)
theorem dX6_pairs_216 : decode cX6_pairs 216 = .ok (.iconst 1, 1) := dk_4 (dk_at dksX6_pairs_9 7 rfl rfl)
theorem dX6_pairs_217 : decode cX6_pairs 217 = .ok (.goto 4, 3) := dk_167 0 4 (dk_at dksX6_pairs_9 8 rfl rfl)
theorem dX6_pairs_220 : decode cX6_pairs 220 = .ok (.iconst 0, 1) := dk_3 (dk_at dksX6_pairs_9 11 rfl rfl)
theorem dX6_pairs_221 : decode cX6_pairs 221 = .ok (.bastore, 1) := dk_84 (dk_at dksX6_pairs_9 12 rfl rfl)
theorem dX6_pairs_222 : decode cX6_pairs 222 = .ok (.iinc 4 1, 3) := dk_132 4 1 (dk_at dksX6_pairs_9 13 rfl rfl)
theorem dX6_pairs_225 : decode cX6_pairs 225 = .ok (.goto (-96), 3) := dk_167 255 160 (dk_at dksX6_pairs_9 16 rfl rfl)
theorem dX6_pairs_228 : decode cX6_pairs 228 = .ok (.iinc 2 1, 3) := dk_132 2 1 (dk_at dksX6_pairs_9 19 rfl rfl)
theorem dX6_pairs_231 : decode cX6_pairs 231 = .ok (.goto (-177), 3) := dk_167 255 79 (dk_at dksX6_pairs_10 0 rfl rfl)
theorem dX6_pairs_234 : decode cX6_pairs 234 = .ok (.return_, 1) := dk_177 (dk_at dksX6_pairs_10 3 rfl rfl)
abbrev cX6_laden : ByteArray := prog_29_method_62_code
def yX6_laden : MethodName := ⟨RX6, "laden", "(II)Z"⟩
def dkwX6_laden_0 : List UInt8 := [42, 180, 0, 94, 17, 1, 128, 42, 180, 0, 48, 104, 16, 48, 27, 104, 96, 28, 96, 51, 172]
abbrev dktX6_laden_0 : List UInt8 := dkwX6_laden_0 ++ []
theorem dksX6_laden_0 : cX6_laden.data.toList.drop 0 = dktX6_laden_0 := by decide +kernel
theorem dX6_laden_0 : decode cX6_laden 0 = .ok (.aload_n 0, 1) := dk_42 (dk_at dksX6_laden_0 0 rfl rfl)
theorem dX6_laden_1 : decode cX6_laden 1 = .ok (.getfield 94, 3) := dk_180 0 94 (dk_at dksX6_laden_0 1 rfl rfl)
theorem dX6_laden_4 : decode cX6_laden 4 = .ok (.sipush 384, 3) := dk_17 1 128 (dk_at dksX6_laden_0 4 rfl rfl)
theorem dX6_laden_7 : decode cX6_laden 7 = .ok (.aload_n 0, 1) := dk_42 (dk_at dksX6_laden_0 7 rfl rfl)
theorem dX6_laden_8 : decode cX6_laden 8 = .ok (.getfield 48, 3) := dk_180 0 48 (dk_at dksX6_laden_0 8 rfl rfl)
theorem dX6_laden_11 : decode cX6_laden 11 = .ok (.imul, 1) := dk_104 (dk_at dksX6_laden_0 11 rfl rfl)
theorem dX6_laden_12 : decode cX6_laden 12 = .ok (.bipush 48, 2) := dk_16 48 (dk_at dksX6_laden_0 12 rfl rfl)
theorem dX6_laden_14 : decode cX6_laden 14 = .ok (.iload_n 1, 1) := dk_27 (dk_at dksX6_laden_0 14 rfl rfl)
theorem dX6_laden_15 : decode cX6_laden 15 = .ok (.imul, 1) := dk_104 (dk_at dksX6_laden_0 15 rfl rfl)
theorem dX6_laden_16 : decode cX6_laden 16 = .ok (.iadd, 1) := dk_96 (dk_at dksX6_laden_0 16 rfl rfl)
theorem dX6_laden_17 : decode cX6_laden 17 = .ok (.iload_n 2, 1) := dk_28 (dk_at dksX6_laden_0 17 rfl rfl)
theorem dX6_laden_18 : decode cX6_laden 18 = .ok (.iadd, 1) := dk_96 (dk_at dksX6_laden_0 18 rfl rfl)
theorem dX6_laden_19 : decode cX6_laden 19 = .ok (.baload, 1) := dk_51 (dk_at dksX6_laden_0 19 rfl rfl)
theorem dX6_laden_20 : decode cX6_laden 20 = .ok (.ireturn, 1) := dk_172 (dk_at dksX6_laden_0 20 rfl rfl)
abbrev cX6_isSound : ByteArray := prog_29_method_70_code
def yX6_isSound : MethodName := ⟨RX6, "isSound", "(IIZ)Z"⟩
def dkwX6_isSound_2 : List UInt8 := [167, 0, 4, 3, 172]
abbrev dktX6_isSound_2 : List UInt8 := dkwX6_isSound_2 ++ []
def dkwX6_isSound_1 : List UInt8 := [42, 180, 0, 85, 16, 8, 42, 180, 0, 48, 104, 27, 96, 46, 167, 0, 4, 3, 96, 161, 0, 7, 4]
abbrev dktX6_isSound_1 : List UInt8 := dkwX6_isSound_1 ++ dktX6_isSound_2
def dkwX6_isSound_0 : List UInt8 := [42, 180, 0, 180, 28, 46, 42, 180, 0, 82, 16, 8, 42, 180, 0, 48, 104, 27, 96, 46, 29, 153, 0, 20]
abbrev dktX6_isSound_0 : List UInt8 := dkwX6_isSound_0 ++ dktX6_isSound_1
theorem dksX6_isSound_0 : cX6_isSound.data.toList.drop 0 = dktX6_isSound_0 := by decide +kernel
theorem dksX6_isSound_1 : cX6_isSound.data.toList.drop 24 = dktX6_isSound_1 := dk_seg dksX6_isSound_0 24 rfl rfl
theorem dksX6_isSound_2 : cX6_isSound.data.toList.drop 47 = dktX6_isSound_2 := dk_seg dksX6_isSound_1 23 rfl rfl
theorem dX6_isSound_0 : decode cX6_isSound 0 = .ok (.aload_n 0, 1) := dk_42 (dk_at dksX6_isSound_0 0 rfl rfl)
theorem dX6_isSound_1 : decode cX6_isSound 1 = .ok (.getfield 180, 3) := dk_180 0 180 (dk_at dksX6_isSound_0 1 rfl rfl)
theorem dX6_isSound_4 : decode cX6_isSound 4 = .ok (.iload_n 2, 1) := dk_28 (dk_at dksX6_isSound_0 4 rfl rfl)
theorem dX6_isSound_5 : decode cX6_isSound 5 = .ok (.iaload, 1) := dk_46 (dk_at dksX6_isSound_0 5 rfl rfl)
theorem dX6_isSound_6 : decode cX6_isSound 6 = .ok (.aload_n 0, 1) := dk_42 (dk_at dksX6_isSound_0 6 rfl rfl)
theorem dX6_isSound_7 : decode cX6_isSound 7 = .ok (.getfield 82, 3) := dk_180 0 82 (dk_at dksX6_isSound_0 7 rfl rfl)
theorem dX6_isSound_10 : decode cX6_isSound 10 = .ok (.bipush 8, 2) := dk_16 8 (dk_at dksX6_isSound_0 10 rfl rfl)
theorem dX6_isSound_12 : decode cX6_isSound 12 = .ok (.aload_n 0, 1) := dk_42 (dk_at dksX6_isSound_0 12 rfl rfl)
theorem dX6_isSound_13 : decode cX6_isSound 13 = .ok (.getfield 48, 3) := dk_180 0 48 (dk_at dksX6_isSound_0 13 rfl rfl)
theorem dX6_isSound_16 : decode cX6_isSound 16 = .ok (.imul, 1) := dk_104 (dk_at dksX6_isSound_0 16 rfl rfl)
theorem dX6_isSound_17 : decode cX6_isSound 17 = .ok (.iload_n 1, 1) := dk_27 (dk_at dksX6_isSound_0 17 rfl rfl)
theorem dX6_isSound_18 : decode cX6_isSound 18 = .ok (.iadd, 1) := dk_96 (dk_at dksX6_isSound_0 18 rfl rfl)
theorem dX6_isSound_19 : decode cX6_isSound 19 = .ok (.iaload, 1) := dk_46 (dk_at dksX6_isSound_0 19 rfl rfl)
theorem dX6_isSound_20 : decode cX6_isSound 20 = .ok (.iload_n 3, 1) := dk_29 (dk_at dksX6_isSound_0 20 rfl rfl)
theorem dX6_isSound_21 : decode cX6_isSound 21 = .ok (.ifCond .eq 20, 3) := dk_153 0 20 (dk_at dksX6_isSound_0 21 rfl rfl)
theorem dX6_isSound_24 : decode cX6_isSound 24 = .ok (.aload_n 0, 1) := dk_42 (dk_at dksX6_isSound_1 0 rfl rfl)
theorem dX6_isSound_25 : decode cX6_isSound 25 = .ok (.getfield 85, 3) := dk_180 0 85 (dk_at dksX6_isSound_1 1 rfl rfl)
theorem dX6_isSound_28 : decode cX6_isSound 28 = .ok (.bipush 8, 2) := dk_16 8 (dk_at dksX6_isSound_1 4 rfl rfl)
theorem dX6_isSound_30 : decode cX6_isSound 30 = .ok (.aload_n 0, 1) := dk_42 (dk_at dksX6_isSound_1 6 rfl rfl)
theorem dX6_isSound_31 : decode cX6_isSound 31 = .ok (.getfield 48, 3) := dk_180 0 48 (dk_at dksX6_isSound_1 7 rfl rfl)
theorem dX6_isSound_34 : decode cX6_isSound 34 = .ok (.imul, 1) := dk_104 (dk_at dksX6_isSound_1 10 rfl rfl)
theorem dX6_isSound_35 : decode cX6_isSound 35 = .ok (.iload_n 1, 1) := dk_27 (dk_at dksX6_isSound_1 11 rfl rfl)
theorem dX6_isSound_36 : decode cX6_isSound 36 = .ok (.iadd, 1) := dk_96 (dk_at dksX6_isSound_1 12 rfl rfl)
theorem dX6_isSound_37 : decode cX6_isSound 37 = .ok (.iaload, 1) := dk_46 (dk_at dksX6_isSound_1 13 rfl rfl)
theorem dX6_isSound_38 : decode cX6_isSound 38 = .ok (.goto 4, 3) := dk_167 0 4 (dk_at dksX6_isSound_1 14 rfl rfl)
theorem dX6_isSound_41 : decode cX6_isSound 41 = .ok (.iconst 0, 1) := dk_3 (dk_at dksX6_isSound_1 17 rfl rfl)
theorem dX6_isSound_42 : decode cX6_isSound 42 = .ok (.iadd, 1) := dk_96 (dk_at dksX6_isSound_1 18 rfl rfl)
theorem dX6_isSound_43 : decode cX6_isSound 43 = .ok (.if_icmp .lt 7, 3) := dk_161 0 7 (dk_at dksX6_isSound_1 19 rfl rfl)
theorem dX6_isSound_46 : decode cX6_isSound 46 = .ok (.iconst 1, 1) := dk_4 (dk_at dksX6_isSound_1 22 rfl rfl)
theorem dX6_isSound_47 : decode cX6_isSound 47 = .ok (.goto 4, 3) := dk_167 0 4 (dk_at dksX6_isSound_2 0 rfl rfl)
theorem dX6_isSound_50 : decode cX6_isSound 50 = .ok (.iconst 0, 1) := dk_3 (dk_at dksX6_isSound_2 3 rfl rfl)
theorem dX6_isSound_51 : decode cX6_isSound 51 = .ok (.ireturn, 1) := dk_172 (dk_at dksX6_isSound_2 4 rfl rfl)
abbrev cX6_withBooks : ByteArray := prog_29_method_81_code
def yX6_withBooks : MethodName := ⟨RX6, "withBooks", "(III)Z"⟩
def dkwX6_withBooks_3 : List UInt8 := [180, 0, 110, 21, 4, 46, 184, 2, 22, 164, 0, 5, 3, 172, 132, 4, 1, 167, 255, 184, 4, 172]
abbrev dktX6_withBooks_3 : List UInt8 := dkwX6_withBooks_3 ++ []
def dkwX6_withBooks_2 : List UInt8 := [42, 27, 42, 180, 0, 104, 21, 4, 46, 182, 2, 8, 29, 29, 42, 180, 0, 107, 21, 4, 46, 42]
abbrev dktX6_withBooks_2 : List UInt8 := dkwX6_withBooks_2 ++ dktX6_withBooks_3
def dkwX6_withBooks_1 : List UInt8 := [42, 180, 0, 98, 42, 180, 0, 48, 46, 96, 162, 0, 56, 42, 180, 0, 101, 21, 4, 46, 27, 160, 0, 39]
abbrev dktX6_withBooks_1 : List UInt8 := dkwX6_withBooks_1 ++ dktX6_withBooks_2
def dkwX6_withBooks_0 : List UInt8 := [42, 27, 28, 182, 2, 5, 16, 12, 42, 180, 0, 48, 104, 54, 4, 21, 4, 16, 12, 42, 180, 0, 48, 104]
abbrev dktX6_withBooks_0 : List UInt8 := dkwX6_withBooks_0 ++ dktX6_withBooks_1
theorem dksX6_withBooks_0 : cX6_withBooks.data.toList.drop 0 = dktX6_withBooks_0 := by decide +kernel
theorem dksX6_withBooks_1 : cX6_withBooks.data.toList.drop 24 = dktX6_withBooks_1 := dk_seg dksX6_withBooks_0 24 rfl rfl
theorem dksX6_withBooks_2 : cX6_withBooks.data.toList.drop 48 = dktX6_withBooks_2 := dk_seg dksX6_withBooks_1 24 rfl rfl
theorem dksX6_withBooks_3 : cX6_withBooks.data.toList.drop 70 = dktX6_withBooks_3 := dk_seg dksX6_withBooks_2 22 rfl rfl
theorem dX6_withBooks_0 : decode cX6_withBooks 0 = .ok (.aload_n 0, 1) := dk_42 (dk_at dksX6_withBooks_0 0 rfl rfl)
theorem dX6_withBooks_1 : decode cX6_withBooks 1 = .ok (.iload_n 1, 1) := dk_27 (dk_at dksX6_withBooks_0 1 rfl rfl)
theorem dX6_withBooks_2 : decode cX6_withBooks 2 = .ok (.iload_n 2, 1) := dk_28 (dk_at dksX6_withBooks_0 2 rfl rfl)
theorem dX6_withBooks_3 : decode cX6_withBooks 3 = .ok (.invokevirtual 517, 3) := dk_182 2 5 (dk_at dksX6_withBooks_0 3 rfl rfl)
theorem dX6_withBooks_6 : decode cX6_withBooks 6 = .ok (.bipush 12, 2) := dk_16 12 (dk_at dksX6_withBooks_0 6 rfl rfl)
theorem dX6_withBooks_8 : decode cX6_withBooks 8 = .ok (.aload_n 0, 1) := dk_42 (dk_at dksX6_withBooks_0 8 rfl rfl)
theorem dX6_withBooks_9 : decode cX6_withBooks 9 = .ok (.getfield 48, 3) := dk_180 0 48 (dk_at dksX6_withBooks_0 9 rfl rfl)
theorem dX6_withBooks_12 : decode cX6_withBooks 12 = .ok (.imul, 1) := dk_104 (dk_at dksX6_withBooks_0 12 rfl rfl)
theorem dX6_withBooks_13 : decode cX6_withBooks 13 = .ok (.istore 4, 2) := dk_54 4 (dk_at dksX6_withBooks_0 13 rfl rfl)
theorem dX6_withBooks_15 : decode cX6_withBooks 15 = .ok (.iload 4, 2) := dk_21 4 (dk_at dksX6_withBooks_0 15 rfl rfl)
theorem dX6_withBooks_17 : decode cX6_withBooks 17 = .ok (.bipush 12, 2) := dk_16 12 (dk_at dksX6_withBooks_0 17 rfl rfl)
theorem dX6_withBooks_19 : decode cX6_withBooks 19 = .ok (.aload_n 0, 1) := dk_42 (dk_at dksX6_withBooks_0 19 rfl rfl)
theorem dX6_withBooks_20 : decode cX6_withBooks 20 = .ok (.getfield 48, 3) := dk_180 0 48 (dk_at dksX6_withBooks_0 20 rfl rfl)
theorem dX6_withBooks_23 : decode cX6_withBooks 23 = .ok (.imul, 1) := dk_104 (dk_at dksX6_withBooks_0 23 rfl rfl)
theorem dX6_withBooks_24 : decode cX6_withBooks 24 = .ok (.aload_n 0, 1) := dk_42 (dk_at dksX6_withBooks_1 0 rfl rfl)
theorem dX6_withBooks_25 : decode cX6_withBooks 25 = .ok (.getfield 98, 3) := dk_180 0 98 (dk_at dksX6_withBooks_1 1 rfl rfl)
theorem dX6_withBooks_28 : decode cX6_withBooks 28 = .ok (.aload_n 0, 1) := dk_42 (dk_at dksX6_withBooks_1 4 rfl rfl)
theorem dX6_withBooks_29 : decode cX6_withBooks 29 = .ok (.getfield 48, 3) := dk_180 0 48 (dk_at dksX6_withBooks_1 5 rfl rfl)
theorem dX6_withBooks_32 : decode cX6_withBooks 32 = .ok (.iaload, 1) := dk_46 (dk_at dksX6_withBooks_1 8 rfl rfl)
theorem dX6_withBooks_33 : decode cX6_withBooks 33 = .ok (.iadd, 1) := dk_96 (dk_at dksX6_withBooks_1 9 rfl rfl)
theorem dX6_withBooks_34 : decode cX6_withBooks 34 = .ok (.if_icmp .ge 56, 3) := dk_162 0 56 (dk_at dksX6_withBooks_1 10 rfl rfl)
theorem dX6_withBooks_37 : decode cX6_withBooks 37 = .ok (.aload_n 0, 1) := dk_42 (dk_at dksX6_withBooks_1 13 rfl rfl)
theorem dX6_withBooks_38 : decode cX6_withBooks 38 = .ok (.getfield 101, 3) := dk_180 0 101 (dk_at dksX6_withBooks_1 14 rfl rfl)
theorem dX6_withBooks_41 : decode cX6_withBooks 41 = .ok (.iload 4, 2) := dk_21 4 (dk_at dksX6_withBooks_1 17 rfl rfl)
theorem dX6_withBooks_43 : decode cX6_withBooks 43 = .ok (.iaload, 1) := dk_46 (dk_at dksX6_withBooks_1 19 rfl rfl)
theorem dX6_withBooks_44 : decode cX6_withBooks 44 = .ok (.iload_n 1, 1) := dk_27 (dk_at dksX6_withBooks_1 20 rfl rfl)
theorem dX6_withBooks_45 : decode cX6_withBooks 45 = .ok (.if_icmp .ne 39, 3) := dk_160 0 39 (dk_at dksX6_withBooks_1 21 rfl rfl)
theorem dX6_withBooks_48 : decode cX6_withBooks 48 = .ok (.aload_n 0, 1) := dk_42 (dk_at dksX6_withBooks_2 0 rfl rfl)
theorem dX6_withBooks_49 : decode cX6_withBooks 49 = .ok (.iload_n 1, 1) := dk_27 (dk_at dksX6_withBooks_2 1 rfl rfl)
theorem dX6_withBooks_50 : decode cX6_withBooks 50 = .ok (.aload_n 0, 1) := dk_42 (dk_at dksX6_withBooks_2 2 rfl rfl)
theorem dX6_withBooks_51 : decode cX6_withBooks 51 = .ok (.getfield 104, 3) := dk_180 0 104 (dk_at dksX6_withBooks_2 3 rfl rfl)
theorem dX6_withBooks_54 : decode cX6_withBooks 54 = .ok (.iload 4, 2) := dk_21 4 (dk_at dksX6_withBooks_2 6 rfl rfl)
theorem dX6_withBooks_56 : decode cX6_withBooks 56 = .ok (.iaload, 1) := dk_46 (dk_at dksX6_withBooks_2 8 rfl rfl)
theorem dX6_withBooks_57 : decode cX6_withBooks 57 = .ok (.invokevirtual 520, 3) := dk_182 2 8 (dk_at dksX6_withBooks_2 9 rfl rfl)
theorem dX6_withBooks_60 : decode cX6_withBooks 60 = .ok (.iload_n 3, 1) := dk_29 (dk_at dksX6_withBooks_2 12 rfl rfl)
theorem dX6_withBooks_61 : decode cX6_withBooks 61 = .ok (.iload_n 3, 1) := dk_29 (dk_at dksX6_withBooks_2 13 rfl rfl)
theorem dX6_withBooks_62 : decode cX6_withBooks 62 = .ok (.aload_n 0, 1) := dk_42 (dk_at dksX6_withBooks_2 14 rfl rfl)
theorem dX6_withBooks_63 : decode cX6_withBooks 63 = .ok (.getfield 107, 3) := dk_180 0 107 (dk_at dksX6_withBooks_2 15 rfl rfl)
theorem dX6_withBooks_66 : decode cX6_withBooks 66 = .ok (.iload 4, 2) := dk_21 4 (dk_at dksX6_withBooks_2 18 rfl rfl)
theorem dX6_withBooks_68 : decode cX6_withBooks 68 = .ok (.iaload, 1) := dk_46 (dk_at dksX6_withBooks_2 20 rfl rfl)
theorem dX6_withBooks_69 : decode cX6_withBooks 69 = .ok (.aload_n 0, 1) := dk_42 (dk_at dksX6_withBooks_2 21 rfl rfl)
theorem dX6_withBooks_70 : decode cX6_withBooks 70 = .ok (.getfield 110, 3) := dk_180 0 110 (dk_at dksX6_withBooks_3 0 rfl rfl)
theorem dX6_withBooks_73 : decode cX6_withBooks 73 = .ok (.iload 4, 2) := dk_21 4 (dk_at dksX6_withBooks_3 3 rfl rfl)
theorem dX6_withBooks_75 : decode cX6_withBooks 75 = .ok (.iaload, 1) := dk_46 (dk_at dksX6_withBooks_3 5 rfl rfl)
theorem dX6_withBooks_76 : decode cX6_withBooks 76 = .ok (.invokestatic 534, 3) := dk_184 2 22 (dk_at dksX6_withBooks_3 6 rfl rfl)
theorem dX6_withBooks_79 : decode cX6_withBooks 79 = .ok (.if_icmp .le 5, 3) := dk_164 0 5 (dk_at dksX6_withBooks_3 9 rfl rfl)
theorem dX6_withBooks_82 : decode cX6_withBooks 82 = .ok (.iconst 0, 1) := dk_3 (dk_at dksX6_withBooks_3 12 rfl rfl)
theorem dX6_withBooks_83 : decode cX6_withBooks 83 = .ok (.ireturn, 1) := dk_172 (dk_at dksX6_withBooks_3 13 rfl rfl)
theorem dX6_withBooks_84 : decode cX6_withBooks 84 = .ok (.iinc 4 1, 3) := dk_132 4 1 (dk_at dksX6_withBooks_3 14 rfl rfl)
theorem dX6_withBooks_87 : decode cX6_withBooks 87 = .ok (.goto (-72), 3) := dk_167 255 184 (dk_at dksX6_withBooks_3 17 rfl rfl)
theorem dX6_withBooks_90 : decode cX6_withBooks 90 = .ok (.iconst 1, 1) := dk_4 (dk_at dksX6_withBooks_3 20 rfl rfl)
theorem dX6_withBooks_91 : decode cX6_withBooks 91 = .ok (.ireturn, 1) := dk_172 (dk_at dksX6_withBooks_3 21 rfl rfl)
abbrev cX6_saying : ByteArray := prog_29_method_89_code
def yX6_saying : MethodName := ⟨RX6, "saying", "(III)I"⟩
def dkwX6_saying_6 : List UInt8 := [167, 0, 4, 3, 172, 2, 172]
abbrev dktX6_saying_6 : List UInt8 := dkwX6_saying_6 ++ []
def dkwX6_saying_5 : List UInt8 := [153, 0, 7, 4, 167, 0, 4, 3, 172, 42, 27, 182, 2, 40, 42, 180, 0, 222, 28, 51, 153, 0, 7, 4]
abbrev dktX6_saying_5 : List UInt8 := dkwX6_saying_5 ++ dktX6_saying_6
def dkwX6_saying_4 : List UInt8 := [167, 0, 4, 3, 172, 42, 27, 42, 27, 21, 4, 182, 1, 243, 42, 27, 21, 4, 182, 2, 15, 182, 2, 18]
abbrev dktX6_saying_4 : List UInt8 := dkwX6_saying_4 ++ dktX6_saying_5
def dkwX6_saying_3 : List UInt8 := [21, 4, 172, 42, 27, 21, 4, 182, 1, 243, 172, 42, 27, 21, 4, 182, 2, 15, 153, 0, 7, 4]
abbrev dktX6_saying_3 : List UInt8 := dkwX6_saying_3 ++ dktX6_saying_4
def dkwX6_saying_2 : List UInt8 := [170, 0, 0, 0, 0, 0, 110, 0, 0, 0, 0, 0, 0, 0, 4, 0, 0, 0, 35, 0, 0, 0, 38, 0, 0, 0, 46, 0, 0, 0, 62, 0, 0, 0, 90]
abbrev dktX6_saying_2 : List UInt8 := dkwX6_saying_2 ++ dktX6_saying_3
def dkwX6_saying_1 : List UInt8 := [160, 0, 5, 2, 172, 29]
abbrev dktX6_saying_1 : List UInt8 := dkwX6_saying_1 ++ dktX6_saying_2
def dkwX6_saying_0 : List UInt8 := [42, 27, 182, 1, 249, 153, 0, 12, 42, 27, 28, 182, 2, 49, 167, 0, 4, 2, 54, 4, 21, 4, 2]
abbrev dktX6_saying_0 : List UInt8 := dkwX6_saying_0 ++ dktX6_saying_1
theorem dksX6_saying_0 : cX6_saying.data.toList.drop 0 = dktX6_saying_0 := by decide +kernel
theorem dksX6_saying_1 : cX6_saying.data.toList.drop 23 = dktX6_saying_1 := dk_seg dksX6_saying_0 23 rfl rfl
theorem dksX6_saying_2 : cX6_saying.data.toList.drop 29 = dktX6_saying_2 := dk_seg dksX6_saying_1 6 rfl rfl
theorem dksX6_saying_3 : cX6_saying.data.toList.drop 64 = dktX6_saying_3 := dk_seg dksX6_saying_2 35 rfl rfl
theorem dksX6_saying_4 : cX6_saying.data.toList.drop 86 = dktX6_saying_4 := dk_seg dksX6_saying_3 22 rfl rfl
theorem dksX6_saying_5 : cX6_saying.data.toList.drop 110 = dktX6_saying_5 := dk_seg dksX6_saying_4 24 rfl rfl
theorem dksX6_saying_6 : cX6_saying.data.toList.drop 134 = dktX6_saying_6 := dk_seg dksX6_saying_5 24 rfl rfl
theorem dX6_saying_0 : decode cX6_saying 0 = .ok (.aload_n 0, 1) := dk_42 (dk_at dksX6_saying_0 0 rfl rfl)
theorem dX6_saying_1 : decode cX6_saying 1 = .ok (.iload_n 1, 1) := dk_27 (dk_at dksX6_saying_0 1 rfl rfl)
theorem dX6_saying_2 : decode cX6_saying 2 = .ok (.invokevirtual 505, 3) := dk_182 1 249 (dk_at dksX6_saying_0 2 rfl rfl)
theorem dX6_saying_5 : decode cX6_saying 5 = .ok (.ifCond .eq 12, 3) := dk_153 0 12 (dk_at dksX6_saying_0 5 rfl rfl)
theorem dX6_saying_8 : decode cX6_saying 8 = .ok (.aload_n 0, 1) := dk_42 (dk_at dksX6_saying_0 8 rfl rfl)
theorem dX6_saying_9 : decode cX6_saying 9 = .ok (.iload_n 1, 1) := dk_27 (dk_at dksX6_saying_0 9 rfl rfl)
theorem dX6_saying_10 : decode cX6_saying 10 = .ok (.iload_n 2, 1) := dk_28 (dk_at dksX6_saying_0 10 rfl rfl)
theorem dX6_saying_11 : decode cX6_saying 11 = .ok (.invokevirtual 561, 3) := dk_182 2 49 (dk_at dksX6_saying_0 11 rfl rfl)
theorem dX6_saying_14 : decode cX6_saying 14 = .ok (.goto 4, 3) := dk_167 0 4 (dk_at dksX6_saying_0 14 rfl rfl)
theorem dX6_saying_17 : decode cX6_saying 17 = .ok (.iconst (-1), 1) := dk_2 (dk_at dksX6_saying_0 17 rfl rfl)
theorem dX6_saying_18 : decode cX6_saying 18 = .ok (.istore 4, 2) := dk_54 4 (dk_at dksX6_saying_0 18 rfl rfl)
theorem dX6_saying_20 : decode cX6_saying 20 = .ok (.iload 4, 2) := dk_21 4 (dk_at dksX6_saying_0 20 rfl rfl)
theorem dX6_saying_22 : decode cX6_saying 22 = .ok (.iconst (-1), 1) := dk_2 (dk_at dksX6_saying_0 22 rfl rfl)
theorem dX6_saying_23 : decode cX6_saying 23 = .ok (.if_icmp .ne 5, 3) := dk_160 0 5 (dk_at dksX6_saying_1 0 rfl rfl)
theorem dX6_saying_26 : decode cX6_saying 26 = .ok (.iconst (-1), 1) := dk_2 (dk_at dksX6_saying_1 3 rfl rfl)
theorem dX6_saying_27 : decode cX6_saying 27 = .ok (.ireturn, 1) := dk_172 (dk_at dksX6_saying_1 4 rfl rfl)
theorem dX6_saying_28 : decode cX6_saying 28 = .ok (.iload_n 3, 1) := dk_29 (dk_at dksX6_saying_1 5 rfl rfl)
theorem dX6_saying_29 : decode cX6_saying 29 = .ok (.tableswitch 110 0 4 #[35, 38, 46, 62, 90], 35) := by decide +kernel
theorem dX6_saying_64 : decode cX6_saying 64 = .ok (.iload 4, 2) := dk_21 4 (dk_at dksX6_saying_3 0 rfl rfl)
theorem dX6_saying_66 : decode cX6_saying 66 = .ok (.ireturn, 1) := dk_172 (dk_at dksX6_saying_3 2 rfl rfl)
theorem dX6_saying_67 : decode cX6_saying 67 = .ok (.aload_n 0, 1) := dk_42 (dk_at dksX6_saying_3 3 rfl rfl)
theorem dX6_saying_68 : decode cX6_saying 68 = .ok (.iload_n 1, 1) := dk_27 (dk_at dksX6_saying_3 4 rfl rfl)
theorem dX6_saying_69 : decode cX6_saying 69 = .ok (.iload 4, 2) := dk_21 4 (dk_at dksX6_saying_3 5 rfl rfl)
theorem dX6_saying_71 : decode cX6_saying 71 = .ok (.invokevirtual 499, 3) := dk_182 1 243 (dk_at dksX6_saying_3 7 rfl rfl)
theorem dX6_saying_74 : decode cX6_saying 74 = .ok (.ireturn, 1) := dk_172 (dk_at dksX6_saying_3 10 rfl rfl)
theorem dX6_saying_75 : decode cX6_saying 75 = .ok (.aload_n 0, 1) := dk_42 (dk_at dksX6_saying_3 11 rfl rfl)
theorem dX6_saying_76 : decode cX6_saying 76 = .ok (.iload_n 1, 1) := dk_27 (dk_at dksX6_saying_3 12 rfl rfl)
theorem dX6_saying_77 : decode cX6_saying 77 = .ok (.iload 4, 2) := dk_21 4 (dk_at dksX6_saying_3 13 rfl rfl)
theorem dX6_saying_79 : decode cX6_saying 79 = .ok (.invokevirtual 527, 3) := dk_182 2 15 (dk_at dksX6_saying_3 15 rfl rfl)
theorem dX6_saying_82 : decode cX6_saying 82 = .ok (.ifCond .eq 7, 3) := dk_153 0 7 (dk_at dksX6_saying_3 18 rfl rfl)
theorem dX6_saying_85 : decode cX6_saying 85 = .ok (.iconst 1, 1) := dk_4 (dk_at dksX6_saying_3 21 rfl rfl)
theorem dX6_saying_86 : decode cX6_saying 86 = .ok (.goto 4, 3) := dk_167 0 4 (dk_at dksX6_saying_4 0 rfl rfl)
theorem dX6_saying_89 : decode cX6_saying 89 = .ok (.iconst 0, 1) := dk_3 (dk_at dksX6_saying_4 3 rfl rfl)
theorem dX6_saying_90 : decode cX6_saying 90 = .ok (.ireturn, 1) := dk_172 (dk_at dksX6_saying_4 4 rfl rfl)
theorem dX6_saying_91 : decode cX6_saying 91 = .ok (.aload_n 0, 1) := dk_42 (dk_at dksX6_saying_4 5 rfl rfl)
theorem dX6_saying_92 : decode cX6_saying 92 = .ok (.iload_n 1, 1) := dk_27 (dk_at dksX6_saying_4 6 rfl rfl)
theorem dX6_saying_93 : decode cX6_saying 93 = .ok (.aload_n 0, 1) := dk_42 (dk_at dksX6_saying_4 7 rfl rfl)
theorem dX6_saying_94 : decode cX6_saying 94 = .ok (.iload_n 1, 1) := dk_27 (dk_at dksX6_saying_4 8 rfl rfl)
theorem dX6_saying_95 : decode cX6_saying 95 = .ok (.iload 4, 2) := dk_21 4 (dk_at dksX6_saying_4 9 rfl rfl)
theorem dX6_saying_97 : decode cX6_saying 97 = .ok (.invokevirtual 499, 3) := dk_182 1 243 (dk_at dksX6_saying_4 11 rfl rfl)
theorem dX6_saying_100 : decode cX6_saying 100 = .ok (.aload_n 0, 1) := dk_42 (dk_at dksX6_saying_4 14 rfl rfl)
theorem dX6_saying_101 : decode cX6_saying 101 = .ok (.iload_n 1, 1) := dk_27 (dk_at dksX6_saying_4 15 rfl rfl)
theorem dX6_saying_102 : decode cX6_saying 102 = .ok (.iload 4, 2) := dk_21 4 (dk_at dksX6_saying_4 16 rfl rfl)
theorem dX6_saying_104 : decode cX6_saying 104 = .ok (.invokevirtual 527, 3) := dk_182 2 15 (dk_at dksX6_saying_4 18 rfl rfl)
theorem dX6_saying_107 : decode cX6_saying 107 = .ok (.invokevirtual 530, 3) := dk_182 2 18 (dk_at dksX6_saying_4 21 rfl rfl)
theorem dX6_saying_110 : decode cX6_saying 110 = .ok (.ifCond .eq 7, 3) := dk_153 0 7 (dk_at dksX6_saying_5 0 rfl rfl)
theorem dX6_saying_113 : decode cX6_saying 113 = .ok (.iconst 1, 1) := dk_4 (dk_at dksX6_saying_5 3 rfl rfl)
theorem dX6_saying_114 : decode cX6_saying 114 = .ok (.goto 4, 3) := dk_167 0 4 (dk_at dksX6_saying_5 4 rfl rfl)
theorem dX6_saying_117 : decode cX6_saying 117 = .ok (.iconst 0, 1) := dk_3 (dk_at dksX6_saying_5 7 rfl rfl)
theorem dX6_saying_118 : decode cX6_saying 118 = .ok (.ireturn, 1) := dk_172 (dk_at dksX6_saying_5 8 rfl rfl)
theorem dX6_saying_119 : decode cX6_saying 119 = .ok (.aload_n 0, 1) := dk_42 (dk_at dksX6_saying_5 9 rfl rfl)
theorem dX6_saying_120 : decode cX6_saying 120 = .ok (.iload_n 1, 1) := dk_27 (dk_at dksX6_saying_5 10 rfl rfl)
theorem dX6_saying_121 : decode cX6_saying 121 = .ok (.invokevirtual 552, 3) := dk_182 2 40 (dk_at dksX6_saying_5 11 rfl rfl)
theorem dX6_saying_124 : decode cX6_saying 124 = .ok (.aload_n 0, 1) := dk_42 (dk_at dksX6_saying_5 14 rfl rfl)
theorem dX6_saying_125 : decode cX6_saying 125 = .ok (.getfield 222, 3) := dk_180 0 222 (dk_at dksX6_saying_5 15 rfl rfl)
theorem dX6_saying_128 : decode cX6_saying 128 = .ok (.iload_n 2, 1) := dk_28 (dk_at dksX6_saying_5 18 rfl rfl)
theorem dX6_saying_129 : decode cX6_saying 129 = .ok (.baload, 1) := dk_51 (dk_at dksX6_saying_5 19 rfl rfl)
theorem dX6_saying_130 : decode cX6_saying 130 = .ok (.ifCond .eq 7, 3) := dk_153 0 7 (dk_at dksX6_saying_5 20 rfl rfl)
theorem dX6_saying_133 : decode cX6_saying 133 = .ok (.iconst 1, 1) := dk_4 (dk_at dksX6_saying_5 23 rfl rfl)
theorem dX6_saying_134 : decode cX6_saying 134 = .ok (.goto 4, 3) := dk_167 0 4 (dk_at dksX6_saying_6 0 rfl rfl)
theorem dX6_saying_137 : decode cX6_saying 137 = .ok (.iconst 0, 1) := dk_3 (dk_at dksX6_saying_6 3 rfl rfl)
theorem dX6_saying_138 : decode cX6_saying 138 = .ok (.ireturn, 1) := dk_172 (dk_at dksX6_saying_6 4 rfl rfl)
theorem dX6_saying_139 : decode cX6_saying 139 = .ok (.iconst (-1), 1) := dk_2 (dk_at dksX6_saying_6 5 rfl rfl)
theorem dX6_saying_140 : decode cX6_saying 140 = .ok (.ireturn, 1) := dk_172 (dk_at dksX6_saying_6 6 rfl rfl)
abbrev cX6_hourOf : ByteArray := prog_29_method_64_code
def yX6_hourOf : MethodName := ⟨RX6, "hourOf", "(II)I"⟩
def dkwX6_hourOf_1 : List UInt8 := [160, 0, 6, 167, 0, 13, 29, 154, 0, 6, 21, 4, 172, 132, 3, 255, 132, 4, 1, 167, 255, 218, 2, 172]
abbrev dktX6_hourOf_1 : List UInt8 := dkwX6_hourOf_1 ++ []
def dkwX6_hourOf_0 : List UInt8 := [28, 62, 3, 54, 4, 21, 4, 16, 48, 162, 0, 37, 29, 155, 0, 33, 42, 27, 21, 4, 182, 1, 243, 2]
abbrev dktX6_hourOf_0 : List UInt8 := dkwX6_hourOf_0 ++ dktX6_hourOf_1
theorem dksX6_hourOf_0 : cX6_hourOf.data.toList.drop 0 = dktX6_hourOf_0 := by decide +kernel
theorem dksX6_hourOf_1 : cX6_hourOf.data.toList.drop 24 = dktX6_hourOf_1 := dk_seg dksX6_hourOf_0 24 rfl rfl
theorem dX6_hourOf_0 : decode cX6_hourOf 0 = .ok (.iload_n 2, 1) := dk_28 (dk_at dksX6_hourOf_0 0 rfl rfl)
theorem dX6_hourOf_1 : decode cX6_hourOf 1 = .ok (.istore_n 3, 1) := dk_62 (dk_at dksX6_hourOf_0 1 rfl rfl)
theorem dX6_hourOf_2 : decode cX6_hourOf 2 = .ok (.iconst 0, 1) := dk_3 (dk_at dksX6_hourOf_0 2 rfl rfl)
theorem dX6_hourOf_3 : decode cX6_hourOf 3 = .ok (.istore 4, 2) := dk_54 4 (dk_at dksX6_hourOf_0 3 rfl rfl)
theorem dX6_hourOf_5 : decode cX6_hourOf 5 = .ok (.iload 4, 2) := dk_21 4 (dk_at dksX6_hourOf_0 5 rfl rfl)
theorem dX6_hourOf_7 : decode cX6_hourOf 7 = .ok (.bipush 48, 2) := dk_16 48 (dk_at dksX6_hourOf_0 7 rfl rfl)
theorem dX6_hourOf_9 : decode cX6_hourOf 9 = .ok (.if_icmp .ge 37, 3) := dk_162 0 37 (dk_at dksX6_hourOf_0 9 rfl rfl)
theorem dX6_hourOf_12 : decode cX6_hourOf 12 = .ok (.iload_n 3, 1) := dk_29 (dk_at dksX6_hourOf_0 12 rfl rfl)
theorem dX6_hourOf_13 : decode cX6_hourOf 13 = .ok (.ifCond .lt 33, 3) := dk_155 0 33 (dk_at dksX6_hourOf_0 13 rfl rfl)
theorem dX6_hourOf_16 : decode cX6_hourOf 16 = .ok (.aload_n 0, 1) := dk_42 (dk_at dksX6_hourOf_0 16 rfl rfl)
theorem dX6_hourOf_17 : decode cX6_hourOf 17 = .ok (.iload_n 1, 1) := dk_27 (dk_at dksX6_hourOf_0 17 rfl rfl)
theorem dX6_hourOf_18 : decode cX6_hourOf 18 = .ok (.iload 4, 2) := dk_21 4 (dk_at dksX6_hourOf_0 18 rfl rfl)
theorem dX6_hourOf_20 : decode cX6_hourOf 20 = .ok (.invokevirtual 499, 3) := dk_182 1 243 (dk_at dksX6_hourOf_0 20 rfl rfl)
theorem dX6_hourOf_23 : decode cX6_hourOf 23 = .ok (.iconst (-1), 1) := dk_2 (dk_at dksX6_hourOf_0 23 rfl rfl)
theorem dX6_hourOf_24 : decode cX6_hourOf 24 = .ok (.if_icmp .ne 6, 3) := dk_160 0 6 (dk_at dksX6_hourOf_1 0 rfl rfl)
theorem dX6_hourOf_27 : decode cX6_hourOf 27 = .ok (.goto 13, 3) := dk_167 0 13 (dk_at dksX6_hourOf_1 3 rfl rfl)
theorem dX6_hourOf_30 : decode cX6_hourOf 30 = .ok (.iload_n 3, 1) := dk_29 (dk_at dksX6_hourOf_1 6 rfl rfl)
theorem dX6_hourOf_31 : decode cX6_hourOf 31 = .ok (.ifCond .ne 6, 3) := dk_154 0 6 (dk_at dksX6_hourOf_1 7 rfl rfl)
theorem dX6_hourOf_34 : decode cX6_hourOf 34 = .ok (.iload 4, 2) := dk_21 4 (dk_at dksX6_hourOf_1 10 rfl rfl)
theorem dX6_hourOf_36 : decode cX6_hourOf 36 = .ok (.ireturn, 1) := dk_172 (dk_at dksX6_hourOf_1 12 rfl rfl)
theorem dX6_hourOf_37 : decode cX6_hourOf 37 = .ok (.iinc 3 (-1), 3) := dk_132 3 255 (dk_at dksX6_hourOf_1 13 rfl rfl)
theorem dX6_hourOf_40 : decode cX6_hourOf 40 = .ok (.iinc 4 1, 3) := dk_132 4 1 (dk_at dksX6_hourOf_1 16 rfl rfl)
theorem dX6_hourOf_43 : decode cX6_hourOf 43 = .ok (.goto (-38), 3) := dk_167 255 218 (dk_at dksX6_hourOf_1 19 rfl rfl)
theorem dX6_hourOf_46 : decode cX6_hourOf 46 = .ok (.iconst (-1), 1) := dk_2 (dk_at dksX6_hourOf_1 22 rfl rfl)
theorem dX6_hourOf_47 : decode cX6_hourOf 47 = .ok (.ireturn, 1) := dk_172 (dk_at dksX6_hourOf_1 23 rfl rfl)
abbrev cX6_can : ByteArray := prog_29_method_90_code
def yX6_can : MethodName := ⟨RX6, "can", "(III)I"⟩
def dkwX6_can_2 : List UInt8 := [29, 96, 51, 153, 0, 7, 4, 167, 0, 4, 3, 172]
abbrev dktX6_can_2 : List UInt8 := dkwX6_can_2 ++ []
def dkwX6_can_1 : List UInt8 := [27, 29, 182, 2, 49, 2, 160, 0, 5, 2, 172, 42, 27, 182, 2, 37, 42, 180, 0, 225, 16, 48, 28, 104]
abbrev dktX6_can_1 : List UInt8 := dkwX6_can_1 ++ dktX6_can_2
def dkwX6_can_0 : List UInt8 := [42, 27, 182, 1, 249, 153, 0, 28, 28, 29, 159, 0, 23, 42, 27, 28, 182, 2, 49, 2, 159, 0, 13, 42]
abbrev dktX6_can_0 : List UInt8 := dkwX6_can_0 ++ dktX6_can_1
theorem dksX6_can_0 : cX6_can.data.toList.drop 0 = dktX6_can_0 := by decide +kernel
theorem dksX6_can_1 : cX6_can.data.toList.drop 24 = dktX6_can_1 := dk_seg dksX6_can_0 24 rfl rfl
theorem dksX6_can_2 : cX6_can.data.toList.drop 48 = dktX6_can_2 := dk_seg dksX6_can_1 24 rfl rfl
theorem dX6_can_0 : decode cX6_can 0 = .ok (.aload_n 0, 1) := dk_42 (dk_at dksX6_can_0 0 rfl rfl)
theorem dX6_can_1 : decode cX6_can 1 = .ok (.iload_n 1, 1) := dk_27 (dk_at dksX6_can_0 1 rfl rfl)
theorem dX6_can_2 : decode cX6_can 2 = .ok (.invokevirtual 505, 3) := dk_182 1 249 (dk_at dksX6_can_0 2 rfl rfl)
theorem dX6_can_5 : decode cX6_can 5 = .ok (.ifCond .eq 28, 3) := dk_153 0 28 (dk_at dksX6_can_0 5 rfl rfl)
theorem dX6_can_8 : decode cX6_can 8 = .ok (.iload_n 2, 1) := dk_28 (dk_at dksX6_can_0 8 rfl rfl)
theorem dX6_can_9 : decode cX6_can 9 = .ok (.iload_n 3, 1) := dk_29 (dk_at dksX6_can_0 9 rfl rfl)
theorem dX6_can_10 : decode cX6_can 10 = .ok (.if_icmp .eq 23, 3) := dk_159 0 23 (dk_at dksX6_can_0 10 rfl rfl)
theorem dX6_can_13 : decode cX6_can 13 = .ok (.aload_n 0, 1) := dk_42 (dk_at dksX6_can_0 13 rfl rfl)
theorem dX6_can_14 : decode cX6_can 14 = .ok (.iload_n 1, 1) := dk_27 (dk_at dksX6_can_0 14 rfl rfl)
theorem dX6_can_15 : decode cX6_can 15 = .ok (.iload_n 2, 1) := dk_28 (dk_at dksX6_can_0 15 rfl rfl)
theorem dX6_can_16 : decode cX6_can 16 = .ok (.invokevirtual 561, 3) := dk_182 2 49 (dk_at dksX6_can_0 16 rfl rfl)
theorem dX6_can_19 : decode cX6_can 19 = .ok (.iconst (-1), 1) := dk_2 (dk_at dksX6_can_0 19 rfl rfl)
theorem dX6_can_20 : decode cX6_can 20 = .ok (.if_icmp .eq 13, 3) := dk_159 0 13 (dk_at dksX6_can_0 20 rfl rfl)
theorem dX6_can_23 : decode cX6_can 23 = .ok (.aload_n 0, 1) := dk_42 (dk_at dksX6_can_0 23 rfl rfl)
theorem dX6_can_24 : decode cX6_can 24 = .ok (.iload_n 1, 1) := dk_27 (dk_at dksX6_can_1 0 rfl rfl)
theorem dX6_can_25 : decode cX6_can 25 = .ok (.iload_n 3, 1) := dk_29 (dk_at dksX6_can_1 1 rfl rfl)
theorem dX6_can_26 : decode cX6_can 26 = .ok (.invokevirtual 561, 3) := dk_182 2 49 (dk_at dksX6_can_1 2 rfl rfl)
theorem dX6_can_29 : decode cX6_can 29 = .ok (.iconst (-1), 1) := dk_2 (dk_at dksX6_can_1 5 rfl rfl)
theorem dX6_can_30 : decode cX6_can 30 = .ok (.if_icmp .ne 5, 3) := dk_160 0 5 (dk_at dksX6_can_1 6 rfl rfl)
theorem dX6_can_33 : decode cX6_can 33 = .ok (.iconst (-1), 1) := dk_2 (dk_at dksX6_can_1 9 rfl rfl)
theorem dX6_can_34 : decode cX6_can 34 = .ok (.ireturn, 1) := dk_172 (dk_at dksX6_can_1 10 rfl rfl)
theorem dX6_can_35 : decode cX6_can 35 = .ok (.aload_n 0, 1) := dk_42 (dk_at dksX6_can_1 11 rfl rfl)
theorem dX6_can_36 : decode cX6_can 36 = .ok (.iload_n 1, 1) := dk_27 (dk_at dksX6_can_1 12 rfl rfl)
theorem dX6_can_37 : decode cX6_can 37 = .ok (.invokevirtual 549, 3) := dk_182 2 37 (dk_at dksX6_can_1 13 rfl rfl)
theorem dX6_can_40 : decode cX6_can 40 = .ok (.aload_n 0, 1) := dk_42 (dk_at dksX6_can_1 16 rfl rfl)
theorem dX6_can_41 : decode cX6_can 41 = .ok (.getfield 225, 3) := dk_180 0 225 (dk_at dksX6_can_1 17 rfl rfl)
theorem dX6_can_44 : decode cX6_can 44 = .ok (.bipush 48, 2) := dk_16 48 (dk_at dksX6_can_1 20 rfl rfl)
theorem dX6_can_46 : decode cX6_can 46 = .ok (.iload_n 2, 1) := dk_28 (dk_at dksX6_can_1 22 rfl rfl)
theorem dX6_can_47 : decode cX6_can 47 = .ok (.imul, 1) := dk_104 (dk_at dksX6_can_1 23 rfl rfl)
theorem dX6_can_48 : decode cX6_can 48 = .ok (.iload_n 3, 1) := dk_29 (dk_at dksX6_can_2 0 rfl rfl)
theorem dX6_can_49 : decode cX6_can 49 = .ok (.iadd, 1) := dk_96 (dk_at dksX6_can_2 1 rfl rfl)
theorem dX6_can_50 : decode cX6_can 50 = .ok (.baload, 1) := dk_51 (dk_at dksX6_can_2 2 rfl rfl)
theorem dX6_can_51 : decode cX6_can 51 = .ok (.ifCond .eq 7, 3) := dk_153 0 7 (dk_at dksX6_can_2 3 rfl rfl)
theorem dX6_can_54 : decode cX6_can 54 = .ok (.iconst 1, 1) := dk_4 (dk_at dksX6_can_2 6 rfl rfl)
theorem dX6_can_55 : decode cX6_can 55 = .ok (.goto 4, 3) := dk_167 0 4 (dk_at dksX6_can_2 7 rfl rfl)
theorem dX6_can_58 : decode cX6_can 58 = .ok (.iconst 0, 1) := dk_3 (dk_at dksX6_can_2 10 rfl rfl)
theorem dX6_can_59 : decode cX6_can 59 = .ok (.ireturn, 1) := dk_172 (dk_at dksX6_can_2 11 rfl rfl)
abbrev cX6_reach : ByteArray := prog_29_method_91_code
def yX6_reach : MethodName := ⟨RX6, "reach", "(III)I"⟩
def dkwX6_reach_3 : List UInt8 := [154, 0, 6, 21, 5, 172, 132, 4, 255, 132, 5, 1, 167, 255, 214, 2, 172]
abbrev dktX6_reach_3 : List UInt8 := dkwX6_reach_3 ++ []
def dkwX6_reach_2 : List UInt8 := [162, 0, 39, 21, 4, 155, 0, 34, 42, 27, 21, 5, 28, 182, 2, 43, 154, 0, 6, 167, 0, 14, 21, 4]
abbrev dktX6_reach_2 : List UInt8 := dkwX6_reach_2 ++ dktX6_reach_3
def dkwX6_reach_1 : List UInt8 := [160, 0, 10, 42, 27, 28, 182, 2, 54, 172, 29, 54, 4, 3, 54, 5, 21, 5, 42, 182, 1, 223]
abbrev dktX6_reach_1 : List UInt8 := dkwX6_reach_1 ++ dktX6_reach_2
def dkwX6_reach_0 : List UInt8 := [42, 27, 182, 1, 249, 153, 0, 10, 28, 184, 1, 234, 154, 0, 5, 2, 172, 42, 27, 182, 2, 52, 29, 2]
abbrev dktX6_reach_0 : List UInt8 := dkwX6_reach_0 ++ dktX6_reach_1
theorem dksX6_reach_0 : cX6_reach.data.toList.drop 0 = dktX6_reach_0 := by decide +kernel
theorem dksX6_reach_1 : cX6_reach.data.toList.drop 24 = dktX6_reach_1 := dk_seg dksX6_reach_0 24 rfl rfl
theorem dksX6_reach_2 : cX6_reach.data.toList.drop 46 = dktX6_reach_2 := dk_seg dksX6_reach_1 22 rfl rfl
theorem dksX6_reach_3 : cX6_reach.data.toList.drop 70 = dktX6_reach_3 := dk_seg dksX6_reach_2 24 rfl rfl
theorem dX6_reach_0 : decode cX6_reach 0 = .ok (.aload_n 0, 1) := dk_42 (dk_at dksX6_reach_0 0 rfl rfl)
theorem dX6_reach_1 : decode cX6_reach 1 = .ok (.iload_n 1, 1) := dk_27 (dk_at dksX6_reach_0 1 rfl rfl)
theorem dX6_reach_2 : decode cX6_reach 2 = .ok (.invokevirtual 505, 3) := dk_182 1 249 (dk_at dksX6_reach_0 2 rfl rfl)
theorem dX6_reach_5 : decode cX6_reach 5 = .ok (.ifCond .eq 10, 3) := dk_153 0 10 (dk_at dksX6_reach_0 5 rfl rfl)
theorem dX6_reach_8 : decode cX6_reach 8 = .ok (.iload_n 2, 1) := dk_28 (dk_at dksX6_reach_0 8 rfl rfl)
theorem dX6_reach_9 : decode cX6_reach 9 = .ok (.invokestatic 490, 3) := dk_184 1 234 (dk_at dksX6_reach_0 9 rfl rfl)
theorem dX6_reach_12 : decode cX6_reach 12 = .ok (.ifCond .ne 5, 3) := dk_154 0 5 (dk_at dksX6_reach_0 12 rfl rfl)
theorem dX6_reach_15 : decode cX6_reach 15 = .ok (.iconst (-1), 1) := dk_2 (dk_at dksX6_reach_0 15 rfl rfl)
theorem dX6_reach_16 : decode cX6_reach 16 = .ok (.ireturn, 1) := dk_172 (dk_at dksX6_reach_0 16 rfl rfl)
theorem dX6_reach_17 : decode cX6_reach 17 = .ok (.aload_n 0, 1) := dk_42 (dk_at dksX6_reach_0 17 rfl rfl)
theorem dX6_reach_18 : decode cX6_reach 18 = .ok (.iload_n 1, 1) := dk_27 (dk_at dksX6_reach_0 18 rfl rfl)
theorem dX6_reach_19 : decode cX6_reach 19 = .ok (.invokevirtual 564, 3) := dk_182 2 52 (dk_at dksX6_reach_0 19 rfl rfl)
theorem dX6_reach_22 : decode cX6_reach 22 = .ok (.iload_n 3, 1) := dk_29 (dk_at dksX6_reach_0 22 rfl rfl)
theorem dX6_reach_23 : decode cX6_reach 23 = .ok (.iconst (-1), 1) := dk_2 (dk_at dksX6_reach_0 23 rfl rfl)
theorem dX6_reach_24 : decode cX6_reach 24 = .ok (.if_icmp .ne 10, 3) := dk_160 0 10 (dk_at dksX6_reach_1 0 rfl rfl)
theorem dX6_reach_27 : decode cX6_reach 27 = .ok (.aload_n 0, 1) := dk_42 (dk_at dksX6_reach_1 3 rfl rfl)
theorem dX6_reach_28 : decode cX6_reach 28 = .ok (.iload_n 1, 1) := dk_27 (dk_at dksX6_reach_1 4 rfl rfl)
theorem dX6_reach_29 : decode cX6_reach 29 = .ok (.iload_n 2, 1) := dk_28 (dk_at dksX6_reach_1 5 rfl rfl)
theorem dX6_reach_30 : decode cX6_reach 30 = .ok (.invokevirtual 566, 3) := dk_182 2 54 (dk_at dksX6_reach_1 6 rfl rfl)
theorem dX6_reach_33 : decode cX6_reach 33 = .ok (.ireturn, 1) := dk_172 (dk_at dksX6_reach_1 9 rfl rfl)
theorem dX6_reach_34 : decode cX6_reach 34 = .ok (.iload_n 3, 1) := dk_29 (dk_at dksX6_reach_1 10 rfl rfl)
theorem dX6_reach_35 : decode cX6_reach 35 = .ok (.istore 4, 2) := dk_54 4 (dk_at dksX6_reach_1 11 rfl rfl)
theorem dX6_reach_37 : decode cX6_reach 37 = .ok (.iconst 0, 1) := dk_3 (dk_at dksX6_reach_1 13 rfl rfl)
theorem dX6_reach_38 : decode cX6_reach 38 = .ok (.istore 5, 2) := dk_54 5 (dk_at dksX6_reach_1 14 rfl rfl)
theorem dX6_reach_40 : decode cX6_reach 40 = .ok (.iload 5, 2) := dk_21 5 (dk_at dksX6_reach_1 16 rfl rfl)
theorem dX6_reach_42 : decode cX6_reach 42 = .ok (.aload_n 0, 1) := dk_42 (dk_at dksX6_reach_1 18 rfl rfl)
theorem dX6_reach_43 : decode cX6_reach 43 = .ok (.invokevirtual 479, 3) := dk_182 1 223 (dk_at dksX6_reach_1 19 rfl rfl)
theorem dX6_reach_46 : decode cX6_reach 46 = .ok (.if_icmp .ge 39, 3) := dk_162 0 39 (dk_at dksX6_reach_2 0 rfl rfl)
theorem dX6_reach_49 : decode cX6_reach 49 = .ok (.iload 4, 2) := dk_21 4 (dk_at dksX6_reach_2 3 rfl rfl)
theorem dX6_reach_51 : decode cX6_reach 51 = .ok (.ifCond .lt 34, 3) := dk_155 0 34 (dk_at dksX6_reach_2 5 rfl rfl)
theorem dX6_reach_54 : decode cX6_reach 54 = .ok (.aload_n 0, 1) := dk_42 (dk_at dksX6_reach_2 8 rfl rfl)
theorem dX6_reach_55 : decode cX6_reach 55 = .ok (.iload_n 1, 1) := dk_27 (dk_at dksX6_reach_2 9 rfl rfl)
theorem dX6_reach_56 : decode cX6_reach 56 = .ok (.iload 5, 2) := dk_21 5 (dk_at dksX6_reach_2 10 rfl rfl)
theorem dX6_reach_58 : decode cX6_reach 58 = .ok (.iload_n 2, 1) := dk_28 (dk_at dksX6_reach_2 12 rfl rfl)
theorem dX6_reach_59 : decode cX6_reach 59 = .ok (.invokevirtual 555, 3) := dk_182 2 43 (dk_at dksX6_reach_2 13 rfl rfl)
theorem dX6_reach_62 : decode cX6_reach 62 = .ok (.ifCond .ne 6, 3) := dk_154 0 6 (dk_at dksX6_reach_2 16 rfl rfl)
theorem dX6_reach_65 : decode cX6_reach 65 = .ok (.goto 14, 3) := dk_167 0 14 (dk_at dksX6_reach_2 19 rfl rfl)
theorem dX6_reach_68 : decode cX6_reach 68 = .ok (.iload 4, 2) := dk_21 4 (dk_at dksX6_reach_2 22 rfl rfl)
theorem dX6_reach_70 : decode cX6_reach 70 = .ok (.ifCond .ne 6, 3) := dk_154 0 6 (dk_at dksX6_reach_3 0 rfl rfl)
theorem dX6_reach_73 : decode cX6_reach 73 = .ok (.iload 5, 2) := dk_21 5 (dk_at dksX6_reach_3 3 rfl rfl)
theorem dX6_reach_75 : decode cX6_reach 75 = .ok (.ireturn, 1) := dk_172 (dk_at dksX6_reach_3 5 rfl rfl)
theorem dX6_reach_76 : decode cX6_reach 76 = .ok (.iinc 4 (-1), 3) := dk_132 4 255 (dk_at dksX6_reach_3 6 rfl rfl)
theorem dX6_reach_79 : decode cX6_reach 79 = .ok (.iinc 5 1, 3) := dk_132 5 1 (dk_at dksX6_reach_3 9 rfl rfl)
theorem dX6_reach_82 : decode cX6_reach 82 = .ok (.goto (-42), 3) := dk_167 255 214 (dk_at dksX6_reach_3 12 rfl rfl)
theorem dX6_reach_85 : decode cX6_reach 85 = .ok (.iconst (-1), 1) := dk_2 (dk_at dksX6_reach_3 15 rfl rfl)
theorem dX6_reach_86 : decode cX6_reach 86 = .ok (.ireturn, 1) := dk_172 (dk_at dksX6_reach_3 16 rfl rfl)
abbrev cX6_lays_2 : ByteArray := prog_29_method_84_code
def yX6_lays_2 : MethodName := ⟨RX6, "lays", "(I)V"⟩
def dkwX6_lays_2_5 : List UInt8 := [132, 3, 1, 167, 255, 227, 132, 2, 1, 167, 255, 200, 177]
abbrev dktX6_lays_2_5 : List UInt8 := dkwX6_lays_2_5 ++ []
def dkwX6_lays_2_4 : List UInt8 := [182, 1, 223, 162, 0, 27, 42, 180, 0, 231, 17, 1, 0, 28, 104, 29, 96, 42, 27, 29, 182, 2, 8, 79]
abbrev dktX6_lays_2_4 : List UInt8 := dkwX6_lays_2_4 ++ dktX6_lays_2_5
def dkwX6_lays_2_3 : List UInt8 := [42, 180, 0, 195, 162, 0, 54, 42, 27, 42, 180, 0, 198, 28, 46, 182, 2, 5, 3, 62, 29, 42]
abbrev dktX6_lays_2_3 : List UInt8 := dkwX6_lays_2_3 ++ dktX6_lays_2_4
def dkwX6_lays_2_2 : List UInt8 := [42, 180, 0, 216, 28, 46, 42, 180, 0, 216, 28, 46, 182, 2, 11, 132, 2, 1, 167, 255, 209, 3, 61, 28]
abbrev dktX6_lays_2_2 : List UInt8 := dkwX6_lays_2_2 ++ dktX6_lays_2_3
def dkwX6_lays_2_1 : List UInt8 := [162, 0, 45, 42, 180, 0, 222, 28, 51, 153, 0, 30, 42, 42, 27, 42, 180, 0, 216, 28, 46, 182, 1, 243]
abbrev dktX6_lays_2_1 : List UInt8 := dkwX6_lays_2_1 ++ dktX6_lays_2_2
def dkwX6_lays_2_0 : List UInt8 := [42, 27, 182, 2, 40, 42, 3, 181, 0, 195, 42, 27, 182, 2, 25, 3, 61, 28, 42, 180, 0, 210]
abbrev dktX6_lays_2_0 : List UInt8 := dkwX6_lays_2_0 ++ dktX6_lays_2_1
theorem dksX6_lays_2_0 : cX6_lays_2.data.toList.drop 0 = dktX6_lays_2_0 := by decide +kernel
theorem dksX6_lays_2_1 : cX6_lays_2.data.toList.drop 22 = dktX6_lays_2_1 := dk_seg dksX6_lays_2_0 22 rfl rfl
theorem dksX6_lays_2_2 : cX6_lays_2.data.toList.drop 46 = dktX6_lays_2_2 := dk_seg dksX6_lays_2_1 24 rfl rfl
theorem dksX6_lays_2_3 : cX6_lays_2.data.toList.drop 70 = dktX6_lays_2_3 := dk_seg dksX6_lays_2_2 24 rfl rfl
theorem dksX6_lays_2_4 : cX6_lays_2.data.toList.drop 92 = dktX6_lays_2_4 := dk_seg dksX6_lays_2_3 22 rfl rfl
theorem dksX6_lays_2_5 : cX6_lays_2.data.toList.drop 116 = dktX6_lays_2_5 := dk_seg dksX6_lays_2_4 24 rfl rfl
theorem dX6_lays_2_0 : decode cX6_lays_2 0 = .ok (.aload_n 0, 1) := dk_42 (dk_at dksX6_lays_2_0 0 rfl rfl)
theorem dX6_lays_2_1 : decode cX6_lays_2 1 = .ok (.iload_n 1, 1) := dk_27 (dk_at dksX6_lays_2_0 1 rfl rfl)
theorem dX6_lays_2_2 : decode cX6_lays_2 2 = .ok (.invokevirtual 552, 3) := dk_182 2 40 (dk_at dksX6_lays_2_0 2 rfl rfl)
theorem dX6_lays_2_5 : decode cX6_lays_2 5 = .ok (.aload_n 0, 1) := dk_42 (dk_at dksX6_lays_2_0 5 rfl rfl)
theorem dX6_lays_2_6 : decode cX6_lays_2 6 = .ok (.iconst 0, 1) := dk_3 (dk_at dksX6_lays_2_0 6 rfl rfl)
theorem dX6_lays_2_7 : decode cX6_lays_2 7 = .ok (.putfield 195, 3) := dk_181 0 195 (dk_at dksX6_lays_2_0 7 rfl rfl)
theorem dX6_lays_2_10 : decode cX6_lays_2 10 = .ok (.aload_n 0, 1) := dk_42 (dk_at dksX6_lays_2_0 10 rfl rfl)
theorem dX6_lays_2_11 : decode cX6_lays_2 11 = .ok (.iload_n 1, 1) := dk_27 (dk_at dksX6_lays_2_0 11 rfl rfl)
theorem dX6_lays_2_12 : decode cX6_lays_2 12 = .ok (.invokevirtual 537, 3) := dk_182 2 25 (dk_at dksX6_lays_2_0 12 rfl rfl)
theorem dX6_lays_2_15 : decode cX6_lays_2 15 = .ok (.iconst 0, 1) := dk_3 (dk_at dksX6_lays_2_0 15 rfl rfl)
theorem dX6_lays_2_16 : decode cX6_lays_2 16 = .ok (.istore_n 2, 1) := dk_61 (dk_at dksX6_lays_2_0 16 rfl rfl)
theorem dX6_lays_2_17 : decode cX6_lays_2 17 = .ok (.iload_n 2, 1) := dk_28 (dk_at dksX6_lays_2_0 17 rfl rfl)
theorem dX6_lays_2_18 : decode cX6_lays_2 18 = .ok (.aload_n 0, 1) := dk_42 (dk_at dksX6_lays_2_0 18 rfl rfl)
theorem dX6_lays_2_19 : decode cX6_lays_2 19 = .ok (.getfield 210, 3) := dk_180 0 210 (dk_at dksX6_lays_2_0 19 rfl rfl)
theorem dX6_lays_2_22 : decode cX6_lays_2 22 = .ok (.if_icmp .ge 45, 3) := dk_162 0 45 (dk_at dksX6_lays_2_1 0 rfl rfl)
theorem dX6_lays_2_25 : decode cX6_lays_2 25 = .ok (.aload_n 0, 1) := dk_42 (dk_at dksX6_lays_2_1 3 rfl rfl)
theorem dX6_lays_2_26 : decode cX6_lays_2 26 = .ok (.getfield 222, 3) := dk_180 0 222 (dk_at dksX6_lays_2_1 4 rfl rfl)
theorem dX6_lays_2_29 : decode cX6_lays_2 29 = .ok (.iload_n 2, 1) := dk_28 (dk_at dksX6_lays_2_1 7 rfl rfl)
theorem dX6_lays_2_30 : decode cX6_lays_2 30 = .ok (.baload, 1) := dk_51 (dk_at dksX6_lays_2_1 8 rfl rfl)
theorem dX6_lays_2_31 : decode cX6_lays_2 31 = .ok (.ifCond .eq 30, 3) := dk_153 0 30 (dk_at dksX6_lays_2_1 9 rfl rfl)
theorem dX6_lays_2_34 : decode cX6_lays_2 34 = .ok (.aload_n 0, 1) := dk_42 (dk_at dksX6_lays_2_1 12 rfl rfl)
theorem dX6_lays_2_35 : decode cX6_lays_2 35 = .ok (.aload_n 0, 1) := dk_42 (dk_at dksX6_lays_2_1 13 rfl rfl)
theorem dX6_lays_2_36 : decode cX6_lays_2 36 = .ok (.iload_n 1, 1) := dk_27 (dk_at dksX6_lays_2_1 14 rfl rfl)
theorem dX6_lays_2_37 : decode cX6_lays_2 37 = .ok (.aload_n 0, 1) := dk_42 (dk_at dksX6_lays_2_1 15 rfl rfl)
theorem dX6_lays_2_38 : decode cX6_lays_2 38 = .ok (.getfield 216, 3) := dk_180 0 216 (dk_at dksX6_lays_2_1 16 rfl rfl)
theorem dX6_lays_2_41 : decode cX6_lays_2 41 = .ok (.iload_n 2, 1) := dk_28 (dk_at dksX6_lays_2_1 19 rfl rfl)
theorem dX6_lays_2_42 : decode cX6_lays_2 42 = .ok (.iaload, 1) := dk_46 (dk_at dksX6_lays_2_1 20 rfl rfl)
theorem dX6_lays_2_43 : decode cX6_lays_2 43 = .ok (.invokevirtual 499, 3) := dk_182 1 243 (dk_at dksX6_lays_2_1 21 rfl rfl)
theorem dX6_lays_2_46 : decode cX6_lays_2 46 = .ok (.aload_n 0, 1) := dk_42 (dk_at dksX6_lays_2_2 0 rfl rfl)
theorem dX6_lays_2_47 : decode cX6_lays_2 47 = .ok (.getfield 216, 3) := dk_180 0 216 (dk_at dksX6_lays_2_2 1 rfl rfl)
theorem dX6_lays_2_50 : decode cX6_lays_2 50 = .ok (.iload_n 2, 1) := dk_28 (dk_at dksX6_lays_2_2 4 rfl rfl)
theorem dX6_lays_2_51 : decode cX6_lays_2 51 = .ok (.iaload, 1) := dk_46 (dk_at dksX6_lays_2_2 5 rfl rfl)
theorem dX6_lays_2_52 : decode cX6_lays_2 52 = .ok (.aload_n 0, 1) := dk_42 (dk_at dksX6_lays_2_2 6 rfl rfl)
theorem dX6_lays_2_53 : decode cX6_lays_2 53 = .ok (.getfield 216, 3) := dk_180 0 216 (dk_at dksX6_lays_2_2 7 rfl rfl)
theorem dX6_lays_2_56 : decode cX6_lays_2 56 = .ok (.iload_n 2, 1) := dk_28 (dk_at dksX6_lays_2_2 10 rfl rfl)
theorem dX6_lays_2_57 : decode cX6_lays_2 57 = .ok (.iaload, 1) := dk_46 (dk_at dksX6_lays_2_2 11 rfl rfl)
theorem dX6_lays_2_58 : decode cX6_lays_2 58 = .ok (.invokevirtual 523, 3) := dk_182 2 11 (dk_at dksX6_lays_2_2 12 rfl rfl)
theorem dX6_lays_2_61 : decode cX6_lays_2 61 = .ok (.iinc 2 1, 3) := dk_132 2 1 (dk_at dksX6_lays_2_2 15 rfl rfl)
theorem dX6_lays_2_64 : decode cX6_lays_2 64 = .ok (.goto (-47), 3) := dk_167 255 209 (dk_at dksX6_lays_2_2 18 rfl rfl)
theorem dX6_lays_2_67 : decode cX6_lays_2 67 = .ok (.iconst 0, 1) := dk_3 (dk_at dksX6_lays_2_2 21 rfl rfl)
theorem dX6_lays_2_68 : decode cX6_lays_2 68 = .ok (.istore_n 2, 1) := dk_61 (dk_at dksX6_lays_2_2 22 rfl rfl)
theorem dX6_lays_2_69 : decode cX6_lays_2 69 = .ok (.iload_n 2, 1) := dk_28 (dk_at dksX6_lays_2_2 23 rfl rfl)
theorem dX6_lays_2_70 : decode cX6_lays_2 70 = .ok (.aload_n 0, 1) := dk_42 (dk_at dksX6_lays_2_3 0 rfl rfl)
theorem dX6_lays_2_71 : decode cX6_lays_2 71 = .ok (.getfield 195, 3) := dk_180 0 195 (dk_at dksX6_lays_2_3 1 rfl rfl)
theorem dX6_lays_2_74 : decode cX6_lays_2 74 = .ok (.if_icmp .ge 54, 3) := dk_162 0 54 (dk_at dksX6_lays_2_3 4 rfl rfl)
theorem dX6_lays_2_77 : decode cX6_lays_2 77 = .ok (.aload_n 0, 1) := dk_42 (dk_at dksX6_lays_2_3 7 rfl rfl)
theorem dX6_lays_2_78 : decode cX6_lays_2 78 = .ok (.iload_n 1, 1) := dk_27 (dk_at dksX6_lays_2_3 8 rfl rfl)
theorem dX6_lays_2_79 : decode cX6_lays_2 79 = .ok (.aload_n 0, 1) := dk_42 (dk_at dksX6_lays_2_3 9 rfl rfl)
theorem dX6_lays_2_80 : decode cX6_lays_2 80 = .ok (.getfield 198, 3) := dk_180 0 198 (dk_at dksX6_lays_2_3 10 rfl rfl)
theorem dX6_lays_2_83 : decode cX6_lays_2 83 = .ok (.iload_n 2, 1) := dk_28 (dk_at dksX6_lays_2_3 13 rfl rfl)
theorem dX6_lays_2_84 : decode cX6_lays_2 84 = .ok (.iaload, 1) := dk_46 (dk_at dksX6_lays_2_3 14 rfl rfl)
theorem dX6_lays_2_85 : decode cX6_lays_2 85 = .ok (.invokevirtual 517, 3) := dk_182 2 5 (dk_at dksX6_lays_2_3 15 rfl rfl)
theorem dX6_lays_2_88 : decode cX6_lays_2 88 = .ok (.iconst 0, 1) := dk_3 (dk_at dksX6_lays_2_3 18 rfl rfl)
theorem dX6_lays_2_89 : decode cX6_lays_2 89 = .ok (.istore_n 3, 1) := dk_62 (dk_at dksX6_lays_2_3 19 rfl rfl)
theorem dX6_lays_2_90 : decode cX6_lays_2 90 = .ok (.iload_n 3, 1) := dk_29 (dk_at dksX6_lays_2_3 20 rfl rfl)
theorem dX6_lays_2_91 : decode cX6_lays_2 91 = .ok (.aload_n 0, 1) := dk_42 (dk_at dksX6_lays_2_3 21 rfl rfl)
theorem dX6_lays_2_92 : decode cX6_lays_2 92 = .ok (.invokevirtual 479, 3) := dk_182 1 223 (dk_at dksX6_lays_2_4 0 rfl rfl)
theorem dX6_lays_2_95 : decode cX6_lays_2 95 = .ok (.if_icmp .ge 27, 3) := dk_162 0 27 (dk_at dksX6_lays_2_4 3 rfl rfl)
theorem dX6_lays_2_98 : decode cX6_lays_2 98 = .ok (.aload_n 0, 1) := dk_42 (dk_at dksX6_lays_2_4 6 rfl rfl)
theorem dX6_lays_2_99 : decode cX6_lays_2 99 = .ok (.getfield 231, 3) := dk_180 0 231 (dk_at dksX6_lays_2_4 7 rfl rfl)
theorem dX6_lays_2_102 : decode cX6_lays_2 102 = .ok (.sipush 256, 3) := dk_17 1 0 (dk_at dksX6_lays_2_4 10 rfl rfl)
theorem dX6_lays_2_105 : decode cX6_lays_2 105 = .ok (.iload_n 2, 1) := dk_28 (dk_at dksX6_lays_2_4 13 rfl rfl)
theorem dX6_lays_2_106 : decode cX6_lays_2 106 = .ok (.imul, 1) := dk_104 (dk_at dksX6_lays_2_4 14 rfl rfl)
theorem dX6_lays_2_107 : decode cX6_lays_2 107 = .ok (.iload_n 3, 1) := dk_29 (dk_at dksX6_lays_2_4 15 rfl rfl)
theorem dX6_lays_2_108 : decode cX6_lays_2 108 = .ok (.iadd, 1) := dk_96 (dk_at dksX6_lays_2_4 16 rfl rfl)
theorem dX6_lays_2_109 : decode cX6_lays_2 109 = .ok (.aload_n 0, 1) := dk_42 (dk_at dksX6_lays_2_4 17 rfl rfl)
theorem dX6_lays_2_110 : decode cX6_lays_2 110 = .ok (.iload_n 1, 1) := dk_27 (dk_at dksX6_lays_2_4 18 rfl rfl)
theorem dX6_lays_2_111 : decode cX6_lays_2 111 = .ok (.iload_n 3, 1) := dk_29 (dk_at dksX6_lays_2_4 19 rfl rfl)
theorem dX6_lays_2_112 : decode cX6_lays_2 112 = .ok (.invokevirtual 520, 3) := dk_182 2 8 (dk_at dksX6_lays_2_4 20 rfl rfl)
theorem dX6_lays_2_115 : decode cX6_lays_2 115 = .ok (.iastore, 1) := dk_79 (dk_at dksX6_lays_2_4 23 rfl rfl)
theorem dX6_lays_2_116 : decode cX6_lays_2 116 = .ok (.iinc 3 1, 3) := dk_132 3 1 (dk_at dksX6_lays_2_5 0 rfl rfl)
theorem dX6_lays_2_119 : decode cX6_lays_2 119 = .ok (.goto (-29), 3) := dk_167 255 227 (dk_at dksX6_lays_2_5 3 rfl rfl)
theorem dX6_lays_2_122 : decode cX6_lays_2 122 = .ok (.iinc 2 1, 3) := dk_132 2 1 (dk_at dksX6_lays_2_5 6 rfl rfl)
theorem dX6_lays_2_125 : decode cX6_lays_2 125 = .ok (.goto (-56), 3) := dk_167 255 200 (dk_at dksX6_lays_2_5 9 rfl rfl)
theorem dX6_lays_2_128 : decode cX6_lays_2 128 = .ok (.return_, 1) := dk_177 (dk_at dksX6_lays_2_5 12 rfl rfl)
abbrev cX6_cellsOf : ByteArray := prog_29_method_86_code
def yX6_cellsOf : MethodName := ⟨RX6, "cellsOf", "(II)I"⟩
def dkwX6_cellsOf_1 : List UInt8 := [153, 0, 7, 4, 167, 0, 4, 3, 96, 62, 132, 4, 1, 167, 255, 225, 29, 172]
abbrev dktX6_cellsOf_1 : List UInt8 := dkwX6_cellsOf_1 ++ []
def dkwX6_cellsOf_0 : List UInt8 := [3, 62, 3, 54, 4, 21, 4, 42, 182, 1, 223, 162, 0, 28, 29, 42, 27, 21, 4, 28, 182, 2, 43]
abbrev dktX6_cellsOf_0 : List UInt8 := dkwX6_cellsOf_0 ++ dktX6_cellsOf_1
theorem dksX6_cellsOf_0 : cX6_cellsOf.data.toList.drop 0 = dktX6_cellsOf_0 := by decide +kernel
theorem dksX6_cellsOf_1 : cX6_cellsOf.data.toList.drop 23 = dktX6_cellsOf_1 := dk_seg dksX6_cellsOf_0 23 rfl rfl
theorem dX6_cellsOf_0 : decode cX6_cellsOf 0 = .ok (.iconst 0, 1) := dk_3 (dk_at dksX6_cellsOf_0 0 rfl rfl)
theorem dX6_cellsOf_1 : decode cX6_cellsOf 1 = .ok (.istore_n 3, 1) := dk_62 (dk_at dksX6_cellsOf_0 1 rfl rfl)
theorem dX6_cellsOf_2 : decode cX6_cellsOf 2 = .ok (.iconst 0, 1) := dk_3 (dk_at dksX6_cellsOf_0 2 rfl rfl)
theorem dX6_cellsOf_3 : decode cX6_cellsOf 3 = .ok (.istore 4, 2) := dk_54 4 (dk_at dksX6_cellsOf_0 3 rfl rfl)
theorem dX6_cellsOf_5 : decode cX6_cellsOf 5 = .ok (.iload 4, 2) := dk_21 4 (dk_at dksX6_cellsOf_0 5 rfl rfl)
theorem dX6_cellsOf_7 : decode cX6_cellsOf 7 = .ok (.aload_n 0, 1) := dk_42 (dk_at dksX6_cellsOf_0 7 rfl rfl)
theorem dX6_cellsOf_8 : decode cX6_cellsOf 8 = .ok (.invokevirtual 479, 3) := dk_182 1 223 (dk_at dksX6_cellsOf_0 8 rfl rfl)
theorem dX6_cellsOf_11 : decode cX6_cellsOf 11 = .ok (.if_icmp .ge 28, 3) := dk_162 0 28 (dk_at dksX6_cellsOf_0 11 rfl rfl)
theorem dX6_cellsOf_14 : decode cX6_cellsOf 14 = .ok (.iload_n 3, 1) := dk_29 (dk_at dksX6_cellsOf_0 14 rfl rfl)
theorem dX6_cellsOf_15 : decode cX6_cellsOf 15 = .ok (.aload_n 0, 1) := dk_42 (dk_at dksX6_cellsOf_0 15 rfl rfl)
theorem dX6_cellsOf_16 : decode cX6_cellsOf 16 = .ok (.iload_n 1, 1) := dk_27 (dk_at dksX6_cellsOf_0 16 rfl rfl)
theorem dX6_cellsOf_17 : decode cX6_cellsOf 17 = .ok (.iload 4, 2) := dk_21 4 (dk_at dksX6_cellsOf_0 17 rfl rfl)
theorem dX6_cellsOf_19 : decode cX6_cellsOf 19 = .ok (.iload_n 2, 1) := dk_28 (dk_at dksX6_cellsOf_0 19 rfl rfl)
theorem dX6_cellsOf_20 : decode cX6_cellsOf 20 = .ok (.invokevirtual 555, 3) := dk_182 2 43 (dk_at dksX6_cellsOf_0 20 rfl rfl)
theorem dX6_cellsOf_23 : decode cX6_cellsOf 23 = .ok (.ifCond .eq 7, 3) := dk_153 0 7 (dk_at dksX6_cellsOf_1 0 rfl rfl)
theorem dX6_cellsOf_26 : decode cX6_cellsOf 26 = .ok (.iconst 1, 1) := dk_4 (dk_at dksX6_cellsOf_1 3 rfl rfl)
theorem dX6_cellsOf_27 : decode cX6_cellsOf 27 = .ok (.goto 4, 3) := dk_167 0 4 (dk_at dksX6_cellsOf_1 4 rfl rfl)
theorem dX6_cellsOf_30 : decode cX6_cellsOf 30 = .ok (.iconst 0, 1) := dk_3 (dk_at dksX6_cellsOf_1 7 rfl rfl)
theorem dX6_cellsOf_31 : decode cX6_cellsOf 31 = .ok (.iadd, 1) := dk_96 (dk_at dksX6_cellsOf_1 8 rfl rfl)
theorem dX6_cellsOf_32 : decode cX6_cellsOf 32 = .ok (.istore_n 3, 1) := dk_62 (dk_at dksX6_cellsOf_1 9 rfl rfl)
theorem dX6_cellsOf_33 : decode cX6_cellsOf 33 = .ok (.iinc 4 1, 3) := dk_132 4 1 (dk_at dksX6_cellsOf_1 10 rfl rfl)
theorem dX6_cellsOf_36 : decode cX6_cellsOf 36 = .ok (.goto (-31), 3) := dk_167 255 225 (dk_at dksX6_cellsOf_1 13 rfl rfl)
theorem dX6_cellsOf_39 : decode cX6_cellsOf 39 = .ok (.iload_n 3, 1) := dk_29 (dk_at dksX6_cellsOf_1 16 rfl rfl)
theorem dX6_cellsOf_40 : decode cX6_cellsOf 40 = .ok (.ireturn, 1) := dk_172 (dk_at dksX6_cellsOf_1 17 rfl rfl)
abbrev cX6_mayBe : ByteArray := prog_29_method_85_code
def yX6_mayBe : MethodName := ⟨RX6, "mayBe", "(III)Z"⟩
def dkwX6_mayBe_3 : List UInt8 := [167, 255, 207, 4, 172]
abbrev dktX6_mayBe_3 : List UInt8 := dkwX6_mayBe_3 ++ []
def dkwX6_mayBe_2 : List UInt8 := [180, 0, 201, 21, 4, 46, 42, 180, 0, 204, 21, 4, 46, 184, 2, 22, 164, 0, 5, 3, 172, 132, 4, 1]
abbrev dktX6_mayBe_2 : List UInt8 := dkwX6_mayBe_2 ++ dktX6_mayBe_3
def dkwX6_mayBe_1 : List UInt8 := [180, 0, 195, 162, 0, 46, 42, 180, 0, 231, 17, 1, 0, 21, 4, 104, 28, 96, 46, 29, 29, 42]
abbrev dktX6_mayBe_1 : List UInt8 := dkwX6_mayBe_1 ++ dktX6_mayBe_2
def dkwX6_mayBe_0 : List UInt8 := [42, 180, 0, 207, 153, 0, 12, 42, 27, 28, 182, 1, 254, 154, 0, 5, 3, 172, 3, 54, 4, 21, 4, 42]
abbrev dktX6_mayBe_0 : List UInt8 := dkwX6_mayBe_0 ++ dktX6_mayBe_1
theorem dksX6_mayBe_0 : cX6_mayBe.data.toList.drop 0 = dktX6_mayBe_0 := by decide +kernel
theorem dksX6_mayBe_1 : cX6_mayBe.data.toList.drop 24 = dktX6_mayBe_1 := dk_seg dksX6_mayBe_0 24 rfl rfl
theorem dksX6_mayBe_2 : cX6_mayBe.data.toList.drop 46 = dktX6_mayBe_2 := dk_seg dksX6_mayBe_1 22 rfl rfl
theorem dksX6_mayBe_3 : cX6_mayBe.data.toList.drop 70 = dktX6_mayBe_3 := dk_seg dksX6_mayBe_2 24 rfl rfl
theorem dX6_mayBe_0 : decode cX6_mayBe 0 = .ok (.aload_n 0, 1) := dk_42 (dk_at dksX6_mayBe_0 0 rfl rfl)
theorem dX6_mayBe_1 : decode cX6_mayBe 1 = .ok (.getfield 207, 3) := dk_180 0 207 (dk_at dksX6_mayBe_0 1 rfl rfl)
theorem dX6_mayBe_4 : decode cX6_mayBe 4 = .ok (.ifCond .eq 12, 3) := dk_153 0 12 (dk_at dksX6_mayBe_0 4 rfl rfl)
theorem dX6_mayBe_7 : decode cX6_mayBe 7 = .ok (.aload_n 0, 1) := dk_42 (dk_at dksX6_mayBe_0 7 rfl rfl)
theorem dX6_mayBe_8 : decode cX6_mayBe 8 = .ok (.iload_n 1, 1) := dk_27 (dk_at dksX6_mayBe_0 8 rfl rfl)
theorem dX6_mayBe_9 : decode cX6_mayBe 9 = .ok (.iload_n 2, 1) := dk_28 (dk_at dksX6_mayBe_0 9 rfl rfl)
theorem dX6_mayBe_10 : decode cX6_mayBe 10 = .ok (.invokevirtual 510, 3) := dk_182 1 254 (dk_at dksX6_mayBe_0 10 rfl rfl)
theorem dX6_mayBe_13 : decode cX6_mayBe 13 = .ok (.ifCond .ne 5, 3) := dk_154 0 5 (dk_at dksX6_mayBe_0 13 rfl rfl)
theorem dX6_mayBe_16 : decode cX6_mayBe 16 = .ok (.iconst 0, 1) := dk_3 (dk_at dksX6_mayBe_0 16 rfl rfl)
theorem dX6_mayBe_17 : decode cX6_mayBe 17 = .ok (.ireturn, 1) := dk_172 (dk_at dksX6_mayBe_0 17 rfl rfl)
theorem dX6_mayBe_18 : decode cX6_mayBe 18 = .ok (.iconst 0, 1) := dk_3 (dk_at dksX6_mayBe_0 18 rfl rfl)
theorem dX6_mayBe_19 : decode cX6_mayBe 19 = .ok (.istore 4, 2) := dk_54 4 (dk_at dksX6_mayBe_0 19 rfl rfl)
theorem dX6_mayBe_21 : decode cX6_mayBe 21 = .ok (.iload 4, 2) := dk_21 4 (dk_at dksX6_mayBe_0 21 rfl rfl)
theorem dX6_mayBe_23 : decode cX6_mayBe 23 = .ok (.aload_n 0, 1) := dk_42 (dk_at dksX6_mayBe_0 23 rfl rfl)
theorem dX6_mayBe_24 : decode cX6_mayBe 24 = .ok (.getfield 195, 3) := dk_180 0 195 (dk_at dksX6_mayBe_1 0 rfl rfl)
theorem dX6_mayBe_27 : decode cX6_mayBe 27 = .ok (.if_icmp .ge 46, 3) := dk_162 0 46 (dk_at dksX6_mayBe_1 3 rfl rfl)
theorem dX6_mayBe_30 : decode cX6_mayBe 30 = .ok (.aload_n 0, 1) := dk_42 (dk_at dksX6_mayBe_1 6 rfl rfl)
theorem dX6_mayBe_31 : decode cX6_mayBe 31 = .ok (.getfield 231, 3) := dk_180 0 231 (dk_at dksX6_mayBe_1 7 rfl rfl)
theorem dX6_mayBe_34 : decode cX6_mayBe 34 = .ok (.sipush 256, 3) := dk_17 1 0 (dk_at dksX6_mayBe_1 10 rfl rfl)
theorem dX6_mayBe_37 : decode cX6_mayBe 37 = .ok (.iload 4, 2) := dk_21 4 (dk_at dksX6_mayBe_1 13 rfl rfl)
theorem dX6_mayBe_39 : decode cX6_mayBe 39 = .ok (.imul, 1) := dk_104 (dk_at dksX6_mayBe_1 15 rfl rfl)
theorem dX6_mayBe_40 : decode cX6_mayBe 40 = .ok (.iload_n 2, 1) := dk_28 (dk_at dksX6_mayBe_1 16 rfl rfl)
theorem dX6_mayBe_41 : decode cX6_mayBe 41 = .ok (.iadd, 1) := dk_96 (dk_at dksX6_mayBe_1 17 rfl rfl)
theorem dX6_mayBe_42 : decode cX6_mayBe 42 = .ok (.iaload, 1) := dk_46 (dk_at dksX6_mayBe_1 18 rfl rfl)
theorem dX6_mayBe_43 : decode cX6_mayBe 43 = .ok (.iload_n 3, 1) := dk_29 (dk_at dksX6_mayBe_1 19 rfl rfl)
theorem dX6_mayBe_44 : decode cX6_mayBe 44 = .ok (.iload_n 3, 1) := dk_29 (dk_at dksX6_mayBe_1 20 rfl rfl)
theorem dX6_mayBe_45 : decode cX6_mayBe 45 = .ok (.aload_n 0, 1) := dk_42 (dk_at dksX6_mayBe_1 21 rfl rfl)
theorem dX6_mayBe_46 : decode cX6_mayBe 46 = .ok (.getfield 201, 3) := dk_180 0 201 (dk_at dksX6_mayBe_2 0 rfl rfl)
theorem dX6_mayBe_49 : decode cX6_mayBe 49 = .ok (.iload 4, 2) := dk_21 4 (dk_at dksX6_mayBe_2 3 rfl rfl)
theorem dX6_mayBe_51 : decode cX6_mayBe 51 = .ok (.iaload, 1) := dk_46 (dk_at dksX6_mayBe_2 5 rfl rfl)
theorem dX6_mayBe_52 : decode cX6_mayBe 52 = .ok (.aload_n 0, 1) := dk_42 (dk_at dksX6_mayBe_2 6 rfl rfl)
theorem dX6_mayBe_53 : decode cX6_mayBe 53 = .ok (.getfield 204, 3) := dk_180 0 204 (dk_at dksX6_mayBe_2 7 rfl rfl)
theorem dX6_mayBe_56 : decode cX6_mayBe 56 = .ok (.iload 4, 2) := dk_21 4 (dk_at dksX6_mayBe_2 10 rfl rfl)
theorem dX6_mayBe_58 : decode cX6_mayBe 58 = .ok (.iaload, 1) := dk_46 (dk_at dksX6_mayBe_2 12 rfl rfl)
theorem dX6_mayBe_59 : decode cX6_mayBe 59 = .ok (.invokestatic 534, 3) := dk_184 2 22 (dk_at dksX6_mayBe_2 13 rfl rfl)
theorem dX6_mayBe_62 : decode cX6_mayBe 62 = .ok (.if_icmp .le 5, 3) := dk_164 0 5 (dk_at dksX6_mayBe_2 16 rfl rfl)
theorem dX6_mayBe_65 : decode cX6_mayBe 65 = .ok (.iconst 0, 1) := dk_3 (dk_at dksX6_mayBe_2 19 rfl rfl)
theorem dX6_mayBe_66 : decode cX6_mayBe 66 = .ok (.ireturn, 1) := dk_172 (dk_at dksX6_mayBe_2 20 rfl rfl)
theorem dX6_mayBe_67 : decode cX6_mayBe 67 = .ok (.iinc 4 1, 3) := dk_132 4 1 (dk_at dksX6_mayBe_2 21 rfl rfl)
theorem dX6_mayBe_70 : decode cX6_mayBe 70 = .ok (.goto (-49), 3) := dk_167 255 207 (dk_at dksX6_mayBe_3 0 rfl rfl)
theorem dX6_mayBe_73 : decode cX6_mayBe 73 = .ok (.iconst 1, 1) := dk_4 (dk_at dksX6_mayBe_3 3 rfl rfl)
theorem dX6_mayBe_74 : decode cX6_mayBe 74 = .ok (.ireturn, 1) := dk_172 (dk_at dksX6_mayBe_3 4 rfl rfl)
abbrev cX6_may : ByteArray := prog_29_method_92_code
def yX6_may : MethodName := ⟨RX6, "may", "(IIII)I"⟩
def dkwX6_may_2 : List UInt8 := [153, 0, 7, 4, 167, 0, 4, 3, 172]
abbrev dktX6_may_2 : List UInt8 := dkwX6_may_2 ++ []
def dkwX6_may_1 : List UInt8 := [154, 0, 5, 2, 172, 42, 27, 182, 2, 52, 42, 27, 42, 29, 21, 4, 182, 1, 237, 28, 182, 2, 43]
abbrev dktX6_may_1 : List UInt8 := dkwX6_may_1 ++ dktX6_may_2
def dkwX6_may_0 : List UInt8 := [42, 27, 182, 1, 249, 153, 0, 20, 28, 184, 1, 234, 153, 0, 13, 42, 29, 21, 4, 182, 1, 230]
abbrev dktX6_may_0 : List UInt8 := dkwX6_may_0 ++ dktX6_may_1
theorem dksX6_may_0 : cX6_may.data.toList.drop 0 = dktX6_may_0 := by decide +kernel
theorem dksX6_may_1 : cX6_may.data.toList.drop 22 = dktX6_may_1 := dk_seg dksX6_may_0 22 rfl rfl
theorem dksX6_may_2 : cX6_may.data.toList.drop 45 = dktX6_may_2 := dk_seg dksX6_may_1 23 rfl rfl
theorem dX6_may_0 : decode cX6_may 0 = .ok (.aload_n 0, 1) := dk_42 (dk_at dksX6_may_0 0 rfl rfl)
theorem dX6_may_1 : decode cX6_may 1 = .ok (.iload_n 1, 1) := dk_27 (dk_at dksX6_may_0 1 rfl rfl)
theorem dX6_may_2 : decode cX6_may 2 = .ok (.invokevirtual 505, 3) := dk_182 1 249 (dk_at dksX6_may_0 2 rfl rfl)
theorem dX6_may_5 : decode cX6_may 5 = .ok (.ifCond .eq 20, 3) := dk_153 0 20 (dk_at dksX6_may_0 5 rfl rfl)
theorem dX6_may_8 : decode cX6_may 8 = .ok (.iload_n 2, 1) := dk_28 (dk_at dksX6_may_0 8 rfl rfl)
theorem dX6_may_9 : decode cX6_may 9 = .ok (.invokestatic 490, 3) := dk_184 1 234 (dk_at dksX6_may_0 9 rfl rfl)
theorem dX6_may_12 : decode cX6_may 12 = .ok (.ifCond .eq 13, 3) := dk_153 0 13 (dk_at dksX6_may_0 12 rfl rfl)
theorem dX6_may_15 : decode cX6_may 15 = .ok (.aload_n 0, 1) := dk_42 (dk_at dksX6_may_0 15 rfl rfl)
theorem dX6_may_16 : decode cX6_may 16 = .ok (.iload_n 3, 1) := dk_29 (dk_at dksX6_may_0 16 rfl rfl)
theorem dX6_may_17 : decode cX6_may 17 = .ok (.iload 4, 2) := dk_21 4 (dk_at dksX6_may_0 17 rfl rfl)
theorem dX6_may_19 : decode cX6_may 19 = .ok (.invokevirtual 486, 3) := dk_182 1 230 (dk_at dksX6_may_0 19 rfl rfl)
theorem dX6_may_22 : decode cX6_may 22 = .ok (.ifCond .ne 5, 3) := dk_154 0 5 (dk_at dksX6_may_1 0 rfl rfl)
theorem dX6_may_25 : decode cX6_may 25 = .ok (.iconst (-1), 1) := dk_2 (dk_at dksX6_may_1 3 rfl rfl)
theorem dX6_may_26 : decode cX6_may 26 = .ok (.ireturn, 1) := dk_172 (dk_at dksX6_may_1 4 rfl rfl)
theorem dX6_may_27 : decode cX6_may 27 = .ok (.aload_n 0, 1) := dk_42 (dk_at dksX6_may_1 5 rfl rfl)
theorem dX6_may_28 : decode cX6_may 28 = .ok (.iload_n 1, 1) := dk_27 (dk_at dksX6_may_1 6 rfl rfl)
theorem dX6_may_29 : decode cX6_may 29 = .ok (.invokevirtual 564, 3) := dk_182 2 52 (dk_at dksX6_may_1 7 rfl rfl)
theorem dX6_may_32 : decode cX6_may 32 = .ok (.aload_n 0, 1) := dk_42 (dk_at dksX6_may_1 10 rfl rfl)
theorem dX6_may_33 : decode cX6_may 33 = .ok (.iload_n 1, 1) := dk_27 (dk_at dksX6_may_1 11 rfl rfl)
theorem dX6_may_34 : decode cX6_may 34 = .ok (.aload_n 0, 1) := dk_42 (dk_at dksX6_may_1 12 rfl rfl)
theorem dX6_may_35 : decode cX6_may 35 = .ok (.iload_n 3, 1) := dk_29 (dk_at dksX6_may_1 13 rfl rfl)
theorem dX6_may_36 : decode cX6_may 36 = .ok (.iload 4, 2) := dk_21 4 (dk_at dksX6_may_1 14 rfl rfl)
theorem dX6_may_38 : decode cX6_may 38 = .ok (.invokevirtual 493, 3) := dk_182 1 237 (dk_at dksX6_may_1 16 rfl rfl)
theorem dX6_may_41 : decode cX6_may 41 = .ok (.iload_n 2, 1) := dk_28 (dk_at dksX6_may_1 19 rfl rfl)
theorem dX6_may_42 : decode cX6_may 42 = .ok (.invokevirtual 555, 3) := dk_182 2 43 (dk_at dksX6_may_1 20 rfl rfl)
theorem dX6_may_45 : decode cX6_may 45 = .ok (.ifCond .eq 7, 3) := dk_153 0 7 (dk_at dksX6_may_2 0 rfl rfl)
theorem dX6_may_48 : decode cX6_may 48 = .ok (.iconst 1, 1) := dk_4 (dk_at dksX6_may_2 3 rfl rfl)
theorem dX6_may_49 : decode cX6_may 49 = .ok (.goto 4, 3) := dk_167 0 4 (dk_at dksX6_may_2 4 rfl rfl)
theorem dX6_may_52 : decode cX6_may 52 = .ok (.iconst 0, 1) := dk_3 (dk_at dksX6_may_2 7 rfl rfl)
theorem dX6_may_53 : decode cX6_may 53 = .ok (.ireturn, 1) := dk_172 (dk_at dksX6_may_2 8 rfl rfl)
abbrev cX6_judge : ByteArray := prog_29_method_101_code
def yX6_judge : MethodName := ⟨RX6, "judge", "(II)I"⟩
def dkwX6_judge_1 : List UInt8 := [182, 2, 84, 153, 0, 7, 4, 167, 0, 4, 3, 172]
abbrev dktX6_judge_1 : List UInt8 := dkwX6_judge_1 ++ []
def dkwX6_judge_0 : List UInt8 := [42, 27, 182, 1, 249, 153, 0, 12, 28, 3, 7, 184, 1, 87, 154, 0, 7, 2, 167, 0, 17, 42, 27, 28]
abbrev dktX6_judge_0 : List UInt8 := dkwX6_judge_0 ++ dktX6_judge_1
theorem dksX6_judge_0 : cX6_judge.data.toList.drop 0 = dktX6_judge_0 := by decide +kernel
theorem dksX6_judge_1 : cX6_judge.data.toList.drop 24 = dktX6_judge_1 := dk_seg dksX6_judge_0 24 rfl rfl
theorem dX6_judge_0 : decode cX6_judge 0 = .ok (.aload_n 0, 1) := dk_42 (dk_at dksX6_judge_0 0 rfl rfl)
theorem dX6_judge_1 : decode cX6_judge 1 = .ok (.iload_n 1, 1) := dk_27 (dk_at dksX6_judge_0 1 rfl rfl)
theorem dX6_judge_2 : decode cX6_judge 2 = .ok (.invokevirtual 505, 3) := dk_182 1 249 (dk_at dksX6_judge_0 2 rfl rfl)
theorem dX6_judge_5 : decode cX6_judge 5 = .ok (.ifCond .eq 12, 3) := dk_153 0 12 (dk_at dksX6_judge_0 5 rfl rfl)
theorem dX6_judge_8 : decode cX6_judge 8 = .ok (.iload_n 2, 1) := dk_28 (dk_at dksX6_judge_0 8 rfl rfl)
theorem dX6_judge_9 : decode cX6_judge 9 = .ok (.iconst 0, 1) := dk_3 (dk_at dksX6_judge_0 9 rfl rfl)
theorem dX6_judge_10 : decode cX6_judge 10 = .ok (.iconst 4, 1) := dk_7 (dk_at dksX6_judge_0 10 rfl rfl)
theorem dX6_judge_11 : decode cX6_judge 11 = .ok (.invokestatic 343, 3) := dk_184 1 87 (dk_at dksX6_judge_0 11 rfl rfl)
theorem dX6_judge_14 : decode cX6_judge 14 = .ok (.ifCond .ne 7, 3) := dk_154 0 7 (dk_at dksX6_judge_0 14 rfl rfl)
theorem dX6_judge_17 : decode cX6_judge 17 = .ok (.iconst (-1), 1) := dk_2 (dk_at dksX6_judge_0 17 rfl rfl)
theorem dX6_judge_18 : decode cX6_judge 18 = .ok (.goto 17, 3) := dk_167 0 17 (dk_at dksX6_judge_0 18 rfl rfl)
theorem dX6_judge_21 : decode cX6_judge 21 = .ok (.aload_n 0, 1) := dk_42 (dk_at dksX6_judge_0 21 rfl rfl)
theorem dX6_judge_22 : decode cX6_judge 22 = .ok (.iload_n 1, 1) := dk_27 (dk_at dksX6_judge_0 22 rfl rfl)
theorem dX6_judge_23 : decode cX6_judge 23 = .ok (.iload_n 2, 1) := dk_28 (dk_at dksX6_judge_0 23 rfl rfl)
theorem dX6_judge_24 : decode cX6_judge 24 = .ok (.invokevirtual 596, 3) := dk_182 2 84 (dk_at dksX6_judge_1 0 rfl rfl)
theorem dX6_judge_27 : decode cX6_judge 27 = .ok (.ifCond .eq 7, 3) := dk_153 0 7 (dk_at dksX6_judge_1 3 rfl rfl)
theorem dX6_judge_30 : decode cX6_judge 30 = .ok (.iconst 1, 1) := dk_4 (dk_at dksX6_judge_1 6 rfl rfl)
theorem dX6_judge_31 : decode cX6_judge 31 = .ok (.goto 4, 3) := dk_167 0 4 (dk_at dksX6_judge_1 7 rfl rfl)
theorem dX6_judge_34 : decode cX6_judge 34 = .ok (.iconst 0, 1) := dk_3 (dk_at dksX6_judge_1 10 rfl rfl)
theorem dX6_judge_35 : decode cX6_judge 35 = .ok (.ireturn, 1) := dk_172 (dk_at dksX6_judge_1 11 rfl rfl)
abbrev cX6_isKind : ByteArray := prog_29_method_100_code
def yX6_isKind : MethodName := ⟨RX6, "isKind", "(II)Z"⟩
def dkwX6_isKind_4 : List UInt8 := [3, 28, 154, 0, 7, 4, 167, 0, 4, 3, 160, 0, 7, 4, 167, 0, 4, 3, 172]
abbrev dktX6_isKind_4 : List UInt8 := dkwX6_isKind_4 ++ []
def dkwX6_isKind_3 : List UInt8 := [167, 0, 4, 3, 172, 42, 180, 0, 213, 42, 180, 0, 210, 160, 0, 28, 29, 154, 0, 7, 4, 167, 0, 4]
abbrev dktX6_isKind_3 : List UInt8 := dkwX6_isKind_3 ++ dktX6_isKind_4
def dkwX6_isKind_2 : List UInt8 := [160, 0, 27, 42, 180, 0, 213, 158, 0, 18, 42, 180, 0, 213, 42, 180, 0, 210, 162, 0, 7, 4]
abbrev dktX6_isKind_2 : List UInt8 := dkwX6_isKind_2 ++ dktX6_isKind_3
def dkwX6_isKind_1 : List UInt8 := [167, 0, 4, 3, 172, 28, 6, 160, 0, 9, 42, 27, 182, 2, 78, 172, 42, 27, 182, 2, 81, 62, 28, 7]
abbrev dktX6_isKind_1 : List UInt8 := dkwX6_isKind_1 ++ dktX6_isKind_2
def dkwX6_isKind_0 : List UInt8 := [42, 27, 182, 1, 246, 154, 0, 5, 3, 172, 28, 5, 160, 0, 17, 42, 27, 182, 2, 75, 153, 0, 7, 4]
abbrev dktX6_isKind_0 : List UInt8 := dkwX6_isKind_0 ++ dktX6_isKind_1
theorem dksX6_isKind_0 : cX6_isKind.data.toList.drop 0 = dktX6_isKind_0 := by decide +kernel
theorem dksX6_isKind_1 : cX6_isKind.data.toList.drop 24 = dktX6_isKind_1 := dk_seg dksX6_isKind_0 24 rfl rfl
theorem dksX6_isKind_2 : cX6_isKind.data.toList.drop 48 = dktX6_isKind_2 := dk_seg dksX6_isKind_1 24 rfl rfl
theorem dksX6_isKind_3 : cX6_isKind.data.toList.drop 70 = dktX6_isKind_3 := dk_seg dksX6_isKind_2 22 rfl rfl
theorem dksX6_isKind_4 : cX6_isKind.data.toList.drop 94 = dktX6_isKind_4 := dk_seg dksX6_isKind_3 24 rfl rfl
theorem dX6_isKind_0 : decode cX6_isKind 0 = .ok (.aload_n 0, 1) := dk_42 (dk_at dksX6_isKind_0 0 rfl rfl)
theorem dX6_isKind_1 : decode cX6_isKind 1 = .ok (.iload_n 1, 1) := dk_27 (dk_at dksX6_isKind_0 1 rfl rfl)
theorem dX6_isKind_2 : decode cX6_isKind 2 = .ok (.invokevirtual 502, 3) := dk_182 1 246 (dk_at dksX6_isKind_0 2 rfl rfl)
theorem dX6_isKind_5 : decode cX6_isKind 5 = .ok (.ifCond .ne 5, 3) := dk_154 0 5 (dk_at dksX6_isKind_0 5 rfl rfl)
theorem dX6_isKind_8 : decode cX6_isKind 8 = .ok (.iconst 0, 1) := dk_3 (dk_at dksX6_isKind_0 8 rfl rfl)
theorem dX6_isKind_9 : decode cX6_isKind 9 = .ok (.ireturn, 1) := dk_172 (dk_at dksX6_isKind_0 9 rfl rfl)
theorem dX6_isKind_10 : decode cX6_isKind 10 = .ok (.iload_n 2, 1) := dk_28 (dk_at dksX6_isKind_0 10 rfl rfl)
theorem dX6_isKind_11 : decode cX6_isKind 11 = .ok (.iconst 2, 1) := dk_5 (dk_at dksX6_isKind_0 11 rfl rfl)
theorem dX6_isKind_12 : decode cX6_isKind 12 = .ok (.if_icmp .ne 17, 3) := dk_160 0 17 (dk_at dksX6_isKind_0 12 rfl rfl)
theorem dX6_isKind_15 : decode cX6_isKind 15 = .ok (.aload_n 0, 1) := dk_42 (dk_at dksX6_isKind_0 15 rfl rfl)
theorem dX6_isKind_16 : decode cX6_isKind 16 = .ok (.iload_n 1, 1) := dk_27 (dk_at dksX6_isKind_0 16 rfl rfl)
theorem dX6_isKind_17 : decode cX6_isKind 17 = .ok (.invokevirtual 587, 3) := dk_182 2 75 (dk_at dksX6_isKind_0 17 rfl rfl)
theorem dX6_isKind_20 : decode cX6_isKind 20 = .ok (.ifCond .eq 7, 3) := dk_153 0 7 (dk_at dksX6_isKind_0 20 rfl rfl)
theorem dX6_isKind_23 : decode cX6_isKind 23 = .ok (.iconst 1, 1) := dk_4 (dk_at dksX6_isKind_0 23 rfl rfl)
theorem dX6_isKind_24 : decode cX6_isKind 24 = .ok (.goto 4, 3) := dk_167 0 4 (dk_at dksX6_isKind_1 0 rfl rfl)
theorem dX6_isKind_27 : decode cX6_isKind 27 = .ok (.iconst 0, 1) := dk_3 (dk_at dksX6_isKind_1 3 rfl rfl)
theorem dX6_isKind_28 : decode cX6_isKind 28 = .ok (.ireturn, 1) := dk_172 (dk_at dksX6_isKind_1 4 rfl rfl)
theorem dX6_isKind_29 : decode cX6_isKind 29 = .ok (.iload_n 2, 1) := dk_28 (dk_at dksX6_isKind_1 5 rfl rfl)
theorem dX6_isKind_30 : decode cX6_isKind 30 = .ok (.iconst 3, 1) := dk_6 (dk_at dksX6_isKind_1 6 rfl rfl)
theorem dX6_isKind_31 : decode cX6_isKind 31 = .ok (.if_icmp .ne 9, 3) := dk_160 0 9 (dk_at dksX6_isKind_1 7 rfl rfl)
theorem dX6_isKind_34 : decode cX6_isKind 34 = .ok (.aload_n 0, 1) := dk_42 (dk_at dksX6_isKind_1 10 rfl rfl)
theorem dX6_isKind_35 : decode cX6_isKind 35 = .ok (.iload_n 1, 1) := dk_27 (dk_at dksX6_isKind_1 11 rfl rfl)
theorem dX6_isKind_36 : decode cX6_isKind 36 = .ok (.invokevirtual 590, 3) := dk_182 2 78 (dk_at dksX6_isKind_1 12 rfl rfl)
theorem dX6_isKind_39 : decode cX6_isKind 39 = .ok (.ireturn, 1) := dk_172 (dk_at dksX6_isKind_1 15 rfl rfl)
theorem dX6_isKind_40 : decode cX6_isKind 40 = .ok (.aload_n 0, 1) := dk_42 (dk_at dksX6_isKind_1 16 rfl rfl)
theorem dX6_isKind_41 : decode cX6_isKind 41 = .ok (.iload_n 1, 1) := dk_27 (dk_at dksX6_isKind_1 17 rfl rfl)
theorem dX6_isKind_42 : decode cX6_isKind 42 = .ok (.invokevirtual 593, 3) := dk_182 2 81 (dk_at dksX6_isKind_1 18 rfl rfl)
theorem dX6_isKind_45 : decode cX6_isKind 45 = .ok (.istore_n 3, 1) := dk_62 (dk_at dksX6_isKind_1 21 rfl rfl)
theorem dX6_isKind_46 : decode cX6_isKind 46 = .ok (.iload_n 2, 1) := dk_28 (dk_at dksX6_isKind_1 22 rfl rfl)
theorem dX6_isKind_47 : decode cX6_isKind 47 = .ok (.iconst 4, 1) := dk_7 (dk_at dksX6_isKind_1 23 rfl rfl)
theorem dX6_isKind_48 : decode cX6_isKind 48 = .ok (.if_icmp .ne 27, 3) := dk_160 0 27 (dk_at dksX6_isKind_2 0 rfl rfl)
theorem dX6_isKind_51 : decode cX6_isKind 51 = .ok (.aload_n 0, 1) := dk_42 (dk_at dksX6_isKind_2 3 rfl rfl)
theorem dX6_isKind_52 : decode cX6_isKind 52 = .ok (.getfield 213, 3) := dk_180 0 213 (dk_at dksX6_isKind_2 4 rfl rfl)
theorem dX6_isKind_55 : decode cX6_isKind 55 = .ok (.ifCond .le 18, 3) := dk_158 0 18 (dk_at dksX6_isKind_2 7 rfl rfl)
theorem dX6_isKind_58 : decode cX6_isKind 58 = .ok (.aload_n 0, 1) := dk_42 (dk_at dksX6_isKind_2 10 rfl rfl)
theorem dX6_isKind_59 : decode cX6_isKind 59 = .ok (.getfield 213, 3) := dk_180 0 213 (dk_at dksX6_isKind_2 11 rfl rfl)
theorem dX6_isKind_62 : decode cX6_isKind 62 = .ok (.aload_n 0, 1) := dk_42 (dk_at dksX6_isKind_2 14 rfl rfl)
theorem dX6_isKind_63 : decode cX6_isKind 63 = .ok (.getfield 210, 3) := dk_180 0 210 (dk_at dksX6_isKind_2 15 rfl rfl)
theorem dX6_isKind_66 : decode cX6_isKind 66 = .ok (.if_icmp .ge 7, 3) := dk_162 0 7 (dk_at dksX6_isKind_2 18 rfl rfl)
theorem dX6_isKind_69 : decode cX6_isKind 69 = .ok (.iconst 1, 1) := dk_4 (dk_at dksX6_isKind_2 21 rfl rfl)
theorem dX6_isKind_70 : decode cX6_isKind 70 = .ok (.goto 4, 3) := dk_167 0 4 (dk_at dksX6_isKind_3 0 rfl rfl)
theorem dX6_isKind_73 : decode cX6_isKind 73 = .ok (.iconst 0, 1) := dk_3 (dk_at dksX6_isKind_3 3 rfl rfl)
theorem dX6_isKind_74 : decode cX6_isKind 74 = .ok (.ireturn, 1) := dk_172 (dk_at dksX6_isKind_3 4 rfl rfl)
theorem dX6_isKind_75 : decode cX6_isKind 75 = .ok (.aload_n 0, 1) := dk_42 (dk_at dksX6_isKind_3 5 rfl rfl)
theorem dX6_isKind_76 : decode cX6_isKind 76 = .ok (.getfield 213, 3) := dk_180 0 213 (dk_at dksX6_isKind_3 6 rfl rfl)
theorem dX6_isKind_79 : decode cX6_isKind 79 = .ok (.aload_n 0, 1) := dk_42 (dk_at dksX6_isKind_3 9 rfl rfl)
theorem dX6_isKind_80 : decode cX6_isKind 80 = .ok (.getfield 210, 3) := dk_180 0 210 (dk_at dksX6_isKind_3 10 rfl rfl)
theorem dX6_isKind_83 : decode cX6_isKind 83 = .ok (.if_icmp .ne 28, 3) := dk_160 0 28 (dk_at dksX6_isKind_3 13 rfl rfl)
theorem dX6_isKind_86 : decode cX6_isKind 86 = .ok (.iload_n 3, 1) := dk_29 (dk_at dksX6_isKind_3 16 rfl rfl)
theorem dX6_isKind_87 : decode cX6_isKind 87 = .ok (.ifCond .ne 7, 3) := dk_154 0 7 (dk_at dksX6_isKind_3 17 rfl rfl)
theorem dX6_isKind_90 : decode cX6_isKind 90 = .ok (.iconst 1, 1) := dk_4 (dk_at dksX6_isKind_3 20 rfl rfl)
theorem dX6_isKind_91 : decode cX6_isKind 91 = .ok (.goto 4, 3) := dk_167 0 4 (dk_at dksX6_isKind_3 21 rfl rfl)
theorem dX6_isKind_94 : decode cX6_isKind 94 = .ok (.iconst 0, 1) := dk_3 (dk_at dksX6_isKind_4 0 rfl rfl)
theorem dX6_isKind_95 : decode cX6_isKind 95 = .ok (.iload_n 2, 1) := dk_28 (dk_at dksX6_isKind_4 1 rfl rfl)
theorem dX6_isKind_96 : decode cX6_isKind 96 = .ok (.ifCond .ne 7, 3) := dk_154 0 7 (dk_at dksX6_isKind_4 2 rfl rfl)
theorem dX6_isKind_99 : decode cX6_isKind 99 = .ok (.iconst 1, 1) := dk_4 (dk_at dksX6_isKind_4 5 rfl rfl)
theorem dX6_isKind_100 : decode cX6_isKind 100 = .ok (.goto 4, 3) := dk_167 0 4 (dk_at dksX6_isKind_4 6 rfl rfl)
theorem dX6_isKind_103 : decode cX6_isKind 103 = .ok (.iconst 0, 1) := dk_3 (dk_at dksX6_isKind_4 9 rfl rfl)
theorem dX6_isKind_104 : decode cX6_isKind 104 = .ok (.if_icmp .ne 7, 3) := dk_160 0 7 (dk_at dksX6_isKind_4 10 rfl rfl)
theorem dX6_isKind_107 : decode cX6_isKind 107 = .ok (.iconst 1, 1) := dk_4 (dk_at dksX6_isKind_4 13 rfl rfl)
theorem dX6_isKind_108 : decode cX6_isKind 108 = .ok (.goto 4, 3) := dk_167 0 4 (dk_at dksX6_isKind_4 14 rfl rfl)
theorem dX6_isKind_111 : decode cX6_isKind 111 = .ok (.iconst 0, 1) := dk_3 (dk_at dksX6_isKind_4 17 rfl rfl)
theorem dX6_isKind_112 : decode cX6_isKind 112 = .ok (.ireturn, 1) := dk_172 (dk_at dksX6_isKind_4 18 rfl rfl)
abbrev cX6_whoOf : ByteArray := prog_29_method_95_code
def yX6_whoOf : MethodName := ⟨RX6, "whoOf", "(I)I"⟩
def dkwX6_whoOf_2 : List UInt8 := [61, 132, 3, 1, 167, 255, 208, 28, 172]
abbrev dktX6_whoOf_2 : List UInt8 := dkwX6_whoOf_2 ++ []
def dkwX6_whoOf_1 : List UInt8 := [27, 182, 1, 246, 158, 0, 18, 42, 27, 29, 182, 2, 63, 153, 0, 9, 4, 29, 120, 167, 0, 4, 3, 128]
abbrev dktX6_whoOf_1 : List UInt8 := dkwX6_whoOf_1 ++ dktX6_whoOf_2
def dkwX6_whoOf_0 : List UInt8 := [3, 61, 3, 62, 29, 42, 180, 0, 69, 42, 180, 0, 48, 46, 162, 0, 41, 28, 29, 27, 159, 0, 26, 42]
abbrev dktX6_whoOf_0 : List UInt8 := dkwX6_whoOf_0 ++ dktX6_whoOf_1
theorem dksX6_whoOf_0 : cX6_whoOf.data.toList.drop 0 = dktX6_whoOf_0 := by decide +kernel
theorem dksX6_whoOf_1 : cX6_whoOf.data.toList.drop 24 = dktX6_whoOf_1 := dk_seg dksX6_whoOf_0 24 rfl rfl
theorem dksX6_whoOf_2 : cX6_whoOf.data.toList.drop 48 = dktX6_whoOf_2 := dk_seg dksX6_whoOf_1 24 rfl rfl
theorem dX6_whoOf_0 : decode cX6_whoOf 0 = .ok (.iconst 0, 1) := dk_3 (dk_at dksX6_whoOf_0 0 rfl rfl)
theorem dX6_whoOf_1 : decode cX6_whoOf 1 = .ok (.istore_n 2, 1) := dk_61 (dk_at dksX6_whoOf_0 1 rfl rfl)
theorem dX6_whoOf_2 : decode cX6_whoOf 2 = .ok (.iconst 0, 1) := dk_3 (dk_at dksX6_whoOf_0 2 rfl rfl)
theorem dX6_whoOf_3 : decode cX6_whoOf 3 = .ok (.istore_n 3, 1) := dk_62 (dk_at dksX6_whoOf_0 3 rfl rfl)
theorem dX6_whoOf_4 : decode cX6_whoOf 4 = .ok (.iload_n 3, 1) := dk_29 (dk_at dksX6_whoOf_0 4 rfl rfl)
theorem dX6_whoOf_5 : decode cX6_whoOf 5 = .ok (.aload_n 0, 1) := dk_42 (dk_at dksX6_whoOf_0 5 rfl rfl)
theorem dX6_whoOf_6 : decode cX6_whoOf 6 = .ok (.getfield 69, 3) := dk_180 0 69 (dk_at dksX6_whoOf_0 6 rfl rfl)
theorem dX6_whoOf_9 : decode cX6_whoOf 9 = .ok (.aload_n 0, 1) := dk_42 (dk_at dksX6_whoOf_0 9 rfl rfl)
theorem dX6_whoOf_10 : decode cX6_whoOf 10 = .ok (.getfield 48, 3) := dk_180 0 48 (dk_at dksX6_whoOf_0 10 rfl rfl)
theorem dX6_whoOf_13 : decode cX6_whoOf 13 = .ok (.iaload, 1) := dk_46 (dk_at dksX6_whoOf_0 13 rfl rfl)
theorem dX6_whoOf_14 : decode cX6_whoOf 14 = .ok (.if_icmp .ge 41, 3) := dk_162 0 41 (dk_at dksX6_whoOf_0 14 rfl rfl)
theorem dX6_whoOf_17 : decode cX6_whoOf 17 = .ok (.iload_n 2, 1) := dk_28 (dk_at dksX6_whoOf_0 17 rfl rfl)
theorem dX6_whoOf_18 : decode cX6_whoOf 18 = .ok (.iload_n 3, 1) := dk_29 (dk_at dksX6_whoOf_0 18 rfl rfl)
theorem dX6_whoOf_19 : decode cX6_whoOf 19 = .ok (.iload_n 1, 1) := dk_27 (dk_at dksX6_whoOf_0 19 rfl rfl)
theorem dX6_whoOf_20 : decode cX6_whoOf 20 = .ok (.if_icmp .eq 26, 3) := dk_159 0 26 (dk_at dksX6_whoOf_0 20 rfl rfl)
theorem dX6_whoOf_23 : decode cX6_whoOf 23 = .ok (.aload_n 0, 1) := dk_42 (dk_at dksX6_whoOf_0 23 rfl rfl)
theorem dX6_whoOf_24 : decode cX6_whoOf 24 = .ok (.iload_n 1, 1) := dk_27 (dk_at dksX6_whoOf_1 0 rfl rfl)
theorem dX6_whoOf_25 : decode cX6_whoOf 25 = .ok (.invokevirtual 502, 3) := dk_182 1 246 (dk_at dksX6_whoOf_1 1 rfl rfl)
theorem dX6_whoOf_28 : decode cX6_whoOf 28 = .ok (.ifCond .le 18, 3) := dk_158 0 18 (dk_at dksX6_whoOf_1 4 rfl rfl)
theorem dX6_whoOf_31 : decode cX6_whoOf 31 = .ok (.aload_n 0, 1) := dk_42 (dk_at dksX6_whoOf_1 7 rfl rfl)
theorem dX6_whoOf_32 : decode cX6_whoOf 32 = .ok (.iload_n 1, 1) := dk_27 (dk_at dksX6_whoOf_1 8 rfl rfl)
theorem dX6_whoOf_33 : decode cX6_whoOf 33 = .ok (.iload_n 3, 1) := dk_29 (dk_at dksX6_whoOf_1 9 rfl rfl)
theorem dX6_whoOf_34 : decode cX6_whoOf 34 = .ok (.invokevirtual 575, 3) := dk_182 2 63 (dk_at dksX6_whoOf_1 10 rfl rfl)
theorem dX6_whoOf_37 : decode cX6_whoOf 37 = .ok (.ifCond .eq 9, 3) := dk_153 0 9 (dk_at dksX6_whoOf_1 13 rfl rfl)
theorem dX6_whoOf_40 : decode cX6_whoOf 40 = .ok (.iconst 1, 1) := dk_4 (dk_at dksX6_whoOf_1 16 rfl rfl)
theorem dX6_whoOf_41 : decode cX6_whoOf 41 = .ok (.iload_n 3, 1) := dk_29 (dk_at dksX6_whoOf_1 17 rfl rfl)
theorem dX6_whoOf_42 : decode cX6_whoOf 42 = .ok (.ishl, 1) := dk_120 (dk_at dksX6_whoOf_1 18 rfl rfl)
theorem dX6_whoOf_43 : decode cX6_whoOf 43 = .ok (.goto 4, 3) := dk_167 0 4 (dk_at dksX6_whoOf_1 19 rfl rfl)
theorem dX6_whoOf_46 : decode cX6_whoOf 46 = .ok (.iconst 0, 1) := dk_3 (dk_at dksX6_whoOf_1 22 rfl rfl)
theorem dX6_whoOf_47 : decode cX6_whoOf 47 = .ok (.ior, 1) := dk_128 (dk_at dksX6_whoOf_1 23 rfl rfl)
theorem dX6_whoOf_48 : decode cX6_whoOf 48 = .ok (.istore_n 2, 1) := dk_61 (dk_at dksX6_whoOf_2 0 rfl rfl)
theorem dX6_whoOf_49 : decode cX6_whoOf 49 = .ok (.iinc 3 1, 3) := dk_132 3 1 (dk_at dksX6_whoOf_2 1 rfl rfl)
theorem dX6_whoOf_52 : decode cX6_whoOf 52 = .ok (.goto (-48), 3) := dk_167 255 208 (dk_at dksX6_whoOf_2 4 rfl rfl)
theorem dX6_whoOf_55 : decode cX6_whoOf 55 = .ok (.iload_n 2, 1) := dk_28 (dk_at dksX6_whoOf_2 7 rfl rfl)
theorem dX6_whoOf_56 : decode cX6_whoOf 56 = .ok (.ireturn, 1) := dk_172 (dk_at dksX6_whoOf_2 8 rfl rfl)
abbrev cX6_saidBy : ByteArray := prog_29_method_94_code
def yX6_saidBy : MethodName := ⟨RX6, "saidBy", "(II)Z"⟩
def dkwX6_saidBy_2 : List UInt8 := [153, 0, 7, 4, 167, 0, 4, 3, 172]
abbrev dktX6_saidBy_2 : List UInt8 := dkwX6_saidBy_2 ++ []
def dkwX6_saidBy_1 : List UInt8 := [153, 0, 7, 4, 167, 0, 4, 3, 62, 42, 28, 182, 2, 25, 29, 153, 0, 15, 42, 28, 182, 2, 28]
abbrev dktX6_saidBy_1 : List UInt8 := dkwX6_saidBy_1 ++ dktX6_saidBy_2
def dkwX6_saidBy_0 : List UInt8 := [42, 3, 181, 0, 195, 42, 27, 28, 3, 182, 2, 60, 62, 42, 28, 28, 3, 182, 2, 60, 153, 0, 11, 29]
abbrev dktX6_saidBy_0 : List UInt8 := dkwX6_saidBy_0 ++ dktX6_saidBy_1
theorem dksX6_saidBy_0 : cX6_saidBy.data.toList.drop 0 = dktX6_saidBy_0 := by decide +kernel
theorem dksX6_saidBy_1 : cX6_saidBy.data.toList.drop 24 = dktX6_saidBy_1 := dk_seg dksX6_saidBy_0 24 rfl rfl
theorem dksX6_saidBy_2 : cX6_saidBy.data.toList.drop 47 = dktX6_saidBy_2 := dk_seg dksX6_saidBy_1 23 rfl rfl
theorem dX6_saidBy_0 : decode cX6_saidBy 0 = .ok (.aload_n 0, 1) := dk_42 (dk_at dksX6_saidBy_0 0 rfl rfl)
theorem dX6_saidBy_1 : decode cX6_saidBy 1 = .ok (.iconst 0, 1) := dk_3 (dk_at dksX6_saidBy_0 1 rfl rfl)
theorem dX6_saidBy_2 : decode cX6_saidBy 2 = .ok (.putfield 195, 3) := dk_181 0 195 (dk_at dksX6_saidBy_0 2 rfl rfl)
theorem dX6_saidBy_5 : decode cX6_saidBy 5 = .ok (.aload_n 0, 1) := dk_42 (dk_at dksX6_saidBy_0 5 rfl rfl)
theorem dX6_saidBy_6 : decode cX6_saidBy 6 = .ok (.iload_n 1, 1) := dk_27 (dk_at dksX6_saidBy_0 6 rfl rfl)
theorem dX6_saidBy_7 : decode cX6_saidBy 7 = .ok (.iload_n 2, 1) := dk_28 (dk_at dksX6_saidBy_0 7 rfl rfl)
theorem dX6_saidBy_8 : decode cX6_saidBy 8 = .ok (.iconst 0, 1) := dk_3 (dk_at dksX6_saidBy_0 8 rfl rfl)
theorem dX6_saidBy_9 : decode cX6_saidBy 9 = .ok (.invokevirtual 572, 3) := dk_182 2 60 (dk_at dksX6_saidBy_0 9 rfl rfl)
theorem dX6_saidBy_12 : decode cX6_saidBy 12 = .ok (.istore_n 3, 1) := dk_62 (dk_at dksX6_saidBy_0 12 rfl rfl)
theorem dX6_saidBy_13 : decode cX6_saidBy 13 = .ok (.aload_n 0, 1) := dk_42 (dk_at dksX6_saidBy_0 13 rfl rfl)
theorem dX6_saidBy_14 : decode cX6_saidBy 14 = .ok (.iload_n 2, 1) := dk_28 (dk_at dksX6_saidBy_0 14 rfl rfl)
theorem dX6_saidBy_15 : decode cX6_saidBy 15 = .ok (.iload_n 2, 1) := dk_28 (dk_at dksX6_saidBy_0 15 rfl rfl)
theorem dX6_saidBy_16 : decode cX6_saidBy 16 = .ok (.iconst 0, 1) := dk_3 (dk_at dksX6_saidBy_0 16 rfl rfl)
theorem dX6_saidBy_17 : decode cX6_saidBy 17 = .ok (.invokevirtual 572, 3) := dk_182 2 60 (dk_at dksX6_saidBy_0 17 rfl rfl)
theorem dX6_saidBy_20 : decode cX6_saidBy 20 = .ok (.ifCond .eq 11, 3) := dk_153 0 11 (dk_at dksX6_saidBy_0 20 rfl rfl)
theorem dX6_saidBy_23 : decode cX6_saidBy 23 = .ok (.iload_n 3, 1) := dk_29 (dk_at dksX6_saidBy_0 23 rfl rfl)
theorem dX6_saidBy_24 : decode cX6_saidBy 24 = .ok (.ifCond .eq 7, 3) := dk_153 0 7 (dk_at dksX6_saidBy_1 0 rfl rfl)
theorem dX6_saidBy_27 : decode cX6_saidBy 27 = .ok (.iconst 1, 1) := dk_4 (dk_at dksX6_saidBy_1 3 rfl rfl)
theorem dX6_saidBy_28 : decode cX6_saidBy 28 = .ok (.goto 4, 3) := dk_167 0 4 (dk_at dksX6_saidBy_1 4 rfl rfl)
theorem dX6_saidBy_31 : decode cX6_saidBy 31 = .ok (.iconst 0, 1) := dk_3 (dk_at dksX6_saidBy_1 7 rfl rfl)
theorem dX6_saidBy_32 : decode cX6_saidBy 32 = .ok (.istore_n 3, 1) := dk_62 (dk_at dksX6_saidBy_1 8 rfl rfl)
theorem dX6_saidBy_33 : decode cX6_saidBy 33 = .ok (.aload_n 0, 1) := dk_42 (dk_at dksX6_saidBy_1 9 rfl rfl)
theorem dX6_saidBy_34 : decode cX6_saidBy 34 = .ok (.iload_n 2, 1) := dk_28 (dk_at dksX6_saidBy_1 10 rfl rfl)
theorem dX6_saidBy_35 : decode cX6_saidBy 35 = .ok (.invokevirtual 537, 3) := dk_182 2 25 (dk_at dksX6_saidBy_1 11 rfl rfl)
theorem dX6_saidBy_38 : decode cX6_saidBy 38 = .ok (.iload_n 3, 1) := dk_29 (dk_at dksX6_saidBy_1 14 rfl rfl)
theorem dX6_saidBy_39 : decode cX6_saidBy 39 = .ok (.ifCond .eq 15, 3) := dk_153 0 15 (dk_at dksX6_saidBy_1 15 rfl rfl)
theorem dX6_saidBy_42 : decode cX6_saidBy 42 = .ok (.aload_n 0, 1) := dk_42 (dk_at dksX6_saidBy_1 18 rfl rfl)
theorem dX6_saidBy_43 : decode cX6_saidBy 43 = .ok (.iload_n 2, 1) := dk_28 (dk_at dksX6_saidBy_1 19 rfl rfl)
theorem dX6_saidBy_44 : decode cX6_saidBy 44 = .ok (.invokevirtual 540, 3) := dk_182 2 28 (dk_at dksX6_saidBy_1 20 rfl rfl)
theorem dX6_saidBy_47 : decode cX6_saidBy 47 = .ok (.ifCond .eq 7, 3) := dk_153 0 7 (dk_at dksX6_saidBy_2 0 rfl rfl)
theorem dX6_saidBy_50 : decode cX6_saidBy 50 = .ok (.iconst 1, 1) := dk_4 (dk_at dksX6_saidBy_2 3 rfl rfl)
theorem dX6_saidBy_51 : decode cX6_saidBy 51 = .ok (.goto 4, 3) := dk_167 0 4 (dk_at dksX6_saidBy_2 4 rfl rfl)
theorem dX6_saidBy_54 : decode cX6_saidBy 54 = .ok (.iconst 0, 1) := dk_3 (dk_at dksX6_saidBy_2 7 rfl rfl)
theorem dX6_saidBy_55 : decode cX6_saidBy 55 = .ok (.ireturn, 1) := dk_172 (dk_at dksX6_saidBy_2 8 rfl rfl)
abbrev cX6_addSayings : ByteArray := prog_29_method_77_code
def yX6_addSayings : MethodName := ⟨RX6, "addSayings", "(III)Z"⟩
def dkwX6_addSayings_4 : List UInt8 := [21, 4, 172]
abbrev dktX6_addSayings_4 : List UInt8 := dkwX6_addSayings_4 ++ []
def dkwX6_addSayings_3 : List UInt8 := [21, 5, 182, 2, 15, 182, 2, 18, 153, 0, 7, 4, 167, 0, 4, 3, 54, 4, 132, 5, 1, 167, 255, 169]
abbrev dktX6_addSayings_3 : List UInt8 := dkwX6_addSayings_3 ++ dktX6_addSayings_4
def dkwX6_addSayings_2 : List UInt8 := [96, 21, 5, 29, 96, 182, 2, 11, 21, 4, 153, 0, 29, 42, 28, 42, 27, 21, 5, 182, 1, 243, 42, 27]
abbrev dktX6_addSayings_2 : List UInt8 := dkwX6_addSayings_2 ++ dktX6_addSayings_3
def dkwX6_addSayings_1 : List UInt8 := [21, 5, 29, 96, 184, 1, 234, 154, 0, 6, 167, 0, 56, 42, 42, 27, 21, 5, 182, 1, 243, 21, 5, 29]
abbrev dktX6_addSayings_1 : List UInt8 := dkwX6_addSayings_1 ++ dktX6_addSayings_2
def dkwX6_addSayings_0 : List UInt8 := [4, 54, 4, 3, 54, 5, 21, 5, 16, 48, 162, 0, 86, 42, 27, 21, 5, 182, 1, 243, 2, 159, 0, 69]
abbrev dktX6_addSayings_0 : List UInt8 := dkwX6_addSayings_0 ++ dktX6_addSayings_1
theorem dksX6_addSayings_0 : cX6_addSayings.data.toList.drop 0 = dktX6_addSayings_0 := by decide +kernel
theorem dksX6_addSayings_1 : cX6_addSayings.data.toList.drop 24 = dktX6_addSayings_1 := dk_seg dksX6_addSayings_0 24 rfl rfl
theorem dksX6_addSayings_2 : cX6_addSayings.data.toList.drop 48 = dktX6_addSayings_2 := dk_seg dksX6_addSayings_1 24 rfl rfl
theorem dksX6_addSayings_3 : cX6_addSayings.data.toList.drop 72 = dktX6_addSayings_3 := dk_seg dksX6_addSayings_2 24 rfl rfl
theorem dksX6_addSayings_4 : cX6_addSayings.data.toList.drop 96 = dktX6_addSayings_4 := dk_seg dksX6_addSayings_3 24 rfl rfl
theorem dX6_addSayings_0 : decode cX6_addSayings 0 = .ok (.iconst 1, 1) := dk_4 (dk_at dksX6_addSayings_0 0 rfl rfl)
theorem dX6_addSayings_1 : decode cX6_addSayings 1 = .ok (.istore 4, 2) := dk_54 4 (dk_at dksX6_addSayings_0 1 rfl rfl)
theorem dX6_addSayings_3 : decode cX6_addSayings 3 = .ok (.iconst 0, 1) := dk_3 (dk_at dksX6_addSayings_0 3 rfl rfl)
theorem dX6_addSayings_4 : decode cX6_addSayings 4 = .ok (.istore 5, 2) := dk_54 5 (dk_at dksX6_addSayings_0 4 rfl rfl)
theorem dX6_addSayings_6 : decode cX6_addSayings 6 = .ok (.iload 5, 2) := dk_21 5 (dk_at dksX6_addSayings_0 6 rfl rfl)
theorem dX6_addSayings_8 : decode cX6_addSayings 8 = .ok (.bipush 48, 2) := dk_16 48 (dk_at dksX6_addSayings_0 8 rfl rfl)
theorem dX6_addSayings_10 : decode cX6_addSayings 10 = .ok (.if_icmp .ge 86, 3) := dk_162 0 86 (dk_at dksX6_addSayings_0 10 rfl rfl)
theorem dX6_addSayings_13 : decode cX6_addSayings 13 = .ok (.aload_n 0, 1) := dk_42 (dk_at dksX6_addSayings_0 13 rfl rfl)
theorem dX6_addSayings_14 : decode cX6_addSayings 14 = .ok (.iload_n 1, 1) := dk_27 (dk_at dksX6_addSayings_0 14 rfl rfl)
theorem dX6_addSayings_15 : decode cX6_addSayings 15 = .ok (.iload 5, 2) := dk_21 5 (dk_at dksX6_addSayings_0 15 rfl rfl)
theorem dX6_addSayings_17 : decode cX6_addSayings 17 = .ok (.invokevirtual 499, 3) := dk_182 1 243 (dk_at dksX6_addSayings_0 17 rfl rfl)
theorem dX6_addSayings_20 : decode cX6_addSayings 20 = .ok (.iconst (-1), 1) := dk_2 (dk_at dksX6_addSayings_0 20 rfl rfl)
theorem dX6_addSayings_21 : decode cX6_addSayings 21 = .ok (.if_icmp .eq 69, 3) := dk_159 0 69 (dk_at dksX6_addSayings_0 21 rfl rfl)
theorem dX6_addSayings_24 : decode cX6_addSayings 24 = .ok (.iload 5, 2) := dk_21 5 (dk_at dksX6_addSayings_1 0 rfl rfl)
theorem dX6_addSayings_26 : decode cX6_addSayings 26 = .ok (.iload_n 3, 1) := dk_29 (dk_at dksX6_addSayings_1 2 rfl rfl)
theorem dX6_addSayings_27 : decode cX6_addSayings 27 = .ok (.iadd, 1) := dk_96 (dk_at dksX6_addSayings_1 3 rfl rfl)
theorem dX6_addSayings_28 : decode cX6_addSayings 28 = .ok (.invokestatic 490, 3) := dk_184 1 234 (dk_at dksX6_addSayings_1 4 rfl rfl)
theorem dX6_addSayings_31 : decode cX6_addSayings 31 = .ok (.ifCond .ne 6, 3) := dk_154 0 6 (dk_at dksX6_addSayings_1 7 rfl rfl)
theorem dX6_addSayings_34 : decode cX6_addSayings 34 = .ok (.goto 56, 3) := dk_167 0 56 (dk_at dksX6_addSayings_1 10 rfl rfl)
theorem dX6_addSayings_37 : decode cX6_addSayings 37 = .ok (.aload_n 0, 1) := dk_42 (dk_at dksX6_addSayings_1 13 rfl rfl)
theorem dX6_addSayings_38 : decode cX6_addSayings 38 = .ok (.aload_n 0, 1) := dk_42 (dk_at dksX6_addSayings_1 14 rfl rfl)
theorem dX6_addSayings_39 : decode cX6_addSayings 39 = .ok (.iload_n 1, 1) := dk_27 (dk_at dksX6_addSayings_1 15 rfl rfl)
theorem dX6_addSayings_40 : decode cX6_addSayings 40 = .ok (.iload 5, 2) := dk_21 5 (dk_at dksX6_addSayings_1 16 rfl rfl)
theorem dX6_addSayings_42 : decode cX6_addSayings 42 = .ok (.invokevirtual 499, 3) := dk_182 1 243 (dk_at dksX6_addSayings_1 18 rfl rfl)
theorem dX6_addSayings_45 : decode cX6_addSayings 45 = .ok (.iload 5, 2) := dk_21 5 (dk_at dksX6_addSayings_1 21 rfl rfl)
theorem dX6_addSayings_47 : decode cX6_addSayings 47 = .ok (.iload_n 3, 1) := dk_29 (dk_at dksX6_addSayings_1 23 rfl rfl)
theorem dX6_addSayings_48 : decode cX6_addSayings 48 = .ok (.iadd, 1) := dk_96 (dk_at dksX6_addSayings_2 0 rfl rfl)
theorem dX6_addSayings_49 : decode cX6_addSayings 49 = .ok (.iload 5, 2) := dk_21 5 (dk_at dksX6_addSayings_2 1 rfl rfl)
theorem dX6_addSayings_51 : decode cX6_addSayings 51 = .ok (.iload_n 3, 1) := dk_29 (dk_at dksX6_addSayings_2 3 rfl rfl)
theorem dX6_addSayings_52 : decode cX6_addSayings 52 = .ok (.iadd, 1) := dk_96 (dk_at dksX6_addSayings_2 4 rfl rfl)
theorem dX6_addSayings_53 : decode cX6_addSayings 53 = .ok (.invokevirtual 523, 3) := dk_182 2 11 (dk_at dksX6_addSayings_2 5 rfl rfl)
theorem dX6_addSayings_56 : decode cX6_addSayings 56 = .ok (.iload 4, 2) := dk_21 4 (dk_at dksX6_addSayings_2 8 rfl rfl)
theorem dX6_addSayings_58 : decode cX6_addSayings 58 = .ok (.ifCond .eq 29, 3) := dk_153 0 29 (dk_at dksX6_addSayings_2 10 rfl rfl)
theorem dX6_addSayings_61 : decode cX6_addSayings 61 = .ok (.aload_n 0, 1) := dk_42 (dk_at dksX6_addSayings_2 13 rfl rfl)
theorem dX6_addSayings_62 : decode cX6_addSayings 62 = .ok (.iload_n 2, 1) := dk_28 (dk_at dksX6_addSayings_2 14 rfl rfl)
theorem dX6_addSayings_63 : decode cX6_addSayings 63 = .ok (.aload_n 0, 1) := dk_42 (dk_at dksX6_addSayings_2 15 rfl rfl)
theorem dX6_addSayings_64 : decode cX6_addSayings 64 = .ok (.iload_n 1, 1) := dk_27 (dk_at dksX6_addSayings_2 16 rfl rfl)
theorem dX6_addSayings_65 : decode cX6_addSayings 65 = .ok (.iload 5, 2) := dk_21 5 (dk_at dksX6_addSayings_2 17 rfl rfl)
theorem dX6_addSayings_67 : decode cX6_addSayings 67 = .ok (.invokevirtual 499, 3) := dk_182 1 243 (dk_at dksX6_addSayings_2 19 rfl rfl)
theorem dX6_addSayings_70 : decode cX6_addSayings 70 = .ok (.aload_n 0, 1) := dk_42 (dk_at dksX6_addSayings_2 22 rfl rfl)
theorem dX6_addSayings_71 : decode cX6_addSayings 71 = .ok (.iload_n 1, 1) := dk_27 (dk_at dksX6_addSayings_2 23 rfl rfl)
theorem dX6_addSayings_72 : decode cX6_addSayings 72 = .ok (.iload 5, 2) := dk_21 5 (dk_at dksX6_addSayings_3 0 rfl rfl)
theorem dX6_addSayings_74 : decode cX6_addSayings 74 = .ok (.invokevirtual 527, 3) := dk_182 2 15 (dk_at dksX6_addSayings_3 2 rfl rfl)
theorem dX6_addSayings_77 : decode cX6_addSayings 77 = .ok (.invokevirtual 530, 3) := dk_182 2 18 (dk_at dksX6_addSayings_3 5 rfl rfl)
theorem dX6_addSayings_80 : decode cX6_addSayings 80 = .ok (.ifCond .eq 7, 3) := dk_153 0 7 (dk_at dksX6_addSayings_3 8 rfl rfl)
theorem dX6_addSayings_83 : decode cX6_addSayings 83 = .ok (.iconst 1, 1) := dk_4 (dk_at dksX6_addSayings_3 11 rfl rfl)
theorem dX6_addSayings_84 : decode cX6_addSayings 84 = .ok (.goto 4, 3) := dk_167 0 4 (dk_at dksX6_addSayings_3 12 rfl rfl)
theorem dX6_addSayings_87 : decode cX6_addSayings 87 = .ok (.iconst 0, 1) := dk_3 (dk_at dksX6_addSayings_3 15 rfl rfl)
theorem dX6_addSayings_88 : decode cX6_addSayings 88 = .ok (.istore 4, 2) := dk_54 4 (dk_at dksX6_addSayings_3 16 rfl rfl)
theorem dX6_addSayings_90 : decode cX6_addSayings 90 = .ok (.iinc 5 1, 3) := dk_132 5 1 (dk_at dksX6_addSayings_3 18 rfl rfl)
theorem dX6_addSayings_93 : decode cX6_addSayings 93 = .ok (.goto (-87), 3) := dk_167 255 169 (dk_at dksX6_addSayings_3 21 rfl rfl)
theorem dX6_addSayings_96 : decode cX6_addSayings 96 = .ok (.iload 4, 2) := dk_21 4 (dk_at dksX6_addSayings_4 0 rfl rfl)
theorem dX6_addSayings_98 : decode cX6_addSayings 98 = .ok (.ireturn, 1) := dk_172 (dk_at dksX6_addSayings_4 2 rfl rfl)
abbrev cX6_isPair : ByteArray := prog_29_method_97_code
def yX6_isPair : MethodName := ⟨RX6, "isPair", "(I)Z"⟩
def dkwX6_isPair_10 : List UInt8 := [167, 255, 234, 29, 158, 0, 15, 29, 42, 180, 0, 210, 162, 0, 7, 4, 167, 0, 4, 3, 172]
abbrev dktX6_isPair_10 : List UInt8 := dkwX6_isPair_10 ++ []
def dkwX6_isPair_9 : List UInt8 := [54, 4, 21, 4, 42, 180, 0, 210, 162, 0, 19, 29, 42, 180, 0, 237, 21, 4, 46, 96, 62, 132, 4, 1]
abbrev dktX6_isPair_9 : List UInt8 := dkwX6_isPair_9 ++ dktX6_isPair_10
def dkwX6_isPair_8 : List UInt8 := [42, 182, 2, 72, 42, 29, 4, 182, 2, 69, 154, 0, 5, 3, 172, 132, 3, 1, 167, 255, 192, 3, 62, 3]
abbrev dktX6_isPair_8 : List UInt8 := dkwX6_isPair_8 ++ dktX6_isPair_9
def dkwX6_isPair_7 : List UInt8 := [182, 2, 66, 42, 180, 0, 219, 29, 51, 153, 0, 15, 42, 29, 3, 182, 2, 69, 153, 0, 6, 167, 0, 18]
abbrev dktX6_isPair_7 : List UInt8 := dkwX6_isPair_7 ++ dktX6_isPair_8
def dkwX6_isPair_6 : List UInt8 := [29, 42, 180, 0, 210, 162, 0, 62, 42, 180, 0, 237, 29, 46, 2, 159, 0, 6, 167, 0, 43, 42]
abbrev dktX6_isPair_6 : List UInt8 := dkwX6_isPair_6 ++ dktX6_isPair_7
def dkwX6_isPair_5 : List UInt8 := [167, 255, 219, 42, 180, 0, 237, 29, 2, 79, 132, 3, 1, 167, 255, 144, 28, 153, 0, 5, 3, 172, 3, 62]
abbrev dktX6_isPair_5 : List UInt8 := dkwX6_isPair_5 ++ dktX6_isPair_6
def dkwX6_isPair_4 : List UInt8 := [180, 0, 225, 16, 48, 29, 104, 21, 4, 96, 51, 153, 0, 7, 4, 167, 0, 4, 3, 61, 132, 4, 1]
abbrev dktX6_isPair_4 : List UInt8 := dkwX6_isPair_4 ++ dktX6_isPair_5
def dkwX6_isPair_3 : List UInt8 := [4, 167, 0, 4, 3, 61, 3, 54, 4, 21, 4, 42, 180, 0, 210, 162, 0, 34, 28, 153, 0, 22, 42]
abbrev dktX6_isPair_3 : List UInt8 := dkwX6_isPair_3 ++ dktX6_isPair_4
def dkwX6_isPair_2 : List UInt8 := [182, 2, 15, 182, 2, 18, 154, 0, 5, 3, 172, 28, 153, 0, 16, 42, 180, 0, 219, 29, 51, 153, 0, 7]
abbrev dktX6_isPair_2 : List UInt8 := dkwX6_isPair_2 ++ dktX6_isPair_3
def dkwX6_isPair_1 : List UInt8 := [162, 0, 110, 42, 27, 42, 27, 42, 180, 0, 216, 29, 46, 182, 1, 243, 42, 27, 42, 180, 0, 216, 29, 46]
abbrev dktX6_isPair_1 : List UInt8 := dkwX6_isPair_1 ++ dktX6_isPair_2
def dkwX6_isPair_0 : List UInt8 := [42, 27, 182, 2, 34, 154, 0, 5, 3, 172, 42, 27, 182, 2, 37, 4, 61, 3, 62, 29, 42, 180, 0, 210]
abbrev dktX6_isPair_0 : List UInt8 := dkwX6_isPair_0 ++ dktX6_isPair_1
theorem dksX6_isPair_0 : cX6_isPair.data.toList.drop 0 = dktX6_isPair_0 := by decide +kernel
theorem dksX6_isPair_1 : cX6_isPair.data.toList.drop 24 = dktX6_isPair_1 := dk_seg dksX6_isPair_0 24 rfl rfl
theorem dksX6_isPair_2 : cX6_isPair.data.toList.drop 48 = dktX6_isPair_2 := dk_seg dksX6_isPair_1 24 rfl rfl
theorem dksX6_isPair_3 : cX6_isPair.data.toList.drop 72 = dktX6_isPair_3 := dk_seg dksX6_isPair_2 24 rfl rfl
theorem dksX6_isPair_4 : cX6_isPair.data.toList.drop 95 = dktX6_isPair_4 := dk_seg dksX6_isPair_3 23 rfl rfl
theorem dksX6_isPair_5 : cX6_isPair.data.toList.drop 118 = dktX6_isPair_5 := dk_seg dksX6_isPair_4 23 rfl rfl
theorem dksX6_isPair_6 : cX6_isPair.data.toList.drop 142 = dktX6_isPair_6 := dk_seg dksX6_isPair_5 24 rfl rfl
theorem dksX6_isPair_7 : cX6_isPair.data.toList.drop 164 = dktX6_isPair_7 := dk_seg dksX6_isPair_6 22 rfl rfl
theorem dksX6_isPair_8 : cX6_isPair.data.toList.drop 188 = dktX6_isPair_8 := dk_seg dksX6_isPair_7 24 rfl rfl
theorem dksX6_isPair_9 : cX6_isPair.data.toList.drop 212 = dktX6_isPair_9 := dk_seg dksX6_isPair_8 24 rfl rfl
theorem dksX6_isPair_10 : cX6_isPair.data.toList.drop 236 = dktX6_isPair_10 := dk_seg dksX6_isPair_9 24 rfl rfl
theorem dX6_isPair_0 : decode cX6_isPair 0 = .ok (.aload_n 0, 1) := dk_42 (dk_at dksX6_isPair_0 0 rfl rfl)
theorem dX6_isPair_1 : decode cX6_isPair 1 = .ok (.iload_n 1, 1) := dk_27 (dk_at dksX6_isPair_0 1 rfl rfl)
theorem dX6_isPair_2 : decode cX6_isPair 2 = .ok (.invokevirtual 546, 3) := dk_182 2 34 (dk_at dksX6_isPair_0 2 rfl rfl)
theorem dX6_isPair_5 : decode cX6_isPair 5 = .ok (.ifCond .ne 5, 3) := dk_154 0 5 (dk_at dksX6_isPair_0 5 rfl rfl)
theorem dX6_isPair_8 : decode cX6_isPair 8 = .ok (.iconst 0, 1) := dk_3 (dk_at dksX6_isPair_0 8 rfl rfl)
theorem dX6_isPair_9 : decode cX6_isPair 9 = .ok (.ireturn, 1) := dk_172 (dk_at dksX6_isPair_0 9 rfl rfl)
theorem dX6_isPair_10 : decode cX6_isPair 10 = .ok (.aload_n 0, 1) := dk_42 (dk_at dksX6_isPair_0 10 rfl rfl)
theorem dX6_isPair_11 : decode cX6_isPair 11 = .ok (.iload_n 1, 1) := dk_27 (dk_at dksX6_isPair_0 11 rfl rfl)
theorem dX6_isPair_12 : decode cX6_isPair 12 = .ok (.invokevirtual 549, 3) := dk_182 2 37 (dk_at dksX6_isPair_0 12 rfl rfl)
theorem dX6_isPair_15 : decode cX6_isPair 15 = .ok (.iconst 1, 1) := dk_4 (dk_at dksX6_isPair_0 15 rfl rfl)
theorem dX6_isPair_16 : decode cX6_isPair 16 = .ok (.istore_n 2, 1) := dk_61 (dk_at dksX6_isPair_0 16 rfl rfl)
theorem dX6_isPair_17 : decode cX6_isPair 17 = .ok (.iconst 0, 1) := dk_3 (dk_at dksX6_isPair_0 17 rfl rfl)
theorem dX6_isPair_18 : decode cX6_isPair 18 = .ok (.istore_n 3, 1) := dk_62 (dk_at dksX6_isPair_0 18 rfl rfl)
theorem dX6_isPair_19 : decode cX6_isPair 19 = .ok (.iload_n 3, 1) := dk_29 (dk_at dksX6_isPair_0 19 rfl rfl)
theorem dX6_isPair_20 : decode cX6_isPair 20 = .ok (.aload_n 0, 1) := dk_42 (dk_at dksX6_isPair_0 20 rfl rfl)
theorem dX6_isPair_21 : decode cX6_isPair 21 = .ok (.getfield 210, 3) := dk_180 0 210 (dk_at dksX6_isPair_0 21 rfl rfl)
theorem dX6_isPair_24 : decode cX6_isPair 24 = .ok (.if_icmp .ge 110, 3) := dk_162 0 110 (dk_at dksX6_isPair_1 0 rfl rfl)
theorem dX6_isPair_27 : decode cX6_isPair 27 = .ok (.aload_n 0, 1) := dk_42 (dk_at dksX6_isPair_1 3 rfl rfl)
theorem dX6_isPair_28 : decode cX6_isPair 28 = .ok (.iload_n 1, 1) := dk_27 (dk_at dksX6_isPair_1 4 rfl rfl)
theorem dX6_isPair_29 : decode cX6_isPair 29 = .ok (.aload_n 0, 1) := dk_42 (dk_at dksX6_isPair_1 5 rfl rfl)
theorem dX6_isPair_30 : decode cX6_isPair 30 = .ok (.iload_n 1, 1) := dk_27 (dk_at dksX6_isPair_1 6 rfl rfl)
theorem dX6_isPair_31 : decode cX6_isPair 31 = .ok (.aload_n 0, 1) := dk_42 (dk_at dksX6_isPair_1 7 rfl rfl)
theorem dX6_isPair_32 : decode cX6_isPair 32 = .ok (.getfield 216, 3) := dk_180 0 216 (dk_at dksX6_isPair_1 8 rfl rfl)
theorem dX6_isPair_35 : decode cX6_isPair 35 = .ok (.iload_n 3, 1) := dk_29 (dk_at dksX6_isPair_1 11 rfl rfl)
theorem dX6_isPair_36 : decode cX6_isPair 36 = .ok (.iaload, 1) := dk_46 (dk_at dksX6_isPair_1 12 rfl rfl)
theorem dX6_isPair_37 : decode cX6_isPair 37 = .ok (.invokevirtual 499, 3) := dk_182 1 243 (dk_at dksX6_isPair_1 13 rfl rfl)
theorem dX6_isPair_40 : decode cX6_isPair 40 = .ok (.aload_n 0, 1) := dk_42 (dk_at dksX6_isPair_1 16 rfl rfl)
theorem dX6_isPair_41 : decode cX6_isPair 41 = .ok (.iload_n 1, 1) := dk_27 (dk_at dksX6_isPair_1 17 rfl rfl)
theorem dX6_isPair_42 : decode cX6_isPair 42 = .ok (.aload_n 0, 1) := dk_42 (dk_at dksX6_isPair_1 18 rfl rfl)
theorem dX6_isPair_43 : decode cX6_isPair 43 = .ok (.getfield 216, 3) := dk_180 0 216 (dk_at dksX6_isPair_1 19 rfl rfl)
theorem dX6_isPair_46 : decode cX6_isPair 46 = .ok (.iload_n 3, 1) := dk_29 (dk_at dksX6_isPair_1 22 rfl rfl)
theorem dX6_isPair_47 : decode cX6_isPair 47 = .ok (.iaload, 1) := dk_46 (dk_at dksX6_isPair_1 23 rfl rfl)
theorem dX6_isPair_48 : decode cX6_isPair 48 = .ok (.invokevirtual 527, 3) := dk_182 2 15 (dk_at dksX6_isPair_2 0 rfl rfl)
theorem dX6_isPair_51 : decode cX6_isPair 51 = .ok (.invokevirtual 530, 3) := dk_182 2 18 (dk_at dksX6_isPair_2 3 rfl rfl)
theorem dX6_isPair_54 : decode cX6_isPair 54 = .ok (.ifCond .ne 5, 3) := dk_154 0 5 (dk_at dksX6_isPair_2 6 rfl rfl)
theorem dX6_isPair_57 : decode cX6_isPair 57 = .ok (.iconst 0, 1) := dk_3 (dk_at dksX6_isPair_2 9 rfl rfl)
theorem dX6_isPair_58 : decode cX6_isPair 58 = .ok (.ireturn, 1) := dk_172 (dk_at dksX6_isPair_2 10 rfl rfl)
theorem dX6_isPair_59 : decode cX6_isPair 59 = .ok (.iload_n 2, 1) := dk_28 (dk_at dksX6_isPair_2 11 rfl rfl)
theorem dX6_isPair_60 : decode cX6_isPair 60 = .ok (.ifCond .eq 16, 3) := dk_153 0 16 (dk_at dksX6_isPair_2 12 rfl rfl)
theorem dX6_isPair_63 : decode cX6_isPair 63 = .ok (.aload_n 0, 1) := dk_42 (dk_at dksX6_isPair_2 15 rfl rfl)
theorem dX6_isPair_64 : decode cX6_isPair 64 = .ok (.getfield 219, 3) := dk_180 0 219 (dk_at dksX6_isPair_2 16 rfl rfl)
theorem dX6_isPair_67 : decode cX6_isPair 67 = .ok (.iload_n 3, 1) := dk_29 (dk_at dksX6_isPair_2 19 rfl rfl)
theorem dX6_isPair_68 : decode cX6_isPair 68 = .ok (.baload, 1) := dk_51 (dk_at dksX6_isPair_2 20 rfl rfl)
theorem dX6_isPair_69 : decode cX6_isPair 69 = .ok (.ifCond .eq 7, 3) := dk_153 0 7 (dk_at dksX6_isPair_2 21 rfl rfl)
theorem dX6_isPair_72 : decode cX6_isPair 72 = .ok (.iconst 1, 1) := dk_4 (dk_at dksX6_isPair_3 0 rfl rfl)
theorem dX6_isPair_73 : decode cX6_isPair 73 = .ok (.goto 4, 3) := dk_167 0 4 (dk_at dksX6_isPair_3 1 rfl rfl)
theorem dX6_isPair_76 : decode cX6_isPair 76 = .ok (.iconst 0, 1) := dk_3 (dk_at dksX6_isPair_3 4 rfl rfl)
theorem dX6_isPair_77 : decode cX6_isPair 77 = .ok (.istore_n 2, 1) := dk_61 (dk_at dksX6_isPair_3 5 rfl rfl)
theorem dX6_isPair_78 : decode cX6_isPair 78 = .ok (.iconst 0, 1) := dk_3 (dk_at dksX6_isPair_3 6 rfl rfl)
theorem dX6_isPair_79 : decode cX6_isPair 79 = .ok (.istore 4, 2) := dk_54 4 (dk_at dksX6_isPair_3 7 rfl rfl)
theorem dX6_isPair_81 : decode cX6_isPair 81 = .ok (.iload 4, 2) := dk_21 4 (dk_at dksX6_isPair_3 9 rfl rfl)
theorem dX6_isPair_83 : decode cX6_isPair 83 = .ok (.aload_n 0, 1) := dk_42 (dk_at dksX6_isPair_3 11 rfl rfl)
theorem dX6_isPair_84 : decode cX6_isPair 84 = .ok (.getfield 210, 3) := dk_180 0 210 (dk_at dksX6_isPair_3 12 rfl rfl)
theorem dX6_isPair_87 : decode cX6_isPair 87 = .ok (.if_icmp .ge 34, 3) := dk_162 0 34 (dk_at dksX6_isPair_3 15 rfl rfl)
theorem dX6_isPair_90 : decode cX6_isPair 90 = .ok (.iload_n 2, 1) := dk_28 (dk_at dksX6_isPair_3 18 rfl rfl)
theorem dX6_isPair_91 : decode cX6_isPair 91 = .ok (.ifCond .eq 22, 3) := dk_153 0 22 (dk_at dksX6_isPair_3 19 rfl rfl)
theorem dX6_isPair_94 : decode cX6_isPair 94 = .ok (.aload_n 0, 1) := dk_42 (dk_at dksX6_isPair_3 22 rfl rfl)
theorem dX6_isPair_95 : decode cX6_isPair 95 = .ok (.getfield 225, 3) := dk_180 0 225 (dk_at dksX6_isPair_4 0 rfl rfl)
theorem dX6_isPair_98 : decode cX6_isPair 98 = .ok (.bipush 48, 2) := dk_16 48 (dk_at dksX6_isPair_4 3 rfl rfl)
theorem dX6_isPair_100 : decode cX6_isPair 100 = .ok (.iload_n 3, 1) := dk_29 (dk_at dksX6_isPair_4 5 rfl rfl)
theorem dX6_isPair_101 : decode cX6_isPair 101 = .ok (.imul, 1) := dk_104 (dk_at dksX6_isPair_4 6 rfl rfl)
theorem dX6_isPair_102 : decode cX6_isPair 102 = .ok (.iload 4, 2) := dk_21 4 (dk_at dksX6_isPair_4 7 rfl rfl)
theorem dX6_isPair_104 : decode cX6_isPair 104 = .ok (.iadd, 1) := dk_96 (dk_at dksX6_isPair_4 9 rfl rfl)
theorem dX6_isPair_105 : decode cX6_isPair 105 = .ok (.baload, 1) := dk_51 (dk_at dksX6_isPair_4 10 rfl rfl)
theorem dX6_isPair_106 : decode cX6_isPair 106 = .ok (.ifCond .eq 7, 3) := dk_153 0 7 (dk_at dksX6_isPair_4 11 rfl rfl)
theorem dX6_isPair_109 : decode cX6_isPair 109 = .ok (.iconst 1, 1) := dk_4 (dk_at dksX6_isPair_4 14 rfl rfl)
theorem dX6_isPair_110 : decode cX6_isPair 110 = .ok (.goto 4, 3) := dk_167 0 4 (dk_at dksX6_isPair_4 15 rfl rfl)
theorem dX6_isPair_113 : decode cX6_isPair 113 = .ok (.iconst 0, 1) := dk_3 (dk_at dksX6_isPair_4 18 rfl rfl)
theorem dX6_isPair_114 : decode cX6_isPair 114 = .ok (.istore_n 2, 1) := dk_61 (dk_at dksX6_isPair_4 19 rfl rfl)
theorem dX6_isPair_115 : decode cX6_isPair 115 = .ok (.iinc 4 1, 3) := dk_132 4 1 (dk_at dksX6_isPair_4 20 rfl rfl)
theorem dX6_isPair_118 : decode cX6_isPair 118 = .ok (.goto (-37), 3) := dk_167 255 219 (dk_at dksX6_isPair_5 0 rfl rfl)
theorem dX6_isPair_121 : decode cX6_isPair 121 = .ok (.aload_n 0, 1) := dk_42 (dk_at dksX6_isPair_5 3 rfl rfl)
theorem dX6_isPair_122 : decode cX6_isPair 122 = .ok (.getfield 237, 3) := dk_180 0 237 (dk_at dksX6_isPair_5 4 rfl rfl)
theorem dX6_isPair_125 : decode cX6_isPair 125 = .ok (.iload_n 3, 1) := dk_29 (dk_at dksX6_isPair_5 7 rfl rfl)
theorem dX6_isPair_126 : decode cX6_isPair 126 = .ok (.iconst (-1), 1) := dk_2 (dk_at dksX6_isPair_5 8 rfl rfl)
theorem dX6_isPair_127 : decode cX6_isPair 127 = .ok (.iastore, 1) := dk_79 (dk_at dksX6_isPair_5 9 rfl rfl)
theorem dX6_isPair_128 : decode cX6_isPair 128 = .ok (.iinc 3 1, 3) := dk_132 3 1 (dk_at dksX6_isPair_5 10 rfl rfl)
theorem dX6_isPair_131 : decode cX6_isPair 131 = .ok (.goto (-112), 3) := dk_167 255 144 (dk_at dksX6_isPair_5 13 rfl rfl)
theorem dX6_isPair_134 : decode cX6_isPair 134 = .ok (.iload_n 2, 1) := dk_28 (dk_at dksX6_isPair_5 16 rfl rfl)
theorem dX6_isPair_135 : decode cX6_isPair 135 = .ok (.ifCond .eq 5, 3) := dk_153 0 5 (dk_at dksX6_isPair_5 17 rfl rfl)
theorem dX6_isPair_138 : decode cX6_isPair 138 = .ok (.iconst 0, 1) := dk_3 (dk_at dksX6_isPair_5 20 rfl rfl)
theorem dX6_isPair_139 : decode cX6_isPair 139 = .ok (.ireturn, 1) := dk_172 (dk_at dksX6_isPair_5 21 rfl rfl)
theorem dX6_isPair_140 : decode cX6_isPair 140 = .ok (.iconst 0, 1) := dk_3 (dk_at dksX6_isPair_5 22 rfl rfl)
theorem dX6_isPair_141 : decode cX6_isPair 141 = .ok (.istore_n 3, 1) := dk_62 (dk_at dksX6_isPair_5 23 rfl rfl)
theorem dX6_isPair_142 : decode cX6_isPair 142 = .ok (.iload_n 3, 1) := dk_29 (dk_at dksX6_isPair_6 0 rfl rfl)
theorem dX6_isPair_143 : decode cX6_isPair 143 = .ok (.aload_n 0, 1) := dk_42 (dk_at dksX6_isPair_6 1 rfl rfl)
theorem dX6_isPair_144 : decode cX6_isPair 144 = .ok (.getfield 210, 3) := dk_180 0 210 (dk_at dksX6_isPair_6 2 rfl rfl)
theorem dX6_isPair_147 : decode cX6_isPair 147 = .ok (.if_icmp .ge 62, 3) := dk_162 0 62 (dk_at dksX6_isPair_6 5 rfl rfl)
theorem dX6_isPair_150 : decode cX6_isPair 150 = .ok (.aload_n 0, 1) := dk_42 (dk_at dksX6_isPair_6 8 rfl rfl)
theorem dX6_isPair_151 : decode cX6_isPair 151 = .ok (.getfield 237, 3) := dk_180 0 237 (dk_at dksX6_isPair_6 9 rfl rfl)
theorem dX6_isPair_154 : decode cX6_isPair 154 = .ok (.iload_n 3, 1) := dk_29 (dk_at dksX6_isPair_6 12 rfl rfl)
theorem dX6_isPair_155 : decode cX6_isPair 155 = .ok (.iaload, 1) := dk_46 (dk_at dksX6_isPair_6 13 rfl rfl)
theorem dX6_isPair_156 : decode cX6_isPair 156 = .ok (.iconst (-1), 1) := dk_2 (dk_at dksX6_isPair_6 14 rfl rfl)
theorem dX6_isPair_157 : decode cX6_isPair 157 = .ok (.if_icmp .eq 6, 3) := dk_159 0 6 (dk_at dksX6_isPair_6 15 rfl rfl)
theorem dX6_isPair_160 : decode cX6_isPair 160 = .ok (.goto 43, 3) := dk_167 0 43 (dk_at dksX6_isPair_6 18 rfl rfl)
theorem dX6_isPair_163 : decode cX6_isPair 163 = .ok (.aload_n 0, 1) := dk_42 (dk_at dksX6_isPair_6 21 rfl rfl)
theorem dX6_isPair_164 : decode cX6_isPair 164 = .ok (.invokevirtual 578, 3) := dk_182 2 66 (dk_at dksX6_isPair_7 0 rfl rfl)
theorem dX6_isPair_167 : decode cX6_isPair 167 = .ok (.aload_n 0, 1) := dk_42 (dk_at dksX6_isPair_7 3 rfl rfl)
theorem dX6_isPair_168 : decode cX6_isPair 168 = .ok (.getfield 219, 3) := dk_180 0 219 (dk_at dksX6_isPair_7 4 rfl rfl)
theorem dX6_isPair_171 : decode cX6_isPair 171 = .ok (.iload_n 3, 1) := dk_29 (dk_at dksX6_isPair_7 7 rfl rfl)
theorem dX6_isPair_172 : decode cX6_isPair 172 = .ok (.baload, 1) := dk_51 (dk_at dksX6_isPair_7 8 rfl rfl)
theorem dX6_isPair_173 : decode cX6_isPair 173 = .ok (.ifCond .eq 15, 3) := dk_153 0 15 (dk_at dksX6_isPair_7 9 rfl rfl)
theorem dX6_isPair_176 : decode cX6_isPair 176 = .ok (.aload_n 0, 1) := dk_42 (dk_at dksX6_isPair_7 12 rfl rfl)
theorem dX6_isPair_177 : decode cX6_isPair 177 = .ok (.iload_n 3, 1) := dk_29 (dk_at dksX6_isPair_7 13 rfl rfl)
theorem dX6_isPair_178 : decode cX6_isPair 178 = .ok (.iconst 0, 1) := dk_3 (dk_at dksX6_isPair_7 14 rfl rfl)
theorem dX6_isPair_179 : decode cX6_isPair 179 = .ok (.invokevirtual 581, 3) := dk_182 2 69 (dk_at dksX6_isPair_7 15 rfl rfl)
theorem dX6_isPair_182 : decode cX6_isPair 182 = .ok (.ifCond .eq 6, 3) := dk_153 0 6 (dk_at dksX6_isPair_7 18 rfl rfl)
theorem dX6_isPair_185 : decode cX6_isPair 185 = .ok (.goto 18, 3) := dk_167 0 18 (dk_at dksX6_isPair_7 21 rfl rfl)
theorem dX6_isPair_188 : decode cX6_isPair 188 = .ok (.aload_n 0, 1) := dk_42 (dk_at dksX6_isPair_8 0 rfl rfl)
theorem dX6_isPair_189 : decode cX6_isPair 189 = .ok (.invokevirtual 584, 3) := dk_182 2 72 (dk_at dksX6_isPair_8 1 rfl rfl)
theorem dX6_isPair_192 : decode cX6_isPair 192 = .ok (.aload_n 0, 1) := dk_42 (dk_at dksX6_isPair_8 4 rfl rfl)
theorem dX6_isPair_193 : decode cX6_isPair 193 = .ok (.iload_n 3, 1) := dk_29 (dk_at dksX6_isPair_8 5 rfl rfl)
theorem dX6_isPair_194 : decode cX6_isPair 194 = .ok (.iconst 1, 1) := dk_4 (dk_at dksX6_isPair_8 6 rfl rfl)
theorem dX6_isPair_195 : decode cX6_isPair 195 = .ok (.invokevirtual 581, 3) := dk_182 2 69 (dk_at dksX6_isPair_8 7 rfl rfl)
theorem dX6_isPair_198 : decode cX6_isPair 198 = .ok (.ifCond .ne 5, 3) := dk_154 0 5 (dk_at dksX6_isPair_8 10 rfl rfl)
theorem dX6_isPair_201 : decode cX6_isPair 201 = .ok (.iconst 0, 1) := dk_3 (dk_at dksX6_isPair_8 13 rfl rfl)
theorem dX6_isPair_202 : decode cX6_isPair 202 = .ok (.ireturn, 1) := dk_172 (dk_at dksX6_isPair_8 14 rfl rfl)
theorem dX6_isPair_203 : decode cX6_isPair 203 = .ok (.iinc 3 1, 3) := dk_132 3 1 (dk_at dksX6_isPair_8 15 rfl rfl)
theorem dX6_isPair_206 : decode cX6_isPair 206 = .ok (.goto (-64), 3) := dk_167 255 192 (dk_at dksX6_isPair_8 18 rfl rfl)
theorem dX6_isPair_209 : decode cX6_isPair 209 = .ok (.iconst 0, 1) := dk_3 (dk_at dksX6_isPair_8 21 rfl rfl)
theorem dX6_isPair_210 : decode cX6_isPair 210 = .ok (.istore_n 3, 1) := dk_62 (dk_at dksX6_isPair_8 22 rfl rfl)
theorem dX6_isPair_211 : decode cX6_isPair 211 = .ok (.iconst 0, 1) := dk_3 (dk_at dksX6_isPair_8 23 rfl rfl)
theorem dX6_isPair_212 : decode cX6_isPair 212 = .ok (.istore 4, 2) := dk_54 4 (dk_at dksX6_isPair_9 0 rfl rfl)
theorem dX6_isPair_214 : decode cX6_isPair 214 = .ok (.iload 4, 2) := dk_21 4 (dk_at dksX6_isPair_9 2 rfl rfl)
theorem dX6_isPair_216 : decode cX6_isPair 216 = .ok (.aload_n 0, 1) := dk_42 (dk_at dksX6_isPair_9 4 rfl rfl)
theorem dX6_isPair_217 : decode cX6_isPair 217 = .ok (.getfield 210, 3) := dk_180 0 210 (dk_at dksX6_isPair_9 5 rfl rfl)
theorem dX6_isPair_220 : decode cX6_isPair 220 = .ok (.if_icmp .ge 19, 3) := dk_162 0 19 (dk_at dksX6_isPair_9 8 rfl rfl)
theorem dX6_isPair_223 : decode cX6_isPair 223 = .ok (.iload_n 3, 1) := dk_29 (dk_at dksX6_isPair_9 11 rfl rfl)
theorem dX6_isPair_224 : decode cX6_isPair 224 = .ok (.aload_n 0, 1) := dk_42 (dk_at dksX6_isPair_9 12 rfl rfl)
theorem dX6_isPair_225 : decode cX6_isPair 225 = .ok (.getfield 237, 3) := dk_180 0 237 (dk_at dksX6_isPair_9 13 rfl rfl)
theorem dX6_isPair_228 : decode cX6_isPair 228 = .ok (.iload 4, 2) := dk_21 4 (dk_at dksX6_isPair_9 16 rfl rfl)
theorem dX6_isPair_230 : decode cX6_isPair 230 = .ok (.iaload, 1) := dk_46 (dk_at dksX6_isPair_9 18 rfl rfl)
theorem dX6_isPair_231 : decode cX6_isPair 231 = .ok (.iadd, 1) := dk_96 (dk_at dksX6_isPair_9 19 rfl rfl)
theorem dX6_isPair_232 : decode cX6_isPair 232 = .ok (.istore_n 3, 1) := dk_62 (dk_at dksX6_isPair_9 20 rfl rfl)
theorem dX6_isPair_233 : decode cX6_isPair 233 = .ok (.iinc 4 1, 3) := dk_132 4 1 (dk_at dksX6_isPair_9 21 rfl rfl)
theorem dX6_isPair_236 : decode cX6_isPair 236 = .ok (.goto (-22), 3) := dk_167 255 234 (dk_at dksX6_isPair_10 0 rfl rfl)
theorem dX6_isPair_239 : decode cX6_isPair 239 = .ok (.iload_n 3, 1) := dk_29 (dk_at dksX6_isPair_10 3 rfl rfl)
theorem dX6_isPair_240 : decode cX6_isPair 240 = .ok (.ifCond .le 15, 3) := dk_158 0 15 (dk_at dksX6_isPair_10 4 rfl rfl)
theorem dX6_isPair_243 : decode cX6_isPair 243 = .ok (.iload_n 3, 1) := dk_29 (dk_at dksX6_isPair_10 7 rfl rfl)
theorem dX6_isPair_244 : decode cX6_isPair 244 = .ok (.aload_n 0, 1) := dk_42 (dk_at dksX6_isPair_10 8 rfl rfl)
theorem dX6_isPair_245 : decode cX6_isPair 245 = .ok (.getfield 210, 3) := dk_180 0 210 (dk_at dksX6_isPair_10 9 rfl rfl)
theorem dX6_isPair_248 : decode cX6_isPair 248 = .ok (.if_icmp .ge 7, 3) := dk_162 0 7 (dk_at dksX6_isPair_10 12 rfl rfl)
theorem dX6_isPair_251 : decode cX6_isPair 251 = .ok (.iconst 1, 1) := dk_4 (dk_at dksX6_isPair_10 15 rfl rfl)
theorem dX6_isPair_252 : decode cX6_isPair 252 = .ok (.goto 4, 3) := dk_167 0 4 (dk_at dksX6_isPair_10 16 rfl rfl)
theorem dX6_isPair_255 : decode cX6_isPair 255 = .ok (.iconst 0, 1) := dk_3 (dk_at dksX6_isPair_10 19 rfl rfl)
theorem dX6_isPair_256 : decode cX6_isPair 256 = .ok (.ireturn, 1) := dk_172 (dk_at dksX6_isPair_10 20 rfl rfl)
abbrev cX6_keepsSets : ByteArray := prog_29_method_98_code
def yX6_keepsSets : MethodName := ⟨RX6, "keepsSets", "()V"⟩
def dkwX6_keepsSets_1 : List UInt8 := [167, 255, 235, 177]
abbrev dktX6_keepsSets_1 : List UInt8 := dkwX6_keepsSets_1 ++ []
def dkwX6_keepsSets_0 : List UInt8 := [3, 60, 27, 16, 48, 162, 0, 21, 42, 180, 0, 240, 27, 42, 180, 0, 237, 27, 46, 79, 132, 1, 1]
abbrev dktX6_keepsSets_0 : List UInt8 := dkwX6_keepsSets_0 ++ dktX6_keepsSets_1
theorem dksX6_keepsSets_0 : cX6_keepsSets.data.toList.drop 0 = dktX6_keepsSets_0 := by decide +kernel
theorem dksX6_keepsSets_1 : cX6_keepsSets.data.toList.drop 23 = dktX6_keepsSets_1 := dk_seg dksX6_keepsSets_0 23 rfl rfl
theorem dX6_keepsSets_0 : decode cX6_keepsSets 0 = .ok (.iconst 0, 1) := dk_3 (dk_at dksX6_keepsSets_0 0 rfl rfl)
theorem dX6_keepsSets_1 : decode cX6_keepsSets 1 = .ok (.istore_n 1, 1) := dk_60 (dk_at dksX6_keepsSets_0 1 rfl rfl)
theorem dX6_keepsSets_2 : decode cX6_keepsSets 2 = .ok (.iload_n 1, 1) := dk_27 (dk_at dksX6_keepsSets_0 2 rfl rfl)
theorem dX6_keepsSets_3 : decode cX6_keepsSets 3 = .ok (.bipush 48, 2) := dk_16 48 (dk_at dksX6_keepsSets_0 3 rfl rfl)
theorem dX6_keepsSets_5 : decode cX6_keepsSets 5 = .ok (.if_icmp .ge 21, 3) := dk_162 0 21 (dk_at dksX6_keepsSets_0 5 rfl rfl)
theorem dX6_keepsSets_8 : decode cX6_keepsSets 8 = .ok (.aload_n 0, 1) := dk_42 (dk_at dksX6_keepsSets_0 8 rfl rfl)
theorem dX6_keepsSets_9 : decode cX6_keepsSets 9 = .ok (.getfield 240, 3) := dk_180 0 240 (dk_at dksX6_keepsSets_0 9 rfl rfl)
theorem dX6_keepsSets_12 : decode cX6_keepsSets 12 = .ok (.iload_n 1, 1) := dk_27 (dk_at dksX6_keepsSets_0 12 rfl rfl)
theorem dX6_keepsSets_13 : decode cX6_keepsSets 13 = .ok (.aload_n 0, 1) := dk_42 (dk_at dksX6_keepsSets_0 13 rfl rfl)
theorem dX6_keepsSets_14 : decode cX6_keepsSets 14 = .ok (.getfield 237, 3) := dk_180 0 237 (dk_at dksX6_keepsSets_0 14 rfl rfl)
theorem dX6_keepsSets_17 : decode cX6_keepsSets 17 = .ok (.iload_n 1, 1) := dk_27 (dk_at dksX6_keepsSets_0 17 rfl rfl)
theorem dX6_keepsSets_18 : decode cX6_keepsSets 18 = .ok (.iaload, 1) := dk_46 (dk_at dksX6_keepsSets_0 18 rfl rfl)
theorem dX6_keepsSets_19 : decode cX6_keepsSets 19 = .ok (.iastore, 1) := dk_79 (dk_at dksX6_keepsSets_0 19 rfl rfl)
theorem dX6_keepsSets_20 : decode cX6_keepsSets 20 = .ok (.iinc 1 1, 3) := dk_132 1 1 (dk_at dksX6_keepsSets_0 20 rfl rfl)
theorem dX6_keepsSets_23 : decode cX6_keepsSets 23 = .ok (.goto (-21), 3) := dk_167 255 235 (dk_at dksX6_keepsSets_1 0 rfl rfl)
theorem dX6_keepsSets_26 : decode cX6_keepsSets 26 = .ok (.return_, 1) := dk_177 (dk_at dksX6_keepsSets_1 3 rfl rfl)
abbrev cX6_parts : ByteArray := prog_29_method_96_code
def yX6_parts : MethodName := ⟨RX6, "parts", "(II)Z"⟩
def dkwX6_parts_7 : List UInt8 := [180, 0, 219, 21, 4, 51, 154, 0, 5, 3, 172, 132, 4, 1, 167, 255, 222, 4, 172]
abbrev dktX6_parts_7 : List UInt8 := dkwX6_parts_7 ++ []
def dkwX6_parts_6 : List UInt8 := [54, 4, 21, 4, 42, 180, 0, 210, 162, 0, 31, 42, 180, 0, 237, 21, 4, 46, 154, 0, 15, 42]
abbrev dktX6_parts_6 : List UInt8 := dkwX6_parts_6 ++ dktX6_parts_7
def dkwX6_parts_5 : List UInt8 := [180, 0, 237, 21, 4, 46, 100, 79, 132, 5, 1, 167, 255, 158, 132, 4, 1, 167, 255, 140, 167, 255, 128, 3]
abbrev dktX6_parts_5 : List UInt8 := dkwX6_parts_5 ++ dktX6_parts_6
def dkwX6_parts_4 : List UInt8 := [180, 0, 237, 21, 5, 46, 2, 160, 0, 7, 4, 167, 0, 4, 3, 62, 42, 180, 0, 237, 21, 5, 4, 42]
abbrev dktX6_parts_4 : List UInt8 := dkwX6_parts_4 ++ dktX6_parts_5
def dkwX6_parts_3 : List UInt8 := [180, 0, 237, 21, 5, 46, 42, 180, 0, 237, 21, 4, 46, 160, 0, 5, 3, 172, 29, 154, 0, 14, 42]
abbrev dktX6_parts_3 : List UInt8 := dkwX6_parts_3 ++ dktX6_parts_4
def dkwX6_parts_2 : List UInt8 := [159, 0, 84, 42, 180, 0, 225, 16, 48, 21, 4, 104, 21, 5, 96, 51, 153, 0, 6, 167, 0, 59, 42]
abbrev dktX6_parts_2 : List UInt8 := dkwX6_parts_2 ++ dktX6_parts_3
def dkwX6_parts_1 : List UInt8 := [162, 0, 113, 3, 54, 5, 21, 5, 42, 180, 0, 210, 162, 0, 95, 42, 180, 0, 237, 21, 4, 46, 2]
abbrev dktX6_parts_1 : List UInt8 := dkwX6_parts_1 ++ dktX6_parts_2
def dkwX6_parts_0 : List UInt8 := [42, 180, 0, 237, 27, 28, 79, 4, 62, 29, 153, 0, 130, 3, 62, 3, 54, 4, 21, 4, 42, 180, 0, 210]
abbrev dktX6_parts_0 : List UInt8 := dkwX6_parts_0 ++ dktX6_parts_1
theorem dksX6_parts_0 : cX6_parts.data.toList.drop 0 = dktX6_parts_0 := by decide +kernel
theorem dksX6_parts_1 : cX6_parts.data.toList.drop 24 = dktX6_parts_1 := dk_seg dksX6_parts_0 24 rfl rfl
theorem dksX6_parts_2 : cX6_parts.data.toList.drop 47 = dktX6_parts_2 := dk_seg dksX6_parts_1 23 rfl rfl
theorem dksX6_parts_3 : cX6_parts.data.toList.drop 70 = dktX6_parts_3 := dk_seg dksX6_parts_2 23 rfl rfl
theorem dksX6_parts_4 : cX6_parts.data.toList.drop 93 = dktX6_parts_4 := dk_seg dksX6_parts_3 23 rfl rfl
theorem dksX6_parts_5 : cX6_parts.data.toList.drop 117 = dktX6_parts_5 := dk_seg dksX6_parts_4 24 rfl rfl
theorem dksX6_parts_6 : cX6_parts.data.toList.drop 141 = dktX6_parts_6 := dk_seg dksX6_parts_5 24 rfl rfl
theorem dksX6_parts_7 : cX6_parts.data.toList.drop 163 = dktX6_parts_7 := dk_seg dksX6_parts_6 22 rfl rfl
theorem dX6_parts_0 : decode cX6_parts 0 = .ok (.aload_n 0, 1) := dk_42 (dk_at dksX6_parts_0 0 rfl rfl)
theorem dX6_parts_1 : decode cX6_parts 1 = .ok (.getfield 237, 3) := dk_180 0 237 (dk_at dksX6_parts_0 1 rfl rfl)
theorem dX6_parts_4 : decode cX6_parts 4 = .ok (.iload_n 1, 1) := dk_27 (dk_at dksX6_parts_0 4 rfl rfl)
theorem dX6_parts_5 : decode cX6_parts 5 = .ok (.iload_n 2, 1) := dk_28 (dk_at dksX6_parts_0 5 rfl rfl)
theorem dX6_parts_6 : decode cX6_parts 6 = .ok (.iastore, 1) := dk_79 (dk_at dksX6_parts_0 6 rfl rfl)
theorem dX6_parts_7 : decode cX6_parts 7 = .ok (.iconst 1, 1) := dk_4 (dk_at dksX6_parts_0 7 rfl rfl)
theorem dX6_parts_8 : decode cX6_parts 8 = .ok (.istore_n 3, 1) := dk_62 (dk_at dksX6_parts_0 8 rfl rfl)
theorem dX6_parts_9 : decode cX6_parts 9 = .ok (.iload_n 3, 1) := dk_29 (dk_at dksX6_parts_0 9 rfl rfl)
theorem dX6_parts_10 : decode cX6_parts 10 = .ok (.ifCond .eq 130, 3) := dk_153 0 130 (dk_at dksX6_parts_0 10 rfl rfl)
theorem dX6_parts_13 : decode cX6_parts 13 = .ok (.iconst 0, 1) := dk_3 (dk_at dksX6_parts_0 13 rfl rfl)
theorem dX6_parts_14 : decode cX6_parts 14 = .ok (.istore_n 3, 1) := dk_62 (dk_at dksX6_parts_0 14 rfl rfl)
theorem dX6_parts_15 : decode cX6_parts 15 = .ok (.iconst 0, 1) := dk_3 (dk_at dksX6_parts_0 15 rfl rfl)
theorem dX6_parts_16 : decode cX6_parts 16 = .ok (.istore 4, 2) := dk_54 4 (dk_at dksX6_parts_0 16 rfl rfl)
theorem dX6_parts_18 : decode cX6_parts 18 = .ok (.iload 4, 2) := dk_21 4 (dk_at dksX6_parts_0 18 rfl rfl)
theorem dX6_parts_20 : decode cX6_parts 20 = .ok (.aload_n 0, 1) := dk_42 (dk_at dksX6_parts_0 20 rfl rfl)
theorem dX6_parts_21 : decode cX6_parts 21 = .ok (.getfield 210, 3) := dk_180 0 210 (dk_at dksX6_parts_0 21 rfl rfl)
theorem dX6_parts_24 : decode cX6_parts 24 = .ok (.if_icmp .ge 113, 3) := dk_162 0 113 (dk_at dksX6_parts_1 0 rfl rfl)
theorem dX6_parts_27 : decode cX6_parts 27 = .ok (.iconst 0, 1) := dk_3 (dk_at dksX6_parts_1 3 rfl rfl)
theorem dX6_parts_28 : decode cX6_parts 28 = .ok (.istore 5, 2) := dk_54 5 (dk_at dksX6_parts_1 4 rfl rfl)
theorem dX6_parts_30 : decode cX6_parts 30 = .ok (.iload 5, 2) := dk_21 5 (dk_at dksX6_parts_1 6 rfl rfl)
theorem dX6_parts_32 : decode cX6_parts 32 = .ok (.aload_n 0, 1) := dk_42 (dk_at dksX6_parts_1 8 rfl rfl)
theorem dX6_parts_33 : decode cX6_parts 33 = .ok (.getfield 210, 3) := dk_180 0 210 (dk_at dksX6_parts_1 9 rfl rfl)
theorem dX6_parts_36 : decode cX6_parts 36 = .ok (.if_icmp .ge 95, 3) := dk_162 0 95 (dk_at dksX6_parts_1 12 rfl rfl)
theorem dX6_parts_39 : decode cX6_parts 39 = .ok (.aload_n 0, 1) := dk_42 (dk_at dksX6_parts_1 15 rfl rfl)
theorem dX6_parts_40 : decode cX6_parts 40 = .ok (.getfield 237, 3) := dk_180 0 237 (dk_at dksX6_parts_1 16 rfl rfl)
theorem dX6_parts_43 : decode cX6_parts 43 = .ok (.iload 4, 2) := dk_21 4 (dk_at dksX6_parts_1 19 rfl rfl)
theorem dX6_parts_45 : decode cX6_parts 45 = .ok (.iaload, 1) := dk_46 (dk_at dksX6_parts_1 21 rfl rfl)
theorem dX6_parts_46 : decode cX6_parts 46 = .ok (.iconst (-1), 1) := dk_2 (dk_at dksX6_parts_1 22 rfl rfl)
theorem dX6_parts_47 : decode cX6_parts 47 = .ok (.if_icmp .eq 84, 3) := dk_159 0 84 (dk_at dksX6_parts_2 0 rfl rfl)
theorem dX6_parts_50 : decode cX6_parts 50 = .ok (.aload_n 0, 1) := dk_42 (dk_at dksX6_parts_2 3 rfl rfl)
theorem dX6_parts_51 : decode cX6_parts 51 = .ok (.getfield 225, 3) := dk_180 0 225 (dk_at dksX6_parts_2 4 rfl rfl)
theorem dX6_parts_54 : decode cX6_parts 54 = .ok (.bipush 48, 2) := dk_16 48 (dk_at dksX6_parts_2 7 rfl rfl)
theorem dX6_parts_56 : decode cX6_parts 56 = .ok (.iload 4, 2) := dk_21 4 (dk_at dksX6_parts_2 9 rfl rfl)
theorem dX6_parts_58 : decode cX6_parts 58 = .ok (.imul, 1) := dk_104 (dk_at dksX6_parts_2 11 rfl rfl)
theorem dX6_parts_59 : decode cX6_parts 59 = .ok (.iload 5, 2) := dk_21 5 (dk_at dksX6_parts_2 12 rfl rfl)
theorem dX6_parts_61 : decode cX6_parts 61 = .ok (.iadd, 1) := dk_96 (dk_at dksX6_parts_2 14 rfl rfl)
theorem dX6_parts_62 : decode cX6_parts 62 = .ok (.baload, 1) := dk_51 (dk_at dksX6_parts_2 15 rfl rfl)
theorem dX6_parts_63 : decode cX6_parts 63 = .ok (.ifCond .eq 6, 3) := dk_153 0 6 (dk_at dksX6_parts_2 16 rfl rfl)
theorem dX6_parts_66 : decode cX6_parts 66 = .ok (.goto 59, 3) := dk_167 0 59 (dk_at dksX6_parts_2 19 rfl rfl)
theorem dX6_parts_69 : decode cX6_parts 69 = .ok (.aload_n 0, 1) := dk_42 (dk_at dksX6_parts_2 22 rfl rfl)
theorem dX6_parts_70 : decode cX6_parts 70 = .ok (.getfield 237, 3) := dk_180 0 237 (dk_at dksX6_parts_3 0 rfl rfl)
theorem dX6_parts_73 : decode cX6_parts 73 = .ok (.iload 5, 2) := dk_21 5 (dk_at dksX6_parts_3 3 rfl rfl)
theorem dX6_parts_75 : decode cX6_parts 75 = .ok (.iaload, 1) := dk_46 (dk_at dksX6_parts_3 5 rfl rfl)
theorem dX6_parts_76 : decode cX6_parts 76 = .ok (.aload_n 0, 1) := dk_42 (dk_at dksX6_parts_3 6 rfl rfl)
theorem dX6_parts_77 : decode cX6_parts 77 = .ok (.getfield 237, 3) := dk_180 0 237 (dk_at dksX6_parts_3 7 rfl rfl)
theorem dX6_parts_80 : decode cX6_parts 80 = .ok (.iload 4, 2) := dk_21 4 (dk_at dksX6_parts_3 10 rfl rfl)
theorem dX6_parts_82 : decode cX6_parts 82 = .ok (.iaload, 1) := dk_46 (dk_at dksX6_parts_3 12 rfl rfl)
theorem dX6_parts_83 : decode cX6_parts 83 = .ok (.if_icmp .ne 5, 3) := dk_160 0 5 (dk_at dksX6_parts_3 13 rfl rfl)
theorem dX6_parts_86 : decode cX6_parts 86 = .ok (.iconst 0, 1) := dk_3 (dk_at dksX6_parts_3 16 rfl rfl)
theorem dX6_parts_87 : decode cX6_parts 87 = .ok (.ireturn, 1) := dk_172 (dk_at dksX6_parts_3 17 rfl rfl)
theorem dX6_parts_88 : decode cX6_parts 88 = .ok (.iload_n 3, 1) := dk_29 (dk_at dksX6_parts_3 18 rfl rfl)
theorem dX6_parts_89 : decode cX6_parts 89 = .ok (.ifCond .ne 14, 3) := dk_154 0 14 (dk_at dksX6_parts_3 19 rfl rfl)
theorem dX6_parts_92 : decode cX6_parts 92 = .ok (.aload_n 0, 1) := dk_42 (dk_at dksX6_parts_3 22 rfl rfl)
theorem dX6_parts_93 : decode cX6_parts 93 = .ok (.getfield 237, 3) := dk_180 0 237 (dk_at dksX6_parts_4 0 rfl rfl)
theorem dX6_parts_96 : decode cX6_parts 96 = .ok (.iload 5, 2) := dk_21 5 (dk_at dksX6_parts_4 3 rfl rfl)
theorem dX6_parts_98 : decode cX6_parts 98 = .ok (.iaload, 1) := dk_46 (dk_at dksX6_parts_4 5 rfl rfl)
theorem dX6_parts_99 : decode cX6_parts 99 = .ok (.iconst (-1), 1) := dk_2 (dk_at dksX6_parts_4 6 rfl rfl)
theorem dX6_parts_100 : decode cX6_parts 100 = .ok (.if_icmp .ne 7, 3) := dk_160 0 7 (dk_at dksX6_parts_4 7 rfl rfl)
theorem dX6_parts_103 : decode cX6_parts 103 = .ok (.iconst 1, 1) := dk_4 (dk_at dksX6_parts_4 10 rfl rfl)
theorem dX6_parts_104 : decode cX6_parts 104 = .ok (.goto 4, 3) := dk_167 0 4 (dk_at dksX6_parts_4 11 rfl rfl)
theorem dX6_parts_107 : decode cX6_parts 107 = .ok (.iconst 0, 1) := dk_3 (dk_at dksX6_parts_4 14 rfl rfl)
theorem dX6_parts_108 : decode cX6_parts 108 = .ok (.istore_n 3, 1) := dk_62 (dk_at dksX6_parts_4 15 rfl rfl)
theorem dX6_parts_109 : decode cX6_parts 109 = .ok (.aload_n 0, 1) := dk_42 (dk_at dksX6_parts_4 16 rfl rfl)
theorem dX6_parts_110 : decode cX6_parts 110 = .ok (.getfield 237, 3) := dk_180 0 237 (dk_at dksX6_parts_4 17 rfl rfl)
theorem dX6_parts_113 : decode cX6_parts 113 = .ok (.iload 5, 2) := dk_21 5 (dk_at dksX6_parts_4 20 rfl rfl)
theorem dX6_parts_115 : decode cX6_parts 115 = .ok (.iconst 1, 1) := dk_4 (dk_at dksX6_parts_4 22 rfl rfl)
theorem dX6_parts_116 : decode cX6_parts 116 = .ok (.aload_n 0, 1) := dk_42 (dk_at dksX6_parts_4 23 rfl rfl)
theorem dX6_parts_117 : decode cX6_parts 117 = .ok (.getfield 237, 3) := dk_180 0 237 (dk_at dksX6_parts_5 0 rfl rfl)
theorem dX6_parts_120 : decode cX6_parts 120 = .ok (.iload 4, 2) := dk_21 4 (dk_at dksX6_parts_5 3 rfl rfl)
theorem dX6_parts_122 : decode cX6_parts 122 = .ok (.iaload, 1) := dk_46 (dk_at dksX6_parts_5 5 rfl rfl)
theorem dX6_parts_123 : decode cX6_parts 123 = .ok (.isub, 1) := dk_100 (dk_at dksX6_parts_5 6 rfl rfl)
theorem dX6_parts_124 : decode cX6_parts 124 = .ok (.iastore, 1) := dk_79 (dk_at dksX6_parts_5 7 rfl rfl)
theorem dX6_parts_125 : decode cX6_parts 125 = .ok (.iinc 5 1, 3) := dk_132 5 1 (dk_at dksX6_parts_5 8 rfl rfl)
theorem dX6_parts_128 : decode cX6_parts 128 = .ok (.goto (-98), 3) := dk_167 255 158 (dk_at dksX6_parts_5 11 rfl rfl)
theorem dX6_parts_131 : decode cX6_parts 131 = .ok (.iinc 4 1, 3) := dk_132 4 1 (dk_at dksX6_parts_5 14 rfl rfl)
theorem dX6_parts_134 : decode cX6_parts 134 = .ok (.goto (-116), 3) := dk_167 255 140 (dk_at dksX6_parts_5 17 rfl rfl)
theorem dX6_parts_137 : decode cX6_parts 137 = .ok (.goto (-128), 3) := dk_167 255 128 (dk_at dksX6_parts_5 20 rfl rfl)
theorem dX6_parts_140 : decode cX6_parts 140 = .ok (.iconst 0, 1) := dk_3 (dk_at dksX6_parts_5 23 rfl rfl)
theorem dX6_parts_141 : decode cX6_parts 141 = .ok (.istore 4, 2) := dk_54 4 (dk_at dksX6_parts_6 0 rfl rfl)
theorem dX6_parts_143 : decode cX6_parts 143 = .ok (.iload 4, 2) := dk_21 4 (dk_at dksX6_parts_6 2 rfl rfl)
theorem dX6_parts_145 : decode cX6_parts 145 = .ok (.aload_n 0, 1) := dk_42 (dk_at dksX6_parts_6 4 rfl rfl)
theorem dX6_parts_146 : decode cX6_parts 146 = .ok (.getfield 210, 3) := dk_180 0 210 (dk_at dksX6_parts_6 5 rfl rfl)
theorem dX6_parts_149 : decode cX6_parts 149 = .ok (.if_icmp .ge 31, 3) := dk_162 0 31 (dk_at dksX6_parts_6 8 rfl rfl)
theorem dX6_parts_152 : decode cX6_parts 152 = .ok (.aload_n 0, 1) := dk_42 (dk_at dksX6_parts_6 11 rfl rfl)
theorem dX6_parts_153 : decode cX6_parts 153 = .ok (.getfield 237, 3) := dk_180 0 237 (dk_at dksX6_parts_6 12 rfl rfl)
theorem dX6_parts_156 : decode cX6_parts 156 = .ok (.iload 4, 2) := dk_21 4 (dk_at dksX6_parts_6 15 rfl rfl)
theorem dX6_parts_158 : decode cX6_parts 158 = .ok (.iaload, 1) := dk_46 (dk_at dksX6_parts_6 17 rfl rfl)
theorem dX6_parts_159 : decode cX6_parts 159 = .ok (.ifCond .ne 15, 3) := dk_154 0 15 (dk_at dksX6_parts_6 18 rfl rfl)
theorem dX6_parts_162 : decode cX6_parts 162 = .ok (.aload_n 0, 1) := dk_42 (dk_at dksX6_parts_6 21 rfl rfl)
theorem dX6_parts_163 : decode cX6_parts 163 = .ok (.getfield 219, 3) := dk_180 0 219 (dk_at dksX6_parts_7 0 rfl rfl)
theorem dX6_parts_166 : decode cX6_parts 166 = .ok (.iload 4, 2) := dk_21 4 (dk_at dksX6_parts_7 3 rfl rfl)
theorem dX6_parts_168 : decode cX6_parts 168 = .ok (.baload, 1) := dk_51 (dk_at dksX6_parts_7 5 rfl rfl)
theorem dX6_parts_169 : decode cX6_parts 169 = .ok (.ifCond .ne 5, 3) := dk_154 0 5 (dk_at dksX6_parts_7 6 rfl rfl)
theorem dX6_parts_172 : decode cX6_parts 172 = .ok (.iconst 0, 1) := dk_3 (dk_at dksX6_parts_7 9 rfl rfl)
theorem dX6_parts_173 : decode cX6_parts 173 = .ok (.ireturn, 1) := dk_172 (dk_at dksX6_parts_7 10 rfl rfl)
theorem dX6_parts_174 : decode cX6_parts 174 = .ok (.iinc 4 1, 3) := dk_132 4 1 (dk_at dksX6_parts_7 11 rfl rfl)
theorem dX6_parts_177 : decode cX6_parts 177 = .ok (.goto (-34), 3) := dk_167 255 222 (dk_at dksX6_parts_7 14 rfl rfl)
theorem dX6_parts_180 : decode cX6_parts 180 = .ok (.iconst 1, 1) := dk_4 (dk_at dksX6_parts_7 17 rfl rfl)
theorem dX6_parts_181 : decode cX6_parts 181 = .ok (.ireturn, 1) := dk_172 (dk_at dksX6_parts_7 18 rfl rfl)
abbrev cX6_bringsSets : ByteArray := prog_29_method_99_code
def yX6_bringsSets : MethodName := ⟨RX6, "bringsSets", "()V"⟩
def dkwX6_bringsSets_1 : List UInt8 := [167, 255, 235, 177]
abbrev dktX6_bringsSets_1 : List UInt8 := dkwX6_bringsSets_1 ++ []
def dkwX6_bringsSets_0 : List UInt8 := [3, 60, 27, 16, 48, 162, 0, 21, 42, 180, 0, 237, 27, 42, 180, 0, 240, 27, 46, 79, 132, 1, 1]
abbrev dktX6_bringsSets_0 : List UInt8 := dkwX6_bringsSets_0 ++ dktX6_bringsSets_1
theorem dksX6_bringsSets_0 : cX6_bringsSets.data.toList.drop 0 = dktX6_bringsSets_0 := by decide +kernel
theorem dksX6_bringsSets_1 : cX6_bringsSets.data.toList.drop 23 = dktX6_bringsSets_1 := dk_seg dksX6_bringsSets_0 23 rfl rfl
theorem dX6_bringsSets_0 : decode cX6_bringsSets 0 = .ok (.iconst 0, 1) := dk_3 (dk_at dksX6_bringsSets_0 0 rfl rfl)
theorem dX6_bringsSets_1 : decode cX6_bringsSets 1 = .ok (.istore_n 1, 1) := dk_60 (dk_at dksX6_bringsSets_0 1 rfl rfl)
theorem dX6_bringsSets_2 : decode cX6_bringsSets 2 = .ok (.iload_n 1, 1) := dk_27 (dk_at dksX6_bringsSets_0 2 rfl rfl)
theorem dX6_bringsSets_3 : decode cX6_bringsSets 3 = .ok (.bipush 48, 2) := dk_16 48 (dk_at dksX6_bringsSets_0 3 rfl rfl)
theorem dX6_bringsSets_5 : decode cX6_bringsSets 5 = .ok (.if_icmp .ge 21, 3) := dk_162 0 21 (dk_at dksX6_bringsSets_0 5 rfl rfl)
theorem dX6_bringsSets_8 : decode cX6_bringsSets 8 = .ok (.aload_n 0, 1) := dk_42 (dk_at dksX6_bringsSets_0 8 rfl rfl)
theorem dX6_bringsSets_9 : decode cX6_bringsSets 9 = .ok (.getfield 237, 3) := dk_180 0 237 (dk_at dksX6_bringsSets_0 9 rfl rfl)
theorem dX6_bringsSets_12 : decode cX6_bringsSets 12 = .ok (.iload_n 1, 1) := dk_27 (dk_at dksX6_bringsSets_0 12 rfl rfl)
theorem dX6_bringsSets_13 : decode cX6_bringsSets 13 = .ok (.aload_n 0, 1) := dk_42 (dk_at dksX6_bringsSets_0 13 rfl rfl)
theorem dX6_bringsSets_14 : decode cX6_bringsSets 14 = .ok (.getfield 240, 3) := dk_180 0 240 (dk_at dksX6_bringsSets_0 14 rfl rfl)
theorem dX6_bringsSets_17 : decode cX6_bringsSets 17 = .ok (.iload_n 1, 1) := dk_27 (dk_at dksX6_bringsSets_0 17 rfl rfl)
theorem dX6_bringsSets_18 : decode cX6_bringsSets 18 = .ok (.iaload, 1) := dk_46 (dk_at dksX6_bringsSets_0 18 rfl rfl)
theorem dX6_bringsSets_19 : decode cX6_bringsSets 19 = .ok (.iastore, 1) := dk_79 (dk_at dksX6_bringsSets_0 19 rfl rfl)
theorem dX6_bringsSets_20 : decode cX6_bringsSets 20 = .ok (.iinc 1 1, 3) := dk_132 1 1 (dk_at dksX6_bringsSets_0 20 rfl rfl)
theorem dX6_bringsSets_23 : decode cX6_bringsSets 23 = .ok (.goto (-21), 3) := dk_167 255 235 (dk_at dksX6_bringsSets_1 0 rfl rfl)
theorem dX6_bringsSets_26 : decode cX6_bringsSets 26 = .ok (.return_, 1) := dk_177 (dk_at dksX6_bringsSets_1 3 rfl rfl)
abbrev cX6_gapsOf : ByteArray := prog_29_method_93_code
def yX6_gapsOf : MethodName := ⟨RX6, "gapsOf", "(I)I"⟩
def dkwX6_gapsOf_4 : List UInt8 := [167, 255, 191, 28, 172]
abbrev dktX6_gapsOf_4 : List UInt8 := dkwX6_gapsOf_4 ++ []
def dkwX6_gapsOf_3 : List UInt8 := [96, 181, 0, 234, 28, 42, 27, 29, 182, 2, 57, 153, 0, 7, 3, 167, 0, 4, 4, 96, 61, 132, 3, 1]
abbrev dktX6_gapsOf_3 : List UInt8 := dkwX6_gapsOf_3 ++ dktX6_gapsOf_4
def dkwX6_gapsOf_2 : List UInt8 := [100, 46, 162, 0, 49, 42, 27, 29, 182, 1, 243, 2, 159, 0, 6, 167, 0, 30, 42, 89, 180, 0, 234, 4]
abbrev dktX6_gapsOf_2 : List UInt8 := dkwX6_gapsOf_2 ++ dktX6_gapsOf_3
def dkwX6_gapsOf_1 : List UInt8 := [42, 180, 0, 216, 3, 46, 62, 42, 180, 0, 210, 158, 0, 64, 29, 42, 180, 0, 216, 42, 180, 0, 210, 4]
abbrev dktX6_gapsOf_1 : List UInt8 := dkwX6_gapsOf_1 ++ dktX6_gapsOf_2
def dkwX6_gapsOf_0 : List UInt8 := [42, 27, 182, 2, 52, 42, 3, 181, 0, 234, 3, 61, 42, 180, 0, 210, 154, 0, 8, 16, 48, 167, 0, 9]
abbrev dktX6_gapsOf_0 : List UInt8 := dkwX6_gapsOf_0 ++ dktX6_gapsOf_1
theorem dksX6_gapsOf_0 : cX6_gapsOf.data.toList.drop 0 = dktX6_gapsOf_0 := by decide +kernel
theorem dksX6_gapsOf_1 : cX6_gapsOf.data.toList.drop 24 = dktX6_gapsOf_1 := dk_seg dksX6_gapsOf_0 24 rfl rfl
theorem dksX6_gapsOf_2 : cX6_gapsOf.data.toList.drop 48 = dktX6_gapsOf_2 := dk_seg dksX6_gapsOf_1 24 rfl rfl
theorem dksX6_gapsOf_3 : cX6_gapsOf.data.toList.drop 72 = dktX6_gapsOf_3 := dk_seg dksX6_gapsOf_2 24 rfl rfl
theorem dksX6_gapsOf_4 : cX6_gapsOf.data.toList.drop 96 = dktX6_gapsOf_4 := dk_seg dksX6_gapsOf_3 24 rfl rfl
theorem dX6_gapsOf_0 : decode cX6_gapsOf 0 = .ok (.aload_n 0, 1) := dk_42 (dk_at dksX6_gapsOf_0 0 rfl rfl)
theorem dX6_gapsOf_1 : decode cX6_gapsOf 1 = .ok (.iload_n 1, 1) := dk_27 (dk_at dksX6_gapsOf_0 1 rfl rfl)
theorem dX6_gapsOf_2 : decode cX6_gapsOf 2 = .ok (.invokevirtual 564, 3) := dk_182 2 52 (dk_at dksX6_gapsOf_0 2 rfl rfl)
theorem dX6_gapsOf_5 : decode cX6_gapsOf 5 = .ok (.aload_n 0, 1) := dk_42 (dk_at dksX6_gapsOf_0 5 rfl rfl)
theorem dX6_gapsOf_6 : decode cX6_gapsOf 6 = .ok (.iconst 0, 1) := dk_3 (dk_at dksX6_gapsOf_0 6 rfl rfl)
theorem dX6_gapsOf_7 : decode cX6_gapsOf 7 = .ok (.putfield 234, 3) := dk_181 0 234 (dk_at dksX6_gapsOf_0 7 rfl rfl)
theorem dX6_gapsOf_10 : decode cX6_gapsOf 10 = .ok (.iconst 0, 1) := dk_3 (dk_at dksX6_gapsOf_0 10 rfl rfl)
theorem dX6_gapsOf_11 : decode cX6_gapsOf 11 = .ok (.istore_n 2, 1) := dk_61 (dk_at dksX6_gapsOf_0 11 rfl rfl)
theorem dX6_gapsOf_12 : decode cX6_gapsOf 12 = .ok (.aload_n 0, 1) := dk_42 (dk_at dksX6_gapsOf_0 12 rfl rfl)
theorem dX6_gapsOf_13 : decode cX6_gapsOf 13 = .ok (.getfield 210, 3) := dk_180 0 210 (dk_at dksX6_gapsOf_0 13 rfl rfl)
theorem dX6_gapsOf_16 : decode cX6_gapsOf 16 = .ok (.ifCond .ne 8, 3) := dk_154 0 8 (dk_at dksX6_gapsOf_0 16 rfl rfl)
theorem dX6_gapsOf_19 : decode cX6_gapsOf 19 = .ok (.bipush 48, 2) := dk_16 48 (dk_at dksX6_gapsOf_0 19 rfl rfl)
theorem dX6_gapsOf_21 : decode cX6_gapsOf 21 = .ok (.goto 9, 3) := dk_167 0 9 (dk_at dksX6_gapsOf_0 21 rfl rfl)
theorem dX6_gapsOf_24 : decode cX6_gapsOf 24 = .ok (.aload_n 0, 1) := dk_42 (dk_at dksX6_gapsOf_1 0 rfl rfl)
theorem dX6_gapsOf_25 : decode cX6_gapsOf 25 = .ok (.getfield 216, 3) := dk_180 0 216 (dk_at dksX6_gapsOf_1 1 rfl rfl)
theorem dX6_gapsOf_28 : decode cX6_gapsOf 28 = .ok (.iconst 0, 1) := dk_3 (dk_at dksX6_gapsOf_1 4 rfl rfl)
theorem dX6_gapsOf_29 : decode cX6_gapsOf 29 = .ok (.iaload, 1) := dk_46 (dk_at dksX6_gapsOf_1 5 rfl rfl)
theorem dX6_gapsOf_30 : decode cX6_gapsOf 30 = .ok (.istore_n 3, 1) := dk_62 (dk_at dksX6_gapsOf_1 6 rfl rfl)
theorem dX6_gapsOf_31 : decode cX6_gapsOf 31 = .ok (.aload_n 0, 1) := dk_42 (dk_at dksX6_gapsOf_1 7 rfl rfl)
theorem dX6_gapsOf_32 : decode cX6_gapsOf 32 = .ok (.getfield 210, 3) := dk_180 0 210 (dk_at dksX6_gapsOf_1 8 rfl rfl)
theorem dX6_gapsOf_35 : decode cX6_gapsOf 35 = .ok (.ifCond .le 64, 3) := dk_158 0 64 (dk_at dksX6_gapsOf_1 11 rfl rfl)
theorem dX6_gapsOf_38 : decode cX6_gapsOf 38 = .ok (.iload_n 3, 1) := dk_29 (dk_at dksX6_gapsOf_1 14 rfl rfl)
theorem dX6_gapsOf_39 : decode cX6_gapsOf 39 = .ok (.aload_n 0, 1) := dk_42 (dk_at dksX6_gapsOf_1 15 rfl rfl)
theorem dX6_gapsOf_40 : decode cX6_gapsOf 40 = .ok (.getfield 216, 3) := dk_180 0 216 (dk_at dksX6_gapsOf_1 16 rfl rfl)
theorem dX6_gapsOf_43 : decode cX6_gapsOf 43 = .ok (.aload_n 0, 1) := dk_42 (dk_at dksX6_gapsOf_1 19 rfl rfl)
theorem dX6_gapsOf_44 : decode cX6_gapsOf 44 = .ok (.getfield 210, 3) := dk_180 0 210 (dk_at dksX6_gapsOf_1 20 rfl rfl)
theorem dX6_gapsOf_47 : decode cX6_gapsOf 47 = .ok (.iconst 1, 1) := dk_4 (dk_at dksX6_gapsOf_1 23 rfl rfl)
theorem dX6_gapsOf_48 : decode cX6_gapsOf 48 = .ok (.isub, 1) := dk_100 (dk_at dksX6_gapsOf_2 0 rfl rfl)
theorem dX6_gapsOf_49 : decode cX6_gapsOf 49 = .ok (.iaload, 1) := dk_46 (dk_at dksX6_gapsOf_2 1 rfl rfl)
theorem dX6_gapsOf_50 : decode cX6_gapsOf 50 = .ok (.if_icmp .ge 49, 3) := dk_162 0 49 (dk_at dksX6_gapsOf_2 2 rfl rfl)
theorem dX6_gapsOf_53 : decode cX6_gapsOf 53 = .ok (.aload_n 0, 1) := dk_42 (dk_at dksX6_gapsOf_2 5 rfl rfl)
theorem dX6_gapsOf_54 : decode cX6_gapsOf 54 = .ok (.iload_n 1, 1) := dk_27 (dk_at dksX6_gapsOf_2 6 rfl rfl)
theorem dX6_gapsOf_55 : decode cX6_gapsOf 55 = .ok (.iload_n 3, 1) := dk_29 (dk_at dksX6_gapsOf_2 7 rfl rfl)
theorem dX6_gapsOf_56 : decode cX6_gapsOf 56 = .ok (.invokevirtual 499, 3) := dk_182 1 243 (dk_at dksX6_gapsOf_2 8 rfl rfl)
theorem dX6_gapsOf_59 : decode cX6_gapsOf 59 = .ok (.iconst (-1), 1) := dk_2 (dk_at dksX6_gapsOf_2 11 rfl rfl)
theorem dX6_gapsOf_60 : decode cX6_gapsOf 60 = .ok (.if_icmp .eq 6, 3) := dk_159 0 6 (dk_at dksX6_gapsOf_2 12 rfl rfl)
theorem dX6_gapsOf_63 : decode cX6_gapsOf 63 = .ok (.goto 30, 3) := dk_167 0 30 (dk_at dksX6_gapsOf_2 15 rfl rfl)
theorem dX6_gapsOf_66 : decode cX6_gapsOf 66 = .ok (.aload_n 0, 1) := dk_42 (dk_at dksX6_gapsOf_2 18 rfl rfl)
theorem dX6_gapsOf_67 : decode cX6_gapsOf 67 = .ok (.dup, 1) := dk_89 (dk_at dksX6_gapsOf_2 19 rfl rfl)
theorem dX6_gapsOf_68 : decode cX6_gapsOf 68 = .ok (.getfield 234, 3) := dk_180 0 234 (dk_at dksX6_gapsOf_2 20 rfl rfl)
theorem dX6_gapsOf_71 : decode cX6_gapsOf 71 = .ok (.iconst 1, 1) := dk_4 (dk_at dksX6_gapsOf_2 23 rfl rfl)
theorem dX6_gapsOf_72 : decode cX6_gapsOf 72 = .ok (.iadd, 1) := dk_96 (dk_at dksX6_gapsOf_3 0 rfl rfl)
theorem dX6_gapsOf_73 : decode cX6_gapsOf 73 = .ok (.putfield 234, 3) := dk_181 0 234 (dk_at dksX6_gapsOf_3 1 rfl rfl)
theorem dX6_gapsOf_76 : decode cX6_gapsOf 76 = .ok (.iload_n 2, 1) := dk_28 (dk_at dksX6_gapsOf_3 4 rfl rfl)
theorem dX6_gapsOf_77 : decode cX6_gapsOf 77 = .ok (.aload_n 0, 1) := dk_42 (dk_at dksX6_gapsOf_3 5 rfl rfl)
theorem dX6_gapsOf_78 : decode cX6_gapsOf 78 = .ok (.iload_n 1, 1) := dk_27 (dk_at dksX6_gapsOf_3 6 rfl rfl)
theorem dX6_gapsOf_79 : decode cX6_gapsOf 79 = .ok (.iload_n 3, 1) := dk_29 (dk_at dksX6_gapsOf_3 7 rfl rfl)
theorem dX6_gapsOf_80 : decode cX6_gapsOf 80 = .ok (.invokevirtual 569, 3) := dk_182 2 57 (dk_at dksX6_gapsOf_3 8 rfl rfl)
theorem dX6_gapsOf_83 : decode cX6_gapsOf 83 = .ok (.ifCond .eq 7, 3) := dk_153 0 7 (dk_at dksX6_gapsOf_3 11 rfl rfl)
theorem dX6_gapsOf_86 : decode cX6_gapsOf 86 = .ok (.iconst 0, 1) := dk_3 (dk_at dksX6_gapsOf_3 14 rfl rfl)
theorem dX6_gapsOf_87 : decode cX6_gapsOf 87 = .ok (.goto 4, 3) := dk_167 0 4 (dk_at dksX6_gapsOf_3 15 rfl rfl)
theorem dX6_gapsOf_90 : decode cX6_gapsOf 90 = .ok (.iconst 1, 1) := dk_4 (dk_at dksX6_gapsOf_3 18 rfl rfl)
theorem dX6_gapsOf_91 : decode cX6_gapsOf 91 = .ok (.iadd, 1) := dk_96 (dk_at dksX6_gapsOf_3 19 rfl rfl)
theorem dX6_gapsOf_92 : decode cX6_gapsOf 92 = .ok (.istore_n 2, 1) := dk_61 (dk_at dksX6_gapsOf_3 20 rfl rfl)
theorem dX6_gapsOf_93 : decode cX6_gapsOf 93 = .ok (.iinc 3 1, 3) := dk_132 3 1 (dk_at dksX6_gapsOf_3 21 rfl rfl)
theorem dX6_gapsOf_96 : decode cX6_gapsOf 96 = .ok (.goto (-65), 3) := dk_167 255 191 (dk_at dksX6_gapsOf_4 0 rfl rfl)
theorem dX6_gapsOf_99 : decode cX6_gapsOf 99 = .ok (.iload_n 2, 1) := dk_28 (dk_at dksX6_gapsOf_4 3 rfl rfl)
theorem dX6_gapsOf_100 : decode cX6_gapsOf 100 = .ok (.ireturn, 1) := dk_172 (dk_at dksX6_gapsOf_4 4 rfl rfl)
abbrev cX6_isHonest : ByteArray := prog_29_method_87_code
def yX6_isHonest : MethodName := ⟨RX6, "isHonest", "(II)Z"⟩
def dkwX6_isHonest_1 : List UInt8 := [182, 1, 240, 153, 0, 5, 4, 172, 132, 3, 1, 167, 255, 224, 3, 172]
abbrev dktX6_isHonest_1 : List UInt8 := dkwX6_isHonest_1 ++ []
def dkwX6_isHonest_0 : List UInt8 := [3, 62, 29, 42, 182, 1, 223, 162, 0, 30, 42, 27, 29, 28, 182, 2, 43, 153, 0, 14, 42, 29, 28]
abbrev dktX6_isHonest_0 : List UInt8 := dkwX6_isHonest_0 ++ dktX6_isHonest_1
theorem dksX6_isHonest_0 : cX6_isHonest.data.toList.drop 0 = dktX6_isHonest_0 := by decide +kernel
theorem dksX6_isHonest_1 : cX6_isHonest.data.toList.drop 23 = dktX6_isHonest_1 := dk_seg dksX6_isHonest_0 23 rfl rfl
theorem dX6_isHonest_0 : decode cX6_isHonest 0 = .ok (.iconst 0, 1) := dk_3 (dk_at dksX6_isHonest_0 0 rfl rfl)
theorem dX6_isHonest_1 : decode cX6_isHonest 1 = .ok (.istore_n 3, 1) := dk_62 (dk_at dksX6_isHonest_0 1 rfl rfl)
theorem dX6_isHonest_2 : decode cX6_isHonest 2 = .ok (.iload_n 3, 1) := dk_29 (dk_at dksX6_isHonest_0 2 rfl rfl)
theorem dX6_isHonest_3 : decode cX6_isHonest 3 = .ok (.aload_n 0, 1) := dk_42 (dk_at dksX6_isHonest_0 3 rfl rfl)
theorem dX6_isHonest_4 : decode cX6_isHonest 4 = .ok (.invokevirtual 479, 3) := dk_182 1 223 (dk_at dksX6_isHonest_0 4 rfl rfl)
theorem dX6_isHonest_7 : decode cX6_isHonest 7 = .ok (.if_icmp .ge 30, 3) := dk_162 0 30 (dk_at dksX6_isHonest_0 7 rfl rfl)
theorem dX6_isHonest_10 : decode cX6_isHonest 10 = .ok (.aload_n 0, 1) := dk_42 (dk_at dksX6_isHonest_0 10 rfl rfl)
theorem dX6_isHonest_11 : decode cX6_isHonest 11 = .ok (.iload_n 1, 1) := dk_27 (dk_at dksX6_isHonest_0 11 rfl rfl)
theorem dX6_isHonest_12 : decode cX6_isHonest 12 = .ok (.iload_n 3, 1) := dk_29 (dk_at dksX6_isHonest_0 12 rfl rfl)
theorem dX6_isHonest_13 : decode cX6_isHonest 13 = .ok (.iload_n 2, 1) := dk_28 (dk_at dksX6_isHonest_0 13 rfl rfl)
theorem dX6_isHonest_14 : decode cX6_isHonest 14 = .ok (.invokevirtual 555, 3) := dk_182 2 43 (dk_at dksX6_isHonest_0 14 rfl rfl)
theorem dX6_isHonest_17 : decode cX6_isHonest 17 = .ok (.ifCond .eq 14, 3) := dk_153 0 14 (dk_at dksX6_isHonest_0 17 rfl rfl)
theorem dX6_isHonest_20 : decode cX6_isHonest 20 = .ok (.aload_n 0, 1) := dk_42 (dk_at dksX6_isHonest_0 20 rfl rfl)
theorem dX6_isHonest_21 : decode cX6_isHonest 21 = .ok (.iload_n 3, 1) := dk_29 (dk_at dksX6_isHonest_0 21 rfl rfl)
theorem dX6_isHonest_22 : decode cX6_isHonest 22 = .ok (.iload_n 2, 1) := dk_28 (dk_at dksX6_isHonest_0 22 rfl rfl)
theorem dX6_isHonest_23 : decode cX6_isHonest 23 = .ok (.invokevirtual 496, 3) := dk_182 1 240 (dk_at dksX6_isHonest_1 0 rfl rfl)
theorem dX6_isHonest_26 : decode cX6_isHonest 26 = .ok (.ifCond .eq 5, 3) := dk_153 0 5 (dk_at dksX6_isHonest_1 3 rfl rfl)
theorem dX6_isHonest_29 : decode cX6_isHonest 29 = .ok (.iconst 1, 1) := dk_4 (dk_at dksX6_isHonest_1 6 rfl rfl)
theorem dX6_isHonest_30 : decode cX6_isHonest 30 = .ok (.ireturn, 1) := dk_172 (dk_at dksX6_isHonest_1 7 rfl rfl)
theorem dX6_isHonest_31 : decode cX6_isHonest 31 = .ok (.iinc 3 1, 3) := dk_132 3 1 (dk_at dksX6_isHonest_1 8 rfl rfl)
theorem dX6_isHonest_34 : decode cX6_isHonest 34 = .ok (.goto (-32), 3) := dk_167 255 224 (dk_at dksX6_isHonest_1 11 rfl rfl)
theorem dX6_isHonest_37 : decode cX6_isHonest 37 = .ok (.iconst 0, 1) := dk_3 (dk_at dksX6_isHonest_1 14 rfl rfl)
theorem dX6_isHonest_38 : decode cX6_isHonest 38 = .ok (.ireturn, 1) := dk_172 (dk_at dksX6_isHonest_1 15 rfl rfl)
abbrev cX6_tale : ByteArray := prog_29_method_103_code
def yX6_tale : MethodName := ⟨RX6, "tale", "(II)I"⟩
def dkwX6_tale_0 : List UInt8 := [42, 27, 182, 1, 249, 153, 0, 12, 42, 27, 28, 182, 2, 87, 167, 0, 4, 2, 172]
abbrev dktX6_tale_0 : List UInt8 := dkwX6_tale_0 ++ []
theorem dksX6_tale_0 : cX6_tale.data.toList.drop 0 = dktX6_tale_0 := by decide +kernel
theorem dX6_tale_0 : decode cX6_tale 0 = .ok (.aload_n 0, 1) := dk_42 (dk_at dksX6_tale_0 0 rfl rfl)
theorem dX6_tale_1 : decode cX6_tale 1 = .ok (.iload_n 1, 1) := dk_27 (dk_at dksX6_tale_0 1 rfl rfl)
theorem dX6_tale_2 : decode cX6_tale 2 = .ok (.invokevirtual 505, 3) := dk_182 1 249 (dk_at dksX6_tale_0 2 rfl rfl)
theorem dX6_tale_5 : decode cX6_tale 5 = .ok (.ifCond .eq 12, 3) := dk_153 0 12 (dk_at dksX6_tale_0 5 rfl rfl)
theorem dX6_tale_8 : decode cX6_tale 8 = .ok (.aload_n 0, 1) := dk_42 (dk_at dksX6_tale_0 8 rfl rfl)
theorem dX6_tale_9 : decode cX6_tale 9 = .ok (.iload_n 1, 1) := dk_27 (dk_at dksX6_tale_0 9 rfl rfl)
theorem dX6_tale_10 : decode cX6_tale 10 = .ok (.iload_n 2, 1) := dk_28 (dk_at dksX6_tale_0 10 rfl rfl)
theorem dX6_tale_11 : decode cX6_tale 11 = .ok (.invokevirtual 599, 3) := dk_182 2 87 (dk_at dksX6_tale_0 11 rfl rfl)
theorem dX6_tale_14 : decode cX6_tale 14 = .ok (.goto 4, 3) := dk_167 0 4 (dk_at dksX6_tale_0 14 rfl rfl)
theorem dX6_tale_17 : decode cX6_tale 17 = .ok (.iconst (-1), 1) := dk_2 (dk_at dksX6_tale_0 17 rfl rfl)
theorem dX6_tale_18 : decode cX6_tale 18 = .ok (.ireturn, 1) := dk_172 (dk_at dksX6_tale_0 18 rfl rfl)
abbrev cX6_taleOf : ByteArray := prog_29_method_102_code
def yX6_taleOf : MethodName := ⟨RX6, "taleOf", "(II)I"⟩
def dkwX6_taleOf_1 : List UInt8 := [154, 0, 6, 167, 0, 13, 29, 154, 0, 6, 21, 4, 172, 132, 3, 255, 132, 4, 1, 167, 255, 220, 2, 172]
abbrev dktX6_taleOf_1 : List UInt8 := dkwX6_taleOf_1 ++ []
def dkwX6_taleOf_0 : List UInt8 := [28, 62, 3, 54, 4, 21, 4, 7, 163, 0, 36, 29, 155, 0, 32, 42, 27, 21, 4, 182, 2, 84]
abbrev dktX6_taleOf_0 : List UInt8 := dkwX6_taleOf_0 ++ dktX6_taleOf_1
theorem dksX6_taleOf_0 : cX6_taleOf.data.toList.drop 0 = dktX6_taleOf_0 := by decide +kernel
theorem dksX6_taleOf_1 : cX6_taleOf.data.toList.drop 22 = dktX6_taleOf_1 := dk_seg dksX6_taleOf_0 22 rfl rfl
theorem dX6_taleOf_0 : decode cX6_taleOf 0 = .ok (.iload_n 2, 1) := dk_28 (dk_at dksX6_taleOf_0 0 rfl rfl)
theorem dX6_taleOf_1 : decode cX6_taleOf 1 = .ok (.istore_n 3, 1) := dk_62 (dk_at dksX6_taleOf_0 1 rfl rfl)
theorem dX6_taleOf_2 : decode cX6_taleOf 2 = .ok (.iconst 0, 1) := dk_3 (dk_at dksX6_taleOf_0 2 rfl rfl)
theorem dX6_taleOf_3 : decode cX6_taleOf 3 = .ok (.istore 4, 2) := dk_54 4 (dk_at dksX6_taleOf_0 3 rfl rfl)
theorem dX6_taleOf_5 : decode cX6_taleOf 5 = .ok (.iload 4, 2) := dk_21 4 (dk_at dksX6_taleOf_0 5 rfl rfl)
theorem dX6_taleOf_7 : decode cX6_taleOf 7 = .ok (.iconst 4, 1) := dk_7 (dk_at dksX6_taleOf_0 7 rfl rfl)
theorem dX6_taleOf_8 : decode cX6_taleOf 8 = .ok (.if_icmp .gt 36, 3) := dk_163 0 36 (dk_at dksX6_taleOf_0 8 rfl rfl)
theorem dX6_taleOf_11 : decode cX6_taleOf 11 = .ok (.iload_n 3, 1) := dk_29 (dk_at dksX6_taleOf_0 11 rfl rfl)
theorem dX6_taleOf_12 : decode cX6_taleOf 12 = .ok (.ifCond .lt 32, 3) := dk_155 0 32 (dk_at dksX6_taleOf_0 12 rfl rfl)
theorem dX6_taleOf_15 : decode cX6_taleOf 15 = .ok (.aload_n 0, 1) := dk_42 (dk_at dksX6_taleOf_0 15 rfl rfl)
theorem dX6_taleOf_16 : decode cX6_taleOf 16 = .ok (.iload_n 1, 1) := dk_27 (dk_at dksX6_taleOf_0 16 rfl rfl)
theorem dX6_taleOf_17 : decode cX6_taleOf 17 = .ok (.iload 4, 2) := dk_21 4 (dk_at dksX6_taleOf_0 17 rfl rfl)
theorem dX6_taleOf_19 : decode cX6_taleOf 19 = .ok (.invokevirtual 596, 3) := dk_182 2 84 (dk_at dksX6_taleOf_0 19 rfl rfl)
theorem dX6_taleOf_22 : decode cX6_taleOf 22 = .ok (.ifCond .ne 6, 3) := dk_154 0 6 (dk_at dksX6_taleOf_1 0 rfl rfl)
theorem dX6_taleOf_25 : decode cX6_taleOf 25 = .ok (.goto 13, 3) := dk_167 0 13 (dk_at dksX6_taleOf_1 3 rfl rfl)
theorem dX6_taleOf_28 : decode cX6_taleOf 28 = .ok (.iload_n 3, 1) := dk_29 (dk_at dksX6_taleOf_1 6 rfl rfl)
theorem dX6_taleOf_29 : decode cX6_taleOf 29 = .ok (.ifCond .ne 6, 3) := dk_154 0 6 (dk_at dksX6_taleOf_1 7 rfl rfl)
theorem dX6_taleOf_32 : decode cX6_taleOf 32 = .ok (.iload 4, 2) := dk_21 4 (dk_at dksX6_taleOf_1 10 rfl rfl)
theorem dX6_taleOf_34 : decode cX6_taleOf 34 = .ok (.ireturn, 1) := dk_172 (dk_at dksX6_taleOf_1 12 rfl rfl)
theorem dX6_taleOf_35 : decode cX6_taleOf 35 = .ok (.iinc 3 (-1), 3) := dk_132 3 255 (dk_at dksX6_taleOf_1 13 rfl rfl)
theorem dX6_taleOf_38 : decode cX6_taleOf 38 = .ok (.iinc 4 1, 3) := dk_132 4 1 (dk_at dksX6_taleOf_1 16 rfl rfl)
theorem dX6_taleOf_41 : decode cX6_taleOf 41 = .ok (.goto (-36), 3) := dk_167 255 220 (dk_at dksX6_taleOf_1 19 rfl rfl)
theorem dX6_taleOf_44 : decode cX6_taleOf 44 = .ok (.iconst (-1), 1) := dk_2 (dk_at dksX6_taleOf_1 22 rfl rfl)
theorem dX6_taleOf_45 : decode cX6_taleOf 45 = .ok (.ireturn, 1) := dk_172 (dk_at dksX6_taleOf_1 23 rfl rfl)
abbrev cX6_bars : ByteArray := prog_29_method_104_code
def yX6_bars : MethodName := ⟨RX6, "bars", "(I)I"⟩
def dkwX6_bars_4 : List UInt8 := [172, 132, 3, 1, 167, 255, 180, 2, 172]
abbrev dktX6_bars_4 : List UInt8 := dkwX6_bars_4 ++ []
def dkwX6_bars_3 : List UInt8 := [21, 4, 96, 51, 153, 0, 7, 4, 167, 0, 4, 3, 61, 132, 4, 1, 167, 255, 222, 28, 154, 0, 5, 29]
abbrev dktX6_bars_3 : List UInt8 := dkwX6_bars_3 ++ dktX6_bars_4
def dkwX6_bars_2 : List UInt8 := [3, 61, 3, 54, 4, 21, 4, 29, 162, 0, 34, 28, 153, 0, 22, 42, 180, 0, 225, 16, 48, 29, 104]
abbrev dktX6_bars_2 : List UInt8 := dkwX6_bars_2 ++ dktX6_bars_3
def dkwX6_bars_1 : List UInt8 := [42, 180, 0, 210, 162, 0, 74, 28, 153, 0, 16, 42, 180, 0, 219, 29, 51, 153, 0, 7, 4, 167, 0, 4]
abbrev dktX6_bars_1 : List UInt8 := dkwX6_bars_1 ++ dktX6_bars_2
def dkwX6_bars_0 : List UInt8 := [42, 27, 182, 1, 249, 154, 0, 5, 2, 172, 42, 27, 182, 2, 34, 61, 42, 27, 182, 2, 37, 3, 62, 29]
abbrev dktX6_bars_0 : List UInt8 := dkwX6_bars_0 ++ dktX6_bars_1
theorem dksX6_bars_0 : cX6_bars.data.toList.drop 0 = dktX6_bars_0 := by decide +kernel
theorem dksX6_bars_1 : cX6_bars.data.toList.drop 24 = dktX6_bars_1 := dk_seg dksX6_bars_0 24 rfl rfl
theorem dksX6_bars_2 : cX6_bars.data.toList.drop 48 = dktX6_bars_2 := dk_seg dksX6_bars_1 24 rfl rfl
theorem dksX6_bars_3 : cX6_bars.data.toList.drop 71 = dktX6_bars_3 := dk_seg dksX6_bars_2 23 rfl rfl
theorem dksX6_bars_4 : cX6_bars.data.toList.drop 95 = dktX6_bars_4 := dk_seg dksX6_bars_3 24 rfl rfl
theorem dX6_bars_0 : decode cX6_bars 0 = .ok (.aload_n 0, 1) := dk_42 (dk_at dksX6_bars_0 0 rfl rfl)
theorem dX6_bars_1 : decode cX6_bars 1 = .ok (.iload_n 1, 1) := dk_27 (dk_at dksX6_bars_0 1 rfl rfl)
theorem dX6_bars_2 : decode cX6_bars 2 = .ok (.invokevirtual 505, 3) := dk_182 1 249 (dk_at dksX6_bars_0 2 rfl rfl)
theorem dX6_bars_5 : decode cX6_bars 5 = .ok (.ifCond .ne 5, 3) := dk_154 0 5 (dk_at dksX6_bars_0 5 rfl rfl)
theorem dX6_bars_8 : decode cX6_bars 8 = .ok (.iconst (-1), 1) := dk_2 (dk_at dksX6_bars_0 8 rfl rfl)
theorem dX6_bars_9 : decode cX6_bars 9 = .ok (.ireturn, 1) := dk_172 (dk_at dksX6_bars_0 9 rfl rfl)
theorem dX6_bars_10 : decode cX6_bars 10 = .ok (.aload_n 0, 1) := dk_42 (dk_at dksX6_bars_0 10 rfl rfl)
theorem dX6_bars_11 : decode cX6_bars 11 = .ok (.iload_n 1, 1) := dk_27 (dk_at dksX6_bars_0 11 rfl rfl)
theorem dX6_bars_12 : decode cX6_bars 12 = .ok (.invokevirtual 546, 3) := dk_182 2 34 (dk_at dksX6_bars_0 12 rfl rfl)
theorem dX6_bars_15 : decode cX6_bars 15 = .ok (.istore_n 2, 1) := dk_61 (dk_at dksX6_bars_0 15 rfl rfl)
theorem dX6_bars_16 : decode cX6_bars 16 = .ok (.aload_n 0, 1) := dk_42 (dk_at dksX6_bars_0 16 rfl rfl)
theorem dX6_bars_17 : decode cX6_bars 17 = .ok (.iload_n 1, 1) := dk_27 (dk_at dksX6_bars_0 17 rfl rfl)
theorem dX6_bars_18 : decode cX6_bars 18 = .ok (.invokevirtual 549, 3) := dk_182 2 37 (dk_at dksX6_bars_0 18 rfl rfl)
theorem dX6_bars_21 : decode cX6_bars 21 = .ok (.iconst 0, 1) := dk_3 (dk_at dksX6_bars_0 21 rfl rfl)
theorem dX6_bars_22 : decode cX6_bars 22 = .ok (.istore_n 3, 1) := dk_62 (dk_at dksX6_bars_0 22 rfl rfl)
theorem dX6_bars_23 : decode cX6_bars 23 = .ok (.iload_n 3, 1) := dk_29 (dk_at dksX6_bars_0 23 rfl rfl)
theorem dX6_bars_24 : decode cX6_bars 24 = .ok (.aload_n 0, 1) := dk_42 (dk_at dksX6_bars_1 0 rfl rfl)
theorem dX6_bars_25 : decode cX6_bars 25 = .ok (.getfield 210, 3) := dk_180 0 210 (dk_at dksX6_bars_1 1 rfl rfl)
theorem dX6_bars_28 : decode cX6_bars 28 = .ok (.if_icmp .ge 74, 3) := dk_162 0 74 (dk_at dksX6_bars_1 4 rfl rfl)
theorem dX6_bars_31 : decode cX6_bars 31 = .ok (.iload_n 2, 1) := dk_28 (dk_at dksX6_bars_1 7 rfl rfl)
theorem dX6_bars_32 : decode cX6_bars 32 = .ok (.ifCond .eq 16, 3) := dk_153 0 16 (dk_at dksX6_bars_1 8 rfl rfl)
theorem dX6_bars_35 : decode cX6_bars 35 = .ok (.aload_n 0, 1) := dk_42 (dk_at dksX6_bars_1 11 rfl rfl)
theorem dX6_bars_36 : decode cX6_bars 36 = .ok (.getfield 219, 3) := dk_180 0 219 (dk_at dksX6_bars_1 12 rfl rfl)
theorem dX6_bars_39 : decode cX6_bars 39 = .ok (.iload_n 3, 1) := dk_29 (dk_at dksX6_bars_1 15 rfl rfl)
theorem dX6_bars_40 : decode cX6_bars 40 = .ok (.baload, 1) := dk_51 (dk_at dksX6_bars_1 16 rfl rfl)
theorem dX6_bars_41 : decode cX6_bars 41 = .ok (.ifCond .eq 7, 3) := dk_153 0 7 (dk_at dksX6_bars_1 17 rfl rfl)
theorem dX6_bars_44 : decode cX6_bars 44 = .ok (.iconst 1, 1) := dk_4 (dk_at dksX6_bars_1 20 rfl rfl)
theorem dX6_bars_45 : decode cX6_bars 45 = .ok (.goto 4, 3) := dk_167 0 4 (dk_at dksX6_bars_1 21 rfl rfl)
theorem dX6_bars_48 : decode cX6_bars 48 = .ok (.iconst 0, 1) := dk_3 (dk_at dksX6_bars_2 0 rfl rfl)
theorem dX6_bars_49 : decode cX6_bars 49 = .ok (.istore_n 2, 1) := dk_61 (dk_at dksX6_bars_2 1 rfl rfl)
theorem dX6_bars_50 : decode cX6_bars 50 = .ok (.iconst 0, 1) := dk_3 (dk_at dksX6_bars_2 2 rfl rfl)
theorem dX6_bars_51 : decode cX6_bars 51 = .ok (.istore 4, 2) := dk_54 4 (dk_at dksX6_bars_2 3 rfl rfl)
theorem dX6_bars_53 : decode cX6_bars 53 = .ok (.iload 4, 2) := dk_21 4 (dk_at dksX6_bars_2 5 rfl rfl)
theorem dX6_bars_55 : decode cX6_bars 55 = .ok (.iload_n 3, 1) := dk_29 (dk_at dksX6_bars_2 7 rfl rfl)
theorem dX6_bars_56 : decode cX6_bars 56 = .ok (.if_icmp .ge 34, 3) := dk_162 0 34 (dk_at dksX6_bars_2 8 rfl rfl)
theorem dX6_bars_59 : decode cX6_bars 59 = .ok (.iload_n 2, 1) := dk_28 (dk_at dksX6_bars_2 11 rfl rfl)
theorem dX6_bars_60 : decode cX6_bars 60 = .ok (.ifCond .eq 22, 3) := dk_153 0 22 (dk_at dksX6_bars_2 12 rfl rfl)
theorem dX6_bars_63 : decode cX6_bars 63 = .ok (.aload_n 0, 1) := dk_42 (dk_at dksX6_bars_2 15 rfl rfl)
theorem dX6_bars_64 : decode cX6_bars 64 = .ok (.getfield 225, 3) := dk_180 0 225 (dk_at dksX6_bars_2 16 rfl rfl)
theorem dX6_bars_67 : decode cX6_bars 67 = .ok (.bipush 48, 2) := dk_16 48 (dk_at dksX6_bars_2 19 rfl rfl)
theorem dX6_bars_69 : decode cX6_bars 69 = .ok (.iload_n 3, 1) := dk_29 (dk_at dksX6_bars_2 21 rfl rfl)
theorem dX6_bars_70 : decode cX6_bars 70 = .ok (.imul, 1) := dk_104 (dk_at dksX6_bars_2 22 rfl rfl)
theorem dX6_bars_71 : decode cX6_bars 71 = .ok (.iload 4, 2) := dk_21 4 (dk_at dksX6_bars_3 0 rfl rfl)
theorem dX6_bars_73 : decode cX6_bars 73 = .ok (.iadd, 1) := dk_96 (dk_at dksX6_bars_3 2 rfl rfl)
theorem dX6_bars_74 : decode cX6_bars 74 = .ok (.baload, 1) := dk_51 (dk_at dksX6_bars_3 3 rfl rfl)
theorem dX6_bars_75 : decode cX6_bars 75 = .ok (.ifCond .eq 7, 3) := dk_153 0 7 (dk_at dksX6_bars_3 4 rfl rfl)
theorem dX6_bars_78 : decode cX6_bars 78 = .ok (.iconst 1, 1) := dk_4 (dk_at dksX6_bars_3 7 rfl rfl)
theorem dX6_bars_79 : decode cX6_bars 79 = .ok (.goto 4, 3) := dk_167 0 4 (dk_at dksX6_bars_3 8 rfl rfl)
theorem dX6_bars_82 : decode cX6_bars 82 = .ok (.iconst 0, 1) := dk_3 (dk_at dksX6_bars_3 11 rfl rfl)
theorem dX6_bars_83 : decode cX6_bars 83 = .ok (.istore_n 2, 1) := dk_61 (dk_at dksX6_bars_3 12 rfl rfl)
theorem dX6_bars_84 : decode cX6_bars 84 = .ok (.iinc 4 1, 3) := dk_132 4 1 (dk_at dksX6_bars_3 13 rfl rfl)
theorem dX6_bars_87 : decode cX6_bars 87 = .ok (.goto (-34), 3) := dk_167 255 222 (dk_at dksX6_bars_3 16 rfl rfl)
theorem dX6_bars_90 : decode cX6_bars 90 = .ok (.iload_n 2, 1) := dk_28 (dk_at dksX6_bars_3 19 rfl rfl)
theorem dX6_bars_91 : decode cX6_bars 91 = .ok (.ifCond .ne 5, 3) := dk_154 0 5 (dk_at dksX6_bars_3 20 rfl rfl)
theorem dX6_bars_94 : decode cX6_bars 94 = .ok (.iload_n 3, 1) := dk_29 (dk_at dksX6_bars_3 23 rfl rfl)
theorem dX6_bars_95 : decode cX6_bars 95 = .ok (.ireturn, 1) := dk_172 (dk_at dksX6_bars_4 0 rfl rfl)
theorem dX6_bars_96 : decode cX6_bars 96 = .ok (.iinc 3 1, 3) := dk_132 3 1 (dk_at dksX6_bars_4 1 rfl rfl)
theorem dX6_bars_99 : decode cX6_bars 99 = .ok (.goto (-76), 3) := dk_167 255 180 (dk_at dksX6_bars_4 4 rfl rfl)
theorem dX6_bars_102 : decode cX6_bars 102 = .ok (.iconst (-1), 1) := dk_2 (dk_at dksX6_bars_4 7 rfl rfl)
theorem dX6_bars_103 : decode cX6_bars 103 = .ok (.ireturn, 1) := dk_172 (dk_at dksX6_bars_4 8 rfl rfl)
abbrev cX6_clash : ByteArray := prog_29_method_105_code
def yX6_clash : MethodName := ⟨RX6, "clash", "(II)I"⟩
def dkwX6_clash_9 : List UInt8 := [21, 5, 46, 172]
abbrev dktX6_clash_9 : List UInt8 := dkwX6_clash_9 ++ []
def dkwX6_clash_8 : List UInt8 := [28, 154, 0, 8, 21, 5, 167, 0, 20, 28, 4, 160, 0, 8, 21, 4, 167, 0, 10, 42, 180, 0, 216]
abbrev dktX6_clash_8 : List UInt8 := dkwX6_clash_8 ++ dktX6_clash_9
def dkwX6_clash_7 : List UInt8 := [28, 154, 0, 7, 2, 167, 0, 18, 28, 4, 160, 0, 7, 29, 167, 0, 9, 42, 180, 0, 216, 29, 46, 172]
abbrev dktX6_clash_7 : List UInt8 := dkwX6_clash_7 ++ dktX6_clash_8
def dkwX6_clash_6 : List UInt8 := [167, 0, 4, 3, 54, 6, 21, 6, 154, 0, 11, 21, 4, 2, 160, 0, 5, 2, 172, 21, 6, 153, 0, 27]
abbrev dktX6_clash_6 : List UInt8 := dkwX6_clash_6 ++ dktX6_clash_7
def dkwX6_clash_5 : List UInt8 := [132, 6, 1, 167, 255, 173, 29, 2, 159, 0, 19, 21, 4, 2, 159, 0, 9, 29, 21, 4, 163, 0, 7, 4]
abbrev dktX6_clash_5 : List UInt8 := dkwX6_clash_5 ++ dktX6_clash_6
def dkwX6_clash_4 : List UInt8 := [96, 51, 153, 0, 6, 167, 0, 11, 21, 6, 54, 4, 21, 7, 54, 5, 132, 7, 1, 167, 255, 213]
abbrev dktX6_clash_4 : List UInt8 := dkwX6_clash_4 ++ dktX6_clash_5
def dkwX6_clash_3 : List UInt8 := [21, 7, 21, 6, 162, 0, 42, 21, 4, 2, 160, 0, 36, 42, 180, 0, 225, 16, 48, 21, 6, 104, 21, 7]
abbrev dktX6_clash_3 : List UInt8 := dkwX6_clash_3 ++ dktX6_clash_4
def dkwX6_clash_2 : List UInt8 := [160, 0, 18, 42, 180, 0, 219, 21, 6, 51, 154, 0, 8, 21, 6, 167, 0, 4, 29, 62, 3, 54, 7]
abbrev dktX6_clash_2 : List UInt8 := dkwX6_clash_2 ++ dktX6_clash_3
def dkwX6_clash_1 : List UInt8 := [2, 62, 2, 54, 4, 2, 54, 5, 3, 54, 6, 21, 6, 42, 180, 0, 210, 162, 0, 80, 29, 2]
abbrev dktX6_clash_1 : List UInt8 := dkwX6_clash_1 ++ dktX6_clash_2
def dkwX6_clash_0 : List UInt8 := [42, 27, 182, 1, 249, 153, 0, 12, 28, 3, 5, 184, 1, 87, 154, 0, 5, 2, 172, 42, 27, 182, 2, 37]
abbrev dktX6_clash_0 : List UInt8 := dkwX6_clash_0 ++ dktX6_clash_1
theorem dksX6_clash_0 : cX6_clash.data.toList.drop 0 = dktX6_clash_0 := by decide +kernel
theorem dksX6_clash_1 : cX6_clash.data.toList.drop 24 = dktX6_clash_1 := dk_seg dksX6_clash_0 24 rfl rfl
theorem dksX6_clash_2 : cX6_clash.data.toList.drop 46 = dktX6_clash_2 := dk_seg dksX6_clash_1 22 rfl rfl
theorem dksX6_clash_3 : cX6_clash.data.toList.drop 69 = dktX6_clash_3 := dk_seg dksX6_clash_2 23 rfl rfl
theorem dksX6_clash_4 : cX6_clash.data.toList.drop 93 = dktX6_clash_4 := dk_seg dksX6_clash_3 24 rfl rfl
theorem dksX6_clash_5 : cX6_clash.data.toList.drop 115 = dktX6_clash_5 := dk_seg dksX6_clash_4 22 rfl rfl
theorem dksX6_clash_6 : cX6_clash.data.toList.drop 139 = dktX6_clash_6 := dk_seg dksX6_clash_5 24 rfl rfl
theorem dksX6_clash_7 : cX6_clash.data.toList.drop 163 = dktX6_clash_7 := dk_seg dksX6_clash_6 24 rfl rfl
theorem dksX6_clash_8 : cX6_clash.data.toList.drop 187 = dktX6_clash_8 := dk_seg dksX6_clash_7 24 rfl rfl
theorem dksX6_clash_9 : cX6_clash.data.toList.drop 210 = dktX6_clash_9 := dk_seg dksX6_clash_8 23 rfl rfl
theorem dX6_clash_0 : decode cX6_clash 0 = .ok (.aload_n 0, 1) := dk_42 (dk_at dksX6_clash_0 0 rfl rfl)
theorem dX6_clash_1 : decode cX6_clash 1 = .ok (.iload_n 1, 1) := dk_27 (dk_at dksX6_clash_0 1 rfl rfl)
theorem dX6_clash_2 : decode cX6_clash 2 = .ok (.invokevirtual 505, 3) := dk_182 1 249 (dk_at dksX6_clash_0 2 rfl rfl)
theorem dX6_clash_5 : decode cX6_clash 5 = .ok (.ifCond .eq 12, 3) := dk_153 0 12 (dk_at dksX6_clash_0 5 rfl rfl)
theorem dX6_clash_8 : decode cX6_clash 8 = .ok (.iload_n 2, 1) := dk_28 (dk_at dksX6_clash_0 8 rfl rfl)
theorem dX6_clash_9 : decode cX6_clash 9 = .ok (.iconst 0, 1) := dk_3 (dk_at dksX6_clash_0 9 rfl rfl)
theorem dX6_clash_10 : decode cX6_clash 10 = .ok (.iconst 2, 1) := dk_5 (dk_at dksX6_clash_0 10 rfl rfl)
theorem dX6_clash_11 : decode cX6_clash 11 = .ok (.invokestatic 343, 3) := dk_184 1 87 (dk_at dksX6_clash_0 11 rfl rfl)
theorem dX6_clash_14 : decode cX6_clash 14 = .ok (.ifCond .ne 5, 3) := dk_154 0 5 (dk_at dksX6_clash_0 14 rfl rfl)
theorem dX6_clash_17 : decode cX6_clash 17 = .ok (.iconst (-1), 1) := dk_2 (dk_at dksX6_clash_0 17 rfl rfl)
theorem dX6_clash_18 : decode cX6_clash 18 = .ok (.ireturn, 1) := dk_172 (dk_at dksX6_clash_0 18 rfl rfl)
theorem dX6_clash_19 : decode cX6_clash 19 = .ok (.aload_n 0, 1) := dk_42 (dk_at dksX6_clash_0 19 rfl rfl)
theorem dX6_clash_20 : decode cX6_clash 20 = .ok (.iload_n 1, 1) := dk_27 (dk_at dksX6_clash_0 20 rfl rfl)
theorem dX6_clash_21 : decode cX6_clash 21 = .ok (.invokevirtual 549, 3) := dk_182 2 37 (dk_at dksX6_clash_0 21 rfl rfl)
theorem dX6_clash_24 : decode cX6_clash 24 = .ok (.iconst (-1), 1) := dk_2 (dk_at dksX6_clash_1 0 rfl rfl)
theorem dX6_clash_25 : decode cX6_clash 25 = .ok (.istore_n 3, 1) := dk_62 (dk_at dksX6_clash_1 1 rfl rfl)
theorem dX6_clash_26 : decode cX6_clash 26 = .ok (.iconst (-1), 1) := dk_2 (dk_at dksX6_clash_1 2 rfl rfl)
theorem dX6_clash_27 : decode cX6_clash 27 = .ok (.istore 4, 2) := dk_54 4 (dk_at dksX6_clash_1 3 rfl rfl)
theorem dX6_clash_29 : decode cX6_clash 29 = .ok (.iconst (-1), 1) := dk_2 (dk_at dksX6_clash_1 5 rfl rfl)
theorem dX6_clash_30 : decode cX6_clash 30 = .ok (.istore 5, 2) := dk_54 5 (dk_at dksX6_clash_1 6 rfl rfl)
theorem dX6_clash_32 : decode cX6_clash 32 = .ok (.iconst 0, 1) := dk_3 (dk_at dksX6_clash_1 8 rfl rfl)
theorem dX6_clash_33 : decode cX6_clash 33 = .ok (.istore 6, 2) := dk_54 6 (dk_at dksX6_clash_1 9 rfl rfl)
theorem dX6_clash_35 : decode cX6_clash 35 = .ok (.iload 6, 2) := dk_21 6 (dk_at dksX6_clash_1 11 rfl rfl)
theorem dX6_clash_37 : decode cX6_clash 37 = .ok (.aload_n 0, 1) := dk_42 (dk_at dksX6_clash_1 13 rfl rfl)
theorem dX6_clash_38 : decode cX6_clash 38 = .ok (.getfield 210, 3) := dk_180 0 210 (dk_at dksX6_clash_1 14 rfl rfl)
theorem dX6_clash_41 : decode cX6_clash 41 = .ok (.if_icmp .ge 80, 3) := dk_162 0 80 (dk_at dksX6_clash_1 17 rfl rfl)
theorem dX6_clash_44 : decode cX6_clash 44 = .ok (.iload_n 3, 1) := dk_29 (dk_at dksX6_clash_1 20 rfl rfl)
theorem dX6_clash_45 : decode cX6_clash 45 = .ok (.iconst (-1), 1) := dk_2 (dk_at dksX6_clash_1 21 rfl rfl)
theorem dX6_clash_46 : decode cX6_clash 46 = .ok (.if_icmp .ne 18, 3) := dk_160 0 18 (dk_at dksX6_clash_2 0 rfl rfl)
theorem dX6_clash_49 : decode cX6_clash 49 = .ok (.aload_n 0, 1) := dk_42 (dk_at dksX6_clash_2 3 rfl rfl)
theorem dX6_clash_50 : decode cX6_clash 50 = .ok (.getfield 219, 3) := dk_180 0 219 (dk_at dksX6_clash_2 4 rfl rfl)
theorem dX6_clash_53 : decode cX6_clash 53 = .ok (.iload 6, 2) := dk_21 6 (dk_at dksX6_clash_2 7 rfl rfl)
theorem dX6_clash_55 : decode cX6_clash 55 = .ok (.baload, 1) := dk_51 (dk_at dksX6_clash_2 9 rfl rfl)
theorem dX6_clash_56 : decode cX6_clash 56 = .ok (.ifCond .ne 8, 3) := dk_154 0 8 (dk_at dksX6_clash_2 10 rfl rfl)
theorem dX6_clash_59 : decode cX6_clash 59 = .ok (.iload 6, 2) := dk_21 6 (dk_at dksX6_clash_2 13 rfl rfl)
theorem dX6_clash_61 : decode cX6_clash 61 = .ok (.goto 4, 3) := dk_167 0 4 (dk_at dksX6_clash_2 15 rfl rfl)
theorem dX6_clash_64 : decode cX6_clash 64 = .ok (.iload_n 3, 1) := dk_29 (dk_at dksX6_clash_2 18 rfl rfl)
theorem dX6_clash_65 : decode cX6_clash 65 = .ok (.istore_n 3, 1) := dk_62 (dk_at dksX6_clash_2 19 rfl rfl)
theorem dX6_clash_66 : decode cX6_clash 66 = .ok (.iconst 0, 1) := dk_3 (dk_at dksX6_clash_2 20 rfl rfl)
theorem dX6_clash_67 : decode cX6_clash 67 = .ok (.istore 7, 2) := dk_54 7 (dk_at dksX6_clash_2 21 rfl rfl)
theorem dX6_clash_69 : decode cX6_clash 69 = .ok (.iload 7, 2) := dk_21 7 (dk_at dksX6_clash_3 0 rfl rfl)
theorem dX6_clash_71 : decode cX6_clash 71 = .ok (.iload 6, 2) := dk_21 6 (dk_at dksX6_clash_3 2 rfl rfl)
theorem dX6_clash_73 : decode cX6_clash 73 = .ok (.if_icmp .ge 42, 3) := dk_162 0 42 (dk_at dksX6_clash_3 4 rfl rfl)
theorem dX6_clash_76 : decode cX6_clash 76 = .ok (.iload 4, 2) := dk_21 4 (dk_at dksX6_clash_3 7 rfl rfl)
theorem dX6_clash_78 : decode cX6_clash 78 = .ok (.iconst (-1), 1) := dk_2 (dk_at dksX6_clash_3 9 rfl rfl)
theorem dX6_clash_79 : decode cX6_clash 79 = .ok (.if_icmp .ne 36, 3) := dk_160 0 36 (dk_at dksX6_clash_3 10 rfl rfl)
theorem dX6_clash_82 : decode cX6_clash 82 = .ok (.aload_n 0, 1) := dk_42 (dk_at dksX6_clash_3 13 rfl rfl)
theorem dX6_clash_83 : decode cX6_clash 83 = .ok (.getfield 225, 3) := dk_180 0 225 (dk_at dksX6_clash_3 14 rfl rfl)
theorem dX6_clash_86 : decode cX6_clash 86 = .ok (.bipush 48, 2) := dk_16 48 (dk_at dksX6_clash_3 17 rfl rfl)
theorem dX6_clash_88 : decode cX6_clash 88 = .ok (.iload 6, 2) := dk_21 6 (dk_at dksX6_clash_3 19 rfl rfl)
theorem dX6_clash_90 : decode cX6_clash 90 = .ok (.imul, 1) := dk_104 (dk_at dksX6_clash_3 21 rfl rfl)
theorem dX6_clash_91 : decode cX6_clash 91 = .ok (.iload 7, 2) := dk_21 7 (dk_at dksX6_clash_3 22 rfl rfl)
theorem dX6_clash_93 : decode cX6_clash 93 = .ok (.iadd, 1) := dk_96 (dk_at dksX6_clash_4 0 rfl rfl)
theorem dX6_clash_94 : decode cX6_clash 94 = .ok (.baload, 1) := dk_51 (dk_at dksX6_clash_4 1 rfl rfl)
theorem dX6_clash_95 : decode cX6_clash 95 = .ok (.ifCond .eq 6, 3) := dk_153 0 6 (dk_at dksX6_clash_4 2 rfl rfl)
theorem dX6_clash_98 : decode cX6_clash 98 = .ok (.goto 11, 3) := dk_167 0 11 (dk_at dksX6_clash_4 5 rfl rfl)
theorem dX6_clash_101 : decode cX6_clash 101 = .ok (.iload 6, 2) := dk_21 6 (dk_at dksX6_clash_4 8 rfl rfl)
theorem dX6_clash_103 : decode cX6_clash 103 = .ok (.istore 4, 2) := dk_54 4 (dk_at dksX6_clash_4 10 rfl rfl)
theorem dX6_clash_105 : decode cX6_clash 105 = .ok (.iload 7, 2) := dk_21 7 (dk_at dksX6_clash_4 12 rfl rfl)
theorem dX6_clash_107 : decode cX6_clash 107 = .ok (.istore 5, 2) := dk_54 5 (dk_at dksX6_clash_4 14 rfl rfl)
theorem dX6_clash_109 : decode cX6_clash 109 = .ok (.iinc 7 1, 3) := dk_132 7 1 (dk_at dksX6_clash_4 16 rfl rfl)
theorem dX6_clash_112 : decode cX6_clash 112 = .ok (.goto (-43), 3) := dk_167 255 213 (dk_at dksX6_clash_4 19 rfl rfl)
theorem dX6_clash_115 : decode cX6_clash 115 = .ok (.iinc 6 1, 3) := dk_132 6 1 (dk_at dksX6_clash_5 0 rfl rfl)
theorem dX6_clash_118 : decode cX6_clash 118 = .ok (.goto (-83), 3) := dk_167 255 173 (dk_at dksX6_clash_5 3 rfl rfl)
theorem dX6_clash_121 : decode cX6_clash 121 = .ok (.iload_n 3, 1) := dk_29 (dk_at dksX6_clash_5 6 rfl rfl)
theorem dX6_clash_122 : decode cX6_clash 122 = .ok (.iconst (-1), 1) := dk_2 (dk_at dksX6_clash_5 7 rfl rfl)
theorem dX6_clash_123 : decode cX6_clash 123 = .ok (.if_icmp .eq 19, 3) := dk_159 0 19 (dk_at dksX6_clash_5 8 rfl rfl)
theorem dX6_clash_126 : decode cX6_clash 126 = .ok (.iload 4, 2) := dk_21 4 (dk_at dksX6_clash_5 11 rfl rfl)
theorem dX6_clash_128 : decode cX6_clash 128 = .ok (.iconst (-1), 1) := dk_2 (dk_at dksX6_clash_5 13 rfl rfl)
theorem dX6_clash_129 : decode cX6_clash 129 = .ok (.if_icmp .eq 9, 3) := dk_159 0 9 (dk_at dksX6_clash_5 14 rfl rfl)
theorem dX6_clash_132 : decode cX6_clash 132 = .ok (.iload_n 3, 1) := dk_29 (dk_at dksX6_clash_5 17 rfl rfl)
theorem dX6_clash_133 : decode cX6_clash 133 = .ok (.iload 4, 2) := dk_21 4 (dk_at dksX6_clash_5 18 rfl rfl)
theorem dX6_clash_135 : decode cX6_clash 135 = .ok (.if_icmp .gt 7, 3) := dk_163 0 7 (dk_at dksX6_clash_5 20 rfl rfl)
theorem dX6_clash_138 : decode cX6_clash 138 = .ok (.iconst 1, 1) := dk_4 (dk_at dksX6_clash_5 23 rfl rfl)
theorem dX6_clash_139 : decode cX6_clash 139 = .ok (.goto 4, 3) := dk_167 0 4 (dk_at dksX6_clash_6 0 rfl rfl)
theorem dX6_clash_142 : decode cX6_clash 142 = .ok (.iconst 0, 1) := dk_3 (dk_at dksX6_clash_6 3 rfl rfl)
theorem dX6_clash_143 : decode cX6_clash 143 = .ok (.istore 6, 2) := dk_54 6 (dk_at dksX6_clash_6 4 rfl rfl)
theorem dX6_clash_145 : decode cX6_clash 145 = .ok (.iload 6, 2) := dk_21 6 (dk_at dksX6_clash_6 6 rfl rfl)
theorem dX6_clash_147 : decode cX6_clash 147 = .ok (.ifCond .ne 11, 3) := dk_154 0 11 (dk_at dksX6_clash_6 8 rfl rfl)
theorem dX6_clash_150 : decode cX6_clash 150 = .ok (.iload 4, 2) := dk_21 4 (dk_at dksX6_clash_6 11 rfl rfl)
theorem dX6_clash_152 : decode cX6_clash 152 = .ok (.iconst (-1), 1) := dk_2 (dk_at dksX6_clash_6 13 rfl rfl)
theorem dX6_clash_153 : decode cX6_clash 153 = .ok (.if_icmp .ne 5, 3) := dk_160 0 5 (dk_at dksX6_clash_6 14 rfl rfl)
theorem dX6_clash_156 : decode cX6_clash 156 = .ok (.iconst (-1), 1) := dk_2 (dk_at dksX6_clash_6 17 rfl rfl)
theorem dX6_clash_157 : decode cX6_clash 157 = .ok (.ireturn, 1) := dk_172 (dk_at dksX6_clash_6 18 rfl rfl)
theorem dX6_clash_158 : decode cX6_clash 158 = .ok (.iload 6, 2) := dk_21 6 (dk_at dksX6_clash_6 19 rfl rfl)
theorem dX6_clash_160 : decode cX6_clash 160 = .ok (.ifCond .eq 27, 3) := dk_153 0 27 (dk_at dksX6_clash_6 21 rfl rfl)
theorem dX6_clash_163 : decode cX6_clash 163 = .ok (.iload_n 2, 1) := dk_28 (dk_at dksX6_clash_7 0 rfl rfl)
theorem dX6_clash_164 : decode cX6_clash 164 = .ok (.ifCond .ne 7, 3) := dk_154 0 7 (dk_at dksX6_clash_7 1 rfl rfl)
theorem dX6_clash_167 : decode cX6_clash 167 = .ok (.iconst (-1), 1) := dk_2 (dk_at dksX6_clash_7 4 rfl rfl)
theorem dX6_clash_168 : decode cX6_clash 168 = .ok (.goto 18, 3) := dk_167 0 18 (dk_at dksX6_clash_7 5 rfl rfl)
theorem dX6_clash_171 : decode cX6_clash 171 = .ok (.iload_n 2, 1) := dk_28 (dk_at dksX6_clash_7 8 rfl rfl)
theorem dX6_clash_172 : decode cX6_clash 172 = .ok (.iconst 1, 1) := dk_4 (dk_at dksX6_clash_7 9 rfl rfl)
theorem dX6_clash_173 : decode cX6_clash 173 = .ok (.if_icmp .ne 7, 3) := dk_160 0 7 (dk_at dksX6_clash_7 10 rfl rfl)
theorem dX6_clash_176 : decode cX6_clash 176 = .ok (.iload_n 3, 1) := dk_29 (dk_at dksX6_clash_7 13 rfl rfl)
theorem dX6_clash_177 : decode cX6_clash 177 = .ok (.goto 9, 3) := dk_167 0 9 (dk_at dksX6_clash_7 14 rfl rfl)
theorem dX6_clash_180 : decode cX6_clash 180 = .ok (.aload_n 0, 1) := dk_42 (dk_at dksX6_clash_7 17 rfl rfl)
theorem dX6_clash_181 : decode cX6_clash 181 = .ok (.getfield 216, 3) := dk_180 0 216 (dk_at dksX6_clash_7 18 rfl rfl)
theorem dX6_clash_184 : decode cX6_clash 184 = .ok (.iload_n 3, 1) := dk_29 (dk_at dksX6_clash_7 21 rfl rfl)
theorem dX6_clash_185 : decode cX6_clash 185 = .ok (.iaload, 1) := dk_46 (dk_at dksX6_clash_7 22 rfl rfl)
theorem dX6_clash_186 : decode cX6_clash 186 = .ok (.ireturn, 1) := dk_172 (dk_at dksX6_clash_7 23 rfl rfl)
theorem dX6_clash_187 : decode cX6_clash 187 = .ok (.iload_n 2, 1) := dk_28 (dk_at dksX6_clash_8 0 rfl rfl)
theorem dX6_clash_188 : decode cX6_clash 188 = .ok (.ifCond .ne 8, 3) := dk_154 0 8 (dk_at dksX6_clash_8 1 rfl rfl)
theorem dX6_clash_191 : decode cX6_clash 191 = .ok (.iload 5, 2) := dk_21 5 (dk_at dksX6_clash_8 4 rfl rfl)
theorem dX6_clash_193 : decode cX6_clash 193 = .ok (.goto 20, 3) := dk_167 0 20 (dk_at dksX6_clash_8 6 rfl rfl)
theorem dX6_clash_196 : decode cX6_clash 196 = .ok (.iload_n 2, 1) := dk_28 (dk_at dksX6_clash_8 9 rfl rfl)
theorem dX6_clash_197 : decode cX6_clash 197 = .ok (.iconst 1, 1) := dk_4 (dk_at dksX6_clash_8 10 rfl rfl)
theorem dX6_clash_198 : decode cX6_clash 198 = .ok (.if_icmp .ne 8, 3) := dk_160 0 8 (dk_at dksX6_clash_8 11 rfl rfl)
theorem dX6_clash_201 : decode cX6_clash 201 = .ok (.iload 4, 2) := dk_21 4 (dk_at dksX6_clash_8 14 rfl rfl)
theorem dX6_clash_203 : decode cX6_clash 203 = .ok (.goto 10, 3) := dk_167 0 10 (dk_at dksX6_clash_8 16 rfl rfl)
theorem dX6_clash_206 : decode cX6_clash 206 = .ok (.aload_n 0, 1) := dk_42 (dk_at dksX6_clash_8 19 rfl rfl)
theorem dX6_clash_207 : decode cX6_clash 207 = .ok (.getfield 216, 3) := dk_180 0 216 (dk_at dksX6_clash_8 20 rfl rfl)
theorem dX6_clash_210 : decode cX6_clash 210 = .ok (.iload 5, 2) := dk_21 5 (dk_at dksX6_clash_9 0 rfl rfl)
theorem dX6_clash_212 : decode cX6_clash 212 = .ok (.iaload, 1) := dk_46 (dk_at dksX6_clash_9 2 rfl rfl)
theorem dX6_clash_213 : decode cX6_clash 213 = .ok (.ireturn, 1) := dk_172 (dk_at dksX6_clash_9 3 rfl rfl)
abbrev cX6_who : ByteArray := prog_29_method_106_code
def yX6_who : MethodName := ⟨RX6, "who", "(I)I"⟩
def dkwX6_who_0 : List UInt8 := [42, 27, 182, 1, 249, 153, 0, 11, 42, 27, 182, 2, 75, 167, 0, 4, 2, 172]
abbrev dktX6_who_0 : List UInt8 := dkwX6_who_0 ++ []
theorem dksX6_who_0 : cX6_who.data.toList.drop 0 = dktX6_who_0 := by decide +kernel
theorem dX6_who_0 : decode cX6_who 0 = .ok (.aload_n 0, 1) := dk_42 (dk_at dksX6_who_0 0 rfl rfl)
theorem dX6_who_1 : decode cX6_who 1 = .ok (.iload_n 1, 1) := dk_27 (dk_at dksX6_who_0 1 rfl rfl)
theorem dX6_who_2 : decode cX6_who 2 = .ok (.invokevirtual 505, 3) := dk_182 1 249 (dk_at dksX6_who_0 2 rfl rfl)
theorem dX6_who_5 : decode cX6_who 5 = .ok (.ifCond .eq 11, 3) := dk_153 0 11 (dk_at dksX6_who_0 5 rfl rfl)
theorem dX6_who_8 : decode cX6_who 8 = .ok (.aload_n 0, 1) := dk_42 (dk_at dksX6_who_0 8 rfl rfl)
theorem dX6_who_9 : decode cX6_who 9 = .ok (.iload_n 1, 1) := dk_27 (dk_at dksX6_who_0 9 rfl rfl)
theorem dX6_who_10 : decode cX6_who 10 = .ok (.invokevirtual 587, 3) := dk_182 2 75 (dk_at dksX6_who_0 10 rfl rfl)
theorem dX6_who_13 : decode cX6_who 13 = .ok (.goto 4, 3) := dk_167 0 4 (dk_at dksX6_who_0 13 rfl rfl)
theorem dX6_who_16 : decode cX6_who 16 = .ok (.iconst (-1), 1) := dk_2 (dk_at dksX6_who_0 16 rfl rfl)
theorem dX6_who_17 : decode cX6_who 17 = .ok (.ireturn, 1) := dk_172 (dk_at dksX6_who_0 17 rfl rfl)
abbrev cX6_swap : ByteArray := prog_29_method_108_code
def yX6_swap : MethodName := ⟨RX6, "swap", "(II)I"⟩
def dkwX6_swap_2 : List UInt8 := [153, 0, 16, 42, 28, 27, 182, 2, 90, 153, 0, 7, 4, 167, 0, 4, 3, 172]
abbrev dktX6_swap_2 : List UInt8 := dkwX6_swap_2 ++ []
def dkwX6_swap_1 : List UInt8 := [182, 1, 246, 153, 0, 11, 42, 28, 182, 1, 246, 154, 0, 5, 2, 172, 42, 27, 28, 182, 2, 90]
abbrev dktX6_swap_1 : List UInt8 := dkwX6_swap_1 ++ dktX6_swap_2
def dkwX6_swap_0 : List UInt8 := [42, 27, 182, 1, 249, 153, 0, 32, 42, 28, 182, 1, 249, 153, 0, 24, 27, 28, 159, 0, 19, 42, 27]
abbrev dktX6_swap_0 : List UInt8 := dkwX6_swap_0 ++ dktX6_swap_1
theorem dksX6_swap_0 : cX6_swap.data.toList.drop 0 = dktX6_swap_0 := by decide +kernel
theorem dksX6_swap_1 : cX6_swap.data.toList.drop 23 = dktX6_swap_1 := dk_seg dksX6_swap_0 23 rfl rfl
theorem dksX6_swap_2 : cX6_swap.data.toList.drop 45 = dktX6_swap_2 := dk_seg dksX6_swap_1 22 rfl rfl
theorem dX6_swap_0 : decode cX6_swap 0 = .ok (.aload_n 0, 1) := dk_42 (dk_at dksX6_swap_0 0 rfl rfl)
theorem dX6_swap_1 : decode cX6_swap 1 = .ok (.iload_n 1, 1) := dk_27 (dk_at dksX6_swap_0 1 rfl rfl)
theorem dX6_swap_2 : decode cX6_swap 2 = .ok (.invokevirtual 505, 3) := dk_182 1 249 (dk_at dksX6_swap_0 2 rfl rfl)
theorem dX6_swap_5 : decode cX6_swap 5 = .ok (.ifCond .eq 32, 3) := dk_153 0 32 (dk_at dksX6_swap_0 5 rfl rfl)
theorem dX6_swap_8 : decode cX6_swap 8 = .ok (.aload_n 0, 1) := dk_42 (dk_at dksX6_swap_0 8 rfl rfl)
theorem dX6_swap_9 : decode cX6_swap 9 = .ok (.iload_n 2, 1) := dk_28 (dk_at dksX6_swap_0 9 rfl rfl)
theorem dX6_swap_10 : decode cX6_swap 10 = .ok (.invokevirtual 505, 3) := dk_182 1 249 (dk_at dksX6_swap_0 10 rfl rfl)
theorem dX6_swap_13 : decode cX6_swap 13 = .ok (.ifCond .eq 24, 3) := dk_153 0 24 (dk_at dksX6_swap_0 13 rfl rfl)
theorem dX6_swap_16 : decode cX6_swap 16 = .ok (.iload_n 1, 1) := dk_27 (dk_at dksX6_swap_0 16 rfl rfl)
theorem dX6_swap_17 : decode cX6_swap 17 = .ok (.iload_n 2, 1) := dk_28 (dk_at dksX6_swap_0 17 rfl rfl)
theorem dX6_swap_18 : decode cX6_swap 18 = .ok (.if_icmp .eq 19, 3) := dk_159 0 19 (dk_at dksX6_swap_0 18 rfl rfl)
theorem dX6_swap_21 : decode cX6_swap 21 = .ok (.aload_n 0, 1) := dk_42 (dk_at dksX6_swap_0 21 rfl rfl)
theorem dX6_swap_22 : decode cX6_swap 22 = .ok (.iload_n 1, 1) := dk_27 (dk_at dksX6_swap_0 22 rfl rfl)
theorem dX6_swap_23 : decode cX6_swap 23 = .ok (.invokevirtual 502, 3) := dk_182 1 246 (dk_at dksX6_swap_1 0 rfl rfl)
theorem dX6_swap_26 : decode cX6_swap 26 = .ok (.ifCond .eq 11, 3) := dk_153 0 11 (dk_at dksX6_swap_1 3 rfl rfl)
theorem dX6_swap_29 : decode cX6_swap 29 = .ok (.aload_n 0, 1) := dk_42 (dk_at dksX6_swap_1 6 rfl rfl)
theorem dX6_swap_30 : decode cX6_swap 30 = .ok (.iload_n 2, 1) := dk_28 (dk_at dksX6_swap_1 7 rfl rfl)
theorem dX6_swap_31 : decode cX6_swap 31 = .ok (.invokevirtual 502, 3) := dk_182 1 246 (dk_at dksX6_swap_1 8 rfl rfl)
theorem dX6_swap_34 : decode cX6_swap 34 = .ok (.ifCond .ne 5, 3) := dk_154 0 5 (dk_at dksX6_swap_1 11 rfl rfl)
theorem dX6_swap_37 : decode cX6_swap 37 = .ok (.iconst (-1), 1) := dk_2 (dk_at dksX6_swap_1 14 rfl rfl)
theorem dX6_swap_38 : decode cX6_swap 38 = .ok (.ireturn, 1) := dk_172 (dk_at dksX6_swap_1 15 rfl rfl)
theorem dX6_swap_39 : decode cX6_swap 39 = .ok (.aload_n 0, 1) := dk_42 (dk_at dksX6_swap_1 16 rfl rfl)
theorem dX6_swap_40 : decode cX6_swap 40 = .ok (.iload_n 1, 1) := dk_27 (dk_at dksX6_swap_1 17 rfl rfl)
theorem dX6_swap_41 : decode cX6_swap 41 = .ok (.iload_n 2, 1) := dk_28 (dk_at dksX6_swap_1 18 rfl rfl)
theorem dX6_swap_42 : decode cX6_swap 42 = .ok (.invokevirtual 602, 3) := dk_182 2 90 (dk_at dksX6_swap_1 19 rfl rfl)
theorem dX6_swap_45 : decode cX6_swap 45 = .ok (.ifCond .eq 16, 3) := dk_153 0 16 (dk_at dksX6_swap_2 0 rfl rfl)
theorem dX6_swap_48 : decode cX6_swap 48 = .ok (.aload_n 0, 1) := dk_42 (dk_at dksX6_swap_2 3 rfl rfl)
theorem dX6_swap_49 : decode cX6_swap 49 = .ok (.iload_n 2, 1) := dk_28 (dk_at dksX6_swap_2 4 rfl rfl)
theorem dX6_swap_50 : decode cX6_swap 50 = .ok (.iload_n 1, 1) := dk_27 (dk_at dksX6_swap_2 5 rfl rfl)
theorem dX6_swap_51 : decode cX6_swap 51 = .ok (.invokevirtual 602, 3) := dk_182 2 90 (dk_at dksX6_swap_2 6 rfl rfl)
theorem dX6_swap_54 : decode cX6_swap 54 = .ok (.ifCond .eq 7, 3) := dk_153 0 7 (dk_at dksX6_swap_2 9 rfl rfl)
theorem dX6_swap_57 : decode cX6_swap 57 = .ok (.iconst 1, 1) := dk_4 (dk_at dksX6_swap_2 12 rfl rfl)
theorem dX6_swap_58 : decode cX6_swap 58 = .ok (.goto 4, 3) := dk_167 0 4 (dk_at dksX6_swap_2 13 rfl rfl)
theorem dX6_swap_61 : decode cX6_swap 61 = .ok (.iconst 0, 1) := dk_3 (dk_at dksX6_swap_2 16 rfl rfl)
theorem dX6_swap_62 : decode cX6_swap 62 = .ok (.ireturn, 1) := dk_172 (dk_at dksX6_swap_2 17 rfl rfl)
abbrev cX6_isFor : ByteArray := prog_29_method_107_code
def yX6_isFor : MethodName := ⟨RX6, "isFor", "(II)Z"⟩
def dkwX6_isFor_1 : List UInt8 := [182, 2, 28, 153, 0, 7, 4, 167, 0, 4, 3, 172]
abbrev dktX6_isFor_1 : List UInt8 := dkwX6_isFor_1 ++ []
def dkwX6_isFor_0 : List UInt8 := [42, 3, 181, 0, 195, 42, 27, 28, 3, 182, 2, 60, 62, 42, 28, 182, 2, 25, 29, 153, 0, 15, 42, 28]
abbrev dktX6_isFor_0 : List UInt8 := dkwX6_isFor_0 ++ dktX6_isFor_1
theorem dksX6_isFor_0 : cX6_isFor.data.toList.drop 0 = dktX6_isFor_0 := by decide +kernel
theorem dksX6_isFor_1 : cX6_isFor.data.toList.drop 24 = dktX6_isFor_1 := dk_seg dksX6_isFor_0 24 rfl rfl
theorem dX6_isFor_0 : decode cX6_isFor 0 = .ok (.aload_n 0, 1) := dk_42 (dk_at dksX6_isFor_0 0 rfl rfl)
theorem dX6_isFor_1 : decode cX6_isFor 1 = .ok (.iconst 0, 1) := dk_3 (dk_at dksX6_isFor_0 1 rfl rfl)
theorem dX6_isFor_2 : decode cX6_isFor 2 = .ok (.putfield 195, 3) := dk_181 0 195 (dk_at dksX6_isFor_0 2 rfl rfl)
theorem dX6_isFor_5 : decode cX6_isFor 5 = .ok (.aload_n 0, 1) := dk_42 (dk_at dksX6_isFor_0 5 rfl rfl)
theorem dX6_isFor_6 : decode cX6_isFor 6 = .ok (.iload_n 1, 1) := dk_27 (dk_at dksX6_isFor_0 6 rfl rfl)
theorem dX6_isFor_7 : decode cX6_isFor 7 = .ok (.iload_n 2, 1) := dk_28 (dk_at dksX6_isFor_0 7 rfl rfl)
theorem dX6_isFor_8 : decode cX6_isFor 8 = .ok (.iconst 0, 1) := dk_3 (dk_at dksX6_isFor_0 8 rfl rfl)
theorem dX6_isFor_9 : decode cX6_isFor 9 = .ok (.invokevirtual 572, 3) := dk_182 2 60 (dk_at dksX6_isFor_0 9 rfl rfl)
theorem dX6_isFor_12 : decode cX6_isFor 12 = .ok (.istore_n 3, 1) := dk_62 (dk_at dksX6_isFor_0 12 rfl rfl)
theorem dX6_isFor_13 : decode cX6_isFor 13 = .ok (.aload_n 0, 1) := dk_42 (dk_at dksX6_isFor_0 13 rfl rfl)
theorem dX6_isFor_14 : decode cX6_isFor 14 = .ok (.iload_n 2, 1) := dk_28 (dk_at dksX6_isFor_0 14 rfl rfl)
theorem dX6_isFor_15 : decode cX6_isFor 15 = .ok (.invokevirtual 537, 3) := dk_182 2 25 (dk_at dksX6_isFor_0 15 rfl rfl)
theorem dX6_isFor_18 : decode cX6_isFor 18 = .ok (.iload_n 3, 1) := dk_29 (dk_at dksX6_isFor_0 18 rfl rfl)
theorem dX6_isFor_19 : decode cX6_isFor 19 = .ok (.ifCond .eq 15, 3) := dk_153 0 15 (dk_at dksX6_isFor_0 19 rfl rfl)
theorem dX6_isFor_22 : decode cX6_isFor 22 = .ok (.aload_n 0, 1) := dk_42 (dk_at dksX6_isFor_0 22 rfl rfl)
theorem dX6_isFor_23 : decode cX6_isFor 23 = .ok (.iload_n 2, 1) := dk_28 (dk_at dksX6_isFor_0 23 rfl rfl)
theorem dX6_isFor_24 : decode cX6_isFor 24 = .ok (.invokevirtual 540, 3) := dk_182 2 28 (dk_at dksX6_isFor_1 0 rfl rfl)
theorem dX6_isFor_27 : decode cX6_isFor 27 = .ok (.ifCond .eq 7, 3) := dk_153 0 7 (dk_at dksX6_isFor_1 3 rfl rfl)
theorem dX6_isFor_30 : decode cX6_isFor 30 = .ok (.iconst 1, 1) := dk_4 (dk_at dksX6_isFor_1 6 rfl rfl)
theorem dX6_isFor_31 : decode cX6_isFor 31 = .ok (.goto 4, 3) := dk_167 0 4 (dk_at dksX6_isFor_1 7 rfl rfl)
theorem dX6_isFor_34 : decode cX6_isFor 34 = .ok (.iconst 0, 1) := dk_3 (dk_at dksX6_isFor_1 10 rfl rfl)
theorem dX6_isFor_35 : decode cX6_isFor 35 = .ok (.ireturn, 1) := dk_172 (dk_at dksX6_isFor_1 11 rfl rfl)
abbrev cX6_kinds : ByteArray := prog_29_method_109_code
def yX6_kinds : MethodName := ⟨RX6, "kinds", "(I)I"⟩
def dkwX6_kinds_2 : List UInt8 := [167, 0, 4, 3, 96, 61, 132, 3, 1, 167, 255, 214, 28, 172]
abbrev dktX6_kinds_2 : List UInt8 := dkwX6_kinds_2 ++ []
def dkwX6_kinds_1 : List UInt8 := [46, 162, 0, 35, 28, 42, 29, 182, 1, 246, 158, 0, 17, 42, 29, 3, 182, 2, 87, 27, 160, 0, 7, 4]
abbrev dktX6_kinds_1 : List UInt8 := dkwX6_kinds_1 ++ dktX6_kinds_2
def dkwX6_kinds_0 : List UInt8 := [27, 2, 7, 184, 1, 87, 154, 0, 5, 2, 172, 3, 61, 3, 62, 29, 42, 180, 0, 69, 42, 180, 0, 48]
abbrev dktX6_kinds_0 : List UInt8 := dkwX6_kinds_0 ++ dktX6_kinds_1
theorem dksX6_kinds_0 : cX6_kinds.data.toList.drop 0 = dktX6_kinds_0 := by decide +kernel
theorem dksX6_kinds_1 : cX6_kinds.data.toList.drop 24 = dktX6_kinds_1 := dk_seg dksX6_kinds_0 24 rfl rfl
theorem dksX6_kinds_2 : cX6_kinds.data.toList.drop 48 = dktX6_kinds_2 := dk_seg dksX6_kinds_1 24 rfl rfl
theorem dX6_kinds_0 : decode cX6_kinds 0 = .ok (.iload_n 1, 1) := dk_27 (dk_at dksX6_kinds_0 0 rfl rfl)
theorem dX6_kinds_1 : decode cX6_kinds 1 = .ok (.iconst (-1), 1) := dk_2 (dk_at dksX6_kinds_0 1 rfl rfl)
theorem dX6_kinds_2 : decode cX6_kinds 2 = .ok (.iconst 4, 1) := dk_7 (dk_at dksX6_kinds_0 2 rfl rfl)
theorem dX6_kinds_3 : decode cX6_kinds 3 = .ok (.invokestatic 343, 3) := dk_184 1 87 (dk_at dksX6_kinds_0 3 rfl rfl)
theorem dX6_kinds_6 : decode cX6_kinds 6 = .ok (.ifCond .ne 5, 3) := dk_154 0 5 (dk_at dksX6_kinds_0 6 rfl rfl)
theorem dX6_kinds_9 : decode cX6_kinds 9 = .ok (.iconst (-1), 1) := dk_2 (dk_at dksX6_kinds_0 9 rfl rfl)
theorem dX6_kinds_10 : decode cX6_kinds 10 = .ok (.ireturn, 1) := dk_172 (dk_at dksX6_kinds_0 10 rfl rfl)
theorem dX6_kinds_11 : decode cX6_kinds 11 = .ok (.iconst 0, 1) := dk_3 (dk_at dksX6_kinds_0 11 rfl rfl)
theorem dX6_kinds_12 : decode cX6_kinds 12 = .ok (.istore_n 2, 1) := dk_61 (dk_at dksX6_kinds_0 12 rfl rfl)
theorem dX6_kinds_13 : decode cX6_kinds 13 = .ok (.iconst 0, 1) := dk_3 (dk_at dksX6_kinds_0 13 rfl rfl)
theorem dX6_kinds_14 : decode cX6_kinds 14 = .ok (.istore_n 3, 1) := dk_62 (dk_at dksX6_kinds_0 14 rfl rfl)
theorem dX6_kinds_15 : decode cX6_kinds 15 = .ok (.iload_n 3, 1) := dk_29 (dk_at dksX6_kinds_0 15 rfl rfl)
theorem dX6_kinds_16 : decode cX6_kinds 16 = .ok (.aload_n 0, 1) := dk_42 (dk_at dksX6_kinds_0 16 rfl rfl)
theorem dX6_kinds_17 : decode cX6_kinds 17 = .ok (.getfield 69, 3) := dk_180 0 69 (dk_at dksX6_kinds_0 17 rfl rfl)
theorem dX6_kinds_20 : decode cX6_kinds 20 = .ok (.aload_n 0, 1) := dk_42 (dk_at dksX6_kinds_0 20 rfl rfl)
theorem dX6_kinds_21 : decode cX6_kinds 21 = .ok (.getfield 48, 3) := dk_180 0 48 (dk_at dksX6_kinds_0 21 rfl rfl)
theorem dX6_kinds_24 : decode cX6_kinds 24 = .ok (.iaload, 1) := dk_46 (dk_at dksX6_kinds_1 0 rfl rfl)
theorem dX6_kinds_25 : decode cX6_kinds 25 = .ok (.if_icmp .ge 35, 3) := dk_162 0 35 (dk_at dksX6_kinds_1 1 rfl rfl)
theorem dX6_kinds_28 : decode cX6_kinds 28 = .ok (.iload_n 2, 1) := dk_28 (dk_at dksX6_kinds_1 4 rfl rfl)
theorem dX6_kinds_29 : decode cX6_kinds 29 = .ok (.aload_n 0, 1) := dk_42 (dk_at dksX6_kinds_1 5 rfl rfl)
theorem dX6_kinds_30 : decode cX6_kinds 30 = .ok (.iload_n 3, 1) := dk_29 (dk_at dksX6_kinds_1 6 rfl rfl)
theorem dX6_kinds_31 : decode cX6_kinds 31 = .ok (.invokevirtual 502, 3) := dk_182 1 246 (dk_at dksX6_kinds_1 7 rfl rfl)
theorem dX6_kinds_34 : decode cX6_kinds 34 = .ok (.ifCond .le 17, 3) := dk_158 0 17 (dk_at dksX6_kinds_1 10 rfl rfl)
theorem dX6_kinds_37 : decode cX6_kinds 37 = .ok (.aload_n 0, 1) := dk_42 (dk_at dksX6_kinds_1 13 rfl rfl)
theorem dX6_kinds_38 : decode cX6_kinds 38 = .ok (.iload_n 3, 1) := dk_29 (dk_at dksX6_kinds_1 14 rfl rfl)
theorem dX6_kinds_39 : decode cX6_kinds 39 = .ok (.iconst 0, 1) := dk_3 (dk_at dksX6_kinds_1 15 rfl rfl)
theorem dX6_kinds_40 : decode cX6_kinds 40 = .ok (.invokevirtual 599, 3) := dk_182 2 87 (dk_at dksX6_kinds_1 16 rfl rfl)
theorem dX6_kinds_43 : decode cX6_kinds 43 = .ok (.iload_n 1, 1) := dk_27 (dk_at dksX6_kinds_1 19 rfl rfl)
theorem dX6_kinds_44 : decode cX6_kinds 44 = .ok (.if_icmp .ne 7, 3) := dk_160 0 7 (dk_at dksX6_kinds_1 20 rfl rfl)
theorem dX6_kinds_47 : decode cX6_kinds 47 = .ok (.iconst 1, 1) := dk_4 (dk_at dksX6_kinds_1 23 rfl rfl)
theorem dX6_kinds_48 : decode cX6_kinds 48 = .ok (.goto 4, 3) := dk_167 0 4 (dk_at dksX6_kinds_2 0 rfl rfl)
theorem dX6_kinds_51 : decode cX6_kinds 51 = .ok (.iconst 0, 1) := dk_3 (dk_at dksX6_kinds_2 3 rfl rfl)
theorem dX6_kinds_52 : decode cX6_kinds 52 = .ok (.iadd, 1) := dk_96 (dk_at dksX6_kinds_2 4 rfl rfl)
theorem dX6_kinds_53 : decode cX6_kinds 53 = .ok (.istore_n 2, 1) := dk_61 (dk_at dksX6_kinds_2 5 rfl rfl)
theorem dX6_kinds_54 : decode cX6_kinds 54 = .ok (.iinc 3 1, 3) := dk_132 3 1 (dk_at dksX6_kinds_2 6 rfl rfl)
theorem dX6_kinds_57 : decode cX6_kinds 57 = .ok (.goto (-42), 3) := dk_167 255 214 (dk_at dksX6_kinds_2 9 rfl rfl)
theorem dX6_kinds_60 : decode cX6_kinds 60 = .ok (.iload_n 2, 1) := dk_28 (dk_at dksX6_kinds_2 12 rfl rfl)
theorem dX6_kinds_61 : decode cX6_kinds 61 = .ok (.ireturn, 1) := dk_172 (dk_at dksX6_kinds_2 13 rfl rfl)
abbrev cX6_lies : ByteArray := prog_29_method_111_code
def yX6_lies : MethodName := ⟨RX6, "lies", "()I"⟩
def dkwX6_lies_1 : List UInt8 := [60, 132, 2, 1, 167, 255, 232, 27, 172]
abbrev dktX6_lies_1 : List UInt8 := dkwX6_lies_1 ++ []
def dkwX6_lies_0 : List UInt8 := [3, 60, 3, 61, 28, 42, 180, 0, 69, 42, 180, 0, 48, 46, 162, 0, 17, 27, 42, 28, 182, 2, 93, 96]
abbrev dktX6_lies_0 : List UInt8 := dkwX6_lies_0 ++ dktX6_lies_1
theorem dksX6_lies_0 : cX6_lies.data.toList.drop 0 = dktX6_lies_0 := by decide +kernel
theorem dksX6_lies_1 : cX6_lies.data.toList.drop 24 = dktX6_lies_1 := dk_seg dksX6_lies_0 24 rfl rfl
theorem dX6_lies_0 : decode cX6_lies 0 = .ok (.iconst 0, 1) := dk_3 (dk_at dksX6_lies_0 0 rfl rfl)
theorem dX6_lies_1 : decode cX6_lies 1 = .ok (.istore_n 1, 1) := dk_60 (dk_at dksX6_lies_0 1 rfl rfl)
theorem dX6_lies_2 : decode cX6_lies 2 = .ok (.iconst 0, 1) := dk_3 (dk_at dksX6_lies_0 2 rfl rfl)
theorem dX6_lies_3 : decode cX6_lies 3 = .ok (.istore_n 2, 1) := dk_61 (dk_at dksX6_lies_0 3 rfl rfl)
theorem dX6_lies_4 : decode cX6_lies 4 = .ok (.iload_n 2, 1) := dk_28 (dk_at dksX6_lies_0 4 rfl rfl)
theorem dX6_lies_5 : decode cX6_lies 5 = .ok (.aload_n 0, 1) := dk_42 (dk_at dksX6_lies_0 5 rfl rfl)
theorem dX6_lies_6 : decode cX6_lies 6 = .ok (.getfield 69, 3) := dk_180 0 69 (dk_at dksX6_lies_0 6 rfl rfl)
theorem dX6_lies_9 : decode cX6_lies 9 = .ok (.aload_n 0, 1) := dk_42 (dk_at dksX6_lies_0 9 rfl rfl)
theorem dX6_lies_10 : decode cX6_lies 10 = .ok (.getfield 48, 3) := dk_180 0 48 (dk_at dksX6_lies_0 10 rfl rfl)
theorem dX6_lies_13 : decode cX6_lies 13 = .ok (.iaload, 1) := dk_46 (dk_at dksX6_lies_0 13 rfl rfl)
theorem dX6_lies_14 : decode cX6_lies 14 = .ok (.if_icmp .ge 17, 3) := dk_162 0 17 (dk_at dksX6_lies_0 14 rfl rfl)
theorem dX6_lies_17 : decode cX6_lies 17 = .ok (.iload_n 1, 1) := dk_27 (dk_at dksX6_lies_0 17 rfl rfl)
theorem dX6_lies_18 : decode cX6_lies 18 = .ok (.aload_n 0, 1) := dk_42 (dk_at dksX6_lies_0 18 rfl rfl)
theorem dX6_lies_19 : decode cX6_lies 19 = .ok (.iload_n 2, 1) := dk_28 (dk_at dksX6_lies_0 19 rfl rfl)
theorem dX6_lies_20 : decode cX6_lies 20 = .ok (.invokevirtual 605, 3) := dk_182 2 93 (dk_at dksX6_lies_0 20 rfl rfl)
theorem dX6_lies_23 : decode cX6_lies 23 = .ok (.iadd, 1) := dk_96 (dk_at dksX6_lies_0 23 rfl rfl)
theorem dX6_lies_24 : decode cX6_lies 24 = .ok (.istore_n 1, 1) := dk_60 (dk_at dksX6_lies_1 0 rfl rfl)
theorem dX6_lies_25 : decode cX6_lies 25 = .ok (.iinc 2 1, 3) := dk_132 2 1 (dk_at dksX6_lies_1 1 rfl rfl)
theorem dX6_lies_28 : decode cX6_lies 28 = .ok (.goto (-24), 3) := dk_167 255 232 (dk_at dksX6_lies_1 4 rfl rfl)
theorem dX6_lies_31 : decode cX6_lies 31 = .ok (.iload_n 1, 1) := dk_27 (dk_at dksX6_lies_1 7 rfl rfl)
theorem dX6_lies_32 : decode cX6_lies 32 = .ok (.ireturn, 1) := dk_172 (dk_at dksX6_lies_1 8 rfl rfl)
abbrev cX6_liesOf : ByteArray := prog_29_method_110_code
def yX6_liesOf : MethodName := ⟨RX6, "liesOf", "(I)I"⟩
def dkwX6_liesOf_0 : List UInt8 := [42, 27, 182, 2, 40, 42, 180, 0, 210, 42, 180, 0, 213, 100, 172]
abbrev dktX6_liesOf_0 : List UInt8 := dkwX6_liesOf_0 ++ []
theorem dksX6_liesOf_0 : cX6_liesOf.data.toList.drop 0 = dktX6_liesOf_0 := by decide +kernel
theorem dX6_liesOf_0 : decode cX6_liesOf 0 = .ok (.aload_n 0, 1) := dk_42 (dk_at dksX6_liesOf_0 0 rfl rfl)
theorem dX6_liesOf_1 : decode cX6_liesOf 1 = .ok (.iload_n 1, 1) := dk_27 (dk_at dksX6_liesOf_0 1 rfl rfl)
theorem dX6_liesOf_2 : decode cX6_liesOf 2 = .ok (.invokevirtual 552, 3) := dk_182 2 40 (dk_at dksX6_liesOf_0 2 rfl rfl)
theorem dX6_liesOf_5 : decode cX6_liesOf 5 = .ok (.aload_n 0, 1) := dk_42 (dk_at dksX6_liesOf_0 5 rfl rfl)
theorem dX6_liesOf_6 : decode cX6_liesOf 6 = .ok (.getfield 210, 3) := dk_180 0 210 (dk_at dksX6_liesOf_0 6 rfl rfl)
theorem dX6_liesOf_9 : decode cX6_liesOf 9 = .ok (.aload_n 0, 1) := dk_42 (dk_at dksX6_liesOf_0 9 rfl rfl)
theorem dX6_liesOf_10 : decode cX6_liesOf 10 = .ok (.getfield 213, 3) := dk_180 0 213 (dk_at dksX6_liesOf_0 10 rfl rfl)
theorem dX6_liesOf_13 : decode cX6_liesOf 13 = .ok (.isub, 1) := dk_100 (dk_at dksX6_liesOf_0 13 rfl rfl)
theorem dX6_liesOf_14 : decode cX6_liesOf 14 = .ok (.ireturn, 1) := dk_172 (dk_at dksX6_liesOf_0 14 rfl rfl)
abbrev cX6_met : ByteArray := prog_29_method_113_code
def yX6_met : MethodName := ⟨RX6, "met", "(III)I"⟩
def dkwX6_met_12 : List UInt8 := [160, 0, 8, 21, 5, 167, 0, 5, 21, 6, 172]
abbrev dktX6_met_12 : List UInt8 := dkwX6_met_12 ++ []
def dkwX6_met_11 : List UInt8 := [167, 0, 5, 21, 5, 54, 5, 132, 7, 1, 167, 255, 129, 29, 154, 0, 8, 21, 4, 167, 0, 15, 29, 4]
abbrev dktX6_met_11 : List UInt8 := dkwX6_met_11 ++ dktX6_met_12
def dkwX6_met_10 : List UInt8 := [154, 0, 6, 167, 0, 28, 132, 4, 1, 21, 6, 21, 8, 96, 54, 6, 21, 5, 2, 160, 0, 8, 21, 7]
abbrev dktX6_met_10 : List UInt8 := dkwX6_met_10 ++ dktX6_met_11
def dkwX6_met_9 : List UInt8 := [21, 7, 182, 2, 43, 153, 0, 7, 4, 167, 0, 4, 3, 96, 54, 8, 132, 9, 1, 167, 255, 205, 21, 8]
abbrev dktX6_met_9 : List UInt8 := dkwX6_met_9 ++ dktX6_met_10
def dkwX6_met_8 : List UInt8 := [21, 8, 42, 180, 0, 243, 17, 1, 0, 21, 7, 104, 21, 9, 96, 51, 153, 0, 19, 42, 28, 21, 9]
abbrev dktX6_met_8 : List UInt8 := dkwX6_met_8 ++ dktX6_met_9
def dkwX6_met_7 : List UInt8 := [182, 2, 96, 154, 0, 6, 167, 0, 96, 3, 54, 8, 3, 54, 9, 21, 9, 42, 182, 1, 223, 162, 0, 48]
abbrev dktX6_met_7 : List UInt8 := dkwX6_met_7 ++ dktX6_met_8
def dkwX6_met_6 : List UInt8 := [54, 7, 21, 7, 16, 48, 162, 0, 126, 42, 180, 0, 246, 21, 7, 51, 153, 0, 110, 42, 28, 21, 7, 4]
abbrev dktX6_met_6 : List UInt8 := dkwX6_met_6 ++ dktX6_met_7
def dkwX6_met_5 : List UInt8 := [167, 255, 203, 132, 4, 1, 167, 255, 172, 42, 28, 182, 2, 52, 3, 54, 4, 2, 54, 5, 3, 54, 6, 3]
abbrev dktX6_met_5 : List UInt8 := dkwX6_met_5 ++ dktX6_met_6
def dkwX6_met_4 : List UInt8 := [153, 0, 19, 42, 27, 21, 5, 21, 4, 182, 2, 43, 153, 0, 7, 4, 167, 0, 4, 3, 84, 132, 5, 1]
abbrev dktX6_met_4 : List UInt8 := dkwX6_met_4 ++ dktX6_met_5
def dkwX6_met_3 : List UInt8 := [162, 0, 50, 42, 180, 0, 243, 17, 1, 0, 21, 4, 104, 21, 5, 96, 42, 180, 0, 246, 21, 4, 51]
abbrev dktX6_met_3 : List UInt8 := dkwX6_met_3 ++ dktX6_met_4
def dkwX6_met_2 : List UInt8 := [180, 0, 246, 21, 4, 42, 27, 21, 4, 3, 182, 2, 96, 84, 3, 54, 5, 21, 5, 42, 182, 1, 223]
abbrev dktX6_met_2 : List UInt8 := dkwX6_met_2 ++ dktX6_met_3
def dkwX6_met_1 : List UInt8 := [184, 1, 87, 154, 0, 5, 2, 172, 42, 27, 182, 2, 52, 3, 54, 4, 21, 4, 16, 48, 162, 0, 83, 42]
abbrev dktX6_met_1 : List UInt8 := dkwX6_met_1 ++ dktX6_met_2
def dkwX6_met_0 : List UInt8 := [42, 27, 182, 1, 249, 153, 0, 25, 42, 28, 182, 1, 249, 153, 0, 17, 27, 28, 159, 0, 12, 29, 3, 5]
abbrev dktX6_met_0 : List UInt8 := dkwX6_met_0 ++ dktX6_met_1
theorem dksX6_met_0 : cX6_met.data.toList.drop 0 = dktX6_met_0 := by decide +kernel
theorem dksX6_met_1 : cX6_met.data.toList.drop 24 = dktX6_met_1 := dk_seg dksX6_met_0 24 rfl rfl
theorem dksX6_met_2 : cX6_met.data.toList.drop 48 = dktX6_met_2 := dk_seg dksX6_met_1 24 rfl rfl
theorem dksX6_met_3 : cX6_met.data.toList.drop 71 = dktX6_met_3 := dk_seg dksX6_met_2 23 rfl rfl
theorem dksX6_met_4 : cX6_met.data.toList.drop 94 = dktX6_met_4 := dk_seg dksX6_met_3 23 rfl rfl
theorem dksX6_met_5 : cX6_met.data.toList.drop 118 = dktX6_met_5 := dk_seg dksX6_met_4 24 rfl rfl
theorem dksX6_met_6 : cX6_met.data.toList.drop 142 = dktX6_met_6 := dk_seg dksX6_met_5 24 rfl rfl
theorem dksX6_met_7 : cX6_met.data.toList.drop 166 = dktX6_met_7 := dk_seg dksX6_met_6 24 rfl rfl
theorem dksX6_met_8 : cX6_met.data.toList.drop 190 = dktX6_met_8 := dk_seg dksX6_met_7 24 rfl rfl
theorem dksX6_met_9 : cX6_met.data.toList.drop 213 = dktX6_met_9 := dk_seg dksX6_met_8 23 rfl rfl
theorem dksX6_met_10 : cX6_met.data.toList.drop 237 = dktX6_met_10 := dk_seg dksX6_met_9 24 rfl rfl
theorem dksX6_met_11 : cX6_met.data.toList.drop 261 = dktX6_met_11 := dk_seg dksX6_met_10 24 rfl rfl
theorem dksX6_met_12 : cX6_met.data.toList.drop 285 = dktX6_met_12 := dk_seg dksX6_met_11 24 rfl rfl
theorem dX6_met_0 : decode cX6_met 0 = .ok (.aload_n 0, 1) := dk_42 (dk_at dksX6_met_0 0 rfl rfl)
theorem dX6_met_1 : decode cX6_met 1 = .ok (.iload_n 1, 1) := dk_27 (dk_at dksX6_met_0 1 rfl rfl)
theorem dX6_met_2 : decode cX6_met 2 = .ok (.invokevirtual 505, 3) := dk_182 1 249 (dk_at dksX6_met_0 2 rfl rfl)
theorem dX6_met_5 : decode cX6_met 5 = .ok (.ifCond .eq 25, 3) := dk_153 0 25 (dk_at dksX6_met_0 5 rfl rfl)
theorem dX6_met_8 : decode cX6_met 8 = .ok (.aload_n 0, 1) := dk_42 (dk_at dksX6_met_0 8 rfl rfl)
theorem dX6_met_9 : decode cX6_met 9 = .ok (.iload_n 2, 1) := dk_28 (dk_at dksX6_met_0 9 rfl rfl)
theorem dX6_met_10 : decode cX6_met 10 = .ok (.invokevirtual 505, 3) := dk_182 1 249 (dk_at dksX6_met_0 10 rfl rfl)
theorem dX6_met_13 : decode cX6_met 13 = .ok (.ifCond .eq 17, 3) := dk_153 0 17 (dk_at dksX6_met_0 13 rfl rfl)
theorem dX6_met_16 : decode cX6_met 16 = .ok (.iload_n 1, 1) := dk_27 (dk_at dksX6_met_0 16 rfl rfl)
theorem dX6_met_17 : decode cX6_met 17 = .ok (.iload_n 2, 1) := dk_28 (dk_at dksX6_met_0 17 rfl rfl)
theorem dX6_met_18 : decode cX6_met 18 = .ok (.if_icmp .eq 12, 3) := dk_159 0 12 (dk_at dksX6_met_0 18 rfl rfl)
theorem dX6_met_21 : decode cX6_met 21 = .ok (.iload_n 3, 1) := dk_29 (dk_at dksX6_met_0 21 rfl rfl)
theorem dX6_met_22 : decode cX6_met 22 = .ok (.iconst 0, 1) := dk_3 (dk_at dksX6_met_0 22 rfl rfl)
theorem dX6_met_23 : decode cX6_met 23 = .ok (.iconst 2, 1) := dk_5 (dk_at dksX6_met_0 23 rfl rfl)
theorem dX6_met_24 : decode cX6_met 24 = .ok (.invokestatic 343, 3) := dk_184 1 87 (dk_at dksX6_met_1 0 rfl rfl)
theorem dX6_met_27 : decode cX6_met 27 = .ok (.ifCond .ne 5, 3) := dk_154 0 5 (dk_at dksX6_met_1 3 rfl rfl)
theorem dX6_met_30 : decode cX6_met 30 = .ok (.iconst (-1), 1) := dk_2 (dk_at dksX6_met_1 6 rfl rfl)
theorem dX6_met_31 : decode cX6_met 31 = .ok (.ireturn, 1) := dk_172 (dk_at dksX6_met_1 7 rfl rfl)
theorem dX6_met_32 : decode cX6_met 32 = .ok (.aload_n 0, 1) := dk_42 (dk_at dksX6_met_1 8 rfl rfl)
theorem dX6_met_33 : decode cX6_met 33 = .ok (.iload_n 1, 1) := dk_27 (dk_at dksX6_met_1 9 rfl rfl)
theorem dX6_met_34 : decode cX6_met 34 = .ok (.invokevirtual 564, 3) := dk_182 2 52 (dk_at dksX6_met_1 10 rfl rfl)
theorem dX6_met_37 : decode cX6_met 37 = .ok (.iconst 0, 1) := dk_3 (dk_at dksX6_met_1 13 rfl rfl)
theorem dX6_met_38 : decode cX6_met 38 = .ok (.istore 4, 2) := dk_54 4 (dk_at dksX6_met_1 14 rfl rfl)
theorem dX6_met_40 : decode cX6_met 40 = .ok (.iload 4, 2) := dk_21 4 (dk_at dksX6_met_1 16 rfl rfl)
theorem dX6_met_42 : decode cX6_met 42 = .ok (.bipush 48, 2) := dk_16 48 (dk_at dksX6_met_1 18 rfl rfl)
theorem dX6_met_44 : decode cX6_met 44 = .ok (.if_icmp .ge 83, 3) := dk_162 0 83 (dk_at dksX6_met_1 20 rfl rfl)
theorem dX6_met_47 : decode cX6_met 47 = .ok (.aload_n 0, 1) := dk_42 (dk_at dksX6_met_1 23 rfl rfl)
theorem dX6_met_48 : decode cX6_met 48 = .ok (.getfield 246, 3) := dk_180 0 246 (dk_at dksX6_met_2 0 rfl rfl)
theorem dX6_met_51 : decode cX6_met 51 = .ok (.iload 4, 2) := dk_21 4 (dk_at dksX6_met_2 3 rfl rfl)
theorem dX6_met_53 : decode cX6_met 53 = .ok (.aload_n 0, 1) := dk_42 (dk_at dksX6_met_2 5 rfl rfl)
theorem dX6_met_54 : decode cX6_met 54 = .ok (.iload_n 1, 1) := dk_27 (dk_at dksX6_met_2 6 rfl rfl)
theorem dX6_met_55 : decode cX6_met 55 = .ok (.iload 4, 2) := dk_21 4 (dk_at dksX6_met_2 7 rfl rfl)
theorem dX6_met_57 : decode cX6_met 57 = .ok (.iconst 0, 1) := dk_3 (dk_at dksX6_met_2 9 rfl rfl)
theorem dX6_met_58 : decode cX6_met 58 = .ok (.invokevirtual 608, 3) := dk_182 2 96 (dk_at dksX6_met_2 10 rfl rfl)
theorem dX6_met_61 : decode cX6_met 61 = .ok (.bastore, 1) := dk_84 (dk_at dksX6_met_2 13 rfl rfl)
theorem dX6_met_62 : decode cX6_met 62 = .ok (.iconst 0, 1) := dk_3 (dk_at dksX6_met_2 14 rfl rfl)
theorem dX6_met_63 : decode cX6_met 63 = .ok (.istore 5, 2) := dk_54 5 (dk_at dksX6_met_2 15 rfl rfl)
theorem dX6_met_65 : decode cX6_met 65 = .ok (.iload 5, 2) := dk_21 5 (dk_at dksX6_met_2 17 rfl rfl)
theorem dX6_met_67 : decode cX6_met 67 = .ok (.aload_n 0, 1) := dk_42 (dk_at dksX6_met_2 19 rfl rfl)
theorem dX6_met_68 : decode cX6_met 68 = .ok (.invokevirtual 479, 3) := dk_182 1 223 (dk_at dksX6_met_2 20 rfl rfl)
theorem dX6_met_71 : decode cX6_met 71 = .ok (.if_icmp .ge 50, 3) := dk_162 0 50 (dk_at dksX6_met_3 0 rfl rfl)
theorem dX6_met_74 : decode cX6_met 74 = .ok (.aload_n 0, 1) := dk_42 (dk_at dksX6_met_3 3 rfl rfl)
theorem dX6_met_75 : decode cX6_met 75 = .ok (.getfield 243, 3) := dk_180 0 243 (dk_at dksX6_met_3 4 rfl rfl)
theorem dX6_met_78 : decode cX6_met 78 = .ok (.sipush 256, 3) := dk_17 1 0 (dk_at dksX6_met_3 7 rfl rfl)
theorem dX6_met_81 : decode cX6_met 81 = .ok (.iload 4, 2) := dk_21 4 (dk_at dksX6_met_3 10 rfl rfl)
theorem dX6_met_83 : decode cX6_met 83 = .ok (.imul, 1) := dk_104 (dk_at dksX6_met_3 12 rfl rfl)
theorem dX6_met_84 : decode cX6_met 84 = .ok (.iload 5, 2) := dk_21 5 (dk_at dksX6_met_3 13 rfl rfl)
theorem dX6_met_86 : decode cX6_met 86 = .ok (.iadd, 1) := dk_96 (dk_at dksX6_met_3 15 rfl rfl)
theorem dX6_met_87 : decode cX6_met 87 = .ok (.aload_n 0, 1) := dk_42 (dk_at dksX6_met_3 16 rfl rfl)
theorem dX6_met_88 : decode cX6_met 88 = .ok (.getfield 246, 3) := dk_180 0 246 (dk_at dksX6_met_3 17 rfl rfl)
theorem dX6_met_91 : decode cX6_met 91 = .ok (.iload 4, 2) := dk_21 4 (dk_at dksX6_met_3 20 rfl rfl)
theorem dX6_met_93 : decode cX6_met 93 = .ok (.baload, 1) := dk_51 (dk_at dksX6_met_3 22 rfl rfl)
theorem dX6_met_94 : decode cX6_met 94 = .ok (.ifCond .eq 19, 3) := dk_153 0 19 (dk_at dksX6_met_4 0 rfl rfl)
theorem dX6_met_97 : decode cX6_met 97 = .ok (.aload_n 0, 1) := dk_42 (dk_at dksX6_met_4 3 rfl rfl)
theorem dX6_met_98 : decode cX6_met 98 = .ok (.iload_n 1, 1) := dk_27 (dk_at dksX6_met_4 4 rfl rfl)
theorem dX6_met_99 : decode cX6_met 99 = .ok (.iload 5, 2) := dk_21 5 (dk_at dksX6_met_4 5 rfl rfl)
theorem dX6_met_101 : decode cX6_met 101 = .ok (.iload 4, 2) := dk_21 4 (dk_at dksX6_met_4 7 rfl rfl)
theorem dX6_met_103 : decode cX6_met 103 = .ok (.invokevirtual 555, 3) := dk_182 2 43 (dk_at dksX6_met_4 9 rfl rfl)
theorem dX6_met_106 : decode cX6_met 106 = .ok (.ifCond .eq 7, 3) := dk_153 0 7 (dk_at dksX6_met_4 12 rfl rfl)
theorem dX6_met_109 : decode cX6_met 109 = .ok (.iconst 1, 1) := dk_4 (dk_at dksX6_met_4 15 rfl rfl)
theorem dX6_met_110 : decode cX6_met 110 = .ok (.goto 4, 3) := dk_167 0 4 (dk_at dksX6_met_4 16 rfl rfl)
theorem dX6_met_113 : decode cX6_met 113 = .ok (.iconst 0, 1) := dk_3 (dk_at dksX6_met_4 19 rfl rfl)
theorem dX6_met_114 : decode cX6_met 114 = .ok (.bastore, 1) := dk_84 (dk_at dksX6_met_4 20 rfl rfl)
theorem dX6_met_115 : decode cX6_met 115 = .ok (.iinc 5 1, 3) := dk_132 5 1 (dk_at dksX6_met_4 21 rfl rfl)
theorem dX6_met_118 : decode cX6_met 118 = .ok (.goto (-53), 3) := dk_167 255 203 (dk_at dksX6_met_5 0 rfl rfl)
theorem dX6_met_121 : decode cX6_met 121 = .ok (.iinc 4 1, 3) := dk_132 4 1 (dk_at dksX6_met_5 3 rfl rfl)
theorem dX6_met_124 : decode cX6_met 124 = .ok (.goto (-84), 3) := dk_167 255 172 (dk_at dksX6_met_5 6 rfl rfl)
theorem dX6_met_127 : decode cX6_met 127 = .ok (.aload_n 0, 1) := dk_42 (dk_at dksX6_met_5 9 rfl rfl)
theorem dX6_met_128 : decode cX6_met 128 = .ok (.iload_n 2, 1) := dk_28 (dk_at dksX6_met_5 10 rfl rfl)
theorem dX6_met_129 : decode cX6_met 129 = .ok (.invokevirtual 564, 3) := dk_182 2 52 (dk_at dksX6_met_5 11 rfl rfl)
theorem dX6_met_132 : decode cX6_met 132 = .ok (.iconst 0, 1) := dk_3 (dk_at dksX6_met_5 14 rfl rfl)
theorem dX6_met_133 : decode cX6_met 133 = .ok (.istore 4, 2) := dk_54 4 (dk_at dksX6_met_5 15 rfl rfl)
theorem dX6_met_135 : decode cX6_met 135 = .ok (.iconst (-1), 1) := dk_2 (dk_at dksX6_met_5 17 rfl rfl)
theorem dX6_met_136 : decode cX6_met 136 = .ok (.istore 5, 2) := dk_54 5 (dk_at dksX6_met_5 18 rfl rfl)
theorem dX6_met_138 : decode cX6_met 138 = .ok (.iconst 0, 1) := dk_3 (dk_at dksX6_met_5 20 rfl rfl)
theorem dX6_met_139 : decode cX6_met 139 = .ok (.istore 6, 2) := dk_54 6 (dk_at dksX6_met_5 21 rfl rfl)
theorem dX6_met_141 : decode cX6_met 141 = .ok (.iconst 0, 1) := dk_3 (dk_at dksX6_met_5 23 rfl rfl)
theorem dX6_met_142 : decode cX6_met 142 = .ok (.istore 7, 2) := dk_54 7 (dk_at dksX6_met_6 0 rfl rfl)
theorem dX6_met_144 : decode cX6_met 144 = .ok (.iload 7, 2) := dk_21 7 (dk_at dksX6_met_6 2 rfl rfl)
theorem dX6_met_146 : decode cX6_met 146 = .ok (.bipush 48, 2) := dk_16 48 (dk_at dksX6_met_6 4 rfl rfl)
theorem dX6_met_148 : decode cX6_met 148 = .ok (.if_icmp .ge 126, 3) := dk_162 0 126 (dk_at dksX6_met_6 6 rfl rfl)
theorem dX6_met_151 : decode cX6_met 151 = .ok (.aload_n 0, 1) := dk_42 (dk_at dksX6_met_6 9 rfl rfl)
theorem dX6_met_152 : decode cX6_met 152 = .ok (.getfield 246, 3) := dk_180 0 246 (dk_at dksX6_met_6 10 rfl rfl)
theorem dX6_met_155 : decode cX6_met 155 = .ok (.iload 7, 2) := dk_21 7 (dk_at dksX6_met_6 13 rfl rfl)
theorem dX6_met_157 : decode cX6_met 157 = .ok (.baload, 1) := dk_51 (dk_at dksX6_met_6 15 rfl rfl)
theorem dX6_met_158 : decode cX6_met 158 = .ok (.ifCond .eq 110, 3) := dk_153 0 110 (dk_at dksX6_met_6 16 rfl rfl)
theorem dX6_met_161 : decode cX6_met 161 = .ok (.aload_n 0, 1) := dk_42 (dk_at dksX6_met_6 19 rfl rfl)
theorem dX6_met_162 : decode cX6_met 162 = .ok (.iload_n 2, 1) := dk_28 (dk_at dksX6_met_6 20 rfl rfl)
theorem dX6_met_163 : decode cX6_met 163 = .ok (.iload 7, 2) := dk_21 7 (dk_at dksX6_met_6 21 rfl rfl)
theorem dX6_met_165 : decode cX6_met 165 = .ok (.iconst 1, 1) := dk_4 (dk_at dksX6_met_6 23 rfl rfl)
theorem dX6_met_166 : decode cX6_met 166 = .ok (.invokevirtual 608, 3) := dk_182 2 96 (dk_at dksX6_met_7 0 rfl rfl)
theorem dX6_met_169 : decode cX6_met 169 = .ok (.ifCond .ne 6, 3) := dk_154 0 6 (dk_at dksX6_met_7 3 rfl rfl)
theorem dX6_met_172 : decode cX6_met 172 = .ok (.goto 96, 3) := dk_167 0 96 (dk_at dksX6_met_7 6 rfl rfl)
theorem dX6_met_175 : decode cX6_met 175 = .ok (.iconst 0, 1) := dk_3 (dk_at dksX6_met_7 9 rfl rfl)
theorem dX6_met_176 : decode cX6_met 176 = .ok (.istore 8, 2) := dk_54 8 (dk_at dksX6_met_7 10 rfl rfl)
theorem dX6_met_178 : decode cX6_met 178 = .ok (.iconst 0, 1) := dk_3 (dk_at dksX6_met_7 12 rfl rfl)
theorem dX6_met_179 : decode cX6_met 179 = .ok (.istore 9, 2) := dk_54 9 (dk_at dksX6_met_7 13 rfl rfl)
theorem dX6_met_181 : decode cX6_met 181 = .ok (.iload 9, 2) := dk_21 9 (dk_at dksX6_met_7 15 rfl rfl)
theorem dX6_met_183 : decode cX6_met 183 = .ok (.aload_n 0, 1) := dk_42 (dk_at dksX6_met_7 17 rfl rfl)
theorem dX6_met_184 : decode cX6_met 184 = .ok (.invokevirtual 479, 3) := dk_182 1 223 (dk_at dksX6_met_7 18 rfl rfl)
theorem dX6_met_187 : decode cX6_met 187 = .ok (.if_icmp .ge 48, 3) := dk_162 0 48 (dk_at dksX6_met_7 21 rfl rfl)
theorem dX6_met_190 : decode cX6_met 190 = .ok (.iload 8, 2) := dk_21 8 (dk_at dksX6_met_8 0 rfl rfl)
theorem dX6_met_192 : decode cX6_met 192 = .ok (.aload_n 0, 1) := dk_42 (dk_at dksX6_met_8 2 rfl rfl)
theorem dX6_met_193 : decode cX6_met 193 = .ok (.getfield 243, 3) := dk_180 0 243 (dk_at dksX6_met_8 3 rfl rfl)
theorem dX6_met_196 : decode cX6_met 196 = .ok (.sipush 256, 3) := dk_17 1 0 (dk_at dksX6_met_8 6 rfl rfl)
theorem dX6_met_199 : decode cX6_met 199 = .ok (.iload 7, 2) := dk_21 7 (dk_at dksX6_met_8 9 rfl rfl)
theorem dX6_met_201 : decode cX6_met 201 = .ok (.imul, 1) := dk_104 (dk_at dksX6_met_8 11 rfl rfl)
theorem dX6_met_202 : decode cX6_met 202 = .ok (.iload 9, 2) := dk_21 9 (dk_at dksX6_met_8 12 rfl rfl)
theorem dX6_met_204 : decode cX6_met 204 = .ok (.iadd, 1) := dk_96 (dk_at dksX6_met_8 14 rfl rfl)
theorem dX6_met_205 : decode cX6_met 205 = .ok (.baload, 1) := dk_51 (dk_at dksX6_met_8 15 rfl rfl)
theorem dX6_met_206 : decode cX6_met 206 = .ok (.ifCond .eq 19, 3) := dk_153 0 19 (dk_at dksX6_met_8 16 rfl rfl)
theorem dX6_met_209 : decode cX6_met 209 = .ok (.aload_n 0, 1) := dk_42 (dk_at dksX6_met_8 19 rfl rfl)
theorem dX6_met_210 : decode cX6_met 210 = .ok (.iload_n 2, 1) := dk_28 (dk_at dksX6_met_8 20 rfl rfl)
theorem dX6_met_211 : decode cX6_met 211 = .ok (.iload 9, 2) := dk_21 9 (dk_at dksX6_met_8 21 rfl rfl)
theorem dX6_met_213 : decode cX6_met 213 = .ok (.iload 7, 2) := dk_21 7 (dk_at dksX6_met_9 0 rfl rfl)
theorem dX6_met_215 : decode cX6_met 215 = .ok (.invokevirtual 555, 3) := dk_182 2 43 (dk_at dksX6_met_9 2 rfl rfl)
theorem dX6_met_218 : decode cX6_met 218 = .ok (.ifCond .eq 7, 3) := dk_153 0 7 (dk_at dksX6_met_9 5 rfl rfl)
theorem dX6_met_221 : decode cX6_met 221 = .ok (.iconst 1, 1) := dk_4 (dk_at dksX6_met_9 8 rfl rfl)
theorem dX6_met_222 : decode cX6_met 222 = .ok (.goto 4, 3) := dk_167 0 4 (dk_at dksX6_met_9 9 rfl rfl)
theorem dX6_met_225 : decode cX6_met 225 = .ok (.iconst 0, 1) := dk_3 (dk_at dksX6_met_9 12 rfl rfl)
theorem dX6_met_226 : decode cX6_met 226 = .ok (.iadd, 1) := dk_96 (dk_at dksX6_met_9 13 rfl rfl)
theorem dX6_met_227 : decode cX6_met 227 = .ok (.istore 8, 2) := dk_54 8 (dk_at dksX6_met_9 14 rfl rfl)
theorem dX6_met_229 : decode cX6_met 229 = .ok (.iinc 9 1, 3) := dk_132 9 1 (dk_at dksX6_met_9 16 rfl rfl)
theorem dX6_met_232 : decode cX6_met 232 = .ok (.goto (-51), 3) := dk_167 255 205 (dk_at dksX6_met_9 19 rfl rfl)
theorem dX6_met_235 : decode cX6_met 235 = .ok (.iload 8, 2) := dk_21 8 (dk_at dksX6_met_9 22 rfl rfl)
theorem dX6_met_237 : decode cX6_met 237 = .ok (.ifCond .ne 6, 3) := dk_154 0 6 (dk_at dksX6_met_10 0 rfl rfl)
theorem dX6_met_240 : decode cX6_met 240 = .ok (.goto 28, 3) := dk_167 0 28 (dk_at dksX6_met_10 3 rfl rfl)
theorem dX6_met_243 : decode cX6_met 243 = .ok (.iinc 4 1, 3) := dk_132 4 1 (dk_at dksX6_met_10 6 rfl rfl)
theorem dX6_met_246 : decode cX6_met 246 = .ok (.iload 6, 2) := dk_21 6 (dk_at dksX6_met_10 9 rfl rfl)
theorem dX6_met_248 : decode cX6_met 248 = .ok (.iload 8, 2) := dk_21 8 (dk_at dksX6_met_10 11 rfl rfl)
theorem dX6_met_250 : decode cX6_met 250 = .ok (.iadd, 1) := dk_96 (dk_at dksX6_met_10 13 rfl rfl)
theorem dX6_met_251 : decode cX6_met 251 = .ok (.istore 6, 2) := dk_54 6 (dk_at dksX6_met_10 14 rfl rfl)
theorem dX6_met_253 : decode cX6_met 253 = .ok (.iload 5, 2) := dk_21 5 (dk_at dksX6_met_10 16 rfl rfl)
theorem dX6_met_255 : decode cX6_met 255 = .ok (.iconst (-1), 1) := dk_2 (dk_at dksX6_met_10 18 rfl rfl)
theorem dX6_met_256 : decode cX6_met 256 = .ok (.if_icmp .ne 8, 3) := dk_160 0 8 (dk_at dksX6_met_10 19 rfl rfl)
theorem dX6_met_259 : decode cX6_met 259 = .ok (.iload 7, 2) := dk_21 7 (dk_at dksX6_met_10 22 rfl rfl)
theorem dX6_met_261 : decode cX6_met 261 = .ok (.goto 5, 3) := dk_167 0 5 (dk_at dksX6_met_11 0 rfl rfl)
theorem dX6_met_264 : decode cX6_met 264 = .ok (.iload 5, 2) := dk_21 5 (dk_at dksX6_met_11 3 rfl rfl)
theorem dX6_met_266 : decode cX6_met 266 = .ok (.istore 5, 2) := dk_54 5 (dk_at dksX6_met_11 5 rfl rfl)
theorem dX6_met_268 : decode cX6_met 268 = .ok (.iinc 7 1, 3) := dk_132 7 1 (dk_at dksX6_met_11 7 rfl rfl)
theorem dX6_met_271 : decode cX6_met 271 = .ok (.goto (-127), 3) := dk_167 255 129 (dk_at dksX6_met_11 10 rfl rfl)
theorem dX6_met_274 : decode cX6_met 274 = .ok (.iload_n 3, 1) := dk_29 (dk_at dksX6_met_11 13 rfl rfl)
theorem dX6_met_275 : decode cX6_met 275 = .ok (.ifCond .ne 8, 3) := dk_154 0 8 (dk_at dksX6_met_11 14 rfl rfl)
theorem dX6_met_278 : decode cX6_met 278 = .ok (.iload 4, 2) := dk_21 4 (dk_at dksX6_met_11 17 rfl rfl)
theorem dX6_met_280 : decode cX6_met 280 = .ok (.goto 15, 3) := dk_167 0 15 (dk_at dksX6_met_11 19 rfl rfl)
theorem dX6_met_283 : decode cX6_met 283 = .ok (.iload_n 3, 1) := dk_29 (dk_at dksX6_met_11 22 rfl rfl)
theorem dX6_met_284 : decode cX6_met 284 = .ok (.iconst 1, 1) := dk_4 (dk_at dksX6_met_11 23 rfl rfl)
theorem dX6_met_285 : decode cX6_met 285 = .ok (.if_icmp .ne 8, 3) := dk_160 0 8 (dk_at dksX6_met_12 0 rfl rfl)
theorem dX6_met_288 : decode cX6_met 288 = .ok (.iload 5, 2) := dk_21 5 (dk_at dksX6_met_12 3 rfl rfl)
theorem dX6_met_290 : decode cX6_met 290 = .ok (.goto 5, 3) := dk_167 0 5 (dk_at dksX6_met_12 5 rfl rfl)
theorem dX6_met_293 : decode cX6_met 293 = .ok (.iload 6, 2) := dk_21 6 (dk_at dksX6_met_12 8 rfl rfl)
theorem dX6_met_295 : decode cX6_met 295 = .ok (.ireturn, 1) := dk_172 (dk_at dksX6_met_12 10 rfl rfl)
