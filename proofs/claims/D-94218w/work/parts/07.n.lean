set_option maxRecDepth 100000
abbrev cX6_changes : ByteArray := prog_29_method_112_code
def yX6_changes : MethodName := ⟨RX6, "changes", "(IIZ)Z"⟩
def dkwX6_changes_5 : List UInt8 := [167, 255, 148, 3, 172]
abbrev dktX6_changes_5 : List UInt8 := dkwX6_changes_5 ++ []
def dkwX6_changes_4 : List UInt8 := [42, 180, 0, 216, 21, 5, 46, 182, 2, 15, 29, 160, 0, 7, 4, 167, 0, 4, 3, 172, 132, 5, 1]
abbrev dktX6_changes_4 : List UInt8 := dkwX6_changes_4 ++ dktX6_changes_5
def dkwX6_changes_3 : List UInt8 := [21, 4, 2, 159, 0, 39, 42, 27, 42, 180, 0, 216, 21, 4, 46, 182, 2, 15, 29, 159, 0, 23, 42, 27]
abbrev dktX6_changes_3 : List UInt8 := dkwX6_changes_3 ++ dktX6_changes_4
def dkwX6_changes_2 : List UInt8 := [180, 0, 216, 21, 5, 46, 28, 160, 0, 5, 3, 172, 42, 180, 0, 216, 21, 5, 46, 28, 164, 0, 47]
abbrev dktX6_changes_2 : List UInt8 := dkwX6_changes_2 ++ dktX6_changes_3
def dkwX6_changes_1 : List UInt8 := [154, 0, 6, 167, 0, 86, 42, 180, 0, 216, 21, 5, 46, 28, 162, 0, 7, 21, 5, 54, 4, 42]
abbrev dktX6_changes_1 : List UInt8 := dkwX6_changes_1 ++ dktX6_changes_2
def dkwX6_changes_0 : List UInt8 := [2, 54, 4, 3, 54, 5, 21, 5, 42, 180, 0, 210, 162, 0, 105, 42, 180, 0, 222, 21, 5, 51]
abbrev dktX6_changes_0 : List UInt8 := dkwX6_changes_0 ++ dktX6_changes_1
theorem dksX6_changes_0 : cX6_changes.data.toList.drop 0 = dktX6_changes_0 := by decide +kernel
theorem dksX6_changes_1 : cX6_changes.data.toList.drop 22 = dktX6_changes_1 := dk_seg dksX6_changes_0 22 rfl rfl
theorem dksX6_changes_2 : cX6_changes.data.toList.drop 44 = dktX6_changes_2 := dk_seg dksX6_changes_1 22 rfl rfl
theorem dksX6_changes_3 : cX6_changes.data.toList.drop 67 = dktX6_changes_3 := dk_seg dksX6_changes_2 23 rfl rfl
theorem dksX6_changes_4 : cX6_changes.data.toList.drop 91 = dktX6_changes_4 := dk_seg dksX6_changes_3 24 rfl rfl
theorem dksX6_changes_5 : cX6_changes.data.toList.drop 114 = dktX6_changes_5 := dk_seg dksX6_changes_4 23 rfl rfl
theorem dX6_changes_0 : decode cX6_changes 0 = .ok (.iconst (-1), 1) := dk_2 (dk_at dksX6_changes_0 0 rfl rfl)
theorem dX6_changes_1 : decode cX6_changes 1 = .ok (.istore 4, 2) := dk_54 4 (dk_at dksX6_changes_0 1 rfl rfl)
theorem dX6_changes_3 : decode cX6_changes 3 = .ok (.iconst 0, 1) := dk_3 (dk_at dksX6_changes_0 3 rfl rfl)
theorem dX6_changes_4 : decode cX6_changes 4 = .ok (.istore 5, 2) := dk_54 5 (dk_at dksX6_changes_0 4 rfl rfl)
theorem dX6_changes_6 : decode cX6_changes 6 = .ok (.iload 5, 2) := dk_21 5 (dk_at dksX6_changes_0 6 rfl rfl)
theorem dX6_changes_8 : decode cX6_changes 8 = .ok (.aload_n 0, 1) := dk_42 (dk_at dksX6_changes_0 8 rfl rfl)
theorem dX6_changes_9 : decode cX6_changes 9 = .ok (.getfield 210, 3) := dk_180 0 210 (dk_at dksX6_changes_0 9 rfl rfl)
theorem dX6_changes_12 : decode cX6_changes 12 = .ok (.if_icmp .ge 105, 3) := dk_162 0 105 (dk_at dksX6_changes_0 12 rfl rfl)
theorem dX6_changes_15 : decode cX6_changes 15 = .ok (.aload_n 0, 1) := dk_42 (dk_at dksX6_changes_0 15 rfl rfl)
theorem dX6_changes_16 : decode cX6_changes 16 = .ok (.getfield 222, 3) := dk_180 0 222 (dk_at dksX6_changes_0 16 rfl rfl)
theorem dX6_changes_19 : decode cX6_changes 19 = .ok (.iload 5, 2) := dk_21 5 (dk_at dksX6_changes_0 19 rfl rfl)
theorem dX6_changes_21 : decode cX6_changes 21 = .ok (.baload, 1) := dk_51 (dk_at dksX6_changes_0 21 rfl rfl)
theorem dX6_changes_22 : decode cX6_changes 22 = .ok (.ifCond .ne 6, 3) := dk_154 0 6 (dk_at dksX6_changes_1 0 rfl rfl)
theorem dX6_changes_25 : decode cX6_changes 25 = .ok (.goto 86, 3) := dk_167 0 86 (dk_at dksX6_changes_1 3 rfl rfl)
theorem dX6_changes_28 : decode cX6_changes 28 = .ok (.aload_n 0, 1) := dk_42 (dk_at dksX6_changes_1 6 rfl rfl)
theorem dX6_changes_29 : decode cX6_changes 29 = .ok (.getfield 216, 3) := dk_180 0 216 (dk_at dksX6_changes_1 7 rfl rfl)
theorem dX6_changes_32 : decode cX6_changes 32 = .ok (.iload 5, 2) := dk_21 5 (dk_at dksX6_changes_1 10 rfl rfl)
theorem dX6_changes_34 : decode cX6_changes 34 = .ok (.iaload, 1) := dk_46 (dk_at dksX6_changes_1 12 rfl rfl)
theorem dX6_changes_35 : decode cX6_changes 35 = .ok (.iload_n 2, 1) := dk_28 (dk_at dksX6_changes_1 13 rfl rfl)
theorem dX6_changes_36 : decode cX6_changes 36 = .ok (.if_icmp .ge 7, 3) := dk_162 0 7 (dk_at dksX6_changes_1 14 rfl rfl)
theorem dX6_changes_39 : decode cX6_changes 39 = .ok (.iload 5, 2) := dk_21 5 (dk_at dksX6_changes_1 17 rfl rfl)
theorem dX6_changes_41 : decode cX6_changes 41 = .ok (.istore 4, 2) := dk_54 4 (dk_at dksX6_changes_1 19 rfl rfl)
theorem dX6_changes_43 : decode cX6_changes 43 = .ok (.aload_n 0, 1) := dk_42 (dk_at dksX6_changes_1 21 rfl rfl)
theorem dX6_changes_44 : decode cX6_changes 44 = .ok (.getfield 216, 3) := dk_180 0 216 (dk_at dksX6_changes_2 0 rfl rfl)
theorem dX6_changes_47 : decode cX6_changes 47 = .ok (.iload 5, 2) := dk_21 5 (dk_at dksX6_changes_2 3 rfl rfl)
theorem dX6_changes_49 : decode cX6_changes 49 = .ok (.iaload, 1) := dk_46 (dk_at dksX6_changes_2 5 rfl rfl)
theorem dX6_changes_50 : decode cX6_changes 50 = .ok (.iload_n 2, 1) := dk_28 (dk_at dksX6_changes_2 6 rfl rfl)
theorem dX6_changes_51 : decode cX6_changes 51 = .ok (.if_icmp .ne 5, 3) := dk_160 0 5 (dk_at dksX6_changes_2 7 rfl rfl)
theorem dX6_changes_54 : decode cX6_changes 54 = .ok (.iconst 0, 1) := dk_3 (dk_at dksX6_changes_2 10 rfl rfl)
theorem dX6_changes_55 : decode cX6_changes 55 = .ok (.ireturn, 1) := dk_172 (dk_at dksX6_changes_2 11 rfl rfl)
theorem dX6_changes_56 : decode cX6_changes 56 = .ok (.aload_n 0, 1) := dk_42 (dk_at dksX6_changes_2 12 rfl rfl)
theorem dX6_changes_57 : decode cX6_changes 57 = .ok (.getfield 216, 3) := dk_180 0 216 (dk_at dksX6_changes_2 13 rfl rfl)
theorem dX6_changes_60 : decode cX6_changes 60 = .ok (.iload 5, 2) := dk_21 5 (dk_at dksX6_changes_2 16 rfl rfl)
theorem dX6_changes_62 : decode cX6_changes 62 = .ok (.iaload, 1) := dk_46 (dk_at dksX6_changes_2 18 rfl rfl)
theorem dX6_changes_63 : decode cX6_changes 63 = .ok (.iload_n 2, 1) := dk_28 (dk_at dksX6_changes_2 19 rfl rfl)
theorem dX6_changes_64 : decode cX6_changes 64 = .ok (.if_icmp .le 47, 3) := dk_164 0 47 (dk_at dksX6_changes_2 20 rfl rfl)
theorem dX6_changes_67 : decode cX6_changes 67 = .ok (.iload 4, 2) := dk_21 4 (dk_at dksX6_changes_3 0 rfl rfl)
theorem dX6_changes_69 : decode cX6_changes 69 = .ok (.iconst (-1), 1) := dk_2 (dk_at dksX6_changes_3 2 rfl rfl)
theorem dX6_changes_70 : decode cX6_changes 70 = .ok (.if_icmp .eq 39, 3) := dk_159 0 39 (dk_at dksX6_changes_3 3 rfl rfl)
theorem dX6_changes_73 : decode cX6_changes 73 = .ok (.aload_n 0, 1) := dk_42 (dk_at dksX6_changes_3 6 rfl rfl)
theorem dX6_changes_74 : decode cX6_changes 74 = .ok (.iload_n 1, 1) := dk_27 (dk_at dksX6_changes_3 7 rfl rfl)
theorem dX6_changes_75 : decode cX6_changes 75 = .ok (.aload_n 0, 1) := dk_42 (dk_at dksX6_changes_3 8 rfl rfl)
theorem dX6_changes_76 : decode cX6_changes 76 = .ok (.getfield 216, 3) := dk_180 0 216 (dk_at dksX6_changes_3 9 rfl rfl)
theorem dX6_changes_79 : decode cX6_changes 79 = .ok (.iload 4, 2) := dk_21 4 (dk_at dksX6_changes_3 12 rfl rfl)
theorem dX6_changes_81 : decode cX6_changes 81 = .ok (.iaload, 1) := dk_46 (dk_at dksX6_changes_3 14 rfl rfl)
theorem dX6_changes_82 : decode cX6_changes 82 = .ok (.invokevirtual 527, 3) := dk_182 2 15 (dk_at dksX6_changes_3 15 rfl rfl)
theorem dX6_changes_85 : decode cX6_changes 85 = .ok (.iload_n 3, 1) := dk_29 (dk_at dksX6_changes_3 18 rfl rfl)
theorem dX6_changes_86 : decode cX6_changes 86 = .ok (.if_icmp .eq 23, 3) := dk_159 0 23 (dk_at dksX6_changes_3 19 rfl rfl)
theorem dX6_changes_89 : decode cX6_changes 89 = .ok (.aload_n 0, 1) := dk_42 (dk_at dksX6_changes_3 22 rfl rfl)
theorem dX6_changes_90 : decode cX6_changes 90 = .ok (.iload_n 1, 1) := dk_27 (dk_at dksX6_changes_3 23 rfl rfl)
theorem dX6_changes_91 : decode cX6_changes 91 = .ok (.aload_n 0, 1) := dk_42 (dk_at dksX6_changes_4 0 rfl rfl)
theorem dX6_changes_92 : decode cX6_changes 92 = .ok (.getfield 216, 3) := dk_180 0 216 (dk_at dksX6_changes_4 1 rfl rfl)
theorem dX6_changes_95 : decode cX6_changes 95 = .ok (.iload 5, 2) := dk_21 5 (dk_at dksX6_changes_4 4 rfl rfl)
theorem dX6_changes_97 : decode cX6_changes 97 = .ok (.iaload, 1) := dk_46 (dk_at dksX6_changes_4 6 rfl rfl)
theorem dX6_changes_98 : decode cX6_changes 98 = .ok (.invokevirtual 527, 3) := dk_182 2 15 (dk_at dksX6_changes_4 7 rfl rfl)
theorem dX6_changes_101 : decode cX6_changes 101 = .ok (.iload_n 3, 1) := dk_29 (dk_at dksX6_changes_4 10 rfl rfl)
theorem dX6_changes_102 : decode cX6_changes 102 = .ok (.if_icmp .ne 7, 3) := dk_160 0 7 (dk_at dksX6_changes_4 11 rfl rfl)
theorem dX6_changes_105 : decode cX6_changes 105 = .ok (.iconst 1, 1) := dk_4 (dk_at dksX6_changes_4 14 rfl rfl)
theorem dX6_changes_106 : decode cX6_changes 106 = .ok (.goto 4, 3) := dk_167 0 4 (dk_at dksX6_changes_4 15 rfl rfl)
theorem dX6_changes_109 : decode cX6_changes 109 = .ok (.iconst 0, 1) := dk_3 (dk_at dksX6_changes_4 18 rfl rfl)
theorem dX6_changes_110 : decode cX6_changes 110 = .ok (.ireturn, 1) := dk_172 (dk_at dksX6_changes_4 19 rfl rfl)
theorem dX6_changes_111 : decode cX6_changes 111 = .ok (.iinc 5 1, 3) := dk_132 5 1 (dk_at dksX6_changes_4 20 rfl rfl)
theorem dX6_changes_114 : decode cX6_changes 114 = .ok (.goto (-108), 3) := dk_167 255 148 (dk_at dksX6_changes_5 0 rfl rfl)
theorem dX6_changes_117 : decode cX6_changes 117 = .ok (.iconst 0, 1) := dk_3 (dk_at dksX6_changes_5 3 rfl rfl)
theorem dX6_changes_118 : decode cX6_changes 118 = .ok (.ireturn, 1) := dk_172 (dk_at dksX6_changes_5 4 rfl rfl)
abbrev cX6_sighting : ByteArray := prog_29_method_115_code
def yX6_sighting : MethodName := ⟨RX6, "sighting", "(II)I"⟩
def dkwX6_sighting_3 : List UInt8 := [167, 0, 9, 42, 180, 0, 122, 29, 46, 172, 42, 182, 2, 99, 42, 180, 0, 249, 27, 46, 172]
abbrev dktX6_sighting_3 : List UInt8 := dkwX6_sighting_3 ++ []
def dkwX6_sighting_2 : List UInt8 := [154, 0, 12, 42, 180, 0, 116, 29, 46, 167, 0, 23, 28, 4, 160, 0, 12, 42, 180, 0, 119, 29, 46]
abbrev dktX6_sighting_2 : List UInt8 := dkwX6_sighting_2 ++ dktX6_sighting_3
def dkwX6_sighting_1 : List UInt8 := [184, 1, 87, 154, 0, 5, 2, 172, 16, 40, 42, 180, 0, 48, 104, 27, 96, 62, 28, 6, 162, 0, 37, 28]
abbrev dktX6_sighting_1 : List UInt8 := dkwX6_sighting_1 ++ dktX6_sighting_2
def dkwX6_sighting_0 : List UInt8 := [27, 3, 42, 180, 0, 113, 42, 180, 0, 48, 46, 4, 100, 184, 1, 87, 153, 0, 12, 28, 3, 6]
abbrev dktX6_sighting_0 : List UInt8 := dkwX6_sighting_0 ++ dktX6_sighting_1
theorem dksX6_sighting_0 : cX6_sighting.data.toList.drop 0 = dktX6_sighting_0 := by decide +kernel
theorem dksX6_sighting_1 : cX6_sighting.data.toList.drop 22 = dktX6_sighting_1 := dk_seg dksX6_sighting_0 22 rfl rfl
theorem dksX6_sighting_2 : cX6_sighting.data.toList.drop 46 = dktX6_sighting_2 := dk_seg dksX6_sighting_1 24 rfl rfl
theorem dksX6_sighting_3 : cX6_sighting.data.toList.drop 69 = dktX6_sighting_3 := dk_seg dksX6_sighting_2 23 rfl rfl
theorem dX6_sighting_0 : decode cX6_sighting 0 = .ok (.iload_n 1, 1) := dk_27 (dk_at dksX6_sighting_0 0 rfl rfl)
theorem dX6_sighting_1 : decode cX6_sighting 1 = .ok (.iconst 0, 1) := dk_3 (dk_at dksX6_sighting_0 1 rfl rfl)
theorem dX6_sighting_2 : decode cX6_sighting 2 = .ok (.aload_n 0, 1) := dk_42 (dk_at dksX6_sighting_0 2 rfl rfl)
theorem dX6_sighting_3 : decode cX6_sighting 3 = .ok (.getfield 113, 3) := dk_180 0 113 (dk_at dksX6_sighting_0 3 rfl rfl)
theorem dX6_sighting_6 : decode cX6_sighting 6 = .ok (.aload_n 0, 1) := dk_42 (dk_at dksX6_sighting_0 6 rfl rfl)
theorem dX6_sighting_7 : decode cX6_sighting 7 = .ok (.getfield 48, 3) := dk_180 0 48 (dk_at dksX6_sighting_0 7 rfl rfl)
theorem dX6_sighting_10 : decode cX6_sighting 10 = .ok (.iaload, 1) := dk_46 (dk_at dksX6_sighting_0 10 rfl rfl)
theorem dX6_sighting_11 : decode cX6_sighting 11 = .ok (.iconst 1, 1) := dk_4 (dk_at dksX6_sighting_0 11 rfl rfl)
theorem dX6_sighting_12 : decode cX6_sighting 12 = .ok (.isub, 1) := dk_100 (dk_at dksX6_sighting_0 12 rfl rfl)
theorem dX6_sighting_13 : decode cX6_sighting 13 = .ok (.invokestatic 343, 3) := dk_184 1 87 (dk_at dksX6_sighting_0 13 rfl rfl)
theorem dX6_sighting_16 : decode cX6_sighting 16 = .ok (.ifCond .eq 12, 3) := dk_153 0 12 (dk_at dksX6_sighting_0 16 rfl rfl)
theorem dX6_sighting_19 : decode cX6_sighting 19 = .ok (.iload_n 2, 1) := dk_28 (dk_at dksX6_sighting_0 19 rfl rfl)
theorem dX6_sighting_20 : decode cX6_sighting 20 = .ok (.iconst 0, 1) := dk_3 (dk_at dksX6_sighting_0 20 rfl rfl)
theorem dX6_sighting_21 : decode cX6_sighting 21 = .ok (.iconst 3, 1) := dk_6 (dk_at dksX6_sighting_0 21 rfl rfl)
theorem dX6_sighting_22 : decode cX6_sighting 22 = .ok (.invokestatic 343, 3) := dk_184 1 87 (dk_at dksX6_sighting_1 0 rfl rfl)
theorem dX6_sighting_25 : decode cX6_sighting 25 = .ok (.ifCond .ne 5, 3) := dk_154 0 5 (dk_at dksX6_sighting_1 3 rfl rfl)
theorem dX6_sighting_28 : decode cX6_sighting 28 = .ok (.iconst (-1), 1) := dk_2 (dk_at dksX6_sighting_1 6 rfl rfl)
theorem dX6_sighting_29 : decode cX6_sighting 29 = .ok (.ireturn, 1) := dk_172 (dk_at dksX6_sighting_1 7 rfl rfl)
theorem dX6_sighting_30 : decode cX6_sighting 30 = .ok (.bipush 40, 2) := dk_16 40 (dk_at dksX6_sighting_1 8 rfl rfl)
theorem dX6_sighting_32 : decode cX6_sighting 32 = .ok (.aload_n 0, 1) := dk_42 (dk_at dksX6_sighting_1 10 rfl rfl)
theorem dX6_sighting_33 : decode cX6_sighting 33 = .ok (.getfield 48, 3) := dk_180 0 48 (dk_at dksX6_sighting_1 11 rfl rfl)
theorem dX6_sighting_36 : decode cX6_sighting 36 = .ok (.imul, 1) := dk_104 (dk_at dksX6_sighting_1 14 rfl rfl)
theorem dX6_sighting_37 : decode cX6_sighting 37 = .ok (.iload_n 1, 1) := dk_27 (dk_at dksX6_sighting_1 15 rfl rfl)
theorem dX6_sighting_38 : decode cX6_sighting 38 = .ok (.iadd, 1) := dk_96 (dk_at dksX6_sighting_1 16 rfl rfl)
theorem dX6_sighting_39 : decode cX6_sighting 39 = .ok (.istore_n 3, 1) := dk_62 (dk_at dksX6_sighting_1 17 rfl rfl)
theorem dX6_sighting_40 : decode cX6_sighting 40 = .ok (.iload_n 2, 1) := dk_28 (dk_at dksX6_sighting_1 18 rfl rfl)
theorem dX6_sighting_41 : decode cX6_sighting 41 = .ok (.iconst 3, 1) := dk_6 (dk_at dksX6_sighting_1 19 rfl rfl)
theorem dX6_sighting_42 : decode cX6_sighting 42 = .ok (.if_icmp .ge 37, 3) := dk_162 0 37 (dk_at dksX6_sighting_1 20 rfl rfl)
theorem dX6_sighting_45 : decode cX6_sighting 45 = .ok (.iload_n 2, 1) := dk_28 (dk_at dksX6_sighting_1 23 rfl rfl)
theorem dX6_sighting_46 : decode cX6_sighting 46 = .ok (.ifCond .ne 12, 3) := dk_154 0 12 (dk_at dksX6_sighting_2 0 rfl rfl)
theorem dX6_sighting_49 : decode cX6_sighting 49 = .ok (.aload_n 0, 1) := dk_42 (dk_at dksX6_sighting_2 3 rfl rfl)
theorem dX6_sighting_50 : decode cX6_sighting 50 = .ok (.getfield 116, 3) := dk_180 0 116 (dk_at dksX6_sighting_2 4 rfl rfl)
theorem dX6_sighting_53 : decode cX6_sighting 53 = .ok (.iload_n 3, 1) := dk_29 (dk_at dksX6_sighting_2 7 rfl rfl)
theorem dX6_sighting_54 : decode cX6_sighting 54 = .ok (.iaload, 1) := dk_46 (dk_at dksX6_sighting_2 8 rfl rfl)
theorem dX6_sighting_55 : decode cX6_sighting 55 = .ok (.goto 23, 3) := dk_167 0 23 (dk_at dksX6_sighting_2 9 rfl rfl)
theorem dX6_sighting_58 : decode cX6_sighting 58 = .ok (.iload_n 2, 1) := dk_28 (dk_at dksX6_sighting_2 12 rfl rfl)
theorem dX6_sighting_59 : decode cX6_sighting 59 = .ok (.iconst 1, 1) := dk_4 (dk_at dksX6_sighting_2 13 rfl rfl)
theorem dX6_sighting_60 : decode cX6_sighting 60 = .ok (.if_icmp .ne 12, 3) := dk_160 0 12 (dk_at dksX6_sighting_2 14 rfl rfl)
theorem dX6_sighting_63 : decode cX6_sighting 63 = .ok (.aload_n 0, 1) := dk_42 (dk_at dksX6_sighting_2 17 rfl rfl)
theorem dX6_sighting_64 : decode cX6_sighting 64 = .ok (.getfield 119, 3) := dk_180 0 119 (dk_at dksX6_sighting_2 18 rfl rfl)
theorem dX6_sighting_67 : decode cX6_sighting 67 = .ok (.iload_n 3, 1) := dk_29 (dk_at dksX6_sighting_2 21 rfl rfl)
theorem dX6_sighting_68 : decode cX6_sighting 68 = .ok (.iaload, 1) := dk_46 (dk_at dksX6_sighting_2 22 rfl rfl)
theorem dX6_sighting_69 : decode cX6_sighting 69 = .ok (.goto 9, 3) := dk_167 0 9 (dk_at dksX6_sighting_3 0 rfl rfl)
theorem dX6_sighting_72 : decode cX6_sighting 72 = .ok (.aload_n 0, 1) := dk_42 (dk_at dksX6_sighting_3 3 rfl rfl)
theorem dX6_sighting_73 : decode cX6_sighting 73 = .ok (.getfield 122, 3) := dk_180 0 122 (dk_at dksX6_sighting_3 4 rfl rfl)
theorem dX6_sighting_76 : decode cX6_sighting 76 = .ok (.iload_n 3, 1) := dk_29 (dk_at dksX6_sighting_3 7 rfl rfl)
theorem dX6_sighting_77 : decode cX6_sighting 77 = .ok (.iaload, 1) := dk_46 (dk_at dksX6_sighting_3 8 rfl rfl)
theorem dX6_sighting_78 : decode cX6_sighting 78 = .ok (.ireturn, 1) := dk_172 (dk_at dksX6_sighting_3 9 rfl rfl)
theorem dX6_sighting_79 : decode cX6_sighting 79 = .ok (.aload_n 0, 1) := dk_42 (dk_at dksX6_sighting_3 10 rfl rfl)
theorem dX6_sighting_80 : decode cX6_sighting 80 = .ok (.invokevirtual 611, 3) := dk_182 2 99 (dk_at dksX6_sighting_3 11 rfl rfl)
theorem dX6_sighting_83 : decode cX6_sighting 83 = .ok (.aload_n 0, 1) := dk_42 (dk_at dksX6_sighting_3 14 rfl rfl)
theorem dX6_sighting_84 : decode cX6_sighting 84 = .ok (.getfield 249, 3) := dk_180 0 249 (dk_at dksX6_sighting_3 15 rfl rfl)
theorem dX6_sighting_87 : decode cX6_sighting 87 = .ok (.iload_n 1, 1) := dk_27 (dk_at dksX6_sighting_3 18 rfl rfl)
theorem dX6_sighting_88 : decode cX6_sighting 88 = .ok (.iaload, 1) := dk_46 (dk_at dksX6_sighting_3 19 rfl rfl)
theorem dX6_sighting_89 : decode cX6_sighting 89 = .ok (.ireturn, 1) := dk_172 (dk_at dksX6_sighting_3 20 rfl rfl)
abbrev cX6_explains : ByteArray := prog_29_method_114_code
def yX6_explains : MethodName := ⟨RX6, "explains", "()V"⟩
def dkwX6_explains_5 : List UInt8 := [79, 132, 2, 1, 167, 255, 175, 132, 1, 1, 167, 255, 149, 177]
abbrev dktX6_explains_5 : List UInt8 := dkwX6_explains_5 ++ []
def dkwX6_explains_4 : List UInt8 := [46, 42, 180, 0, 122, 29, 46, 182, 2, 43, 153, 0, 15, 42, 180, 0, 249, 28, 92, 46, 4, 27, 120, 128]
abbrev dktX6_explains_4 : List UInt8 := dkwX6_explains_4 ++ dktX6_explains_5
def dkwX6_explains_3 : List UInt8 := [42, 180, 0, 76, 16, 8, 42, 180, 0, 48, 104, 27, 96, 46, 160, 0, 35, 42, 27, 42, 180, 0, 119, 29]
abbrev dktX6_explains_3 : List UInt8 := dkwX6_explains_3 ++ dktX6_explains_4
def dkwX6_explains_2 : List UInt8 := [42, 180, 0, 48, 46, 162, 0, 74, 16, 40, 42, 180, 0, 48, 104, 28, 96, 62, 42, 180, 0, 116, 29, 46]
abbrev dktX6_explains_2 : List UInt8 := dkwX6_explains_2 ++ dktX6_explains_3
def dkwX6_explains_1 : List UInt8 := [42, 180, 0, 69, 42, 180, 0, 48, 46, 162, 0, 100, 42, 27, 182, 2, 52, 3, 61, 28, 42, 180, 0, 113]
abbrev dktX6_explains_1 : List UInt8 := dkwX6_explains_1 ++ dktX6_explains_2
def dkwX6_explains_0 : List UInt8 := [3, 60, 27, 16, 40, 162, 0, 16, 42, 180, 0, 249, 27, 3, 79, 132, 1, 1, 167, 255, 240, 3, 60, 27]
abbrev dktX6_explains_0 : List UInt8 := dkwX6_explains_0 ++ dktX6_explains_1
theorem dksX6_explains_0 : cX6_explains.data.toList.drop 0 = dktX6_explains_0 := by decide +kernel
theorem dksX6_explains_1 : cX6_explains.data.toList.drop 24 = dktX6_explains_1 := dk_seg dksX6_explains_0 24 rfl rfl
theorem dksX6_explains_2 : cX6_explains.data.toList.drop 48 = dktX6_explains_2 := dk_seg dksX6_explains_1 24 rfl rfl
theorem dksX6_explains_3 : cX6_explains.data.toList.drop 72 = dktX6_explains_3 := dk_seg dksX6_explains_2 24 rfl rfl
theorem dksX6_explains_4 : cX6_explains.data.toList.drop 96 = dktX6_explains_4 := dk_seg dksX6_explains_3 24 rfl rfl
theorem dksX6_explains_5 : cX6_explains.data.toList.drop 120 = dktX6_explains_5 := dk_seg dksX6_explains_4 24 rfl rfl
theorem dX6_explains_0 : decode cX6_explains 0 = .ok (.iconst 0, 1) := dk_3 (dk_at dksX6_explains_0 0 rfl rfl)
theorem dX6_explains_1 : decode cX6_explains 1 = .ok (.istore_n 1, 1) := dk_60 (dk_at dksX6_explains_0 1 rfl rfl)
theorem dX6_explains_2 : decode cX6_explains 2 = .ok (.iload_n 1, 1) := dk_27 (dk_at dksX6_explains_0 2 rfl rfl)
theorem dX6_explains_3 : decode cX6_explains 3 = .ok (.bipush 40, 2) := dk_16 40 (dk_at dksX6_explains_0 3 rfl rfl)
theorem dX6_explains_5 : decode cX6_explains 5 = .ok (.if_icmp .ge 16, 3) := dk_162 0 16 (dk_at dksX6_explains_0 5 rfl rfl)
theorem dX6_explains_8 : decode cX6_explains 8 = .ok (.aload_n 0, 1) := dk_42 (dk_at dksX6_explains_0 8 rfl rfl)
theorem dX6_explains_9 : decode cX6_explains 9 = .ok (.getfield 249, 3) := dk_180 0 249 (dk_at dksX6_explains_0 9 rfl rfl)
theorem dX6_explains_12 : decode cX6_explains 12 = .ok (.iload_n 1, 1) := dk_27 (dk_at dksX6_explains_0 12 rfl rfl)
theorem dX6_explains_13 : decode cX6_explains 13 = .ok (.iconst 0, 1) := dk_3 (dk_at dksX6_explains_0 13 rfl rfl)
theorem dX6_explains_14 : decode cX6_explains 14 = .ok (.iastore, 1) := dk_79 (dk_at dksX6_explains_0 14 rfl rfl)
theorem dX6_explains_15 : decode cX6_explains 15 = .ok (.iinc 1 1, 3) := dk_132 1 1 (dk_at dksX6_explains_0 15 rfl rfl)
theorem dX6_explains_18 : decode cX6_explains 18 = .ok (.goto (-16), 3) := dk_167 255 240 (dk_at dksX6_explains_0 18 rfl rfl)
theorem dX6_explains_21 : decode cX6_explains 21 = .ok (.iconst 0, 1) := dk_3 (dk_at dksX6_explains_0 21 rfl rfl)
theorem dX6_explains_22 : decode cX6_explains 22 = .ok (.istore_n 1, 1) := dk_60 (dk_at dksX6_explains_0 22 rfl rfl)
theorem dX6_explains_23 : decode cX6_explains 23 = .ok (.iload_n 1, 1) := dk_27 (dk_at dksX6_explains_0 23 rfl rfl)
theorem dX6_explains_24 : decode cX6_explains 24 = .ok (.aload_n 0, 1) := dk_42 (dk_at dksX6_explains_1 0 rfl rfl)
theorem dX6_explains_25 : decode cX6_explains 25 = .ok (.getfield 69, 3) := dk_180 0 69 (dk_at dksX6_explains_1 1 rfl rfl)
theorem dX6_explains_28 : decode cX6_explains 28 = .ok (.aload_n 0, 1) := dk_42 (dk_at dksX6_explains_1 4 rfl rfl)
theorem dX6_explains_29 : decode cX6_explains 29 = .ok (.getfield 48, 3) := dk_180 0 48 (dk_at dksX6_explains_1 5 rfl rfl)
theorem dX6_explains_32 : decode cX6_explains 32 = .ok (.iaload, 1) := dk_46 (dk_at dksX6_explains_1 8 rfl rfl)
theorem dX6_explains_33 : decode cX6_explains 33 = .ok (.if_icmp .ge 100, 3) := dk_162 0 100 (dk_at dksX6_explains_1 9 rfl rfl)
theorem dX6_explains_36 : decode cX6_explains 36 = .ok (.aload_n 0, 1) := dk_42 (dk_at dksX6_explains_1 12 rfl rfl)
theorem dX6_explains_37 : decode cX6_explains 37 = .ok (.iload_n 1, 1) := dk_27 (dk_at dksX6_explains_1 13 rfl rfl)
theorem dX6_explains_38 : decode cX6_explains 38 = .ok (.invokevirtual 564, 3) := dk_182 2 52 (dk_at dksX6_explains_1 14 rfl rfl)
theorem dX6_explains_41 : decode cX6_explains 41 = .ok (.iconst 0, 1) := dk_3 (dk_at dksX6_explains_1 17 rfl rfl)
theorem dX6_explains_42 : decode cX6_explains 42 = .ok (.istore_n 2, 1) := dk_61 (dk_at dksX6_explains_1 18 rfl rfl)
theorem dX6_explains_43 : decode cX6_explains 43 = .ok (.iload_n 2, 1) := dk_28 (dk_at dksX6_explains_1 19 rfl rfl)
theorem dX6_explains_44 : decode cX6_explains 44 = .ok (.aload_n 0, 1) := dk_42 (dk_at dksX6_explains_1 20 rfl rfl)
theorem dX6_explains_45 : decode cX6_explains 45 = .ok (.getfield 113, 3) := dk_180 0 113 (dk_at dksX6_explains_1 21 rfl rfl)
theorem dX6_explains_48 : decode cX6_explains 48 = .ok (.aload_n 0, 1) := dk_42 (dk_at dksX6_explains_2 0 rfl rfl)
theorem dX6_explains_49 : decode cX6_explains 49 = .ok (.getfield 48, 3) := dk_180 0 48 (dk_at dksX6_explains_2 1 rfl rfl)
theorem dX6_explains_52 : decode cX6_explains 52 = .ok (.iaload, 1) := dk_46 (dk_at dksX6_explains_2 4 rfl rfl)
theorem dX6_explains_53 : decode cX6_explains 53 = .ok (.if_icmp .ge 74, 3) := dk_162 0 74 (dk_at dksX6_explains_2 5 rfl rfl)
theorem dX6_explains_56 : decode cX6_explains 56 = .ok (.bipush 40, 2) := dk_16 40 (dk_at dksX6_explains_2 8 rfl rfl)
theorem dX6_explains_58 : decode cX6_explains 58 = .ok (.aload_n 0, 1) := dk_42 (dk_at dksX6_explains_2 10 rfl rfl)
theorem dX6_explains_59 : decode cX6_explains 59 = .ok (.getfield 48, 3) := dk_180 0 48 (dk_at dksX6_explains_2 11 rfl rfl)
theorem dX6_explains_62 : decode cX6_explains 62 = .ok (.imul, 1) := dk_104 (dk_at dksX6_explains_2 14 rfl rfl)
theorem dX6_explains_63 : decode cX6_explains 63 = .ok (.iload_n 2, 1) := dk_28 (dk_at dksX6_explains_2 15 rfl rfl)
theorem dX6_explains_64 : decode cX6_explains 64 = .ok (.iadd, 1) := dk_96 (dk_at dksX6_explains_2 16 rfl rfl)
theorem dX6_explains_65 : decode cX6_explains 65 = .ok (.istore_n 3, 1) := dk_62 (dk_at dksX6_explains_2 17 rfl rfl)
theorem dX6_explains_66 : decode cX6_explains 66 = .ok (.aload_n 0, 1) := dk_42 (dk_at dksX6_explains_2 18 rfl rfl)
theorem dX6_explains_67 : decode cX6_explains 67 = .ok (.getfield 116, 3) := dk_180 0 116 (dk_at dksX6_explains_2 19 rfl rfl)
theorem dX6_explains_70 : decode cX6_explains 70 = .ok (.iload_n 3, 1) := dk_29 (dk_at dksX6_explains_2 22 rfl rfl)
theorem dX6_explains_71 : decode cX6_explains 71 = .ok (.iaload, 1) := dk_46 (dk_at dksX6_explains_2 23 rfl rfl)
theorem dX6_explains_72 : decode cX6_explains 72 = .ok (.aload_n 0, 1) := dk_42 (dk_at dksX6_explains_3 0 rfl rfl)
theorem dX6_explains_73 : decode cX6_explains 73 = .ok (.getfield 76, 3) := dk_180 0 76 (dk_at dksX6_explains_3 1 rfl rfl)
theorem dX6_explains_76 : decode cX6_explains 76 = .ok (.bipush 8, 2) := dk_16 8 (dk_at dksX6_explains_3 4 rfl rfl)
theorem dX6_explains_78 : decode cX6_explains 78 = .ok (.aload_n 0, 1) := dk_42 (dk_at dksX6_explains_3 6 rfl rfl)
theorem dX6_explains_79 : decode cX6_explains 79 = .ok (.getfield 48, 3) := dk_180 0 48 (dk_at dksX6_explains_3 7 rfl rfl)
theorem dX6_explains_82 : decode cX6_explains 82 = .ok (.imul, 1) := dk_104 (dk_at dksX6_explains_3 10 rfl rfl)
theorem dX6_explains_83 : decode cX6_explains 83 = .ok (.iload_n 1, 1) := dk_27 (dk_at dksX6_explains_3 11 rfl rfl)
theorem dX6_explains_84 : decode cX6_explains 84 = .ok (.iadd, 1) := dk_96 (dk_at dksX6_explains_3 12 rfl rfl)
theorem dX6_explains_85 : decode cX6_explains 85 = .ok (.iaload, 1) := dk_46 (dk_at dksX6_explains_3 13 rfl rfl)
theorem dX6_explains_86 : decode cX6_explains 86 = .ok (.if_icmp .ne 35, 3) := dk_160 0 35 (dk_at dksX6_explains_3 14 rfl rfl)
theorem dX6_explains_89 : decode cX6_explains 89 = .ok (.aload_n 0, 1) := dk_42 (dk_at dksX6_explains_3 17 rfl rfl)
theorem dX6_explains_90 : decode cX6_explains 90 = .ok (.iload_n 1, 1) := dk_27 (dk_at dksX6_explains_3 18 rfl rfl)
theorem dX6_explains_91 : decode cX6_explains 91 = .ok (.aload_n 0, 1) := dk_42 (dk_at dksX6_explains_3 19 rfl rfl)
theorem dX6_explains_92 : decode cX6_explains 92 = .ok (.getfield 119, 3) := dk_180 0 119 (dk_at dksX6_explains_3 20 rfl rfl)
theorem dX6_explains_95 : decode cX6_explains 95 = .ok (.iload_n 3, 1) := dk_29 (dk_at dksX6_explains_3 23 rfl rfl)
theorem dX6_explains_96 : decode cX6_explains 96 = .ok (.iaload, 1) := dk_46 (dk_at dksX6_explains_4 0 rfl rfl)
theorem dX6_explains_97 : decode cX6_explains 97 = .ok (.aload_n 0, 1) := dk_42 (dk_at dksX6_explains_4 1 rfl rfl)
theorem dX6_explains_98 : decode cX6_explains 98 = .ok (.getfield 122, 3) := dk_180 0 122 (dk_at dksX6_explains_4 2 rfl rfl)
theorem dX6_explains_101 : decode cX6_explains 101 = .ok (.iload_n 3, 1) := dk_29 (dk_at dksX6_explains_4 5 rfl rfl)
theorem dX6_explains_102 : decode cX6_explains 102 = .ok (.iaload, 1) := dk_46 (dk_at dksX6_explains_4 6 rfl rfl)
theorem dX6_explains_103 : decode cX6_explains 103 = .ok (.invokevirtual 555, 3) := dk_182 2 43 (dk_at dksX6_explains_4 7 rfl rfl)
theorem dX6_explains_106 : decode cX6_explains 106 = .ok (.ifCond .eq 15, 3) := dk_153 0 15 (dk_at dksX6_explains_4 10 rfl rfl)
theorem dX6_explains_109 : decode cX6_explains 109 = .ok (.aload_n 0, 1) := dk_42 (dk_at dksX6_explains_4 13 rfl rfl)
theorem dX6_explains_110 : decode cX6_explains 110 = .ok (.getfield 249, 3) := dk_180 0 249 (dk_at dksX6_explains_4 14 rfl rfl)
theorem dX6_explains_113 : decode cX6_explains 113 = .ok (.iload_n 2, 1) := dk_28 (dk_at dksX6_explains_4 17 rfl rfl)
theorem dX6_explains_114 : decode cX6_explains 114 = .ok (.dup2, 1) := dk_92 (dk_at dksX6_explains_4 18 rfl rfl)
theorem dX6_explains_115 : decode cX6_explains 115 = .ok (.iaload, 1) := dk_46 (dk_at dksX6_explains_4 19 rfl rfl)
theorem dX6_explains_116 : decode cX6_explains 116 = .ok (.iconst 1, 1) := dk_4 (dk_at dksX6_explains_4 20 rfl rfl)
theorem dX6_explains_117 : decode cX6_explains 117 = .ok (.iload_n 1, 1) := dk_27 (dk_at dksX6_explains_4 21 rfl rfl)
theorem dX6_explains_118 : decode cX6_explains 118 = .ok (.ishl, 1) := dk_120 (dk_at dksX6_explains_4 22 rfl rfl)
theorem dX6_explains_119 : decode cX6_explains 119 = .ok (.ior, 1) := dk_128 (dk_at dksX6_explains_4 23 rfl rfl)
theorem dX6_explains_120 : decode cX6_explains 120 = .ok (.iastore, 1) := dk_79 (dk_at dksX6_explains_5 0 rfl rfl)
theorem dX6_explains_121 : decode cX6_explains 121 = .ok (.iinc 2 1, 3) := dk_132 2 1 (dk_at dksX6_explains_5 1 rfl rfl)
theorem dX6_explains_124 : decode cX6_explains 124 = .ok (.goto (-81), 3) := dk_167 255 175 (dk_at dksX6_explains_5 4 rfl rfl)
theorem dX6_explains_127 : decode cX6_explains 127 = .ok (.iinc 1 1, 3) := dk_132 1 1 (dk_at dksX6_explains_5 7 rfl rfl)
theorem dX6_explains_130 : decode cX6_explains 130 = .ok (.goto (-107), 3) := dk_167 255 149 (dk_at dksX6_explains_5 10 rfl rfl)
theorem dX6_explains_133 : decode cX6_explains 133 = .ok (.return_, 1) := dk_177 (dk_at dksX6_explains_5 13 rfl rfl)
abbrev cX6_strange : ByteArray := prog_29_method_116_code
def yX6_strange : MethodName := ⟨RX6, "strange", "()I"⟩
def dkwX6_strange_1 : List UInt8 := [180, 0, 249, 28, 46, 154, 0, 7, 4, 167, 0, 4, 3, 96, 60, 132, 2, 1, 167, 255, 223, 27, 172]
abbrev dktX6_strange_1 : List UInt8 := dkwX6_strange_1 ++ []
def dkwX6_strange_0 : List UInt8 := [42, 182, 2, 99, 3, 60, 3, 61, 28, 42, 180, 0, 113, 42, 180, 0, 48, 46, 162, 0, 26, 27, 42]
abbrev dktX6_strange_0 : List UInt8 := dkwX6_strange_0 ++ dktX6_strange_1
theorem dksX6_strange_0 : cX6_strange.data.toList.drop 0 = dktX6_strange_0 := by decide +kernel
theorem dksX6_strange_1 : cX6_strange.data.toList.drop 23 = dktX6_strange_1 := dk_seg dksX6_strange_0 23 rfl rfl
theorem dX6_strange_0 : decode cX6_strange 0 = .ok (.aload_n 0, 1) := dk_42 (dk_at dksX6_strange_0 0 rfl rfl)
theorem dX6_strange_1 : decode cX6_strange 1 = .ok (.invokevirtual 611, 3) := dk_182 2 99 (dk_at dksX6_strange_0 1 rfl rfl)
theorem dX6_strange_4 : decode cX6_strange 4 = .ok (.iconst 0, 1) := dk_3 (dk_at dksX6_strange_0 4 rfl rfl)
theorem dX6_strange_5 : decode cX6_strange 5 = .ok (.istore_n 1, 1) := dk_60 (dk_at dksX6_strange_0 5 rfl rfl)
theorem dX6_strange_6 : decode cX6_strange 6 = .ok (.iconst 0, 1) := dk_3 (dk_at dksX6_strange_0 6 rfl rfl)
theorem dX6_strange_7 : decode cX6_strange 7 = .ok (.istore_n 2, 1) := dk_61 (dk_at dksX6_strange_0 7 rfl rfl)
theorem dX6_strange_8 : decode cX6_strange 8 = .ok (.iload_n 2, 1) := dk_28 (dk_at dksX6_strange_0 8 rfl rfl)
theorem dX6_strange_9 : decode cX6_strange 9 = .ok (.aload_n 0, 1) := dk_42 (dk_at dksX6_strange_0 9 rfl rfl)
theorem dX6_strange_10 : decode cX6_strange 10 = .ok (.getfield 113, 3) := dk_180 0 113 (dk_at dksX6_strange_0 10 rfl rfl)
theorem dX6_strange_13 : decode cX6_strange 13 = .ok (.aload_n 0, 1) := dk_42 (dk_at dksX6_strange_0 13 rfl rfl)
theorem dX6_strange_14 : decode cX6_strange 14 = .ok (.getfield 48, 3) := dk_180 0 48 (dk_at dksX6_strange_0 14 rfl rfl)
theorem dX6_strange_17 : decode cX6_strange 17 = .ok (.iaload, 1) := dk_46 (dk_at dksX6_strange_0 17 rfl rfl)
theorem dX6_strange_18 : decode cX6_strange 18 = .ok (.if_icmp .ge 26, 3) := dk_162 0 26 (dk_at dksX6_strange_0 18 rfl rfl)
theorem dX6_strange_21 : decode cX6_strange 21 = .ok (.iload_n 1, 1) := dk_27 (dk_at dksX6_strange_0 21 rfl rfl)
theorem dX6_strange_22 : decode cX6_strange 22 = .ok (.aload_n 0, 1) := dk_42 (dk_at dksX6_strange_0 22 rfl rfl)
theorem dX6_strange_23 : decode cX6_strange 23 = .ok (.getfield 249, 3) := dk_180 0 249 (dk_at dksX6_strange_1 0 rfl rfl)
theorem dX6_strange_26 : decode cX6_strange 26 = .ok (.iload_n 2, 1) := dk_28 (dk_at dksX6_strange_1 3 rfl rfl)
theorem dX6_strange_27 : decode cX6_strange 27 = .ok (.iaload, 1) := dk_46 (dk_at dksX6_strange_1 4 rfl rfl)
theorem dX6_strange_28 : decode cX6_strange 28 = .ok (.ifCond .ne 7, 3) := dk_154 0 7 (dk_at dksX6_strange_1 5 rfl rfl)
theorem dX6_strange_31 : decode cX6_strange 31 = .ok (.iconst 1, 1) := dk_4 (dk_at dksX6_strange_1 8 rfl rfl)
theorem dX6_strange_32 : decode cX6_strange 32 = .ok (.goto 4, 3) := dk_167 0 4 (dk_at dksX6_strange_1 9 rfl rfl)
theorem dX6_strange_35 : decode cX6_strange 35 = .ok (.iconst 0, 1) := dk_3 (dk_at dksX6_strange_1 12 rfl rfl)
theorem dX6_strange_36 : decode cX6_strange 36 = .ok (.iadd, 1) := dk_96 (dk_at dksX6_strange_1 13 rfl rfl)
theorem dX6_strange_37 : decode cX6_strange 37 = .ok (.istore_n 1, 1) := dk_60 (dk_at dksX6_strange_1 14 rfl rfl)
theorem dX6_strange_38 : decode cX6_strange 38 = .ok (.iinc 2 1, 3) := dk_132 2 1 (dk_at dksX6_strange_1 15 rfl rfl)
theorem dX6_strange_41 : decode cX6_strange 41 = .ok (.goto (-33), 3) := dk_167 255 223 (dk_at dksX6_strange_1 18 rfl rfl)
theorem dX6_strange_44 : decode cX6_strange 44 = .ok (.iload_n 1, 1) := dk_27 (dk_at dksX6_strange_1 21 rfl rfl)
theorem dX6_strange_45 : decode cX6_strange 45 = .ok (.ireturn, 1) := dk_172 (dk_at dksX6_strange_1 22 rfl rfl)
abbrev cX6_doubted : ByteArray := prog_29_method_117_code
def yX6_doubted : MethodName := ⟨RX6, "doubted", "()I"⟩
def dkwX6_doubted_5 : List UInt8 := [167, 0, 4, 3, 128, 60, 132, 2, 1, 167, 255, 140, 27, 172]
abbrev dktX6_doubted_5 : List UInt8 := dkwX6_doubted_5 ++ []
def dkwX6_doubted_4 : List UInt8 := [132, 4, 1, 167, 255, 187, 27, 29, 153, 0, 18, 42, 28, 3, 182, 2, 84, 153, 0, 9, 4, 28, 120]
abbrev dktX6_doubted_4 : List UInt8 := dkwX6_doubted_4 ++ dktX6_doubted_5
def dkwX6_doubted_3 : List UInt8 := [180, 0, 76, 16, 8, 42, 180, 0, 48, 104, 28, 96, 46, 160, 0, 7, 4, 167, 0, 4, 3, 62]
abbrev dktX6_doubted_3 : List UInt8 := dkwX6_doubted_3 ++ dktX6_doubted_4
def dkwX6_doubted_2 : List UInt8 := [21, 4, 46, 154, 0, 39, 42, 180, 0, 116, 16, 40, 42, 180, 0, 48, 104, 21, 4, 96, 46, 42]
abbrev dktX6_doubted_2 : List UInt8 := dkwX6_doubted_2 ++ dktX6_doubted_3
def dkwX6_doubted_1 : List UInt8 := [54, 4, 21, 4, 42, 180, 0, 113, 42, 180, 0, 48, 46, 162, 0, 61, 29, 154, 0, 45, 42, 180, 0, 249]
abbrev dktX6_doubted_1 : List UInt8 := dkwX6_doubted_1 ++ dktX6_doubted_2
def dkwX6_doubted_0 : List UInt8 := [42, 182, 2, 99, 3, 60, 3, 61, 28, 42, 180, 0, 69, 42, 180, 0, 48, 46, 162, 0, 109, 3, 62, 3]
abbrev dktX6_doubted_0 : List UInt8 := dkwX6_doubted_0 ++ dktX6_doubted_1
theorem dksX6_doubted_0 : cX6_doubted.data.toList.drop 0 = dktX6_doubted_0 := by decide +kernel
theorem dksX6_doubted_1 : cX6_doubted.data.toList.drop 24 = dktX6_doubted_1 := dk_seg dksX6_doubted_0 24 rfl rfl
theorem dksX6_doubted_2 : cX6_doubted.data.toList.drop 48 = dktX6_doubted_2 := dk_seg dksX6_doubted_1 24 rfl rfl
theorem dksX6_doubted_3 : cX6_doubted.data.toList.drop 70 = dktX6_doubted_3 := dk_seg dksX6_doubted_2 22 rfl rfl
theorem dksX6_doubted_4 : cX6_doubted.data.toList.drop 92 = dktX6_doubted_4 := dk_seg dksX6_doubted_3 22 rfl rfl
theorem dksX6_doubted_5 : cX6_doubted.data.toList.drop 115 = dktX6_doubted_5 := dk_seg dksX6_doubted_4 23 rfl rfl
theorem dX6_doubted_0 : decode cX6_doubted 0 = .ok (.aload_n 0, 1) := dk_42 (dk_at dksX6_doubted_0 0 rfl rfl)
theorem dX6_doubted_1 : decode cX6_doubted 1 = .ok (.invokevirtual 611, 3) := dk_182 2 99 (dk_at dksX6_doubted_0 1 rfl rfl)
theorem dX6_doubted_4 : decode cX6_doubted 4 = .ok (.iconst 0, 1) := dk_3 (dk_at dksX6_doubted_0 4 rfl rfl)
theorem dX6_doubted_5 : decode cX6_doubted 5 = .ok (.istore_n 1, 1) := dk_60 (dk_at dksX6_doubted_0 5 rfl rfl)
theorem dX6_doubted_6 : decode cX6_doubted 6 = .ok (.iconst 0, 1) := dk_3 (dk_at dksX6_doubted_0 6 rfl rfl)
theorem dX6_doubted_7 : decode cX6_doubted 7 = .ok (.istore_n 2, 1) := dk_61 (dk_at dksX6_doubted_0 7 rfl rfl)
theorem dX6_doubted_8 : decode cX6_doubted 8 = .ok (.iload_n 2, 1) := dk_28 (dk_at dksX6_doubted_0 8 rfl rfl)
theorem dX6_doubted_9 : decode cX6_doubted 9 = .ok (.aload_n 0, 1) := dk_42 (dk_at dksX6_doubted_0 9 rfl rfl)
theorem dX6_doubted_10 : decode cX6_doubted 10 = .ok (.getfield 69, 3) := dk_180 0 69 (dk_at dksX6_doubted_0 10 rfl rfl)
theorem dX6_doubted_13 : decode cX6_doubted 13 = .ok (.aload_n 0, 1) := dk_42 (dk_at dksX6_doubted_0 13 rfl rfl)
theorem dX6_doubted_14 : decode cX6_doubted 14 = .ok (.getfield 48, 3) := dk_180 0 48 (dk_at dksX6_doubted_0 14 rfl rfl)
theorem dX6_doubted_17 : decode cX6_doubted 17 = .ok (.iaload, 1) := dk_46 (dk_at dksX6_doubted_0 17 rfl rfl)
theorem dX6_doubted_18 : decode cX6_doubted 18 = .ok (.if_icmp .ge 109, 3) := dk_162 0 109 (dk_at dksX6_doubted_0 18 rfl rfl)
theorem dX6_doubted_21 : decode cX6_doubted 21 = .ok (.iconst 0, 1) := dk_3 (dk_at dksX6_doubted_0 21 rfl rfl)
theorem dX6_doubted_22 : decode cX6_doubted 22 = .ok (.istore_n 3, 1) := dk_62 (dk_at dksX6_doubted_0 22 rfl rfl)
theorem dX6_doubted_23 : decode cX6_doubted 23 = .ok (.iconst 0, 1) := dk_3 (dk_at dksX6_doubted_0 23 rfl rfl)
theorem dX6_doubted_24 : decode cX6_doubted 24 = .ok (.istore 4, 2) := dk_54 4 (dk_at dksX6_doubted_1 0 rfl rfl)
theorem dX6_doubted_26 : decode cX6_doubted 26 = .ok (.iload 4, 2) := dk_21 4 (dk_at dksX6_doubted_1 2 rfl rfl)
theorem dX6_doubted_28 : decode cX6_doubted 28 = .ok (.aload_n 0, 1) := dk_42 (dk_at dksX6_doubted_1 4 rfl rfl)
theorem dX6_doubted_29 : decode cX6_doubted 29 = .ok (.getfield 113, 3) := dk_180 0 113 (dk_at dksX6_doubted_1 5 rfl rfl)
theorem dX6_doubted_32 : decode cX6_doubted 32 = .ok (.aload_n 0, 1) := dk_42 (dk_at dksX6_doubted_1 8 rfl rfl)
theorem dX6_doubted_33 : decode cX6_doubted 33 = .ok (.getfield 48, 3) := dk_180 0 48 (dk_at dksX6_doubted_1 9 rfl rfl)
theorem dX6_doubted_36 : decode cX6_doubted 36 = .ok (.iaload, 1) := dk_46 (dk_at dksX6_doubted_1 12 rfl rfl)
theorem dX6_doubted_37 : decode cX6_doubted 37 = .ok (.if_icmp .ge 61, 3) := dk_162 0 61 (dk_at dksX6_doubted_1 13 rfl rfl)
theorem dX6_doubted_40 : decode cX6_doubted 40 = .ok (.iload_n 3, 1) := dk_29 (dk_at dksX6_doubted_1 16 rfl rfl)
theorem dX6_doubted_41 : decode cX6_doubted 41 = .ok (.ifCond .ne 45, 3) := dk_154 0 45 (dk_at dksX6_doubted_1 17 rfl rfl)
theorem dX6_doubted_44 : decode cX6_doubted 44 = .ok (.aload_n 0, 1) := dk_42 (dk_at dksX6_doubted_1 20 rfl rfl)
theorem dX6_doubted_45 : decode cX6_doubted 45 = .ok (.getfield 249, 3) := dk_180 0 249 (dk_at dksX6_doubted_1 21 rfl rfl)
theorem dX6_doubted_48 : decode cX6_doubted 48 = .ok (.iload 4, 2) := dk_21 4 (dk_at dksX6_doubted_2 0 rfl rfl)
theorem dX6_doubted_50 : decode cX6_doubted 50 = .ok (.iaload, 1) := dk_46 (dk_at dksX6_doubted_2 2 rfl rfl)
theorem dX6_doubted_51 : decode cX6_doubted 51 = .ok (.ifCond .ne 39, 3) := dk_154 0 39 (dk_at dksX6_doubted_2 3 rfl rfl)
theorem dX6_doubted_54 : decode cX6_doubted 54 = .ok (.aload_n 0, 1) := dk_42 (dk_at dksX6_doubted_2 6 rfl rfl)
theorem dX6_doubted_55 : decode cX6_doubted 55 = .ok (.getfield 116, 3) := dk_180 0 116 (dk_at dksX6_doubted_2 7 rfl rfl)
theorem dX6_doubted_58 : decode cX6_doubted 58 = .ok (.bipush 40, 2) := dk_16 40 (dk_at dksX6_doubted_2 10 rfl rfl)
theorem dX6_doubted_60 : decode cX6_doubted 60 = .ok (.aload_n 0, 1) := dk_42 (dk_at dksX6_doubted_2 12 rfl rfl)
theorem dX6_doubted_61 : decode cX6_doubted 61 = .ok (.getfield 48, 3) := dk_180 0 48 (dk_at dksX6_doubted_2 13 rfl rfl)
theorem dX6_doubted_64 : decode cX6_doubted 64 = .ok (.imul, 1) := dk_104 (dk_at dksX6_doubted_2 16 rfl rfl)
theorem dX6_doubted_65 : decode cX6_doubted 65 = .ok (.iload 4, 2) := dk_21 4 (dk_at dksX6_doubted_2 17 rfl rfl)
theorem dX6_doubted_67 : decode cX6_doubted 67 = .ok (.iadd, 1) := dk_96 (dk_at dksX6_doubted_2 19 rfl rfl)
theorem dX6_doubted_68 : decode cX6_doubted 68 = .ok (.iaload, 1) := dk_46 (dk_at dksX6_doubted_2 20 rfl rfl)
theorem dX6_doubted_69 : decode cX6_doubted 69 = .ok (.aload_n 0, 1) := dk_42 (dk_at dksX6_doubted_2 21 rfl rfl)
theorem dX6_doubted_70 : decode cX6_doubted 70 = .ok (.getfield 76, 3) := dk_180 0 76 (dk_at dksX6_doubted_3 0 rfl rfl)
theorem dX6_doubted_73 : decode cX6_doubted 73 = .ok (.bipush 8, 2) := dk_16 8 (dk_at dksX6_doubted_3 3 rfl rfl)
theorem dX6_doubted_75 : decode cX6_doubted 75 = .ok (.aload_n 0, 1) := dk_42 (dk_at dksX6_doubted_3 5 rfl rfl)
theorem dX6_doubted_76 : decode cX6_doubted 76 = .ok (.getfield 48, 3) := dk_180 0 48 (dk_at dksX6_doubted_3 6 rfl rfl)
theorem dX6_doubted_79 : decode cX6_doubted 79 = .ok (.imul, 1) := dk_104 (dk_at dksX6_doubted_3 9 rfl rfl)
theorem dX6_doubted_80 : decode cX6_doubted 80 = .ok (.iload_n 2, 1) := dk_28 (dk_at dksX6_doubted_3 10 rfl rfl)
theorem dX6_doubted_81 : decode cX6_doubted 81 = .ok (.iadd, 1) := dk_96 (dk_at dksX6_doubted_3 11 rfl rfl)
theorem dX6_doubted_82 : decode cX6_doubted 82 = .ok (.iaload, 1) := dk_46 (dk_at dksX6_doubted_3 12 rfl rfl)
theorem dX6_doubted_83 : decode cX6_doubted 83 = .ok (.if_icmp .ne 7, 3) := dk_160 0 7 (dk_at dksX6_doubted_3 13 rfl rfl)
theorem dX6_doubted_86 : decode cX6_doubted 86 = .ok (.iconst 1, 1) := dk_4 (dk_at dksX6_doubted_3 16 rfl rfl)
theorem dX6_doubted_87 : decode cX6_doubted 87 = .ok (.goto 4, 3) := dk_167 0 4 (dk_at dksX6_doubted_3 17 rfl rfl)
theorem dX6_doubted_90 : decode cX6_doubted 90 = .ok (.iconst 0, 1) := dk_3 (dk_at dksX6_doubted_3 20 rfl rfl)
theorem dX6_doubted_91 : decode cX6_doubted 91 = .ok (.istore_n 3, 1) := dk_62 (dk_at dksX6_doubted_3 21 rfl rfl)
theorem dX6_doubted_92 : decode cX6_doubted 92 = .ok (.iinc 4 1, 3) := dk_132 4 1 (dk_at dksX6_doubted_4 0 rfl rfl)
theorem dX6_doubted_95 : decode cX6_doubted 95 = .ok (.goto (-69), 3) := dk_167 255 187 (dk_at dksX6_doubted_4 3 rfl rfl)
theorem dX6_doubted_98 : decode cX6_doubted 98 = .ok (.iload_n 1, 1) := dk_27 (dk_at dksX6_doubted_4 6 rfl rfl)
theorem dX6_doubted_99 : decode cX6_doubted 99 = .ok (.iload_n 3, 1) := dk_29 (dk_at dksX6_doubted_4 7 rfl rfl)
theorem dX6_doubted_100 : decode cX6_doubted 100 = .ok (.ifCond .eq 18, 3) := dk_153 0 18 (dk_at dksX6_doubted_4 8 rfl rfl)
theorem dX6_doubted_103 : decode cX6_doubted 103 = .ok (.aload_n 0, 1) := dk_42 (dk_at dksX6_doubted_4 11 rfl rfl)
theorem dX6_doubted_104 : decode cX6_doubted 104 = .ok (.iload_n 2, 1) := dk_28 (dk_at dksX6_doubted_4 12 rfl rfl)
theorem dX6_doubted_105 : decode cX6_doubted 105 = .ok (.iconst 0, 1) := dk_3 (dk_at dksX6_doubted_4 13 rfl rfl)
theorem dX6_doubted_106 : decode cX6_doubted 106 = .ok (.invokevirtual 596, 3) := dk_182 2 84 (dk_at dksX6_doubted_4 14 rfl rfl)
theorem dX6_doubted_109 : decode cX6_doubted 109 = .ok (.ifCond .eq 9, 3) := dk_153 0 9 (dk_at dksX6_doubted_4 17 rfl rfl)
theorem dX6_doubted_112 : decode cX6_doubted 112 = .ok (.iconst 1, 1) := dk_4 (dk_at dksX6_doubted_4 20 rfl rfl)
theorem dX6_doubted_113 : decode cX6_doubted 113 = .ok (.iload_n 2, 1) := dk_28 (dk_at dksX6_doubted_4 21 rfl rfl)
theorem dX6_doubted_114 : decode cX6_doubted 114 = .ok (.ishl, 1) := dk_120 (dk_at dksX6_doubted_4 22 rfl rfl)
theorem dX6_doubted_115 : decode cX6_doubted 115 = .ok (.goto 4, 3) := dk_167 0 4 (dk_at dksX6_doubted_5 0 rfl rfl)
theorem dX6_doubted_118 : decode cX6_doubted 118 = .ok (.iconst 0, 1) := dk_3 (dk_at dksX6_doubted_5 3 rfl rfl)
theorem dX6_doubted_119 : decode cX6_doubted 119 = .ok (.ior, 1) := dk_128 (dk_at dksX6_doubted_5 4 rfl rfl)
theorem dX6_doubted_120 : decode cX6_doubted 120 = .ok (.istore_n 1, 1) := dk_60 (dk_at dksX6_doubted_5 5 rfl rfl)
theorem dX6_doubted_121 : decode cX6_doubted 121 = .ok (.iinc 2 1, 3) := dk_132 2 1 (dk_at dksX6_doubted_5 6 rfl rfl)
theorem dX6_doubted_124 : decode cX6_doubted 124 = .ok (.goto (-116), 3) := dk_167 255 140 (dk_at dksX6_doubted_5 9 rfl rfl)
theorem dX6_doubted_127 : decode cX6_doubted 127 = .ok (.iload_n 1, 1) := dk_27 (dk_at dksX6_doubted_5 12 rfl rfl)
theorem dX6_doubted_128 : decode cX6_doubted 128 = .ok (.ireturn, 1) := dk_172 (dk_at dksX6_doubted_5 13 rfl rfl)
abbrev cX6_gaps : ByteArray := prog_29_method_118_code
def yX6_gaps : MethodName := ⟨RX6, "gaps", "(II)I"⟩
def dkwX6_gaps_1 : List UInt8 := [62, 28, 154, 0, 10, 42, 180, 0, 234, 167, 0, 4, 29, 172]
abbrev dktX6_gaps_1 : List UInt8 := dkwX6_gaps_1 ++ []
def dkwX6_gaps_0 : List UInt8 := [42, 27, 182, 1, 249, 153, 0, 12, 28, 153, 0, 10, 28, 4, 159, 0, 5, 2, 172, 42, 27, 182, 2, 81]
abbrev dktX6_gaps_0 : List UInt8 := dkwX6_gaps_0 ++ dktX6_gaps_1
theorem dksX6_gaps_0 : cX6_gaps.data.toList.drop 0 = dktX6_gaps_0 := by decide +kernel
theorem dksX6_gaps_1 : cX6_gaps.data.toList.drop 24 = dktX6_gaps_1 := dk_seg dksX6_gaps_0 24 rfl rfl
theorem dX6_gaps_0 : decode cX6_gaps 0 = .ok (.aload_n 0, 1) := dk_42 (dk_at dksX6_gaps_0 0 rfl rfl)
theorem dX6_gaps_1 : decode cX6_gaps 1 = .ok (.iload_n 1, 1) := dk_27 (dk_at dksX6_gaps_0 1 rfl rfl)
theorem dX6_gaps_2 : decode cX6_gaps 2 = .ok (.invokevirtual 505, 3) := dk_182 1 249 (dk_at dksX6_gaps_0 2 rfl rfl)
theorem dX6_gaps_5 : decode cX6_gaps 5 = .ok (.ifCond .eq 12, 3) := dk_153 0 12 (dk_at dksX6_gaps_0 5 rfl rfl)
theorem dX6_gaps_8 : decode cX6_gaps 8 = .ok (.iload_n 2, 1) := dk_28 (dk_at dksX6_gaps_0 8 rfl rfl)
theorem dX6_gaps_9 : decode cX6_gaps 9 = .ok (.ifCond .eq 10, 3) := dk_153 0 10 (dk_at dksX6_gaps_0 9 rfl rfl)
theorem dX6_gaps_12 : decode cX6_gaps 12 = .ok (.iload_n 2, 1) := dk_28 (dk_at dksX6_gaps_0 12 rfl rfl)
theorem dX6_gaps_13 : decode cX6_gaps 13 = .ok (.iconst 1, 1) := dk_4 (dk_at dksX6_gaps_0 13 rfl rfl)
theorem dX6_gaps_14 : decode cX6_gaps 14 = .ok (.if_icmp .eq 5, 3) := dk_159 0 5 (dk_at dksX6_gaps_0 14 rfl rfl)
theorem dX6_gaps_17 : decode cX6_gaps 17 = .ok (.iconst (-1), 1) := dk_2 (dk_at dksX6_gaps_0 17 rfl rfl)
theorem dX6_gaps_18 : decode cX6_gaps 18 = .ok (.ireturn, 1) := dk_172 (dk_at dksX6_gaps_0 18 rfl rfl)
theorem dX6_gaps_19 : decode cX6_gaps 19 = .ok (.aload_n 0, 1) := dk_42 (dk_at dksX6_gaps_0 19 rfl rfl)
theorem dX6_gaps_20 : decode cX6_gaps 20 = .ok (.iload_n 1, 1) := dk_27 (dk_at dksX6_gaps_0 20 rfl rfl)
theorem dX6_gaps_21 : decode cX6_gaps 21 = .ok (.invokevirtual 593, 3) := dk_182 2 81 (dk_at dksX6_gaps_0 21 rfl rfl)
theorem dX6_gaps_24 : decode cX6_gaps 24 = .ok (.istore_n 3, 1) := dk_62 (dk_at dksX6_gaps_1 0 rfl rfl)
theorem dX6_gaps_25 : decode cX6_gaps 25 = .ok (.iload_n 2, 1) := dk_28 (dk_at dksX6_gaps_1 1 rfl rfl)
theorem dX6_gaps_26 : decode cX6_gaps 26 = .ok (.ifCond .ne 10, 3) := dk_154 0 10 (dk_at dksX6_gaps_1 2 rfl rfl)
theorem dX6_gaps_29 : decode cX6_gaps 29 = .ok (.aload_n 0, 1) := dk_42 (dk_at dksX6_gaps_1 5 rfl rfl)
theorem dX6_gaps_30 : decode cX6_gaps 30 = .ok (.getfield 234, 3) := dk_180 0 234 (dk_at dksX6_gaps_1 6 rfl rfl)
theorem dX6_gaps_33 : decode cX6_gaps 33 = .ok (.goto 4, 3) := dk_167 0 4 (dk_at dksX6_gaps_1 9 rfl rfl)
theorem dX6_gaps_36 : decode cX6_gaps 36 = .ok (.iload_n 3, 1) := dk_29 (dk_at dksX6_gaps_1 12 rfl rfl)
theorem dX6_gaps_37 : decode cX6_gaps 37 = .ok (.ireturn, 1) := dk_172 (dk_at dksX6_gaps_1 13 rfl rfl)
abbrev cX6_chance : ByteArray := prog_29_method_120_code
def yX6_chance : MethodName := ⟨RX6, "chance", "(I)J"⟩
def dkwX6_chance_0 : List UInt8 := [42, 27, 182, 1, 249, 153, 0, 11, 42, 27, 182, 2, 106, 167, 0, 6, 20, 2, 110, 173]
abbrev dktX6_chance_0 : List UInt8 := dkwX6_chance_0 ++ []
theorem dksX6_chance_0 : cX6_chance.data.toList.drop 0 = dktX6_chance_0 := by decide +kernel
theorem dX6_chance_0 : decode cX6_chance 0 = .ok (.aload_n 0, 1) := dk_42 (dk_at dksX6_chance_0 0 rfl rfl)
theorem dX6_chance_1 : decode cX6_chance 1 = .ok (.iload_n 1, 1) := dk_27 (dk_at dksX6_chance_0 1 rfl rfl)
theorem dX6_chance_2 : decode cX6_chance 2 = .ok (.invokevirtual 505, 3) := dk_182 1 249 (dk_at dksX6_chance_0 2 rfl rfl)
theorem dX6_chance_5 : decode cX6_chance 5 = .ok (.ifCond .eq 11, 3) := dk_153 0 11 (dk_at dksX6_chance_0 5 rfl rfl)
theorem dX6_chance_8 : decode cX6_chance 8 = .ok (.aload_n 0, 1) := dk_42 (dk_at dksX6_chance_0 8 rfl rfl)
theorem dX6_chance_9 : decode cX6_chance 9 = .ok (.iload_n 1, 1) := dk_27 (dk_at dksX6_chance_0 9 rfl rfl)
theorem dX6_chance_10 : decode cX6_chance 10 = .ok (.invokevirtual 618, 3) := dk_182 2 106 (dk_at dksX6_chance_0 10 rfl rfl)
theorem dX6_chance_13 : decode cX6_chance 13 = .ok (.goto 6, 3) := dk_167 0 6 (dk_at dksX6_chance_0 13 rfl rfl)
theorem dX6_chance_16 : decode cX6_chance 16 = .ok (.ldc2_w 622, 3) := dk_20 2 110 (dk_at dksX6_chance_0 16 rfl rfl)
theorem dX6_chance_19 : decode cX6_chance 19 = .ok (.lreturn, 1) := dk_173 (dk_at dksX6_chance_0 19 rfl rfl)
abbrev cX6_chanceOf : ByteArray := prog_29_method_119_code
def yX6_chanceOf : MethodName := ⟨RX6, "chanceOf", "(I)J"⟩
def dkwX6_chanceOf_8 : List UInt8 := [180, 0, 252, 21, 6, 47, 97, 55, 4, 132, 6, 1, 167, 255, 234, 22, 4, 173]
abbrev dktX6_chanceOf_8 : List UInt8 := dkwX6_chanceOf_8 ++ []
def dkwX6_chanceOf_7 : List UInt8 := [132, 4, 1, 167, 255, 170, 9, 55, 4, 28, 54, 6, 21, 6, 16, 50, 162, 0, 21, 22, 4, 42]
abbrev dktX6_chanceOf_7 : List UInt8 := dkwX6_chanceOf_7 ++ dktX6_chanceOf_8
def dkwX6_chanceOf_6 : List UInt8 := [180, 0, 48, 46, 133, 105, 167, 0, 4, 9, 97, 20, 2, 104, 109, 80, 132, 5, 255, 167, 255, 186]
abbrev dktX6_chanceOf_6 : List UInt8 := dkwX6_chanceOf_6 ++ dktX6_chanceOf_7
def dkwX6_chanceOf_5 : List UInt8 := [100, 133, 105, 21, 5, 158, 0, 26, 42, 180, 0, 252, 21, 5, 4, 100, 47, 42, 180, 0, 125, 42]
abbrev dktX6_chanceOf_5 : List UInt8 := dkwX6_chanceOf_5 ++ dktX6_chanceOf_6
def dkwX6_chanceOf_4 : List UInt8 := [42, 180, 0, 252, 21, 5, 42, 180, 0, 252, 21, 5, 47, 16, 100, 42, 180, 0, 125, 42, 180, 0, 48, 46]
abbrev dktX6_chanceOf_4 : List UInt8 := dkwX6_chanceOf_4 ++ dktX6_chanceOf_5
def dkwX6_chanceOf_3 : List UInt8 := [132, 4, 1, 167, 255, 227, 3, 54, 4, 21, 4, 29, 162, 0, 86, 16, 49, 54, 5, 21, 5, 155, 0, 71]
abbrev dktX6_chanceOf_3 : List UInt8 := dkwX6_chanceOf_3 ++ dktX6_chanceOf_4
def dkwX6_chanceOf_2 : List UInt8 := [162, 0, 28, 42, 180, 0, 252, 21, 4, 21, 4, 154, 0, 9, 20, 2, 102, 167, 0, 4, 9, 80]
abbrev dktX6_chanceOf_2 : List UInt8 := dkwX6_chanceOf_2 ++ dktX6_chanceOf_3
def dkwX6_chanceOf_1 : List UInt8 := [180, 0, 210, 4, 100, 46, 42, 180, 0, 216, 3, 46, 100, 4, 100, 62, 3, 54, 4, 21, 4, 16, 50]
abbrev dktX6_chanceOf_1 : List UInt8 := dkwX6_chanceOf_1 ++ dktX6_chanceOf_2
def dkwX6_chanceOf_0 : List UInt8 := [42, 27, 182, 2, 81, 61, 42, 180, 0, 210, 5, 162, 0, 7, 3, 167, 0, 23, 42, 180, 0, 216, 42]
abbrev dktX6_chanceOf_0 : List UInt8 := dkwX6_chanceOf_0 ++ dktX6_chanceOf_1
theorem dksX6_chanceOf_0 : cX6_chanceOf.data.toList.drop 0 = dktX6_chanceOf_0 := by decide +kernel
theorem dksX6_chanceOf_1 : cX6_chanceOf.data.toList.drop 23 = dktX6_chanceOf_1 := dk_seg dksX6_chanceOf_0 23 rfl rfl
theorem dksX6_chanceOf_2 : cX6_chanceOf.data.toList.drop 46 = dktX6_chanceOf_2 := dk_seg dksX6_chanceOf_1 23 rfl rfl
theorem dksX6_chanceOf_3 : cX6_chanceOf.data.toList.drop 68 = dktX6_chanceOf_3 := dk_seg dksX6_chanceOf_2 22 rfl rfl
theorem dksX6_chanceOf_4 : cX6_chanceOf.data.toList.drop 92 = dktX6_chanceOf_4 := dk_seg dksX6_chanceOf_3 24 rfl rfl
theorem dksX6_chanceOf_5 : cX6_chanceOf.data.toList.drop 116 = dktX6_chanceOf_5 := dk_seg dksX6_chanceOf_4 24 rfl rfl
theorem dksX6_chanceOf_6 : cX6_chanceOf.data.toList.drop 138 = dktX6_chanceOf_6 := dk_seg dksX6_chanceOf_5 22 rfl rfl
theorem dksX6_chanceOf_7 : cX6_chanceOf.data.toList.drop 160 = dktX6_chanceOf_7 := dk_seg dksX6_chanceOf_6 22 rfl rfl
theorem dksX6_chanceOf_8 : cX6_chanceOf.data.toList.drop 182 = dktX6_chanceOf_8 := dk_seg dksX6_chanceOf_7 22 rfl rfl
theorem dX6_chanceOf_0 : decode cX6_chanceOf 0 = .ok (.aload_n 0, 1) := dk_42 (dk_at dksX6_chanceOf_0 0 rfl rfl)
theorem dX6_chanceOf_1 : decode cX6_chanceOf 1 = .ok (.iload_n 1, 1) := dk_27 (dk_at dksX6_chanceOf_0 1 rfl rfl)
theorem dX6_chanceOf_2 : decode cX6_chanceOf 2 = .ok (.invokevirtual 593, 3) := dk_182 2 81 (dk_at dksX6_chanceOf_0 2 rfl rfl)
theorem dX6_chanceOf_5 : decode cX6_chanceOf 5 = .ok (.istore_n 2, 1) := dk_61 (dk_at dksX6_chanceOf_0 5 rfl rfl)
theorem dX6_chanceOf_6 : decode cX6_chanceOf 6 = .ok (.aload_n 0, 1) := dk_42 (dk_at dksX6_chanceOf_0 6 rfl rfl)
theorem dX6_chanceOf_7 : decode cX6_chanceOf 7 = .ok (.getfield 210, 3) := dk_180 0 210 (dk_at dksX6_chanceOf_0 7 rfl rfl)
theorem dX6_chanceOf_10 : decode cX6_chanceOf 10 = .ok (.iconst 2, 1) := dk_5 (dk_at dksX6_chanceOf_0 10 rfl rfl)
theorem dX6_chanceOf_11 : decode cX6_chanceOf 11 = .ok (.if_icmp .ge 7, 3) := dk_162 0 7 (dk_at dksX6_chanceOf_0 11 rfl rfl)
theorem dX6_chanceOf_14 : decode cX6_chanceOf 14 = .ok (.iconst 0, 1) := dk_3 (dk_at dksX6_chanceOf_0 14 rfl rfl)
theorem dX6_chanceOf_15 : decode cX6_chanceOf 15 = .ok (.goto 23, 3) := dk_167 0 23 (dk_at dksX6_chanceOf_0 15 rfl rfl)
theorem dX6_chanceOf_18 : decode cX6_chanceOf 18 = .ok (.aload_n 0, 1) := dk_42 (dk_at dksX6_chanceOf_0 18 rfl rfl)
theorem dX6_chanceOf_19 : decode cX6_chanceOf 19 = .ok (.getfield 216, 3) := dk_180 0 216 (dk_at dksX6_chanceOf_0 19 rfl rfl)
theorem dX6_chanceOf_22 : decode cX6_chanceOf 22 = .ok (.aload_n 0, 1) := dk_42 (dk_at dksX6_chanceOf_0 22 rfl rfl)
theorem dX6_chanceOf_23 : decode cX6_chanceOf 23 = .ok (.getfield 210, 3) := dk_180 0 210 (dk_at dksX6_chanceOf_1 0 rfl rfl)
theorem dX6_chanceOf_26 : decode cX6_chanceOf 26 = .ok (.iconst 1, 1) := dk_4 (dk_at dksX6_chanceOf_1 3 rfl rfl)
theorem dX6_chanceOf_27 : decode cX6_chanceOf 27 = .ok (.isub, 1) := dk_100 (dk_at dksX6_chanceOf_1 4 rfl rfl)
theorem dX6_chanceOf_28 : decode cX6_chanceOf 28 = .ok (.iaload, 1) := dk_46 (dk_at dksX6_chanceOf_1 5 rfl rfl)
theorem dX6_chanceOf_29 : decode cX6_chanceOf 29 = .ok (.aload_n 0, 1) := dk_42 (dk_at dksX6_chanceOf_1 6 rfl rfl)
theorem dX6_chanceOf_30 : decode cX6_chanceOf 30 = .ok (.getfield 216, 3) := dk_180 0 216 (dk_at dksX6_chanceOf_1 7 rfl rfl)
theorem dX6_chanceOf_33 : decode cX6_chanceOf 33 = .ok (.iconst 0, 1) := dk_3 (dk_at dksX6_chanceOf_1 10 rfl rfl)
theorem dX6_chanceOf_34 : decode cX6_chanceOf 34 = .ok (.iaload, 1) := dk_46 (dk_at dksX6_chanceOf_1 11 rfl rfl)
theorem dX6_chanceOf_35 : decode cX6_chanceOf 35 = .ok (.isub, 1) := dk_100 (dk_at dksX6_chanceOf_1 12 rfl rfl)
theorem dX6_chanceOf_36 : decode cX6_chanceOf 36 = .ok (.iconst 1, 1) := dk_4 (dk_at dksX6_chanceOf_1 13 rfl rfl)
theorem dX6_chanceOf_37 : decode cX6_chanceOf 37 = .ok (.isub, 1) := dk_100 (dk_at dksX6_chanceOf_1 14 rfl rfl)
theorem dX6_chanceOf_38 : decode cX6_chanceOf 38 = .ok (.istore_n 3, 1) := dk_62 (dk_at dksX6_chanceOf_1 15 rfl rfl)
theorem dX6_chanceOf_39 : decode cX6_chanceOf 39 = .ok (.iconst 0, 1) := dk_3 (dk_at dksX6_chanceOf_1 16 rfl rfl)
theorem dX6_chanceOf_40 : decode cX6_chanceOf 40 = .ok (.istore 4, 2) := dk_54 4 (dk_at dksX6_chanceOf_1 17 rfl rfl)
theorem dX6_chanceOf_42 : decode cX6_chanceOf 42 = .ok (.iload 4, 2) := dk_21 4 (dk_at dksX6_chanceOf_1 19 rfl rfl)
theorem dX6_chanceOf_44 : decode cX6_chanceOf 44 = .ok (.bipush 50, 2) := dk_16 50 (dk_at dksX6_chanceOf_1 21 rfl rfl)
theorem dX6_chanceOf_46 : decode cX6_chanceOf 46 = .ok (.if_icmp .ge 28, 3) := dk_162 0 28 (dk_at dksX6_chanceOf_2 0 rfl rfl)
theorem dX6_chanceOf_49 : decode cX6_chanceOf 49 = .ok (.aload_n 0, 1) := dk_42 (dk_at dksX6_chanceOf_2 3 rfl rfl)
theorem dX6_chanceOf_50 : decode cX6_chanceOf 50 = .ok (.getfield 252, 3) := dk_180 0 252 (dk_at dksX6_chanceOf_2 4 rfl rfl)
theorem dX6_chanceOf_53 : decode cX6_chanceOf 53 = .ok (.iload 4, 2) := dk_21 4 (dk_at dksX6_chanceOf_2 7 rfl rfl)
theorem dX6_chanceOf_55 : decode cX6_chanceOf 55 = .ok (.iload 4, 2) := dk_21 4 (dk_at dksX6_chanceOf_2 9 rfl rfl)
theorem dX6_chanceOf_57 : decode cX6_chanceOf 57 = .ok (.ifCond .ne 9, 3) := dk_154 0 9 (dk_at dksX6_chanceOf_2 11 rfl rfl)
theorem dX6_chanceOf_60 : decode cX6_chanceOf 60 = .ok (.ldc2_w 614, 3) := dk_20 2 102 (dk_at dksX6_chanceOf_2 14 rfl rfl)
theorem dX6_chanceOf_63 : decode cX6_chanceOf 63 = .ok (.goto 4, 3) := dk_167 0 4 (dk_at dksX6_chanceOf_2 17 rfl rfl)
theorem dX6_chanceOf_66 : decode cX6_chanceOf 66 = .ok (.lconst 0, 1) := dk_9 (dk_at dksX6_chanceOf_2 20 rfl rfl)
theorem dX6_chanceOf_67 : decode cX6_chanceOf 67 = .ok (.lastore, 1) := dk_80 (dk_at dksX6_chanceOf_2 21 rfl rfl)
theorem dX6_chanceOf_68 : decode cX6_chanceOf 68 = .ok (.iinc 4 1, 3) := dk_132 4 1 (dk_at dksX6_chanceOf_3 0 rfl rfl)
theorem dX6_chanceOf_71 : decode cX6_chanceOf 71 = .ok (.goto (-29), 3) := dk_167 255 227 (dk_at dksX6_chanceOf_3 3 rfl rfl)
theorem dX6_chanceOf_74 : decode cX6_chanceOf 74 = .ok (.iconst 0, 1) := dk_3 (dk_at dksX6_chanceOf_3 6 rfl rfl)
theorem dX6_chanceOf_75 : decode cX6_chanceOf 75 = .ok (.istore 4, 2) := dk_54 4 (dk_at dksX6_chanceOf_3 7 rfl rfl)
theorem dX6_chanceOf_77 : decode cX6_chanceOf 77 = .ok (.iload 4, 2) := dk_21 4 (dk_at dksX6_chanceOf_3 9 rfl rfl)
theorem dX6_chanceOf_79 : decode cX6_chanceOf 79 = .ok (.iload_n 3, 1) := dk_29 (dk_at dksX6_chanceOf_3 11 rfl rfl)
theorem dX6_chanceOf_80 : decode cX6_chanceOf 80 = .ok (.if_icmp .ge 86, 3) := dk_162 0 86 (dk_at dksX6_chanceOf_3 12 rfl rfl)
theorem dX6_chanceOf_83 : decode cX6_chanceOf 83 = .ok (.bipush 49, 2) := dk_16 49 (dk_at dksX6_chanceOf_3 15 rfl rfl)
theorem dX6_chanceOf_85 : decode cX6_chanceOf 85 = .ok (.istore 5, 2) := dk_54 5 (dk_at dksX6_chanceOf_3 17 rfl rfl)
theorem dX6_chanceOf_87 : decode cX6_chanceOf 87 = .ok (.iload 5, 2) := dk_21 5 (dk_at dksX6_chanceOf_3 19 rfl rfl)
theorem dX6_chanceOf_89 : decode cX6_chanceOf 89 = .ok (.ifCond .lt 71, 3) := dk_155 0 71 (dk_at dksX6_chanceOf_3 21 rfl rfl)
theorem dX6_chanceOf_92 : decode cX6_chanceOf 92 = .ok (.aload_n 0, 1) := dk_42 (dk_at dksX6_chanceOf_4 0 rfl rfl)
theorem dX6_chanceOf_93 : decode cX6_chanceOf 93 = .ok (.getfield 252, 3) := dk_180 0 252 (dk_at dksX6_chanceOf_4 1 rfl rfl)
theorem dX6_chanceOf_96 : decode cX6_chanceOf 96 = .ok (.iload 5, 2) := dk_21 5 (dk_at dksX6_chanceOf_4 4 rfl rfl)
theorem dX6_chanceOf_98 : decode cX6_chanceOf 98 = .ok (.aload_n 0, 1) := dk_42 (dk_at dksX6_chanceOf_4 6 rfl rfl)
theorem dX6_chanceOf_99 : decode cX6_chanceOf 99 = .ok (.getfield 252, 3) := dk_180 0 252 (dk_at dksX6_chanceOf_4 7 rfl rfl)
theorem dX6_chanceOf_102 : decode cX6_chanceOf 102 = .ok (.iload 5, 2) := dk_21 5 (dk_at dksX6_chanceOf_4 10 rfl rfl)
theorem dX6_chanceOf_104 : decode cX6_chanceOf 104 = .ok (.laload, 1) := dk_47 (dk_at dksX6_chanceOf_4 12 rfl rfl)
theorem dX6_chanceOf_105 : decode cX6_chanceOf 105 = .ok (.bipush 100, 2) := dk_16 100 (dk_at dksX6_chanceOf_4 13 rfl rfl)
theorem dX6_chanceOf_107 : decode cX6_chanceOf 107 = .ok (.aload_n 0, 1) := dk_42 (dk_at dksX6_chanceOf_4 15 rfl rfl)
theorem dX6_chanceOf_108 : decode cX6_chanceOf 108 = .ok (.getfield 125, 3) := dk_180 0 125 (dk_at dksX6_chanceOf_4 16 rfl rfl)
theorem dX6_chanceOf_111 : decode cX6_chanceOf 111 = .ok (.aload_n 0, 1) := dk_42 (dk_at dksX6_chanceOf_4 19 rfl rfl)
theorem dX6_chanceOf_112 : decode cX6_chanceOf 112 = .ok (.getfield 48, 3) := dk_180 0 48 (dk_at dksX6_chanceOf_4 20 rfl rfl)
theorem dX6_chanceOf_115 : decode cX6_chanceOf 115 = .ok (.iaload, 1) := dk_46 (dk_at dksX6_chanceOf_4 23 rfl rfl)
theorem dX6_chanceOf_116 : decode cX6_chanceOf 116 = .ok (.isub, 1) := dk_100 (dk_at dksX6_chanceOf_5 0 rfl rfl)
theorem dX6_chanceOf_117 : decode cX6_chanceOf 117 = .ok (.i2l, 1) := dk_133 (dk_at dksX6_chanceOf_5 1 rfl rfl)
theorem dX6_chanceOf_118 : decode cX6_chanceOf 118 = .ok (.lmul, 1) := dk_105 (dk_at dksX6_chanceOf_5 2 rfl rfl)
theorem dX6_chanceOf_119 : decode cX6_chanceOf 119 = .ok (.iload 5, 2) := dk_21 5 (dk_at dksX6_chanceOf_5 3 rfl rfl)
theorem dX6_chanceOf_121 : decode cX6_chanceOf 121 = .ok (.ifCond .le 26, 3) := dk_158 0 26 (dk_at dksX6_chanceOf_5 5 rfl rfl)
theorem dX6_chanceOf_124 : decode cX6_chanceOf 124 = .ok (.aload_n 0, 1) := dk_42 (dk_at dksX6_chanceOf_5 8 rfl rfl)
theorem dX6_chanceOf_125 : decode cX6_chanceOf 125 = .ok (.getfield 252, 3) := dk_180 0 252 (dk_at dksX6_chanceOf_5 9 rfl rfl)
theorem dX6_chanceOf_128 : decode cX6_chanceOf 128 = .ok (.iload 5, 2) := dk_21 5 (dk_at dksX6_chanceOf_5 12 rfl rfl)
theorem dX6_chanceOf_130 : decode cX6_chanceOf 130 = .ok (.iconst 1, 1) := dk_4 (dk_at dksX6_chanceOf_5 14 rfl rfl)
theorem dX6_chanceOf_131 : decode cX6_chanceOf 131 = .ok (.isub, 1) := dk_100 (dk_at dksX6_chanceOf_5 15 rfl rfl)
theorem dX6_chanceOf_132 : decode cX6_chanceOf 132 = .ok (.laload, 1) := dk_47 (dk_at dksX6_chanceOf_5 16 rfl rfl)
theorem dX6_chanceOf_133 : decode cX6_chanceOf 133 = .ok (.aload_n 0, 1) := dk_42 (dk_at dksX6_chanceOf_5 17 rfl rfl)
theorem dX6_chanceOf_134 : decode cX6_chanceOf 134 = .ok (.getfield 125, 3) := dk_180 0 125 (dk_at dksX6_chanceOf_5 18 rfl rfl)
theorem dX6_chanceOf_137 : decode cX6_chanceOf 137 = .ok (.aload_n 0, 1) := dk_42 (dk_at dksX6_chanceOf_5 21 rfl rfl)
theorem dX6_chanceOf_138 : decode cX6_chanceOf 138 = .ok (.getfield 48, 3) := dk_180 0 48 (dk_at dksX6_chanceOf_6 0 rfl rfl)
theorem dX6_chanceOf_141 : decode cX6_chanceOf 141 = .ok (.iaload, 1) := dk_46 (dk_at dksX6_chanceOf_6 3 rfl rfl)
theorem dX6_chanceOf_142 : decode cX6_chanceOf 142 = .ok (.i2l, 1) := dk_133 (dk_at dksX6_chanceOf_6 4 rfl rfl)
theorem dX6_chanceOf_143 : decode cX6_chanceOf 143 = .ok (.lmul, 1) := dk_105 (dk_at dksX6_chanceOf_6 5 rfl rfl)
theorem dX6_chanceOf_144 : decode cX6_chanceOf 144 = .ok (.goto 4, 3) := dk_167 0 4 (dk_at dksX6_chanceOf_6 6 rfl rfl)
theorem dX6_chanceOf_147 : decode cX6_chanceOf 147 = .ok (.lconst 0, 1) := dk_9 (dk_at dksX6_chanceOf_6 9 rfl rfl)
theorem dX6_chanceOf_148 : decode cX6_chanceOf 148 = .ok (.ladd, 1) := dk_97 (dk_at dksX6_chanceOf_6 10 rfl rfl)
theorem dX6_chanceOf_149 : decode cX6_chanceOf 149 = .ok (.ldc2_w 616, 3) := dk_20 2 104 (dk_at dksX6_chanceOf_6 11 rfl rfl)
theorem dX6_chanceOf_152 : decode cX6_chanceOf 152 = .ok (.ldiv, 1) := dk_109 (dk_at dksX6_chanceOf_6 14 rfl rfl)
theorem dX6_chanceOf_153 : decode cX6_chanceOf 153 = .ok (.lastore, 1) := dk_80 (dk_at dksX6_chanceOf_6 15 rfl rfl)
theorem dX6_chanceOf_154 : decode cX6_chanceOf 154 = .ok (.iinc 5 (-1), 3) := dk_132 5 255 (dk_at dksX6_chanceOf_6 16 rfl rfl)
theorem dX6_chanceOf_157 : decode cX6_chanceOf 157 = .ok (.goto (-70), 3) := dk_167 255 186 (dk_at dksX6_chanceOf_6 19 rfl rfl)
theorem dX6_chanceOf_160 : decode cX6_chanceOf 160 = .ok (.iinc 4 1, 3) := dk_132 4 1 (dk_at dksX6_chanceOf_7 0 rfl rfl)
theorem dX6_chanceOf_163 : decode cX6_chanceOf 163 = .ok (.goto (-86), 3) := dk_167 255 170 (dk_at dksX6_chanceOf_7 3 rfl rfl)
theorem dX6_chanceOf_166 : decode cX6_chanceOf 166 = .ok (.lconst 0, 1) := dk_9 (dk_at dksX6_chanceOf_7 6 rfl rfl)
theorem dX6_chanceOf_167 : decode cX6_chanceOf 167 = .ok (.lstore 4, 2) := dk_55 4 (dk_at dksX6_chanceOf_7 7 rfl rfl)
theorem dX6_chanceOf_169 : decode cX6_chanceOf 169 = .ok (.iload_n 2, 1) := dk_28 (dk_at dksX6_chanceOf_7 9 rfl rfl)
theorem dX6_chanceOf_170 : decode cX6_chanceOf 170 = .ok (.istore 6, 2) := dk_54 6 (dk_at dksX6_chanceOf_7 10 rfl rfl)
theorem dX6_chanceOf_172 : decode cX6_chanceOf 172 = .ok (.iload 6, 2) := dk_21 6 (dk_at dksX6_chanceOf_7 12 rfl rfl)
theorem dX6_chanceOf_174 : decode cX6_chanceOf 174 = .ok (.bipush 50, 2) := dk_16 50 (dk_at dksX6_chanceOf_7 14 rfl rfl)
theorem dX6_chanceOf_176 : decode cX6_chanceOf 176 = .ok (.if_icmp .ge 21, 3) := dk_162 0 21 (dk_at dksX6_chanceOf_7 16 rfl rfl)
theorem dX6_chanceOf_179 : decode cX6_chanceOf 179 = .ok (.lload 4, 2) := dk_22 4 (dk_at dksX6_chanceOf_7 19 rfl rfl)
theorem dX6_chanceOf_181 : decode cX6_chanceOf 181 = .ok (.aload_n 0, 1) := dk_42 (dk_at dksX6_chanceOf_7 21 rfl rfl)
theorem dX6_chanceOf_182 : decode cX6_chanceOf 182 = .ok (.getfield 252, 3) := dk_180 0 252 (dk_at dksX6_chanceOf_8 0 rfl rfl)
theorem dX6_chanceOf_185 : decode cX6_chanceOf 185 = .ok (.iload 6, 2) := dk_21 6 (dk_at dksX6_chanceOf_8 3 rfl rfl)
theorem dX6_chanceOf_187 : decode cX6_chanceOf 187 = .ok (.laload, 1) := dk_47 (dk_at dksX6_chanceOf_8 5 rfl rfl)
theorem dX6_chanceOf_188 : decode cX6_chanceOf 188 = .ok (.ladd, 1) := dk_97 (dk_at dksX6_chanceOf_8 6 rfl rfl)
theorem dX6_chanceOf_189 : decode cX6_chanceOf 189 = .ok (.lstore 4, 2) := dk_55 4 (dk_at dksX6_chanceOf_8 7 rfl rfl)
theorem dX6_chanceOf_191 : decode cX6_chanceOf 191 = .ok (.iinc 6 1, 3) := dk_132 6 1 (dk_at dksX6_chanceOf_8 9 rfl rfl)
theorem dX6_chanceOf_194 : decode cX6_chanceOf 194 = .ok (.goto (-22), 3) := dk_167 255 234 (dk_at dksX6_chanceOf_8 12 rfl rfl)
theorem dX6_chanceOf_197 : decode cX6_chanceOf 197 = .ok (.lload 4, 2) := dk_22 4 (dk_at dksX6_chanceOf_8 15 rfl rfl)
theorem dX6_chanceOf_199 : decode cX6_chanceOf 199 = .ok (.lreturn, 1) := dk_173 (dk_at dksX6_chanceOf_8 17 rfl rfl)
abbrev cX6_beyond : ByteArray := prog_29_method_121_code
def yX6_beyond : MethodName := ⟨RX6, "beyond", "()I"⟩
def dkwX6_beyond_2 : List UInt8 := [156, 0, 9, 4, 28, 120, 167, 0, 4, 3, 128, 60, 132, 2, 1, 167, 255, 199, 27, 172]
abbrev dktX6_beyond_2 : List UInt8 := dkwX6_beyond_2 ++ []
def dkwX6_beyond_1 : List UInt8 := [158, 0, 32, 42, 28, 182, 2, 106, 42, 180, 0, 69, 42, 180, 0, 48, 46, 133, 105, 20, 2, 112, 148]
abbrev dktX6_beyond_1 : List UInt8 := dkwX6_beyond_1 ++ dktX6_beyond_2
def dkwX6_beyond_0 : List UInt8 := [3, 60, 3, 61, 28, 42, 180, 0, 69, 42, 180, 0, 48, 46, 162, 0, 50, 27, 42, 28, 182, 2, 81]
abbrev dktX6_beyond_0 : List UInt8 := dkwX6_beyond_0 ++ dktX6_beyond_1
theorem dksX6_beyond_0 : cX6_beyond.data.toList.drop 0 = dktX6_beyond_0 := by decide +kernel
theorem dksX6_beyond_1 : cX6_beyond.data.toList.drop 23 = dktX6_beyond_1 := dk_seg dksX6_beyond_0 23 rfl rfl
theorem dksX6_beyond_2 : cX6_beyond.data.toList.drop 46 = dktX6_beyond_2 := dk_seg dksX6_beyond_1 23 rfl rfl
theorem dX6_beyond_0 : decode cX6_beyond 0 = .ok (.iconst 0, 1) := dk_3 (dk_at dksX6_beyond_0 0 rfl rfl)
theorem dX6_beyond_1 : decode cX6_beyond 1 = .ok (.istore_n 1, 1) := dk_60 (dk_at dksX6_beyond_0 1 rfl rfl)
theorem dX6_beyond_2 : decode cX6_beyond 2 = .ok (.iconst 0, 1) := dk_3 (dk_at dksX6_beyond_0 2 rfl rfl)
theorem dX6_beyond_3 : decode cX6_beyond 3 = .ok (.istore_n 2, 1) := dk_61 (dk_at dksX6_beyond_0 3 rfl rfl)
theorem dX6_beyond_4 : decode cX6_beyond 4 = .ok (.iload_n 2, 1) := dk_28 (dk_at dksX6_beyond_0 4 rfl rfl)
theorem dX6_beyond_5 : decode cX6_beyond 5 = .ok (.aload_n 0, 1) := dk_42 (dk_at dksX6_beyond_0 5 rfl rfl)
theorem dX6_beyond_6 : decode cX6_beyond 6 = .ok (.getfield 69, 3) := dk_180 0 69 (dk_at dksX6_beyond_0 6 rfl rfl)
theorem dX6_beyond_9 : decode cX6_beyond 9 = .ok (.aload_n 0, 1) := dk_42 (dk_at dksX6_beyond_0 9 rfl rfl)
theorem dX6_beyond_10 : decode cX6_beyond 10 = .ok (.getfield 48, 3) := dk_180 0 48 (dk_at dksX6_beyond_0 10 rfl rfl)
theorem dX6_beyond_13 : decode cX6_beyond 13 = .ok (.iaload, 1) := dk_46 (dk_at dksX6_beyond_0 13 rfl rfl)
theorem dX6_beyond_14 : decode cX6_beyond 14 = .ok (.if_icmp .ge 50, 3) := dk_162 0 50 (dk_at dksX6_beyond_0 14 rfl rfl)
theorem dX6_beyond_17 : decode cX6_beyond 17 = .ok (.iload_n 1, 1) := dk_27 (dk_at dksX6_beyond_0 17 rfl rfl)
theorem dX6_beyond_18 : decode cX6_beyond 18 = .ok (.aload_n 0, 1) := dk_42 (dk_at dksX6_beyond_0 18 rfl rfl)
theorem dX6_beyond_19 : decode cX6_beyond 19 = .ok (.iload_n 2, 1) := dk_28 (dk_at dksX6_beyond_0 19 rfl rfl)
theorem dX6_beyond_20 : decode cX6_beyond 20 = .ok (.invokevirtual 593, 3) := dk_182 2 81 (dk_at dksX6_beyond_0 20 rfl rfl)
theorem dX6_beyond_23 : decode cX6_beyond 23 = .ok (.ifCond .le 32, 3) := dk_158 0 32 (dk_at dksX6_beyond_1 0 rfl rfl)
theorem dX6_beyond_26 : decode cX6_beyond 26 = .ok (.aload_n 0, 1) := dk_42 (dk_at dksX6_beyond_1 3 rfl rfl)
theorem dX6_beyond_27 : decode cX6_beyond 27 = .ok (.iload_n 2, 1) := dk_28 (dk_at dksX6_beyond_1 4 rfl rfl)
theorem dX6_beyond_28 : decode cX6_beyond 28 = .ok (.invokevirtual 618, 3) := dk_182 2 106 (dk_at dksX6_beyond_1 5 rfl rfl)
theorem dX6_beyond_31 : decode cX6_beyond 31 = .ok (.aload_n 0, 1) := dk_42 (dk_at dksX6_beyond_1 8 rfl rfl)
theorem dX6_beyond_32 : decode cX6_beyond 32 = .ok (.getfield 69, 3) := dk_180 0 69 (dk_at dksX6_beyond_1 9 rfl rfl)
theorem dX6_beyond_35 : decode cX6_beyond 35 = .ok (.aload_n 0, 1) := dk_42 (dk_at dksX6_beyond_1 12 rfl rfl)
theorem dX6_beyond_36 : decode cX6_beyond 36 = .ok (.getfield 48, 3) := dk_180 0 48 (dk_at dksX6_beyond_1 13 rfl rfl)
theorem dX6_beyond_39 : decode cX6_beyond 39 = .ok (.iaload, 1) := dk_46 (dk_at dksX6_beyond_1 16 rfl rfl)
theorem dX6_beyond_40 : decode cX6_beyond 40 = .ok (.i2l, 1) := dk_133 (dk_at dksX6_beyond_1 17 rfl rfl)
theorem dX6_beyond_41 : decode cX6_beyond 41 = .ok (.lmul, 1) := dk_105 (dk_at dksX6_beyond_1 18 rfl rfl)
theorem dX6_beyond_42 : decode cX6_beyond 42 = .ok (.ldc2_w 624, 3) := dk_20 2 112 (dk_at dksX6_beyond_1 19 rfl rfl)
theorem dX6_beyond_45 : decode cX6_beyond 45 = .ok (.lcmp, 1) := dk_148 (dk_at dksX6_beyond_1 22 rfl rfl)
theorem dX6_beyond_46 : decode cX6_beyond 46 = .ok (.ifCond .ge 9, 3) := dk_156 0 9 (dk_at dksX6_beyond_2 0 rfl rfl)
theorem dX6_beyond_49 : decode cX6_beyond 49 = .ok (.iconst 1, 1) := dk_4 (dk_at dksX6_beyond_2 3 rfl rfl)
theorem dX6_beyond_50 : decode cX6_beyond 50 = .ok (.iload_n 2, 1) := dk_28 (dk_at dksX6_beyond_2 4 rfl rfl)
theorem dX6_beyond_51 : decode cX6_beyond 51 = .ok (.ishl, 1) := dk_120 (dk_at dksX6_beyond_2 5 rfl rfl)
theorem dX6_beyond_52 : decode cX6_beyond 52 = .ok (.goto 4, 3) := dk_167 0 4 (dk_at dksX6_beyond_2 6 rfl rfl)
theorem dX6_beyond_55 : decode cX6_beyond 55 = .ok (.iconst 0, 1) := dk_3 (dk_at dksX6_beyond_2 9 rfl rfl)
theorem dX6_beyond_56 : decode cX6_beyond 56 = .ok (.ior, 1) := dk_128 (dk_at dksX6_beyond_2 10 rfl rfl)
theorem dX6_beyond_57 : decode cX6_beyond 57 = .ok (.istore_n 1, 1) := dk_60 (dk_at dksX6_beyond_2 11 rfl rfl)
theorem dX6_beyond_58 : decode cX6_beyond 58 = .ok (.iinc 2 1, 3) := dk_132 2 1 (dk_at dksX6_beyond_2 12 rfl rfl)
theorem dX6_beyond_61 : decode cX6_beyond 61 = .ok (.goto (-57), 3) := dk_167 255 199 (dk_at dksX6_beyond_2 15 rfl rfl)
theorem dX6_beyond_64 : decode cX6_beyond 64 = .ok (.iload_n 1, 1) := dk_27 (dk_at dksX6_beyond_2 18 rfl rfl)
theorem dX6_beyond_65 : decode cX6_beyond 65 = .ok (.ireturn, 1) := dk_172 (dk_at dksX6_beyond_2 19 rfl rfl)
abbrev cX6_settles : ByteArray := prog_29_method_123_code
def yX6_settles : MethodName := ⟨RX6, "settles", "(III)I"⟩
def dkwX6_settles_1 : List UInt8 := [180, 0, 255, 17, 1, 0, 27, 104, 42, 28, 29, 182, 1, 237, 96, 46, 172]
abbrev dktX6_settles_1 : List UInt8 := dkwX6_settles_1 ++ []
def dkwX6_settles_0 : List UInt8 := [27, 184, 1, 234, 153, 0, 12, 42, 28, 29, 182, 1, 230, 154, 0, 5, 2, 172, 42, 182, 2, 114, 42]
abbrev dktX6_settles_0 : List UInt8 := dkwX6_settles_0 ++ dktX6_settles_1
theorem dksX6_settles_0 : cX6_settles.data.toList.drop 0 = dktX6_settles_0 := by decide +kernel
theorem dksX6_settles_1 : cX6_settles.data.toList.drop 23 = dktX6_settles_1 := dk_seg dksX6_settles_0 23 rfl rfl
theorem dX6_settles_0 : decode cX6_settles 0 = .ok (.iload_n 1, 1) := dk_27 (dk_at dksX6_settles_0 0 rfl rfl)
theorem dX6_settles_1 : decode cX6_settles 1 = .ok (.invokestatic 490, 3) := dk_184 1 234 (dk_at dksX6_settles_0 1 rfl rfl)
theorem dX6_settles_4 : decode cX6_settles 4 = .ok (.ifCond .eq 12, 3) := dk_153 0 12 (dk_at dksX6_settles_0 4 rfl rfl)
theorem dX6_settles_7 : decode cX6_settles 7 = .ok (.aload_n 0, 1) := dk_42 (dk_at dksX6_settles_0 7 rfl rfl)
theorem dX6_settles_8 : decode cX6_settles 8 = .ok (.iload_n 2, 1) := dk_28 (dk_at dksX6_settles_0 8 rfl rfl)
theorem dX6_settles_9 : decode cX6_settles 9 = .ok (.iload_n 3, 1) := dk_29 (dk_at dksX6_settles_0 9 rfl rfl)
theorem dX6_settles_10 : decode cX6_settles 10 = .ok (.invokevirtual 486, 3) := dk_182 1 230 (dk_at dksX6_settles_0 10 rfl rfl)
theorem dX6_settles_13 : decode cX6_settles 13 = .ok (.ifCond .ne 5, 3) := dk_154 0 5 (dk_at dksX6_settles_0 13 rfl rfl)
theorem dX6_settles_16 : decode cX6_settles 16 = .ok (.iconst (-1), 1) := dk_2 (dk_at dksX6_settles_0 16 rfl rfl)
theorem dX6_settles_17 : decode cX6_settles 17 = .ok (.ireturn, 1) := dk_172 (dk_at dksX6_settles_0 17 rfl rfl)
theorem dX6_settles_18 : decode cX6_settles 18 = .ok (.aload_n 0, 1) := dk_42 (dk_at dksX6_settles_0 18 rfl rfl)
theorem dX6_settles_19 : decode cX6_settles 19 = .ok (.invokevirtual 626, 3) := dk_182 2 114 (dk_at dksX6_settles_0 19 rfl rfl)
theorem dX6_settles_22 : decode cX6_settles 22 = .ok (.aload_n 0, 1) := dk_42 (dk_at dksX6_settles_0 22 rfl rfl)
theorem dX6_settles_23 : decode cX6_settles 23 = .ok (.getfield 255, 3) := dk_180 0 255 (dk_at dksX6_settles_1 0 rfl rfl)
theorem dX6_settles_26 : decode cX6_settles 26 = .ok (.sipush 256, 3) := dk_17 1 0 (dk_at dksX6_settles_1 3 rfl rfl)
theorem dX6_settles_29 : decode cX6_settles 29 = .ok (.iload_n 1, 1) := dk_27 (dk_at dksX6_settles_1 6 rfl rfl)
theorem dX6_settles_30 : decode cX6_settles 30 = .ok (.imul, 1) := dk_104 (dk_at dksX6_settles_1 7 rfl rfl)
theorem dX6_settles_31 : decode cX6_settles 31 = .ok (.aload_n 0, 1) := dk_42 (dk_at dksX6_settles_1 8 rfl rfl)
theorem dX6_settles_32 : decode cX6_settles 32 = .ok (.iload_n 2, 1) := dk_28 (dk_at dksX6_settles_1 9 rfl rfl)
theorem dX6_settles_33 : decode cX6_settles 33 = .ok (.iload_n 3, 1) := dk_29 (dk_at dksX6_settles_1 10 rfl rfl)
theorem dX6_settles_34 : decode cX6_settles 34 = .ok (.invokevirtual 493, 3) := dk_182 1 237 (dk_at dksX6_settles_1 11 rfl rfl)
theorem dX6_settles_37 : decode cX6_settles 37 = .ok (.iadd, 1) := dk_96 (dk_at dksX6_settles_1 14 rfl rfl)
theorem dX6_settles_38 : decode cX6_settles 38 = .ok (.iaload, 1) := dk_46 (dk_at dksX6_settles_1 15 rfl rfl)
theorem dX6_settles_39 : decode cX6_settles 39 = .ok (.ireturn, 1) := dk_172 (dk_at dksX6_settles_1 16 rfl rfl)
abbrev cX6_settlesAll : ByteArray := prog_29_method_122_code
def yX6_settlesAll : MethodName := ⟨RX6, "settlesAll", "()V"⟩
def dkwX6_settlesAll_5 : List UInt8 := [167, 255, 215, 132, 2, 1, 167, 255, 188, 132, 1, 1, 167, 255, 151, 177]
abbrev dktX6_settlesAll_5 : List UInt8 := dkwX6_settlesAll_5 ++ []
def dkwX6_settlesAll_4 : List UInt8 := [92, 46, 42, 27, 29, 28, 182, 2, 43, 153, 0, 7, 4, 167, 0, 4, 3, 96, 79, 132, 3, 1]
abbrev dktX6_settlesAll_4 : List UInt8 := dkwX6_settlesAll_4 ++ dktX6_settlesAll_5
def dkwX6_settlesAll_3 : List UInt8 := [167, 0, 49, 3, 62, 29, 42, 182, 1, 223, 162, 0, 39, 42, 180, 0, 255, 17, 1, 0, 28, 104, 29, 96]
abbrev dktX6_settlesAll_3 : List UInt8 := dkwX6_settlesAll_3 ++ dktX6_settlesAll_4
def dkwX6_settlesAll_2 : List UInt8 := [42, 27, 182, 2, 52, 3, 61, 28, 16, 48, 162, 0, 68, 42, 27, 28, 182, 2, 54, 5, 162, 0, 6]
abbrev dktX6_settlesAll_2 : List UInt8 := dkwX6_settlesAll_2 ++ dktX6_settlesAll_3
def dkwX6_settlesAll_1 : List UInt8 := [27, 42, 180, 0, 69, 42, 180, 0, 48, 46, 162, 0, 98, 42, 27, 182, 1, 246, 154, 0, 6, 167, 0, 81]
abbrev dktX6_settlesAll_1 : List UInt8 := dkwX6_settlesAll_1 ++ dktX6_settlesAll_2
def dkwX6_settlesAll_0 : List UInt8 := [3, 60, 27, 17, 48, 0, 162, 0, 16, 42, 180, 0, 255, 27, 3, 79, 132, 1, 1, 167, 255, 239, 3, 60]
abbrev dktX6_settlesAll_0 : List UInt8 := dkwX6_settlesAll_0 ++ dktX6_settlesAll_1
theorem dksX6_settlesAll_0 : cX6_settlesAll.data.toList.drop 0 = dktX6_settlesAll_0 := by decide +kernel
theorem dksX6_settlesAll_1 : cX6_settlesAll.data.toList.drop 24 = dktX6_settlesAll_1 := dk_seg dksX6_settlesAll_0 24 rfl rfl
theorem dksX6_settlesAll_2 : cX6_settlesAll.data.toList.drop 48 = dktX6_settlesAll_2 := dk_seg dksX6_settlesAll_1 24 rfl rfl
theorem dksX6_settlesAll_3 : cX6_settlesAll.data.toList.drop 71 = dktX6_settlesAll_3 := dk_seg dksX6_settlesAll_2 23 rfl rfl
theorem dksX6_settlesAll_4 : cX6_settlesAll.data.toList.drop 95 = dktX6_settlesAll_4 := dk_seg dksX6_settlesAll_3 24 rfl rfl
theorem dksX6_settlesAll_5 : cX6_settlesAll.data.toList.drop 117 = dktX6_settlesAll_5 := dk_seg dksX6_settlesAll_4 22 rfl rfl
theorem dX6_settlesAll_0 : decode cX6_settlesAll 0 = .ok (.iconst 0, 1) := dk_3 (dk_at dksX6_settlesAll_0 0 rfl rfl)
theorem dX6_settlesAll_1 : decode cX6_settlesAll 1 = .ok (.istore_n 1, 1) := dk_60 (dk_at dksX6_settlesAll_0 1 rfl rfl)
theorem dX6_settlesAll_2 : decode cX6_settlesAll 2 = .ok (.iload_n 1, 1) := dk_27 (dk_at dksX6_settlesAll_0 2 rfl rfl)
theorem dX6_settlesAll_3 : decode cX6_settlesAll 3 = .ok (.sipush 12288, 3) := dk_17 48 0 (dk_at dksX6_settlesAll_0 3 rfl rfl)
theorem dX6_settlesAll_6 : decode cX6_settlesAll 6 = .ok (.if_icmp .ge 16, 3) := dk_162 0 16 (dk_at dksX6_settlesAll_0 6 rfl rfl)
theorem dX6_settlesAll_9 : decode cX6_settlesAll 9 = .ok (.aload_n 0, 1) := dk_42 (dk_at dksX6_settlesAll_0 9 rfl rfl)
theorem dX6_settlesAll_10 : decode cX6_settlesAll 10 = .ok (.getfield 255, 3) := dk_180 0 255 (dk_at dksX6_settlesAll_0 10 rfl rfl)
theorem dX6_settlesAll_13 : decode cX6_settlesAll 13 = .ok (.iload_n 1, 1) := dk_27 (dk_at dksX6_settlesAll_0 13 rfl rfl)
theorem dX6_settlesAll_14 : decode cX6_settlesAll 14 = .ok (.iconst 0, 1) := dk_3 (dk_at dksX6_settlesAll_0 14 rfl rfl)
theorem dX6_settlesAll_15 : decode cX6_settlesAll 15 = .ok (.iastore, 1) := dk_79 (dk_at dksX6_settlesAll_0 15 rfl rfl)
theorem dX6_settlesAll_16 : decode cX6_settlesAll 16 = .ok (.iinc 1 1, 3) := dk_132 1 1 (dk_at dksX6_settlesAll_0 16 rfl rfl)
theorem dX6_settlesAll_19 : decode cX6_settlesAll 19 = .ok (.goto (-17), 3) := dk_167 255 239 (dk_at dksX6_settlesAll_0 19 rfl rfl)
theorem dX6_settlesAll_22 : decode cX6_settlesAll 22 = .ok (.iconst 0, 1) := dk_3 (dk_at dksX6_settlesAll_0 22 rfl rfl)
theorem dX6_settlesAll_23 : decode cX6_settlesAll 23 = .ok (.istore_n 1, 1) := dk_60 (dk_at dksX6_settlesAll_0 23 rfl rfl)
theorem dX6_settlesAll_24 : decode cX6_settlesAll 24 = .ok (.iload_n 1, 1) := dk_27 (dk_at dksX6_settlesAll_1 0 rfl rfl)
theorem dX6_settlesAll_25 : decode cX6_settlesAll 25 = .ok (.aload_n 0, 1) := dk_42 (dk_at dksX6_settlesAll_1 1 rfl rfl)
theorem dX6_settlesAll_26 : decode cX6_settlesAll 26 = .ok (.getfield 69, 3) := dk_180 0 69 (dk_at dksX6_settlesAll_1 2 rfl rfl)
theorem dX6_settlesAll_29 : decode cX6_settlesAll 29 = .ok (.aload_n 0, 1) := dk_42 (dk_at dksX6_settlesAll_1 5 rfl rfl)
theorem dX6_settlesAll_30 : decode cX6_settlesAll 30 = .ok (.getfield 48, 3) := dk_180 0 48 (dk_at dksX6_settlesAll_1 6 rfl rfl)
theorem dX6_settlesAll_33 : decode cX6_settlesAll 33 = .ok (.iaload, 1) := dk_46 (dk_at dksX6_settlesAll_1 9 rfl rfl)
theorem dX6_settlesAll_34 : decode cX6_settlesAll 34 = .ok (.if_icmp .ge 98, 3) := dk_162 0 98 (dk_at dksX6_settlesAll_1 10 rfl rfl)
theorem dX6_settlesAll_37 : decode cX6_settlesAll 37 = .ok (.aload_n 0, 1) := dk_42 (dk_at dksX6_settlesAll_1 13 rfl rfl)
theorem dX6_settlesAll_38 : decode cX6_settlesAll 38 = .ok (.iload_n 1, 1) := dk_27 (dk_at dksX6_settlesAll_1 14 rfl rfl)
theorem dX6_settlesAll_39 : decode cX6_settlesAll 39 = .ok (.invokevirtual 502, 3) := dk_182 1 246 (dk_at dksX6_settlesAll_1 15 rfl rfl)
theorem dX6_settlesAll_42 : decode cX6_settlesAll 42 = .ok (.ifCond .ne 6, 3) := dk_154 0 6 (dk_at dksX6_settlesAll_1 18 rfl rfl)
theorem dX6_settlesAll_45 : decode cX6_settlesAll 45 = .ok (.goto 81, 3) := dk_167 0 81 (dk_at dksX6_settlesAll_1 21 rfl rfl)
theorem dX6_settlesAll_48 : decode cX6_settlesAll 48 = .ok (.aload_n 0, 1) := dk_42 (dk_at dksX6_settlesAll_2 0 rfl rfl)
theorem dX6_settlesAll_49 : decode cX6_settlesAll 49 = .ok (.iload_n 1, 1) := dk_27 (dk_at dksX6_settlesAll_2 1 rfl rfl)
theorem dX6_settlesAll_50 : decode cX6_settlesAll 50 = .ok (.invokevirtual 564, 3) := dk_182 2 52 (dk_at dksX6_settlesAll_2 2 rfl rfl)
theorem dX6_settlesAll_53 : decode cX6_settlesAll 53 = .ok (.iconst 0, 1) := dk_3 (dk_at dksX6_settlesAll_2 5 rfl rfl)
theorem dX6_settlesAll_54 : decode cX6_settlesAll 54 = .ok (.istore_n 2, 1) := dk_61 (dk_at dksX6_settlesAll_2 6 rfl rfl)
theorem dX6_settlesAll_55 : decode cX6_settlesAll 55 = .ok (.iload_n 2, 1) := dk_28 (dk_at dksX6_settlesAll_2 7 rfl rfl)
theorem dX6_settlesAll_56 : decode cX6_settlesAll 56 = .ok (.bipush 48, 2) := dk_16 48 (dk_at dksX6_settlesAll_2 8 rfl rfl)
theorem dX6_settlesAll_58 : decode cX6_settlesAll 58 = .ok (.if_icmp .ge 68, 3) := dk_162 0 68 (dk_at dksX6_settlesAll_2 10 rfl rfl)
theorem dX6_settlesAll_61 : decode cX6_settlesAll 61 = .ok (.aload_n 0, 1) := dk_42 (dk_at dksX6_settlesAll_2 13 rfl rfl)
theorem dX6_settlesAll_62 : decode cX6_settlesAll 62 = .ok (.iload_n 1, 1) := dk_27 (dk_at dksX6_settlesAll_2 14 rfl rfl)
theorem dX6_settlesAll_63 : decode cX6_settlesAll 63 = .ok (.iload_n 2, 1) := dk_28 (dk_at dksX6_settlesAll_2 15 rfl rfl)
theorem dX6_settlesAll_64 : decode cX6_settlesAll 64 = .ok (.invokevirtual 566, 3) := dk_182 2 54 (dk_at dksX6_settlesAll_2 16 rfl rfl)
theorem dX6_settlesAll_67 : decode cX6_settlesAll 67 = .ok (.iconst 2, 1) := dk_5 (dk_at dksX6_settlesAll_2 19 rfl rfl)
theorem dX6_settlesAll_68 : decode cX6_settlesAll 68 = .ok (.if_icmp .ge 6, 3) := dk_162 0 6 (dk_at dksX6_settlesAll_2 20 rfl rfl)
theorem dX6_settlesAll_71 : decode cX6_settlesAll 71 = .ok (.goto 49, 3) := dk_167 0 49 (dk_at dksX6_settlesAll_3 0 rfl rfl)
theorem dX6_settlesAll_74 : decode cX6_settlesAll 74 = .ok (.iconst 0, 1) := dk_3 (dk_at dksX6_settlesAll_3 3 rfl rfl)
theorem dX6_settlesAll_75 : decode cX6_settlesAll 75 = .ok (.istore_n 3, 1) := dk_62 (dk_at dksX6_settlesAll_3 4 rfl rfl)
theorem dX6_settlesAll_76 : decode cX6_settlesAll 76 = .ok (.iload_n 3, 1) := dk_29 (dk_at dksX6_settlesAll_3 5 rfl rfl)
theorem dX6_settlesAll_77 : decode cX6_settlesAll 77 = .ok (.aload_n 0, 1) := dk_42 (dk_at dksX6_settlesAll_3 6 rfl rfl)
theorem dX6_settlesAll_78 : decode cX6_settlesAll 78 = .ok (.invokevirtual 479, 3) := dk_182 1 223 (dk_at dksX6_settlesAll_3 7 rfl rfl)
theorem dX6_settlesAll_81 : decode cX6_settlesAll 81 = .ok (.if_icmp .ge 39, 3) := dk_162 0 39 (dk_at dksX6_settlesAll_3 10 rfl rfl)
theorem dX6_settlesAll_84 : decode cX6_settlesAll 84 = .ok (.aload_n 0, 1) := dk_42 (dk_at dksX6_settlesAll_3 13 rfl rfl)
theorem dX6_settlesAll_85 : decode cX6_settlesAll 85 = .ok (.getfield 255, 3) := dk_180 0 255 (dk_at dksX6_settlesAll_3 14 rfl rfl)
theorem dX6_settlesAll_88 : decode cX6_settlesAll 88 = .ok (.sipush 256, 3) := dk_17 1 0 (dk_at dksX6_settlesAll_3 17 rfl rfl)
theorem dX6_settlesAll_91 : decode cX6_settlesAll 91 = .ok (.iload_n 2, 1) := dk_28 (dk_at dksX6_settlesAll_3 20 rfl rfl)
theorem dX6_settlesAll_92 : decode cX6_settlesAll 92 = .ok (.imul, 1) := dk_104 (dk_at dksX6_settlesAll_3 21 rfl rfl)
theorem dX6_settlesAll_93 : decode cX6_settlesAll 93 = .ok (.iload_n 3, 1) := dk_29 (dk_at dksX6_settlesAll_3 22 rfl rfl)
theorem dX6_settlesAll_94 : decode cX6_settlesAll 94 = .ok (.iadd, 1) := dk_96 (dk_at dksX6_settlesAll_3 23 rfl rfl)
theorem dX6_settlesAll_95 : decode cX6_settlesAll 95 = .ok (.dup2, 1) := dk_92 (dk_at dksX6_settlesAll_4 0 rfl rfl)
theorem dX6_settlesAll_96 : decode cX6_settlesAll 96 = .ok (.iaload, 1) := dk_46 (dk_at dksX6_settlesAll_4 1 rfl rfl)
theorem dX6_settlesAll_97 : decode cX6_settlesAll 97 = .ok (.aload_n 0, 1) := dk_42 (dk_at dksX6_settlesAll_4 2 rfl rfl)
theorem dX6_settlesAll_98 : decode cX6_settlesAll 98 = .ok (.iload_n 1, 1) := dk_27 (dk_at dksX6_settlesAll_4 3 rfl rfl)
theorem dX6_settlesAll_99 : decode cX6_settlesAll 99 = .ok (.iload_n 3, 1) := dk_29 (dk_at dksX6_settlesAll_4 4 rfl rfl)
theorem dX6_settlesAll_100 : decode cX6_settlesAll 100 = .ok (.iload_n 2, 1) := dk_28 (dk_at dksX6_settlesAll_4 5 rfl rfl)
theorem dX6_settlesAll_101 : decode cX6_settlesAll 101 = .ok (.invokevirtual 555, 3) := dk_182 2 43 (dk_at dksX6_settlesAll_4 6 rfl rfl)
theorem dX6_settlesAll_104 : decode cX6_settlesAll 104 = .ok (.ifCond .eq 7, 3) := dk_153 0 7 (dk_at dksX6_settlesAll_4 9 rfl rfl)
theorem dX6_settlesAll_107 : decode cX6_settlesAll 107 = .ok (.iconst 1, 1) := dk_4 (dk_at dksX6_settlesAll_4 12 rfl rfl)
theorem dX6_settlesAll_108 : decode cX6_settlesAll 108 = .ok (.goto 4, 3) := dk_167 0 4 (dk_at dksX6_settlesAll_4 13 rfl rfl)
theorem dX6_settlesAll_111 : decode cX6_settlesAll 111 = .ok (.iconst 0, 1) := dk_3 (dk_at dksX6_settlesAll_4 16 rfl rfl)
theorem dX6_settlesAll_112 : decode cX6_settlesAll 112 = .ok (.iadd, 1) := dk_96 (dk_at dksX6_settlesAll_4 17 rfl rfl)
theorem dX6_settlesAll_113 : decode cX6_settlesAll 113 = .ok (.iastore, 1) := dk_79 (dk_at dksX6_settlesAll_4 18 rfl rfl)
theorem dX6_settlesAll_114 : decode cX6_settlesAll 114 = .ok (.iinc 3 1, 3) := dk_132 3 1 (dk_at dksX6_settlesAll_4 19 rfl rfl)
theorem dX6_settlesAll_117 : decode cX6_settlesAll 117 = .ok (.goto (-41), 3) := dk_167 255 215 (dk_at dksX6_settlesAll_5 0 rfl rfl)
theorem dX6_settlesAll_120 : decode cX6_settlesAll 120 = .ok (.iinc 2 1, 3) := dk_132 2 1 (dk_at dksX6_settlesAll_5 3 rfl rfl)
theorem dX6_settlesAll_123 : decode cX6_settlesAll 123 = .ok (.goto (-68), 3) := dk_167 255 188 (dk_at dksX6_settlesAll_5 6 rfl rfl)
theorem dX6_settlesAll_126 : decode cX6_settlesAll 126 = .ok (.iinc 1 1, 3) := dk_132 1 1 (dk_at dksX6_settlesAll_5 9 rfl rfl)
theorem dX6_settlesAll_129 : decode cX6_settlesAll 129 = .ok (.goto (-105), 3) := dk_167 255 151 (dk_at dksX6_settlesAll_5 12 rfl rfl)
theorem dX6_settlesAll_132 : decode cX6_settlesAll 132 = .ok (.return_, 1) := dk_177 (dk_at dksX6_settlesAll_5 15 rfl rfl)
abbrev cX6_next : ByteArray := prog_29_method_124_code
def yX6_next : MethodName := ⟨RX6, "next", "(I)I"⟩
def dkwX6_next_8 : List UInt8 := [167, 0, 9, 42, 180, 0, 255, 28, 46, 172]
abbrev dktX6_next_8 : List UInt8 := dkwX6_next_8 ++ []
def dkwX6_next_7 : List UInt8 := [27, 154, 0, 11, 28, 17, 1, 0, 108, 167, 0, 22, 27, 4, 160, 0, 11, 28, 17, 1, 0, 112]
abbrev dktX6_next_7 : List UInt8 := dkwX6_next_7 ++ dktX6_next_8
def dkwX6_next_6 : List UInt8 := [167, 0, 4, 28, 61, 132, 4, 1, 167, 255, 140, 132, 3, 1, 167, 255, 125, 28, 2, 160, 0, 5, 2, 172]
abbrev dktX6_next_6 : List UInt8 := dkwX6_next_6 ++ dktX6_next_7
def dkwX6_next_5 : List UInt8 := [17, 1, 0, 112, 46, 162, 0, 7, 4, 167, 0, 4, 3, 54, 6, 21, 6, 153, 0, 8, 21, 5]
abbrev dktX6_next_5 : List UInt8 := dkwX6_next_5 ++ dktX6_next_6
def dkwX6_next_4 : List UInt8 := [21, 5, 46, 42, 180, 0, 255, 28, 46, 160, 0, 27, 42, 180, 0, 183, 21, 4, 46, 42, 180, 0, 183, 28]
abbrev dktX6_next_4 : List UInt8 := dkwX6_next_4 ++ dktX6_next_5
def dkwX6_next_3 : List UInt8 := [167, 0, 60, 42, 180, 0, 255, 21, 5, 46, 42, 180, 0, 255, 28, 46, 163, 0, 39, 42, 180, 0, 255]
abbrev dktX6_next_3 : List UInt8 := dkwX6_next_3 ++ dktX6_next_4
def dkwX6_next_2 : List UInt8 := [54, 5, 28, 2, 160, 0, 21, 42, 180, 0, 255, 21, 5, 46, 158, 0, 7, 4, 167, 0, 64, 3]
abbrev dktX6_next_2 : List UInt8 := dkwX6_next_2 ++ dktX6_next_3
def dkwX6_next_1 : List UInt8 := [162, 0, 131, 3, 54, 4, 21, 4, 42, 182, 1, 223, 162, 0, 113, 17, 1, 0, 29, 104, 21, 4, 96]
abbrev dktX6_next_1 : List UInt8 := dkwX6_next_1 ++ dktX6_next_2
def dkwX6_next_0 : List UInt8 := [27, 3, 5, 184, 1, 87, 154, 0, 5, 2, 172, 42, 182, 2, 114, 2, 61, 3, 62, 29, 16, 48]
abbrev dktX6_next_0 : List UInt8 := dkwX6_next_0 ++ dktX6_next_1
theorem dksX6_next_0 : cX6_next.data.toList.drop 0 = dktX6_next_0 := by decide +kernel
theorem dksX6_next_1 : cX6_next.data.toList.drop 22 = dktX6_next_1 := dk_seg dksX6_next_0 22 rfl rfl
theorem dksX6_next_2 : cX6_next.data.toList.drop 45 = dktX6_next_2 := dk_seg dksX6_next_1 23 rfl rfl
theorem dksX6_next_3 : cX6_next.data.toList.drop 67 = dktX6_next_3 := dk_seg dksX6_next_2 22 rfl rfl
theorem dksX6_next_4 : cX6_next.data.toList.drop 90 = dktX6_next_4 := dk_seg dksX6_next_3 23 rfl rfl
theorem dksX6_next_5 : cX6_next.data.toList.drop 114 = dktX6_next_5 := dk_seg dksX6_next_4 24 rfl rfl
theorem dksX6_next_6 : cX6_next.data.toList.drop 136 = dktX6_next_6 := dk_seg dksX6_next_5 22 rfl rfl
theorem dksX6_next_7 : cX6_next.data.toList.drop 160 = dktX6_next_7 := dk_seg dksX6_next_6 24 rfl rfl
theorem dksX6_next_8 : cX6_next.data.toList.drop 182 = dktX6_next_8 := dk_seg dksX6_next_7 22 rfl rfl
theorem dX6_next_0 : decode cX6_next 0 = .ok (.iload_n 1, 1) := dk_27 (dk_at dksX6_next_0 0 rfl rfl)
theorem dX6_next_1 : decode cX6_next 1 = .ok (.iconst 0, 1) := dk_3 (dk_at dksX6_next_0 1 rfl rfl)
theorem dX6_next_2 : decode cX6_next 2 = .ok (.iconst 2, 1) := dk_5 (dk_at dksX6_next_0 2 rfl rfl)
theorem dX6_next_3 : decode cX6_next 3 = .ok (.invokestatic 343, 3) := dk_184 1 87 (dk_at dksX6_next_0 3 rfl rfl)
theorem dX6_next_6 : decode cX6_next 6 = .ok (.ifCond .ne 5, 3) := dk_154 0 5 (dk_at dksX6_next_0 6 rfl rfl)
theorem dX6_next_9 : decode cX6_next 9 = .ok (.iconst (-1), 1) := dk_2 (dk_at dksX6_next_0 9 rfl rfl)
theorem dX6_next_10 : decode cX6_next 10 = .ok (.ireturn, 1) := dk_172 (dk_at dksX6_next_0 10 rfl rfl)
theorem dX6_next_11 : decode cX6_next 11 = .ok (.aload_n 0, 1) := dk_42 (dk_at dksX6_next_0 11 rfl rfl)
theorem dX6_next_12 : decode cX6_next 12 = .ok (.invokevirtual 626, 3) := dk_182 2 114 (dk_at dksX6_next_0 12 rfl rfl)
theorem dX6_next_15 : decode cX6_next 15 = .ok (.iconst (-1), 1) := dk_2 (dk_at dksX6_next_0 15 rfl rfl)
theorem dX6_next_16 : decode cX6_next 16 = .ok (.istore_n 2, 1) := dk_61 (dk_at dksX6_next_0 16 rfl rfl)
theorem dX6_next_17 : decode cX6_next 17 = .ok (.iconst 0, 1) := dk_3 (dk_at dksX6_next_0 17 rfl rfl)
theorem dX6_next_18 : decode cX6_next 18 = .ok (.istore_n 3, 1) := dk_62 (dk_at dksX6_next_0 18 rfl rfl)
theorem dX6_next_19 : decode cX6_next 19 = .ok (.iload_n 3, 1) := dk_29 (dk_at dksX6_next_0 19 rfl rfl)
theorem dX6_next_20 : decode cX6_next 20 = .ok (.bipush 48, 2) := dk_16 48 (dk_at dksX6_next_0 20 rfl rfl)
theorem dX6_next_22 : decode cX6_next 22 = .ok (.if_icmp .ge 131, 3) := dk_162 0 131 (dk_at dksX6_next_1 0 rfl rfl)
theorem dX6_next_25 : decode cX6_next 25 = .ok (.iconst 0, 1) := dk_3 (dk_at dksX6_next_1 3 rfl rfl)
theorem dX6_next_26 : decode cX6_next 26 = .ok (.istore 4, 2) := dk_54 4 (dk_at dksX6_next_1 4 rfl rfl)
theorem dX6_next_28 : decode cX6_next 28 = .ok (.iload 4, 2) := dk_21 4 (dk_at dksX6_next_1 6 rfl rfl)
theorem dX6_next_30 : decode cX6_next 30 = .ok (.aload_n 0, 1) := dk_42 (dk_at dksX6_next_1 8 rfl rfl)
theorem dX6_next_31 : decode cX6_next 31 = .ok (.invokevirtual 479, 3) := dk_182 1 223 (dk_at dksX6_next_1 9 rfl rfl)
theorem dX6_next_34 : decode cX6_next 34 = .ok (.if_icmp .ge 113, 3) := dk_162 0 113 (dk_at dksX6_next_1 12 rfl rfl)
theorem dX6_next_37 : decode cX6_next 37 = .ok (.sipush 256, 3) := dk_17 1 0 (dk_at dksX6_next_1 15 rfl rfl)
theorem dX6_next_40 : decode cX6_next 40 = .ok (.iload_n 3, 1) := dk_29 (dk_at dksX6_next_1 18 rfl rfl)
theorem dX6_next_41 : decode cX6_next 41 = .ok (.imul, 1) := dk_104 (dk_at dksX6_next_1 19 rfl rfl)
theorem dX6_next_42 : decode cX6_next 42 = .ok (.iload 4, 2) := dk_21 4 (dk_at dksX6_next_1 20 rfl rfl)
theorem dX6_next_44 : decode cX6_next 44 = .ok (.iadd, 1) := dk_96 (dk_at dksX6_next_1 22 rfl rfl)
theorem dX6_next_45 : decode cX6_next 45 = .ok (.istore 5, 2) := dk_54 5 (dk_at dksX6_next_2 0 rfl rfl)
theorem dX6_next_47 : decode cX6_next 47 = .ok (.iload_n 2, 1) := dk_28 (dk_at dksX6_next_2 2 rfl rfl)
theorem dX6_next_48 : decode cX6_next 48 = .ok (.iconst (-1), 1) := dk_2 (dk_at dksX6_next_2 3 rfl rfl)
theorem dX6_next_49 : decode cX6_next 49 = .ok (.if_icmp .ne 21, 3) := dk_160 0 21 (dk_at dksX6_next_2 4 rfl rfl)
theorem dX6_next_52 : decode cX6_next 52 = .ok (.aload_n 0, 1) := dk_42 (dk_at dksX6_next_2 7 rfl rfl)
theorem dX6_next_53 : decode cX6_next 53 = .ok (.getfield 255, 3) := dk_180 0 255 (dk_at dksX6_next_2 8 rfl rfl)
theorem dX6_next_56 : decode cX6_next 56 = .ok (.iload 5, 2) := dk_21 5 (dk_at dksX6_next_2 11 rfl rfl)
theorem dX6_next_58 : decode cX6_next 58 = .ok (.iaload, 1) := dk_46 (dk_at dksX6_next_2 13 rfl rfl)
theorem dX6_next_59 : decode cX6_next 59 = .ok (.ifCond .le 7, 3) := dk_158 0 7 (dk_at dksX6_next_2 14 rfl rfl)
theorem dX6_next_62 : decode cX6_next 62 = .ok (.iconst 1, 1) := dk_4 (dk_at dksX6_next_2 17 rfl rfl)
theorem dX6_next_63 : decode cX6_next 63 = .ok (.goto 64, 3) := dk_167 0 64 (dk_at dksX6_next_2 18 rfl rfl)
theorem dX6_next_66 : decode cX6_next 66 = .ok (.iconst 0, 1) := dk_3 (dk_at dksX6_next_2 21 rfl rfl)
theorem dX6_next_67 : decode cX6_next 67 = .ok (.goto 60, 3) := dk_167 0 60 (dk_at dksX6_next_3 0 rfl rfl)
theorem dX6_next_70 : decode cX6_next 70 = .ok (.aload_n 0, 1) := dk_42 (dk_at dksX6_next_3 3 rfl rfl)
theorem dX6_next_71 : decode cX6_next 71 = .ok (.getfield 255, 3) := dk_180 0 255 (dk_at dksX6_next_3 4 rfl rfl)
theorem dX6_next_74 : decode cX6_next 74 = .ok (.iload 5, 2) := dk_21 5 (dk_at dksX6_next_3 7 rfl rfl)
theorem dX6_next_76 : decode cX6_next 76 = .ok (.iaload, 1) := dk_46 (dk_at dksX6_next_3 9 rfl rfl)
theorem dX6_next_77 : decode cX6_next 77 = .ok (.aload_n 0, 1) := dk_42 (dk_at dksX6_next_3 10 rfl rfl)
theorem dX6_next_78 : decode cX6_next 78 = .ok (.getfield 255, 3) := dk_180 0 255 (dk_at dksX6_next_3 11 rfl rfl)
theorem dX6_next_81 : decode cX6_next 81 = .ok (.iload_n 2, 1) := dk_28 (dk_at dksX6_next_3 14 rfl rfl)
theorem dX6_next_82 : decode cX6_next 82 = .ok (.iaload, 1) := dk_46 (dk_at dksX6_next_3 15 rfl rfl)
theorem dX6_next_83 : decode cX6_next 83 = .ok (.if_icmp .gt 39, 3) := dk_163 0 39 (dk_at dksX6_next_3 16 rfl rfl)
theorem dX6_next_86 : decode cX6_next 86 = .ok (.aload_n 0, 1) := dk_42 (dk_at dksX6_next_3 19 rfl rfl)
theorem dX6_next_87 : decode cX6_next 87 = .ok (.getfield 255, 3) := dk_180 0 255 (dk_at dksX6_next_3 20 rfl rfl)
theorem dX6_next_90 : decode cX6_next 90 = .ok (.iload 5, 2) := dk_21 5 (dk_at dksX6_next_4 0 rfl rfl)
theorem dX6_next_92 : decode cX6_next 92 = .ok (.iaload, 1) := dk_46 (dk_at dksX6_next_4 2 rfl rfl)
theorem dX6_next_93 : decode cX6_next 93 = .ok (.aload_n 0, 1) := dk_42 (dk_at dksX6_next_4 3 rfl rfl)
theorem dX6_next_94 : decode cX6_next 94 = .ok (.getfield 255, 3) := dk_180 0 255 (dk_at dksX6_next_4 4 rfl rfl)
theorem dX6_next_97 : decode cX6_next 97 = .ok (.iload_n 2, 1) := dk_28 (dk_at dksX6_next_4 7 rfl rfl)
theorem dX6_next_98 : decode cX6_next 98 = .ok (.iaload, 1) := dk_46 (dk_at dksX6_next_4 8 rfl rfl)
theorem dX6_next_99 : decode cX6_next 99 = .ok (.if_icmp .ne 27, 3) := dk_160 0 27 (dk_at dksX6_next_4 9 rfl rfl)
theorem dX6_next_102 : decode cX6_next 102 = .ok (.aload_n 0, 1) := dk_42 (dk_at dksX6_next_4 12 rfl rfl)
theorem dX6_next_103 : decode cX6_next 103 = .ok (.getfield 183, 3) := dk_180 0 183 (dk_at dksX6_next_4 13 rfl rfl)
theorem dX6_next_106 : decode cX6_next 106 = .ok (.iload 4, 2) := dk_21 4 (dk_at dksX6_next_4 16 rfl rfl)
theorem dX6_next_108 : decode cX6_next 108 = .ok (.iaload, 1) := dk_46 (dk_at dksX6_next_4 18 rfl rfl)
theorem dX6_next_109 : decode cX6_next 109 = .ok (.aload_n 0, 1) := dk_42 (dk_at dksX6_next_4 19 rfl rfl)
theorem dX6_next_110 : decode cX6_next 110 = .ok (.getfield 183, 3) := dk_180 0 183 (dk_at dksX6_next_4 20 rfl rfl)
theorem dX6_next_113 : decode cX6_next 113 = .ok (.iload_n 2, 1) := dk_28 (dk_at dksX6_next_4 23 rfl rfl)
theorem dX6_next_114 : decode cX6_next 114 = .ok (.sipush 256, 3) := dk_17 1 0 (dk_at dksX6_next_5 0 rfl rfl)
theorem dX6_next_117 : decode cX6_next 117 = .ok (.irem, 1) := dk_112 (dk_at dksX6_next_5 3 rfl rfl)
theorem dX6_next_118 : decode cX6_next 118 = .ok (.iaload, 1) := dk_46 (dk_at dksX6_next_5 4 rfl rfl)
theorem dX6_next_119 : decode cX6_next 119 = .ok (.if_icmp .ge 7, 3) := dk_162 0 7 (dk_at dksX6_next_5 5 rfl rfl)
theorem dX6_next_122 : decode cX6_next 122 = .ok (.iconst 1, 1) := dk_4 (dk_at dksX6_next_5 8 rfl rfl)
theorem dX6_next_123 : decode cX6_next 123 = .ok (.goto 4, 3) := dk_167 0 4 (dk_at dksX6_next_5 9 rfl rfl)
theorem dX6_next_126 : decode cX6_next 126 = .ok (.iconst 0, 1) := dk_3 (dk_at dksX6_next_5 12 rfl rfl)
theorem dX6_next_127 : decode cX6_next 127 = .ok (.istore 6, 2) := dk_54 6 (dk_at dksX6_next_5 13 rfl rfl)
theorem dX6_next_129 : decode cX6_next 129 = .ok (.iload 6, 2) := dk_21 6 (dk_at dksX6_next_5 15 rfl rfl)
theorem dX6_next_131 : decode cX6_next 131 = .ok (.ifCond .eq 8, 3) := dk_153 0 8 (dk_at dksX6_next_5 17 rfl rfl)
theorem dX6_next_134 : decode cX6_next 134 = .ok (.iload 5, 2) := dk_21 5 (dk_at dksX6_next_5 20 rfl rfl)
theorem dX6_next_136 : decode cX6_next 136 = .ok (.goto 4, 3) := dk_167 0 4 (dk_at dksX6_next_6 0 rfl rfl)
theorem dX6_next_139 : decode cX6_next 139 = .ok (.iload_n 2, 1) := dk_28 (dk_at dksX6_next_6 3 rfl rfl)
theorem dX6_next_140 : decode cX6_next 140 = .ok (.istore_n 2, 1) := dk_61 (dk_at dksX6_next_6 4 rfl rfl)
theorem dX6_next_141 : decode cX6_next 141 = .ok (.iinc 4 1, 3) := dk_132 4 1 (dk_at dksX6_next_6 5 rfl rfl)
theorem dX6_next_144 : decode cX6_next 144 = .ok (.goto (-116), 3) := dk_167 255 140 (dk_at dksX6_next_6 8 rfl rfl)
theorem dX6_next_147 : decode cX6_next 147 = .ok (.iinc 3 1, 3) := dk_132 3 1 (dk_at dksX6_next_6 11 rfl rfl)
theorem dX6_next_150 : decode cX6_next 150 = .ok (.goto (-131), 3) := dk_167 255 125 (dk_at dksX6_next_6 14 rfl rfl)
theorem dX6_next_153 : decode cX6_next 153 = .ok (.iload_n 2, 1) := dk_28 (dk_at dksX6_next_6 17 rfl rfl)
theorem dX6_next_154 : decode cX6_next 154 = .ok (.iconst (-1), 1) := dk_2 (dk_at dksX6_next_6 18 rfl rfl)
theorem dX6_next_155 : decode cX6_next 155 = .ok (.if_icmp .ne 5, 3) := dk_160 0 5 (dk_at dksX6_next_6 19 rfl rfl)
theorem dX6_next_158 : decode cX6_next 158 = .ok (.iconst (-1), 1) := dk_2 (dk_at dksX6_next_6 22 rfl rfl)
theorem dX6_next_159 : decode cX6_next 159 = .ok (.ireturn, 1) := dk_172 (dk_at dksX6_next_6 23 rfl rfl)
theorem dX6_next_160 : decode cX6_next 160 = .ok (.iload_n 1, 1) := dk_27 (dk_at dksX6_next_7 0 rfl rfl)
theorem dX6_next_161 : decode cX6_next 161 = .ok (.ifCond .ne 11, 3) := dk_154 0 11 (dk_at dksX6_next_7 1 rfl rfl)
theorem dX6_next_164 : decode cX6_next 164 = .ok (.iload_n 2, 1) := dk_28 (dk_at dksX6_next_7 4 rfl rfl)
theorem dX6_next_165 : decode cX6_next 165 = .ok (.sipush 256, 3) := dk_17 1 0 (dk_at dksX6_next_7 5 rfl rfl)
theorem dX6_next_168 : decode cX6_next 168 = .ok (.idiv, 1) := dk_108 (dk_at dksX6_next_7 8 rfl rfl)
theorem dX6_next_169 : decode cX6_next 169 = .ok (.goto 22, 3) := dk_167 0 22 (dk_at dksX6_next_7 9 rfl rfl)
theorem dX6_next_172 : decode cX6_next 172 = .ok (.iload_n 1, 1) := dk_27 (dk_at dksX6_next_7 12 rfl rfl)
theorem dX6_next_173 : decode cX6_next 173 = .ok (.iconst 1, 1) := dk_4 (dk_at dksX6_next_7 13 rfl rfl)
theorem dX6_next_174 : decode cX6_next 174 = .ok (.if_icmp .ne 11, 3) := dk_160 0 11 (dk_at dksX6_next_7 14 rfl rfl)
theorem dX6_next_177 : decode cX6_next 177 = .ok (.iload_n 2, 1) := dk_28 (dk_at dksX6_next_7 17 rfl rfl)
theorem dX6_next_178 : decode cX6_next 178 = .ok (.sipush 256, 3) := dk_17 1 0 (dk_at dksX6_next_7 18 rfl rfl)
theorem dX6_next_181 : decode cX6_next 181 = .ok (.irem, 1) := dk_112 (dk_at dksX6_next_7 21 rfl rfl)
theorem dX6_next_182 : decode cX6_next 182 = .ok (.goto 9, 3) := dk_167 0 9 (dk_at dksX6_next_8 0 rfl rfl)
theorem dX6_next_185 : decode cX6_next 185 = .ok (.aload_n 0, 1) := dk_42 (dk_at dksX6_next_8 3 rfl rfl)
theorem dX6_next_186 : decode cX6_next 186 = .ok (.getfield 255, 3) := dk_180 0 255 (dk_at dksX6_next_8 4 rfl rfl)
theorem dX6_next_189 : decode cX6_next 189 = .ok (.iload_n 2, 1) := dk_28 (dk_at dksX6_next_8 7 rfl rfl)
theorem dX6_next_190 : decode cX6_next 190 = .ok (.iaload, 1) := dk_46 (dk_at dksX6_next_8 8 rfl rfl)
theorem dX6_next_191 : decode cX6_next 191 = .ok (.ireturn, 1) := dk_172 (dk_at dksX6_next_8 9 rfl rfl)
abbrev cX6_off : ByteArray := prog_29_method_126_code
def yX6_off : MethodName := ⟨RX6, "off", "(I)I"⟩
def dkwX6_off_0 : List UInt8 := [42, 27, 182, 1, 249, 153, 0, 11, 42, 27, 182, 2, 117, 167, 0, 5, 16, 100, 172]
abbrev dktX6_off_0 : List UInt8 := dkwX6_off_0 ++ []
theorem dksX6_off_0 : cX6_off.data.toList.drop 0 = dktX6_off_0 := by decide +kernel
theorem dX6_off_0 : decode cX6_off 0 = .ok (.aload_n 0, 1) := dk_42 (dk_at dksX6_off_0 0 rfl rfl)
theorem dX6_off_1 : decode cX6_off 1 = .ok (.iload_n 1, 1) := dk_27 (dk_at dksX6_off_0 1 rfl rfl)
theorem dX6_off_2 : decode cX6_off 2 = .ok (.invokevirtual 505, 3) := dk_182 1 249 (dk_at dksX6_off_0 2 rfl rfl)
theorem dX6_off_5 : decode cX6_off 5 = .ok (.ifCond .eq 11, 3) := dk_153 0 11 (dk_at dksX6_off_0 5 rfl rfl)
theorem dX6_off_8 : decode cX6_off 8 = .ok (.aload_n 0, 1) := dk_42 (dk_at dksX6_off_0 8 rfl rfl)
theorem dX6_off_9 : decode cX6_off 9 = .ok (.iload_n 1, 1) := dk_27 (dk_at dksX6_off_0 9 rfl rfl)
theorem dX6_off_10 : decode cX6_off 10 = .ok (.invokevirtual 629, 3) := dk_182 2 117 (dk_at dksX6_off_0 10 rfl rfl)
theorem dX6_off_13 : decode cX6_off 13 = .ok (.goto 5, 3) := dk_167 0 5 (dk_at dksX6_off_0 13 rfl rfl)
theorem dX6_off_16 : decode cX6_off 16 = .ok (.bipush 100, 2) := dk_16 100 (dk_at dksX6_off_0 16 rfl rfl)
theorem dX6_off_18 : decode cX6_off 18 = .ok (.ireturn, 1) := dk_172 (dk_at dksX6_off_0 18 rfl rfl)
abbrev cX6_offOf : ByteArray := prog_29_method_125_code
def yX6_offOf : MethodName := ⟨RX6, "offOf", "(I)I"⟩
def dkwX6_offOf_3 : List UInt8 := [132, 2, 1, 167, 255, 183, 16, 100, 172]
abbrev dktX6_offOf_3 : List UInt8 := dkwX6_offOf_3 ++ []
def dkwX6_offOf_2 : List UInt8 := [27, 182, 2, 25, 21, 5, 158, 0, 18, 21, 4, 153, 0, 13, 42, 27, 182, 2, 28, 153, 0, 5, 29, 172]
abbrev dktX6_offOf_2 : List UInt8 := dkwX6_offOf_2 ++ dktX6_offOf_3
def dkwX6_offOf_1 : List UInt8 := [5, 108, 62, 42, 3, 181, 0, 195, 42, 27, 27, 29, 182, 2, 60, 54, 4, 42, 180, 0, 195, 54, 5, 42]
abbrev dktX6_offOf_1 : List UInt8 := dkwX6_offOf_1 ++ dktX6_offOf_2
def dkwX6_offOf_0 : List UInt8 := [3, 61, 28, 16, 12, 163, 0, 73, 28, 5, 112, 154, 0, 9, 28, 5, 108, 167, 0, 9, 28, 4, 96, 116]
abbrev dktX6_offOf_0 : List UInt8 := dkwX6_offOf_0 ++ dktX6_offOf_1
theorem dksX6_offOf_0 : cX6_offOf.data.toList.drop 0 = dktX6_offOf_0 := by decide +kernel
theorem dksX6_offOf_1 : cX6_offOf.data.toList.drop 24 = dktX6_offOf_1 := dk_seg dksX6_offOf_0 24 rfl rfl
theorem dksX6_offOf_2 : cX6_offOf.data.toList.drop 48 = dktX6_offOf_2 := dk_seg dksX6_offOf_1 24 rfl rfl
theorem dksX6_offOf_3 : cX6_offOf.data.toList.drop 72 = dktX6_offOf_3 := dk_seg dksX6_offOf_2 24 rfl rfl
theorem dX6_offOf_0 : decode cX6_offOf 0 = .ok (.iconst 0, 1) := dk_3 (dk_at dksX6_offOf_0 0 rfl rfl)
theorem dX6_offOf_1 : decode cX6_offOf 1 = .ok (.istore_n 2, 1) := dk_61 (dk_at dksX6_offOf_0 1 rfl rfl)
theorem dX6_offOf_2 : decode cX6_offOf 2 = .ok (.iload_n 2, 1) := dk_28 (dk_at dksX6_offOf_0 2 rfl rfl)
theorem dX6_offOf_3 : decode cX6_offOf 3 = .ok (.bipush 12, 2) := dk_16 12 (dk_at dksX6_offOf_0 3 rfl rfl)
theorem dX6_offOf_5 : decode cX6_offOf 5 = .ok (.if_icmp .gt 73, 3) := dk_163 0 73 (dk_at dksX6_offOf_0 5 rfl rfl)
theorem dX6_offOf_8 : decode cX6_offOf 8 = .ok (.iload_n 2, 1) := dk_28 (dk_at dksX6_offOf_0 8 rfl rfl)
theorem dX6_offOf_9 : decode cX6_offOf 9 = .ok (.iconst 2, 1) := dk_5 (dk_at dksX6_offOf_0 9 rfl rfl)
theorem dX6_offOf_10 : decode cX6_offOf 10 = .ok (.irem, 1) := dk_112 (dk_at dksX6_offOf_0 10 rfl rfl)
theorem dX6_offOf_11 : decode cX6_offOf 11 = .ok (.ifCond .ne 9, 3) := dk_154 0 9 (dk_at dksX6_offOf_0 11 rfl rfl)
theorem dX6_offOf_14 : decode cX6_offOf 14 = .ok (.iload_n 2, 1) := dk_28 (dk_at dksX6_offOf_0 14 rfl rfl)
theorem dX6_offOf_15 : decode cX6_offOf 15 = .ok (.iconst 2, 1) := dk_5 (dk_at dksX6_offOf_0 15 rfl rfl)
theorem dX6_offOf_16 : decode cX6_offOf 16 = .ok (.idiv, 1) := dk_108 (dk_at dksX6_offOf_0 16 rfl rfl)
theorem dX6_offOf_17 : decode cX6_offOf 17 = .ok (.goto 9, 3) := dk_167 0 9 (dk_at dksX6_offOf_0 17 rfl rfl)
theorem dX6_offOf_20 : decode cX6_offOf 20 = .ok (.iload_n 2, 1) := dk_28 (dk_at dksX6_offOf_0 20 rfl rfl)
theorem dX6_offOf_21 : decode cX6_offOf 21 = .ok (.iconst 1, 1) := dk_4 (dk_at dksX6_offOf_0 21 rfl rfl)
theorem dX6_offOf_22 : decode cX6_offOf 22 = .ok (.iadd, 1) := dk_96 (dk_at dksX6_offOf_0 22 rfl rfl)
theorem dX6_offOf_23 : decode cX6_offOf 23 = .ok (.ineg, 1) := dk_116 (dk_at dksX6_offOf_0 23 rfl rfl)
theorem dX6_offOf_24 : decode cX6_offOf 24 = .ok (.iconst 2, 1) := dk_5 (dk_at dksX6_offOf_1 0 rfl rfl)
theorem dX6_offOf_25 : decode cX6_offOf 25 = .ok (.idiv, 1) := dk_108 (dk_at dksX6_offOf_1 1 rfl rfl)
theorem dX6_offOf_26 : decode cX6_offOf 26 = .ok (.istore_n 3, 1) := dk_62 (dk_at dksX6_offOf_1 2 rfl rfl)
theorem dX6_offOf_27 : decode cX6_offOf 27 = .ok (.aload_n 0, 1) := dk_42 (dk_at dksX6_offOf_1 3 rfl rfl)
theorem dX6_offOf_28 : decode cX6_offOf 28 = .ok (.iconst 0, 1) := dk_3 (dk_at dksX6_offOf_1 4 rfl rfl)
theorem dX6_offOf_29 : decode cX6_offOf 29 = .ok (.putfield 195, 3) := dk_181 0 195 (dk_at dksX6_offOf_1 5 rfl rfl)
theorem dX6_offOf_32 : decode cX6_offOf 32 = .ok (.aload_n 0, 1) := dk_42 (dk_at dksX6_offOf_1 8 rfl rfl)
theorem dX6_offOf_33 : decode cX6_offOf 33 = .ok (.iload_n 1, 1) := dk_27 (dk_at dksX6_offOf_1 9 rfl rfl)
theorem dX6_offOf_34 : decode cX6_offOf 34 = .ok (.iload_n 1, 1) := dk_27 (dk_at dksX6_offOf_1 10 rfl rfl)
theorem dX6_offOf_35 : decode cX6_offOf 35 = .ok (.iload_n 3, 1) := dk_29 (dk_at dksX6_offOf_1 11 rfl rfl)
theorem dX6_offOf_36 : decode cX6_offOf 36 = .ok (.invokevirtual 572, 3) := dk_182 2 60 (dk_at dksX6_offOf_1 12 rfl rfl)
theorem dX6_offOf_39 : decode cX6_offOf 39 = .ok (.istore 4, 2) := dk_54 4 (dk_at dksX6_offOf_1 15 rfl rfl)
theorem dX6_offOf_41 : decode cX6_offOf 41 = .ok (.aload_n 0, 1) := dk_42 (dk_at dksX6_offOf_1 17 rfl rfl)
theorem dX6_offOf_42 : decode cX6_offOf 42 = .ok (.getfield 195, 3) := dk_180 0 195 (dk_at dksX6_offOf_1 18 rfl rfl)
theorem dX6_offOf_45 : decode cX6_offOf 45 = .ok (.istore 5, 2) := dk_54 5 (dk_at dksX6_offOf_1 21 rfl rfl)
theorem dX6_offOf_47 : decode cX6_offOf 47 = .ok (.aload_n 0, 1) := dk_42 (dk_at dksX6_offOf_1 23 rfl rfl)
theorem dX6_offOf_48 : decode cX6_offOf 48 = .ok (.iload_n 1, 1) := dk_27 (dk_at dksX6_offOf_2 0 rfl rfl)
theorem dX6_offOf_49 : decode cX6_offOf 49 = .ok (.invokevirtual 537, 3) := dk_182 2 25 (dk_at dksX6_offOf_2 1 rfl rfl)
theorem dX6_offOf_52 : decode cX6_offOf 52 = .ok (.iload 5, 2) := dk_21 5 (dk_at dksX6_offOf_2 4 rfl rfl)
theorem dX6_offOf_54 : decode cX6_offOf 54 = .ok (.ifCond .le 18, 3) := dk_158 0 18 (dk_at dksX6_offOf_2 6 rfl rfl)
theorem dX6_offOf_57 : decode cX6_offOf 57 = .ok (.iload 4, 2) := dk_21 4 (dk_at dksX6_offOf_2 9 rfl rfl)
theorem dX6_offOf_59 : decode cX6_offOf 59 = .ok (.ifCond .eq 13, 3) := dk_153 0 13 (dk_at dksX6_offOf_2 11 rfl rfl)
theorem dX6_offOf_62 : decode cX6_offOf 62 = .ok (.aload_n 0, 1) := dk_42 (dk_at dksX6_offOf_2 14 rfl rfl)
theorem dX6_offOf_63 : decode cX6_offOf 63 = .ok (.iload_n 1, 1) := dk_27 (dk_at dksX6_offOf_2 15 rfl rfl)
theorem dX6_offOf_64 : decode cX6_offOf 64 = .ok (.invokevirtual 540, 3) := dk_182 2 28 (dk_at dksX6_offOf_2 16 rfl rfl)
theorem dX6_offOf_67 : decode cX6_offOf 67 = .ok (.ifCond .eq 5, 3) := dk_153 0 5 (dk_at dksX6_offOf_2 19 rfl rfl)
theorem dX6_offOf_70 : decode cX6_offOf 70 = .ok (.iload_n 3, 1) := dk_29 (dk_at dksX6_offOf_2 22 rfl rfl)
theorem dX6_offOf_71 : decode cX6_offOf 71 = .ok (.ireturn, 1) := dk_172 (dk_at dksX6_offOf_2 23 rfl rfl)
theorem dX6_offOf_72 : decode cX6_offOf 72 = .ok (.iinc 2 1, 3) := dk_132 2 1 (dk_at dksX6_offOf_3 0 rfl rfl)
theorem dX6_offOf_75 : decode cX6_offOf 75 = .ok (.goto (-73), 3) := dk_167 255 183 (dk_at dksX6_offOf_3 3 rfl rfl)
theorem dX6_offOf_78 : decode cX6_offOf 78 = .ok (.bipush 100, 2) := dk_16 100 (dk_at dksX6_offOf_3 6 rfl rfl)
theorem dX6_offOf_80 : decode cX6_offOf 80 = .ok (.ireturn, 1) := dk_172 (dk_at dksX6_offOf_3 8 rfl rfl)
abbrev cX6_whose : ByteArray := prog_29_method_127_code
def yX6_whose : MethodName := ⟨RX6, "whose", "()I"⟩
def dkwX6_whose_2 : List UInt8 := [153, 0, 9, 4, 28, 120, 167, 0, 4, 3, 128, 60, 132, 2, 1, 167, 255, 201, 27, 172]
abbrev dktX6_whose_2 : List UInt8 := dkwX6_whose_2 ++ []
def dkwX6_whose_1 : List UInt8 := [158, 0, 11, 42, 28, 182, 2, 117, 167, 0, 5, 16, 100, 62, 27, 29, 16, 100, 159, 0, 13, 29]
abbrev dktX6_whose_1 : List UInt8 := dkwX6_whose_1 ++ dktX6_whose_2
def dkwX6_whose_0 : List UInt8 := [3, 60, 3, 61, 28, 42, 180, 0, 69, 42, 180, 0, 48, 46, 162, 0, 48, 42, 28, 182, 2, 93]
abbrev dktX6_whose_0 : List UInt8 := dkwX6_whose_0 ++ dktX6_whose_1
theorem dksX6_whose_0 : cX6_whose.data.toList.drop 0 = dktX6_whose_0 := by decide +kernel
theorem dksX6_whose_1 : cX6_whose.data.toList.drop 22 = dktX6_whose_1 := dk_seg dksX6_whose_0 22 rfl rfl
theorem dksX6_whose_2 : cX6_whose.data.toList.drop 44 = dktX6_whose_2 := dk_seg dksX6_whose_1 22 rfl rfl
theorem dX6_whose_0 : decode cX6_whose 0 = .ok (.iconst 0, 1) := dk_3 (dk_at dksX6_whose_0 0 rfl rfl)
theorem dX6_whose_1 : decode cX6_whose 1 = .ok (.istore_n 1, 1) := dk_60 (dk_at dksX6_whose_0 1 rfl rfl)
theorem dX6_whose_2 : decode cX6_whose 2 = .ok (.iconst 0, 1) := dk_3 (dk_at dksX6_whose_0 2 rfl rfl)
theorem dX6_whose_3 : decode cX6_whose 3 = .ok (.istore_n 2, 1) := dk_61 (dk_at dksX6_whose_0 3 rfl rfl)
theorem dX6_whose_4 : decode cX6_whose 4 = .ok (.iload_n 2, 1) := dk_28 (dk_at dksX6_whose_0 4 rfl rfl)
theorem dX6_whose_5 : decode cX6_whose 5 = .ok (.aload_n 0, 1) := dk_42 (dk_at dksX6_whose_0 5 rfl rfl)
theorem dX6_whose_6 : decode cX6_whose 6 = .ok (.getfield 69, 3) := dk_180 0 69 (dk_at dksX6_whose_0 6 rfl rfl)
theorem dX6_whose_9 : decode cX6_whose 9 = .ok (.aload_n 0, 1) := dk_42 (dk_at dksX6_whose_0 9 rfl rfl)
theorem dX6_whose_10 : decode cX6_whose 10 = .ok (.getfield 48, 3) := dk_180 0 48 (dk_at dksX6_whose_0 10 rfl rfl)
theorem dX6_whose_13 : decode cX6_whose 13 = .ok (.iaload, 1) := dk_46 (dk_at dksX6_whose_0 13 rfl rfl)
theorem dX6_whose_14 : decode cX6_whose 14 = .ok (.if_icmp .ge 48, 3) := dk_162 0 48 (dk_at dksX6_whose_0 14 rfl rfl)
theorem dX6_whose_17 : decode cX6_whose 17 = .ok (.aload_n 0, 1) := dk_42 (dk_at dksX6_whose_0 17 rfl rfl)
theorem dX6_whose_18 : decode cX6_whose 18 = .ok (.iload_n 2, 1) := dk_28 (dk_at dksX6_whose_0 18 rfl rfl)
theorem dX6_whose_19 : decode cX6_whose 19 = .ok (.invokevirtual 605, 3) := dk_182 2 93 (dk_at dksX6_whose_0 19 rfl rfl)
theorem dX6_whose_22 : decode cX6_whose 22 = .ok (.ifCond .le 11, 3) := dk_158 0 11 (dk_at dksX6_whose_1 0 rfl rfl)
theorem dX6_whose_25 : decode cX6_whose 25 = .ok (.aload_n 0, 1) := dk_42 (dk_at dksX6_whose_1 3 rfl rfl)
theorem dX6_whose_26 : decode cX6_whose 26 = .ok (.iload_n 2, 1) := dk_28 (dk_at dksX6_whose_1 4 rfl rfl)
theorem dX6_whose_27 : decode cX6_whose 27 = .ok (.invokevirtual 629, 3) := dk_182 2 117 (dk_at dksX6_whose_1 5 rfl rfl)
theorem dX6_whose_30 : decode cX6_whose 30 = .ok (.goto 5, 3) := dk_167 0 5 (dk_at dksX6_whose_1 8 rfl rfl)
theorem dX6_whose_33 : decode cX6_whose 33 = .ok (.bipush 100, 2) := dk_16 100 (dk_at dksX6_whose_1 11 rfl rfl)
theorem dX6_whose_35 : decode cX6_whose 35 = .ok (.istore_n 3, 1) := dk_62 (dk_at dksX6_whose_1 13 rfl rfl)
theorem dX6_whose_36 : decode cX6_whose 36 = .ok (.iload_n 1, 1) := dk_27 (dk_at dksX6_whose_1 14 rfl rfl)
theorem dX6_whose_37 : decode cX6_whose 37 = .ok (.iload_n 3, 1) := dk_29 (dk_at dksX6_whose_1 15 rfl rfl)
theorem dX6_whose_38 : decode cX6_whose 38 = .ok (.bipush 100, 2) := dk_16 100 (dk_at dksX6_whose_1 16 rfl rfl)
theorem dX6_whose_40 : decode cX6_whose 40 = .ok (.if_icmp .eq 13, 3) := dk_159 0 13 (dk_at dksX6_whose_1 18 rfl rfl)
theorem dX6_whose_43 : decode cX6_whose 43 = .ok (.iload_n 3, 1) := dk_29 (dk_at dksX6_whose_1 21 rfl rfl)
theorem dX6_whose_44 : decode cX6_whose 44 = .ok (.ifCond .eq 9, 3) := dk_153 0 9 (dk_at dksX6_whose_2 0 rfl rfl)
theorem dX6_whose_47 : decode cX6_whose 47 = .ok (.iconst 1, 1) := dk_4 (dk_at dksX6_whose_2 3 rfl rfl)
theorem dX6_whose_48 : decode cX6_whose 48 = .ok (.iload_n 2, 1) := dk_28 (dk_at dksX6_whose_2 4 rfl rfl)
theorem dX6_whose_49 : decode cX6_whose 49 = .ok (.ishl, 1) := dk_120 (dk_at dksX6_whose_2 5 rfl rfl)
theorem dX6_whose_50 : decode cX6_whose 50 = .ok (.goto 4, 3) := dk_167 0 4 (dk_at dksX6_whose_2 6 rfl rfl)
theorem dX6_whose_53 : decode cX6_whose 53 = .ok (.iconst 0, 1) := dk_3 (dk_at dksX6_whose_2 9 rfl rfl)
theorem dX6_whose_54 : decode cX6_whose 54 = .ok (.ior, 1) := dk_128 (dk_at dksX6_whose_2 10 rfl rfl)
theorem dX6_whose_55 : decode cX6_whose 55 = .ok (.istore_n 1, 1) := dk_60 (dk_at dksX6_whose_2 11 rfl rfl)
theorem dX6_whose_56 : decode cX6_whose 56 = .ok (.iinc 2 1, 3) := dk_132 2 1 (dk_at dksX6_whose_2 12 rfl rfl)
theorem dX6_whose_59 : decode cX6_whose 59 = .ok (.goto (-55), 3) := dk_167 255 201 (dk_at dksX6_whose_2 15 rfl rfl)
theorem dX6_whose_62 : decode cX6_whose 62 = .ok (.iload_n 1, 1) := dk_27 (dk_at dksX6_whose_2 18 rfl rfl)
theorem dX6_whose_63 : decode cX6_whose 63 = .ok (.ireturn, 1) := dk_172 (dk_at dksX6_whose_2 19 rfl rfl)
abbrev cX6_add_2 : ByteArray := prog_29_method_129_code
def yX6_add_2 : MethodName := ⟨RX6, "add", "(IIIIZ)I"⟩
def dkwX6_add_2_3 : List UInt8 := [42, 27, 28, 182, 2, 123, 172]
abbrev dktX6_add_2_3 : List UInt8 := dkwX6_add_2_3 ++ []
def dkwX6_add_2_2 : List UInt8 := [160, 0, 9, 42, 5, 182, 1, 8, 172, 42, 27, 28, 42, 29, 21, 4, 182, 1, 237, 21, 5, 182, 2, 120]
abbrev dktX6_add_2_2 : List UInt8 := dkwX6_add_2_2 ++ dktX6_add_2_3
def dkwX6_add_2_1 : List UInt8 := [153, 0, 27, 42, 27, 28, 182, 1, 243, 2, 160, 0, 17, 42, 180, 0, 88, 42, 180, 0, 48, 46, 16, 96]
abbrev dktX6_add_2_1 : List UInt8 := dkwX6_add_2_1 ++ dktX6_add_2_2
def dkwX6_add_2_0 : List UInt8 := [42, 27, 182, 1, 249, 153, 0, 44, 28, 184, 1, 234, 153, 0, 37, 42, 29, 21, 4, 182, 1, 230]
abbrev dktX6_add_2_0 : List UInt8 := dkwX6_add_2_0 ++ dktX6_add_2_1
theorem dksX6_add_2_0 : cX6_add_2.data.toList.drop 0 = dktX6_add_2_0 := by decide +kernel
theorem dksX6_add_2_1 : cX6_add_2.data.toList.drop 22 = dktX6_add_2_1 := dk_seg dksX6_add_2_0 22 rfl rfl
theorem dksX6_add_2_2 : cX6_add_2.data.toList.drop 46 = dktX6_add_2_2 := dk_seg dksX6_add_2_1 24 rfl rfl
theorem dksX6_add_2_3 : cX6_add_2.data.toList.drop 70 = dktX6_add_2_3 := dk_seg dksX6_add_2_2 24 rfl rfl
theorem dX6_add_2_0 : decode cX6_add_2 0 = .ok (.aload_n 0, 1) := dk_42 (dk_at dksX6_add_2_0 0 rfl rfl)
theorem dX6_add_2_1 : decode cX6_add_2 1 = .ok (.iload_n 1, 1) := dk_27 (dk_at dksX6_add_2_0 1 rfl rfl)
theorem dX6_add_2_2 : decode cX6_add_2 2 = .ok (.invokevirtual 505, 3) := dk_182 1 249 (dk_at dksX6_add_2_0 2 rfl rfl)
theorem dX6_add_2_5 : decode cX6_add_2 5 = .ok (.ifCond .eq 44, 3) := dk_153 0 44 (dk_at dksX6_add_2_0 5 rfl rfl)
theorem dX6_add_2_8 : decode cX6_add_2 8 = .ok (.iload_n 2, 1) := dk_28 (dk_at dksX6_add_2_0 8 rfl rfl)
theorem dX6_add_2_9 : decode cX6_add_2 9 = .ok (.invokestatic 490, 3) := dk_184 1 234 (dk_at dksX6_add_2_0 9 rfl rfl)
theorem dX6_add_2_12 : decode cX6_add_2 12 = .ok (.ifCond .eq 37, 3) := dk_153 0 37 (dk_at dksX6_add_2_0 12 rfl rfl)
theorem dX6_add_2_15 : decode cX6_add_2 15 = .ok (.aload_n 0, 1) := dk_42 (dk_at dksX6_add_2_0 15 rfl rfl)
theorem dX6_add_2_16 : decode cX6_add_2 16 = .ok (.iload_n 3, 1) := dk_29 (dk_at dksX6_add_2_0 16 rfl rfl)
theorem dX6_add_2_17 : decode cX6_add_2 17 = .ok (.iload 4, 2) := dk_21 4 (dk_at dksX6_add_2_0 17 rfl rfl)
theorem dX6_add_2_19 : decode cX6_add_2 19 = .ok (.invokevirtual 486, 3) := dk_182 1 230 (dk_at dksX6_add_2_0 19 rfl rfl)
theorem dX6_add_2_22 : decode cX6_add_2 22 = .ok (.ifCond .eq 27, 3) := dk_153 0 27 (dk_at dksX6_add_2_1 0 rfl rfl)
theorem dX6_add_2_25 : decode cX6_add_2 25 = .ok (.aload_n 0, 1) := dk_42 (dk_at dksX6_add_2_1 3 rfl rfl)
theorem dX6_add_2_26 : decode cX6_add_2 26 = .ok (.iload_n 1, 1) := dk_27 (dk_at dksX6_add_2_1 4 rfl rfl)
theorem dX6_add_2_27 : decode cX6_add_2 27 = .ok (.iload_n 2, 1) := dk_28 (dk_at dksX6_add_2_1 5 rfl rfl)
theorem dX6_add_2_28 : decode cX6_add_2 28 = .ok (.invokevirtual 499, 3) := dk_182 1 243 (dk_at dksX6_add_2_1 6 rfl rfl)
theorem dX6_add_2_31 : decode cX6_add_2 31 = .ok (.iconst (-1), 1) := dk_2 (dk_at dksX6_add_2_1 9 rfl rfl)
theorem dX6_add_2_32 : decode cX6_add_2 32 = .ok (.if_icmp .ne 17, 3) := dk_160 0 17 (dk_at dksX6_add_2_1 10 rfl rfl)
theorem dX6_add_2_35 : decode cX6_add_2 35 = .ok (.aload_n 0, 1) := dk_42 (dk_at dksX6_add_2_1 13 rfl rfl)
theorem dX6_add_2_36 : decode cX6_add_2 36 = .ok (.getfield 88, 3) := dk_180 0 88 (dk_at dksX6_add_2_1 14 rfl rfl)
theorem dX6_add_2_39 : decode cX6_add_2 39 = .ok (.aload_n 0, 1) := dk_42 (dk_at dksX6_add_2_1 17 rfl rfl)
theorem dX6_add_2_40 : decode cX6_add_2 40 = .ok (.getfield 48, 3) := dk_180 0 48 (dk_at dksX6_add_2_1 18 rfl rfl)
theorem dX6_add_2_43 : decode cX6_add_2 43 = .ok (.iaload, 1) := dk_46 (dk_at dksX6_add_2_1 21 rfl rfl)
theorem dX6_add_2_44 : decode cX6_add_2 44 = .ok (.bipush 96, 2) := dk_16 96 (dk_at dksX6_add_2_1 22 rfl rfl)
theorem dX6_add_2_46 : decode cX6_add_2 46 = .ok (.if_icmp .ne 9, 3) := dk_160 0 9 (dk_at dksX6_add_2_2 0 rfl rfl)
theorem dX6_add_2_49 : decode cX6_add_2 49 = .ok (.aload_n 0, 1) := dk_42 (dk_at dksX6_add_2_2 3 rfl rfl)
theorem dX6_add_2_50 : decode cX6_add_2 50 = .ok (.iconst 2, 1) := dk_5 (dk_at dksX6_add_2_2 4 rfl rfl)
theorem dX6_add_2_51 : decode cX6_add_2 51 = .ok (.invokevirtual 264, 3) := dk_182 1 8 (dk_at dksX6_add_2_2 5 rfl rfl)
theorem dX6_add_2_54 : decode cX6_add_2 54 = .ok (.ireturn, 1) := dk_172 (dk_at dksX6_add_2_2 8 rfl rfl)
theorem dX6_add_2_55 : decode cX6_add_2 55 = .ok (.aload_n 0, 1) := dk_42 (dk_at dksX6_add_2_2 9 rfl rfl)
theorem dX6_add_2_56 : decode cX6_add_2 56 = .ok (.iload_n 1, 1) := dk_27 (dk_at dksX6_add_2_2 10 rfl rfl)
theorem dX6_add_2_57 : decode cX6_add_2 57 = .ok (.iload_n 2, 1) := dk_28 (dk_at dksX6_add_2_2 11 rfl rfl)
theorem dX6_add_2_58 : decode cX6_add_2 58 = .ok (.aload_n 0, 1) := dk_42 (dk_at dksX6_add_2_2 12 rfl rfl)
theorem dX6_add_2_59 : decode cX6_add_2 59 = .ok (.iload_n 3, 1) := dk_29 (dk_at dksX6_add_2_2 13 rfl rfl)
theorem dX6_add_2_60 : decode cX6_add_2 60 = .ok (.iload 4, 2) := dk_21 4 (dk_at dksX6_add_2_2 14 rfl rfl)
theorem dX6_add_2_62 : decode cX6_add_2 62 = .ok (.invokevirtual 493, 3) := dk_182 1 237 (dk_at dksX6_add_2_2 16 rfl rfl)
theorem dX6_add_2_65 : decode cX6_add_2 65 = .ok (.iload 5, 2) := dk_21 5 (dk_at dksX6_add_2_2 19 rfl rfl)
theorem dX6_add_2_67 : decode cX6_add_2 67 = .ok (.invokevirtual 632, 3) := dk_182 2 120 (dk_at dksX6_add_2_2 21 rfl rfl)
theorem dX6_add_2_70 : decode cX6_add_2 70 = .ok (.aload_n 0, 1) := dk_42 (dk_at dksX6_add_2_3 0 rfl rfl)
theorem dX6_add_2_71 : decode cX6_add_2 71 = .ok (.iload_n 1, 1) := dk_27 (dk_at dksX6_add_2_3 1 rfl rfl)
theorem dX6_add_2_72 : decode cX6_add_2 72 = .ok (.iload_n 2, 1) := dk_28 (dk_at dksX6_add_2_3 2 rfl rfl)
theorem dX6_add_2_73 : decode cX6_add_2 73 = .ok (.invokevirtual 635, 3) := dk_182 2 123 (dk_at dksX6_add_2_3 3 rfl rfl)
theorem dX6_add_2_76 : decode cX6_add_2 76 = .ok (.ireturn, 1) := dk_172 (dk_at dksX6_add_2_3 6 rfl rfl)
abbrev cX6_says_2 : ByteArray := prog_29_method_128_code
def yX6_says_2 : MethodName := ⟨RX6, "says", "(IIIZ)V"⟩
def dkwX6_says_2_2 : List UInt8 := [180, 0, 88, 42, 180, 0, 48, 92, 46, 4, 96, 79, 177]
abbrev dktX6_says_2_2 : List UInt8 := dkwX6_says_2_2 ++ []
def dkwX6_says_2_1 : List UInt8 := [180, 0, 94, 17, 1, 128, 42, 180, 0, 48, 104, 16, 48, 27, 104, 96, 28, 96, 21, 4, 84, 42]
abbrev dktX6_says_2_1 : List UInt8 := dkwX6_says_2_1 ++ dktX6_says_2_2
def dkwX6_says_2_0 : List UInt8 := [42, 180, 0, 91, 17, 1, 128, 42, 180, 0, 48, 104, 16, 48, 27, 104, 96, 28, 96, 29, 79, 42]
abbrev dktX6_says_2_0 : List UInt8 := dkwX6_says_2_0 ++ dktX6_says_2_1
theorem dksX6_says_2_0 : cX6_says_2.data.toList.drop 0 = dktX6_says_2_0 := by decide +kernel
theorem dksX6_says_2_1 : cX6_says_2.data.toList.drop 22 = dktX6_says_2_1 := dk_seg dksX6_says_2_0 22 rfl rfl
theorem dksX6_says_2_2 : cX6_says_2.data.toList.drop 44 = dktX6_says_2_2 := dk_seg dksX6_says_2_1 22 rfl rfl
theorem dX6_says_2_0 : decode cX6_says_2 0 = .ok (.aload_n 0, 1) := dk_42 (dk_at dksX6_says_2_0 0 rfl rfl)
theorem dX6_says_2_1 : decode cX6_says_2 1 = .ok (.getfield 91, 3) := dk_180 0 91 (dk_at dksX6_says_2_0 1 rfl rfl)
theorem dX6_says_2_4 : decode cX6_says_2 4 = .ok (.sipush 384, 3) := dk_17 1 128 (dk_at dksX6_says_2_0 4 rfl rfl)
theorem dX6_says_2_7 : decode cX6_says_2 7 = .ok (.aload_n 0, 1) := dk_42 (dk_at dksX6_says_2_0 7 rfl rfl)
theorem dX6_says_2_8 : decode cX6_says_2 8 = .ok (.getfield 48, 3) := dk_180 0 48 (dk_at dksX6_says_2_0 8 rfl rfl)
theorem dX6_says_2_11 : decode cX6_says_2 11 = .ok (.imul, 1) := dk_104 (dk_at dksX6_says_2_0 11 rfl rfl)
theorem dX6_says_2_12 : decode cX6_says_2 12 = .ok (.bipush 48, 2) := dk_16 48 (dk_at dksX6_says_2_0 12 rfl rfl)
theorem dX6_says_2_14 : decode cX6_says_2 14 = .ok (.iload_n 1, 1) := dk_27 (dk_at dksX6_says_2_0 14 rfl rfl)
theorem dX6_says_2_15 : decode cX6_says_2 15 = .ok (.imul, 1) := dk_104 (dk_at dksX6_says_2_0 15 rfl rfl)
theorem dX6_says_2_16 : decode cX6_says_2 16 = .ok (.iadd, 1) := dk_96 (dk_at dksX6_says_2_0 16 rfl rfl)
theorem dX6_says_2_17 : decode cX6_says_2 17 = .ok (.iload_n 2, 1) := dk_28 (dk_at dksX6_says_2_0 17 rfl rfl)
theorem dX6_says_2_18 : decode cX6_says_2 18 = .ok (.iadd, 1) := dk_96 (dk_at dksX6_says_2_0 18 rfl rfl)
theorem dX6_says_2_19 : decode cX6_says_2 19 = .ok (.iload_n 3, 1) := dk_29 (dk_at dksX6_says_2_0 19 rfl rfl)
theorem dX6_says_2_20 : decode cX6_says_2 20 = .ok (.iastore, 1) := dk_79 (dk_at dksX6_says_2_0 20 rfl rfl)
theorem dX6_says_2_21 : decode cX6_says_2 21 = .ok (.aload_n 0, 1) := dk_42 (dk_at dksX6_says_2_0 21 rfl rfl)
theorem dX6_says_2_22 : decode cX6_says_2 22 = .ok (.getfield 94, 3) := dk_180 0 94 (dk_at dksX6_says_2_1 0 rfl rfl)
theorem dX6_says_2_25 : decode cX6_says_2 25 = .ok (.sipush 384, 3) := dk_17 1 128 (dk_at dksX6_says_2_1 3 rfl rfl)
theorem dX6_says_2_28 : decode cX6_says_2 28 = .ok (.aload_n 0, 1) := dk_42 (dk_at dksX6_says_2_1 6 rfl rfl)
theorem dX6_says_2_29 : decode cX6_says_2 29 = .ok (.getfield 48, 3) := dk_180 0 48 (dk_at dksX6_says_2_1 7 rfl rfl)
theorem dX6_says_2_32 : decode cX6_says_2 32 = .ok (.imul, 1) := dk_104 (dk_at dksX6_says_2_1 10 rfl rfl)
theorem dX6_says_2_33 : decode cX6_says_2 33 = .ok (.bipush 48, 2) := dk_16 48 (dk_at dksX6_says_2_1 11 rfl rfl)
theorem dX6_says_2_35 : decode cX6_says_2 35 = .ok (.iload_n 1, 1) := dk_27 (dk_at dksX6_says_2_1 13 rfl rfl)
theorem dX6_says_2_36 : decode cX6_says_2 36 = .ok (.imul, 1) := dk_104 (dk_at dksX6_says_2_1 14 rfl rfl)
theorem dX6_says_2_37 : decode cX6_says_2 37 = .ok (.iadd, 1) := dk_96 (dk_at dksX6_says_2_1 15 rfl rfl)
theorem dX6_says_2_38 : decode cX6_says_2 38 = .ok (.iload_n 2, 1) := dk_28 (dk_at dksX6_says_2_1 16 rfl rfl)
theorem dX6_says_2_39 : decode cX6_says_2 39 = .ok (.iadd, 1) := dk_96 (dk_at dksX6_says_2_1 17 rfl rfl)
theorem dX6_says_2_40 : decode cX6_says_2 40 = .ok (.iload 4, 2) := dk_21 4 (dk_at dksX6_says_2_1 18 rfl rfl)
theorem dX6_says_2_42 : decode cX6_says_2 42 = .ok (.bastore, 1) := dk_84 (dk_at dksX6_says_2_1 20 rfl rfl)
theorem dX6_says_2_43 : decode cX6_says_2 43 = .ok (.aload_n 0, 1) := dk_42 (dk_at dksX6_says_2_1 21 rfl rfl)
theorem dX6_says_2_44 : decode cX6_says_2 44 = .ok (.getfield 88, 3) := dk_180 0 88 (dk_at dksX6_says_2_2 0 rfl rfl)
theorem dX6_says_2_47 : decode cX6_says_2 47 = .ok (.aload_n 0, 1) := dk_42 (dk_at dksX6_says_2_2 3 rfl rfl)
theorem dX6_says_2_48 : decode cX6_says_2 48 = .ok (.getfield 48, 3) := dk_180 0 48 (dk_at dksX6_says_2_2 4 rfl rfl)
theorem dX6_says_2_51 : decode cX6_says_2 51 = .ok (.dup2, 1) := dk_92 (dk_at dksX6_says_2_2 7 rfl rfl)
theorem dX6_says_2_52 : decode cX6_says_2 52 = .ok (.iaload, 1) := dk_46 (dk_at dksX6_says_2_2 8 rfl rfl)
theorem dX6_says_2_53 : decode cX6_says_2 53 = .ok (.iconst 1, 1) := dk_4 (dk_at dksX6_says_2_2 9 rfl rfl)
theorem dX6_says_2_54 : decode cX6_says_2 54 = .ok (.iadd, 1) := dk_96 (dk_at dksX6_says_2_2 10 rfl rfl)
theorem dX6_says_2_55 : decode cX6_says_2 55 = .ok (.iastore, 1) := dk_79 (dk_at dksX6_says_2_2 11 rfl rfl)
theorem dX6_says_2_56 : decode cX6_says_2 56 = .ok (.return_, 1) := dk_177 (dk_at dksX6_says_2_2 12 rfl rfl)
abbrev cX6_numberOf : ByteArray := prog_29_method_65_code
def yX6_numberOf : MethodName := ⟨RX6, "numberOf", "(II)I"⟩
def dkwX6_numberOf_1 : List UInt8 := [167, 0, 4, 3, 96, 62, 132, 4, 1, 167, 255, 228, 29, 172]
abbrev dktX6_numberOf_1 : List UInt8 := dkwX6_numberOf_1 ++ []
def dkwX6_numberOf_0 : List UInt8 := [3, 62, 3, 54, 4, 21, 4, 28, 162, 0, 28, 29, 42, 27, 21, 4, 182, 1, 243, 2, 159, 0, 7, 4]
abbrev dktX6_numberOf_0 : List UInt8 := dkwX6_numberOf_0 ++ dktX6_numberOf_1
theorem dksX6_numberOf_0 : cX6_numberOf.data.toList.drop 0 = dktX6_numberOf_0 := by decide +kernel
theorem dksX6_numberOf_1 : cX6_numberOf.data.toList.drop 24 = dktX6_numberOf_1 := dk_seg dksX6_numberOf_0 24 rfl rfl
theorem dX6_numberOf_0 : decode cX6_numberOf 0 = .ok (.iconst 0, 1) := dk_3 (dk_at dksX6_numberOf_0 0 rfl rfl)
theorem dX6_numberOf_1 : decode cX6_numberOf 1 = .ok (.istore_n 3, 1) := dk_62 (dk_at dksX6_numberOf_0 1 rfl rfl)
theorem dX6_numberOf_2 : decode cX6_numberOf 2 = .ok (.iconst 0, 1) := dk_3 (dk_at dksX6_numberOf_0 2 rfl rfl)
theorem dX6_numberOf_3 : decode cX6_numberOf 3 = .ok (.istore 4, 2) := dk_54 4 (dk_at dksX6_numberOf_0 3 rfl rfl)
theorem dX6_numberOf_5 : decode cX6_numberOf 5 = .ok (.iload 4, 2) := dk_21 4 (dk_at dksX6_numberOf_0 5 rfl rfl)
theorem dX6_numberOf_7 : decode cX6_numberOf 7 = .ok (.iload_n 2, 1) := dk_28 (dk_at dksX6_numberOf_0 7 rfl rfl)
theorem dX6_numberOf_8 : decode cX6_numberOf 8 = .ok (.if_icmp .ge 28, 3) := dk_162 0 28 (dk_at dksX6_numberOf_0 8 rfl rfl)
theorem dX6_numberOf_11 : decode cX6_numberOf 11 = .ok (.iload_n 3, 1) := dk_29 (dk_at dksX6_numberOf_0 11 rfl rfl)
theorem dX6_numberOf_12 : decode cX6_numberOf 12 = .ok (.aload_n 0, 1) := dk_42 (dk_at dksX6_numberOf_0 12 rfl rfl)
theorem dX6_numberOf_13 : decode cX6_numberOf 13 = .ok (.iload_n 1, 1) := dk_27 (dk_at dksX6_numberOf_0 13 rfl rfl)
theorem dX6_numberOf_14 : decode cX6_numberOf 14 = .ok (.iload 4, 2) := dk_21 4 (dk_at dksX6_numberOf_0 14 rfl rfl)
theorem dX6_numberOf_16 : decode cX6_numberOf 16 = .ok (.invokevirtual 499, 3) := dk_182 1 243 (dk_at dksX6_numberOf_0 16 rfl rfl)
theorem dX6_numberOf_19 : decode cX6_numberOf 19 = .ok (.iconst (-1), 1) := dk_2 (dk_at dksX6_numberOf_0 19 rfl rfl)
theorem dX6_numberOf_20 : decode cX6_numberOf 20 = .ok (.if_icmp .eq 7, 3) := dk_159 0 7 (dk_at dksX6_numberOf_0 20 rfl rfl)
theorem dX6_numberOf_23 : decode cX6_numberOf 23 = .ok (.iconst 1, 1) := dk_4 (dk_at dksX6_numberOf_0 23 rfl rfl)
theorem dX6_numberOf_24 : decode cX6_numberOf 24 = .ok (.goto 4, 3) := dk_167 0 4 (dk_at dksX6_numberOf_1 0 rfl rfl)
theorem dX6_numberOf_27 : decode cX6_numberOf 27 = .ok (.iconst 0, 1) := dk_3 (dk_at dksX6_numberOf_1 3 rfl rfl)
theorem dX6_numberOf_28 : decode cX6_numberOf 28 = .ok (.iadd, 1) := dk_96 (dk_at dksX6_numberOf_1 4 rfl rfl)
theorem dX6_numberOf_29 : decode cX6_numberOf 29 = .ok (.istore_n 3, 1) := dk_62 (dk_at dksX6_numberOf_1 5 rfl rfl)
theorem dX6_numberOf_30 : decode cX6_numberOf 30 = .ok (.iinc 4 1, 3) := dk_132 4 1 (dk_at dksX6_numberOf_1 6 rfl rfl)
theorem dX6_numberOf_33 : decode cX6_numberOf 33 = .ok (.goto (-28), 3) := dk_167 255 228 (dk_at dksX6_numberOf_1 9 rfl rfl)
theorem dX6_numberOf_36 : decode cX6_numberOf 36 = .ok (.iload_n 3, 1) := dk_29 (dk_at dksX6_numberOf_1 12 rfl rfl)
theorem dX6_numberOf_37 : decode cX6_numberOf 37 = .ok (.ireturn, 1) := dk_172 (dk_at dksX6_numberOf_1 13 rfl rfl)
abbrev cX6_drop : ByteArray := prog_29_method_130_code
def yX6_drop : MethodName := ⟨RX6, "drop", "(II)I"⟩
def dkwX6_drop_2 : List UInt8 := [96, 2, 79, 42, 180, 0, 88, 42, 180, 0, 48, 92, 46, 4, 100, 79, 42, 27, 182, 1, 246, 172]
abbrev dktX6_drop_2 : List UInt8 := dkwX6_drop_2 ++ []
def dkwX6_drop_1 : List UInt8 := [42, 5, 182, 1, 8, 172, 42, 180, 0, 91, 17, 1, 128, 42, 180, 0, 48, 104, 16, 48, 27, 104, 96, 29]
abbrev dktX6_drop_1 : List UInt8 := dkwX6_drop_1 ++ dktX6_drop_2
def dkwX6_drop_0 : List UInt8 := [42, 27, 182, 1, 249, 153, 0, 12, 42, 27, 28, 182, 2, 49, 167, 0, 4, 2, 62, 29, 2, 160, 0, 9]
abbrev dktX6_drop_0 : List UInt8 := dkwX6_drop_0 ++ dktX6_drop_1
theorem dksX6_drop_0 : cX6_drop.data.toList.drop 0 = dktX6_drop_0 := by decide +kernel
theorem dksX6_drop_1 : cX6_drop.data.toList.drop 24 = dktX6_drop_1 := dk_seg dksX6_drop_0 24 rfl rfl
theorem dksX6_drop_2 : cX6_drop.data.toList.drop 48 = dktX6_drop_2 := dk_seg dksX6_drop_1 24 rfl rfl
theorem dX6_drop_0 : decode cX6_drop 0 = .ok (.aload_n 0, 1) := dk_42 (dk_at dksX6_drop_0 0 rfl rfl)
theorem dX6_drop_1 : decode cX6_drop 1 = .ok (.iload_n 1, 1) := dk_27 (dk_at dksX6_drop_0 1 rfl rfl)
theorem dX6_drop_2 : decode cX6_drop 2 = .ok (.invokevirtual 505, 3) := dk_182 1 249 (dk_at dksX6_drop_0 2 rfl rfl)
theorem dX6_drop_5 : decode cX6_drop 5 = .ok (.ifCond .eq 12, 3) := dk_153 0 12 (dk_at dksX6_drop_0 5 rfl rfl)
theorem dX6_drop_8 : decode cX6_drop 8 = .ok (.aload_n 0, 1) := dk_42 (dk_at dksX6_drop_0 8 rfl rfl)
theorem dX6_drop_9 : decode cX6_drop 9 = .ok (.iload_n 1, 1) := dk_27 (dk_at dksX6_drop_0 9 rfl rfl)
theorem dX6_drop_10 : decode cX6_drop 10 = .ok (.iload_n 2, 1) := dk_28 (dk_at dksX6_drop_0 10 rfl rfl)
theorem dX6_drop_11 : decode cX6_drop 11 = .ok (.invokevirtual 561, 3) := dk_182 2 49 (dk_at dksX6_drop_0 11 rfl rfl)
theorem dX6_drop_14 : decode cX6_drop 14 = .ok (.goto 4, 3) := dk_167 0 4 (dk_at dksX6_drop_0 14 rfl rfl)
theorem dX6_drop_17 : decode cX6_drop 17 = .ok (.iconst (-1), 1) := dk_2 (dk_at dksX6_drop_0 17 rfl rfl)
theorem dX6_drop_18 : decode cX6_drop 18 = .ok (.istore_n 3, 1) := dk_62 (dk_at dksX6_drop_0 18 rfl rfl)
theorem dX6_drop_19 : decode cX6_drop 19 = .ok (.iload_n 3, 1) := dk_29 (dk_at dksX6_drop_0 19 rfl rfl)
theorem dX6_drop_20 : decode cX6_drop 20 = .ok (.iconst (-1), 1) := dk_2 (dk_at dksX6_drop_0 20 rfl rfl)
theorem dX6_drop_21 : decode cX6_drop 21 = .ok (.if_icmp .ne 9, 3) := dk_160 0 9 (dk_at dksX6_drop_0 21 rfl rfl)
theorem dX6_drop_24 : decode cX6_drop 24 = .ok (.aload_n 0, 1) := dk_42 (dk_at dksX6_drop_1 0 rfl rfl)
theorem dX6_drop_25 : decode cX6_drop 25 = .ok (.iconst 2, 1) := dk_5 (dk_at dksX6_drop_1 1 rfl rfl)
theorem dX6_drop_26 : decode cX6_drop 26 = .ok (.invokevirtual 264, 3) := dk_182 1 8 (dk_at dksX6_drop_1 2 rfl rfl)
theorem dX6_drop_29 : decode cX6_drop 29 = .ok (.ireturn, 1) := dk_172 (dk_at dksX6_drop_1 5 rfl rfl)
theorem dX6_drop_30 : decode cX6_drop 30 = .ok (.aload_n 0, 1) := dk_42 (dk_at dksX6_drop_1 6 rfl rfl)
theorem dX6_drop_31 : decode cX6_drop 31 = .ok (.getfield 91, 3) := dk_180 0 91 (dk_at dksX6_drop_1 7 rfl rfl)
theorem dX6_drop_34 : decode cX6_drop 34 = .ok (.sipush 384, 3) := dk_17 1 128 (dk_at dksX6_drop_1 10 rfl rfl)
theorem dX6_drop_37 : decode cX6_drop 37 = .ok (.aload_n 0, 1) := dk_42 (dk_at dksX6_drop_1 13 rfl rfl)
theorem dX6_drop_38 : decode cX6_drop 38 = .ok (.getfield 48, 3) := dk_180 0 48 (dk_at dksX6_drop_1 14 rfl rfl)
theorem dX6_drop_41 : decode cX6_drop 41 = .ok (.imul, 1) := dk_104 (dk_at dksX6_drop_1 17 rfl rfl)
theorem dX6_drop_42 : decode cX6_drop 42 = .ok (.bipush 48, 2) := dk_16 48 (dk_at dksX6_drop_1 18 rfl rfl)
theorem dX6_drop_44 : decode cX6_drop 44 = .ok (.iload_n 1, 1) := dk_27 (dk_at dksX6_drop_1 20 rfl rfl)
theorem dX6_drop_45 : decode cX6_drop 45 = .ok (.imul, 1) := dk_104 (dk_at dksX6_drop_1 21 rfl rfl)
theorem dX6_drop_46 : decode cX6_drop 46 = .ok (.iadd, 1) := dk_96 (dk_at dksX6_drop_1 22 rfl rfl)
theorem dX6_drop_47 : decode cX6_drop 47 = .ok (.iload_n 3, 1) := dk_29 (dk_at dksX6_drop_1 23 rfl rfl)
theorem dX6_drop_48 : decode cX6_drop 48 = .ok (.iadd, 1) := dk_96 (dk_at dksX6_drop_2 0 rfl rfl)
theorem dX6_drop_49 : decode cX6_drop 49 = .ok (.iconst (-1), 1) := dk_2 (dk_at dksX6_drop_2 1 rfl rfl)
theorem dX6_drop_50 : decode cX6_drop 50 = .ok (.iastore, 1) := dk_79 (dk_at dksX6_drop_2 2 rfl rfl)
theorem dX6_drop_51 : decode cX6_drop 51 = .ok (.aload_n 0, 1) := dk_42 (dk_at dksX6_drop_2 3 rfl rfl)
theorem dX6_drop_52 : decode cX6_drop 52 = .ok (.getfield 88, 3) := dk_180 0 88 (dk_at dksX6_drop_2 4 rfl rfl)
theorem dX6_drop_55 : decode cX6_drop 55 = .ok (.aload_n 0, 1) := dk_42 (dk_at dksX6_drop_2 7 rfl rfl)
theorem dX6_drop_56 : decode cX6_drop 56 = .ok (.getfield 48, 3) := dk_180 0 48 (dk_at dksX6_drop_2 8 rfl rfl)
theorem dX6_drop_59 : decode cX6_drop 59 = .ok (.dup2, 1) := dk_92 (dk_at dksX6_drop_2 11 rfl rfl)
theorem dX6_drop_60 : decode cX6_drop 60 = .ok (.iaload, 1) := dk_46 (dk_at dksX6_drop_2 12 rfl rfl)
theorem dX6_drop_61 : decode cX6_drop 61 = .ok (.iconst 1, 1) := dk_4 (dk_at dksX6_drop_2 13 rfl rfl)
theorem dX6_drop_62 : decode cX6_drop 62 = .ok (.isub, 1) := dk_100 (dk_at dksX6_drop_2 14 rfl rfl)
theorem dX6_drop_63 : decode cX6_drop 63 = .ok (.iastore, 1) := dk_79 (dk_at dksX6_drop_2 15 rfl rfl)
theorem dX6_drop_64 : decode cX6_drop 64 = .ok (.aload_n 0, 1) := dk_42 (dk_at dksX6_drop_2 16 rfl rfl)
theorem dX6_drop_65 : decode cX6_drop 65 = .ok (.iload_n 1, 1) := dk_27 (dk_at dksX6_drop_2 17 rfl rfl)
theorem dX6_drop_66 : decode cX6_drop 66 = .ok (.invokevirtual 502, 3) := dk_182 1 246 (dk_at dksX6_drop_2 18 rfl rfl)
theorem dX6_drop_69 : decode cX6_drop 69 = .ok (.ireturn, 1) := dk_172 (dk_at dksX6_drop_2 21 rfl rfl)
abbrev cX6_spot : ByteArray := prog_29_method_132_code
def yX6_spot : MethodName := ⟨RX6, "spot", "(IIII)I"⟩
def dkwX6_spot_2 : List UInt8 := [27, 42, 28, 29, 182, 1, 237, 21, 4, 182, 2, 126, 42, 180, 0, 113, 42, 180, 0, 48, 46, 172]
abbrev dktX6_spot_2 : List UInt8 := dkwX6_spot_2 ++ []
def dkwX6_spot_1 : List UInt8 := [153, 0, 17, 42, 180, 0, 113, 42, 180, 0, 48, 46, 16, 40, 160, 0, 9, 42, 6, 182, 1, 8, 172, 42]
abbrev dktX6_spot_1 : List UInt8 := dkwX6_spot_1 ++ dktX6_spot_2
def dkwX6_spot_0 : List UInt8 := [27, 3, 6, 184, 1, 87, 153, 0, 34, 42, 28, 29, 182, 1, 230, 153, 0, 25, 21, 4, 184, 1, 234]
abbrev dktX6_spot_0 : List UInt8 := dkwX6_spot_0 ++ dktX6_spot_1
theorem dksX6_spot_0 : cX6_spot.data.toList.drop 0 = dktX6_spot_0 := by decide +kernel
theorem dksX6_spot_1 : cX6_spot.data.toList.drop 23 = dktX6_spot_1 := dk_seg dksX6_spot_0 23 rfl rfl
theorem dksX6_spot_2 : cX6_spot.data.toList.drop 47 = dktX6_spot_2 := dk_seg dksX6_spot_1 24 rfl rfl
theorem dX6_spot_0 : decode cX6_spot 0 = .ok (.iload_n 1, 1) := dk_27 (dk_at dksX6_spot_0 0 rfl rfl)
theorem dX6_spot_1 : decode cX6_spot 1 = .ok (.iconst 0, 1) := dk_3 (dk_at dksX6_spot_0 1 rfl rfl)
theorem dX6_spot_2 : decode cX6_spot 2 = .ok (.iconst 3, 1) := dk_6 (dk_at dksX6_spot_0 2 rfl rfl)
theorem dX6_spot_3 : decode cX6_spot 3 = .ok (.invokestatic 343, 3) := dk_184 1 87 (dk_at dksX6_spot_0 3 rfl rfl)
theorem dX6_spot_6 : decode cX6_spot 6 = .ok (.ifCond .eq 34, 3) := dk_153 0 34 (dk_at dksX6_spot_0 6 rfl rfl)
theorem dX6_spot_9 : decode cX6_spot 9 = .ok (.aload_n 0, 1) := dk_42 (dk_at dksX6_spot_0 9 rfl rfl)
theorem dX6_spot_10 : decode cX6_spot 10 = .ok (.iload_n 2, 1) := dk_28 (dk_at dksX6_spot_0 10 rfl rfl)
theorem dX6_spot_11 : decode cX6_spot 11 = .ok (.iload_n 3, 1) := dk_29 (dk_at dksX6_spot_0 11 rfl rfl)
theorem dX6_spot_12 : decode cX6_spot 12 = .ok (.invokevirtual 486, 3) := dk_182 1 230 (dk_at dksX6_spot_0 12 rfl rfl)
theorem dX6_spot_15 : decode cX6_spot 15 = .ok (.ifCond .eq 25, 3) := dk_153 0 25 (dk_at dksX6_spot_0 15 rfl rfl)
theorem dX6_spot_18 : decode cX6_spot 18 = .ok (.iload 4, 2) := dk_21 4 (dk_at dksX6_spot_0 18 rfl rfl)
theorem dX6_spot_20 : decode cX6_spot 20 = .ok (.invokestatic 490, 3) := dk_184 1 234 (dk_at dksX6_spot_0 20 rfl rfl)
theorem dX6_spot_23 : decode cX6_spot 23 = .ok (.ifCond .eq 17, 3) := dk_153 0 17 (dk_at dksX6_spot_1 0 rfl rfl)
theorem dX6_spot_26 : decode cX6_spot 26 = .ok (.aload_n 0, 1) := dk_42 (dk_at dksX6_spot_1 3 rfl rfl)
theorem dX6_spot_27 : decode cX6_spot 27 = .ok (.getfield 113, 3) := dk_180 0 113 (dk_at dksX6_spot_1 4 rfl rfl)
theorem dX6_spot_30 : decode cX6_spot 30 = .ok (.aload_n 0, 1) := dk_42 (dk_at dksX6_spot_1 7 rfl rfl)
theorem dX6_spot_31 : decode cX6_spot 31 = .ok (.getfield 48, 3) := dk_180 0 48 (dk_at dksX6_spot_1 8 rfl rfl)
theorem dX6_spot_34 : decode cX6_spot 34 = .ok (.iaload, 1) := dk_46 (dk_at dksX6_spot_1 11 rfl rfl)
theorem dX6_spot_35 : decode cX6_spot 35 = .ok (.bipush 40, 2) := dk_16 40 (dk_at dksX6_spot_1 12 rfl rfl)
theorem dX6_spot_37 : decode cX6_spot 37 = .ok (.if_icmp .ne 9, 3) := dk_160 0 9 (dk_at dksX6_spot_1 14 rfl rfl)
theorem dX6_spot_40 : decode cX6_spot 40 = .ok (.aload_n 0, 1) := dk_42 (dk_at dksX6_spot_1 17 rfl rfl)
theorem dX6_spot_41 : decode cX6_spot 41 = .ok (.iconst 3, 1) := dk_6 (dk_at dksX6_spot_1 18 rfl rfl)
theorem dX6_spot_42 : decode cX6_spot 42 = .ok (.invokevirtual 264, 3) := dk_182 1 8 (dk_at dksX6_spot_1 19 rfl rfl)
theorem dX6_spot_45 : decode cX6_spot 45 = .ok (.ireturn, 1) := dk_172 (dk_at dksX6_spot_1 22 rfl rfl)
theorem dX6_spot_46 : decode cX6_spot 46 = .ok (.aload_n 0, 1) := dk_42 (dk_at dksX6_spot_1 23 rfl rfl)
theorem dX6_spot_47 : decode cX6_spot 47 = .ok (.iload_n 1, 1) := dk_27 (dk_at dksX6_spot_2 0 rfl rfl)
theorem dX6_spot_48 : decode cX6_spot 48 = .ok (.aload_n 0, 1) := dk_42 (dk_at dksX6_spot_2 1 rfl rfl)
theorem dX6_spot_49 : decode cX6_spot 49 = .ok (.iload_n 2, 1) := dk_28 (dk_at dksX6_spot_2 2 rfl rfl)
theorem dX6_spot_50 : decode cX6_spot 50 = .ok (.iload_n 3, 1) := dk_29 (dk_at dksX6_spot_2 3 rfl rfl)
theorem dX6_spot_51 : decode cX6_spot 51 = .ok (.invokevirtual 493, 3) := dk_182 1 237 (dk_at dksX6_spot_2 4 rfl rfl)
theorem dX6_spot_54 : decode cX6_spot 54 = .ok (.iload 4, 2) := dk_21 4 (dk_at dksX6_spot_2 7 rfl rfl)
theorem dX6_spot_56 : decode cX6_spot 56 = .ok (.invokevirtual 638, 3) := dk_182 2 126 (dk_at dksX6_spot_2 9 rfl rfl)
theorem dX6_spot_59 : decode cX6_spot 59 = .ok (.aload_n 0, 1) := dk_42 (dk_at dksX6_spot_2 12 rfl rfl)
theorem dX6_spot_60 : decode cX6_spot 60 = .ok (.getfield 113, 3) := dk_180 0 113 (dk_at dksX6_spot_2 13 rfl rfl)
theorem dX6_spot_63 : decode cX6_spot 63 = .ok (.aload_n 0, 1) := dk_42 (dk_at dksX6_spot_2 16 rfl rfl)
theorem dX6_spot_64 : decode cX6_spot 64 = .ok (.getfield 48, 3) := dk_180 0 48 (dk_at dksX6_spot_2 17 rfl rfl)
theorem dX6_spot_67 : decode cX6_spot 67 = .ok (.iaload, 1) := dk_46 (dk_at dksX6_spot_2 20 rfl rfl)
theorem dX6_spot_68 : decode cX6_spot 68 = .ok (.ireturn, 1) := dk_172 (dk_at dksX6_spot_2 21 rfl rfl)
abbrev cX6_spots : ByteArray := prog_29_method_131_code
def yX6_spots : MethodName := ⟨RX6, "spots", "(III)V"⟩
def dkwX6_spots_2 : List UInt8 := [42, 180, 0, 48, 92, 46, 4, 96, 79, 177]
abbrev dktX6_spots_2 : List UInt8 := dkwX6_spots_2 ++ []
def dkwX6_spots_1 : List UInt8 := [21, 4, 27, 79, 42, 180, 0, 119, 21, 4, 28, 79, 42, 180, 0, 122, 21, 4, 29, 79, 42, 180, 0, 113]
abbrev dktX6_spots_1 : List UInt8 := dkwX6_spots_1 ++ dktX6_spots_2
def dkwX6_spots_0 : List UInt8 := [16, 40, 42, 180, 0, 48, 104, 42, 180, 0, 113, 42, 180, 0, 48, 46, 96, 54, 4, 42, 180, 0, 116]
abbrev dktX6_spots_0 : List UInt8 := dkwX6_spots_0 ++ dktX6_spots_1
theorem dksX6_spots_0 : cX6_spots.data.toList.drop 0 = dktX6_spots_0 := by decide +kernel
theorem dksX6_spots_1 : cX6_spots.data.toList.drop 23 = dktX6_spots_1 := dk_seg dksX6_spots_0 23 rfl rfl
theorem dksX6_spots_2 : cX6_spots.data.toList.drop 47 = dktX6_spots_2 := dk_seg dksX6_spots_1 24 rfl rfl
theorem dX6_spots_0 : decode cX6_spots 0 = .ok (.bipush 40, 2) := dk_16 40 (dk_at dksX6_spots_0 0 rfl rfl)
theorem dX6_spots_2 : decode cX6_spots 2 = .ok (.aload_n 0, 1) := dk_42 (dk_at dksX6_spots_0 2 rfl rfl)
theorem dX6_spots_3 : decode cX6_spots 3 = .ok (.getfield 48, 3) := dk_180 0 48 (dk_at dksX6_spots_0 3 rfl rfl)
theorem dX6_spots_6 : decode cX6_spots 6 = .ok (.imul, 1) := dk_104 (dk_at dksX6_spots_0 6 rfl rfl)
theorem dX6_spots_7 : decode cX6_spots 7 = .ok (.aload_n 0, 1) := dk_42 (dk_at dksX6_spots_0 7 rfl rfl)
theorem dX6_spots_8 : decode cX6_spots 8 = .ok (.getfield 113, 3) := dk_180 0 113 (dk_at dksX6_spots_0 8 rfl rfl)
theorem dX6_spots_11 : decode cX6_spots 11 = .ok (.aload_n 0, 1) := dk_42 (dk_at dksX6_spots_0 11 rfl rfl)
theorem dX6_spots_12 : decode cX6_spots 12 = .ok (.getfield 48, 3) := dk_180 0 48 (dk_at dksX6_spots_0 12 rfl rfl)
theorem dX6_spots_15 : decode cX6_spots 15 = .ok (.iaload, 1) := dk_46 (dk_at dksX6_spots_0 15 rfl rfl)
theorem dX6_spots_16 : decode cX6_spots 16 = .ok (.iadd, 1) := dk_96 (dk_at dksX6_spots_0 16 rfl rfl)
theorem dX6_spots_17 : decode cX6_spots 17 = .ok (.istore 4, 2) := dk_54 4 (dk_at dksX6_spots_0 17 rfl rfl)
theorem dX6_spots_19 : decode cX6_spots 19 = .ok (.aload_n 0, 1) := dk_42 (dk_at dksX6_spots_0 19 rfl rfl)
theorem dX6_spots_20 : decode cX6_spots 20 = .ok (.getfield 116, 3) := dk_180 0 116 (dk_at dksX6_spots_0 20 rfl rfl)
theorem dX6_spots_23 : decode cX6_spots 23 = .ok (.iload 4, 2) := dk_21 4 (dk_at dksX6_spots_1 0 rfl rfl)
theorem dX6_spots_25 : decode cX6_spots 25 = .ok (.iload_n 1, 1) := dk_27 (dk_at dksX6_spots_1 2 rfl rfl)
theorem dX6_spots_26 : decode cX6_spots 26 = .ok (.iastore, 1) := dk_79 (dk_at dksX6_spots_1 3 rfl rfl)
theorem dX6_spots_27 : decode cX6_spots 27 = .ok (.aload_n 0, 1) := dk_42 (dk_at dksX6_spots_1 4 rfl rfl)
theorem dX6_spots_28 : decode cX6_spots 28 = .ok (.getfield 119, 3) := dk_180 0 119 (dk_at dksX6_spots_1 5 rfl rfl)
theorem dX6_spots_31 : decode cX6_spots 31 = .ok (.iload 4, 2) := dk_21 4 (dk_at dksX6_spots_1 8 rfl rfl)
theorem dX6_spots_33 : decode cX6_spots 33 = .ok (.iload_n 2, 1) := dk_28 (dk_at dksX6_spots_1 10 rfl rfl)
theorem dX6_spots_34 : decode cX6_spots 34 = .ok (.iastore, 1) := dk_79 (dk_at dksX6_spots_1 11 rfl rfl)
theorem dX6_spots_35 : decode cX6_spots 35 = .ok (.aload_n 0, 1) := dk_42 (dk_at dksX6_spots_1 12 rfl rfl)
theorem dX6_spots_36 : decode cX6_spots 36 = .ok (.getfield 122, 3) := dk_180 0 122 (dk_at dksX6_spots_1 13 rfl rfl)
theorem dX6_spots_39 : decode cX6_spots 39 = .ok (.iload 4, 2) := dk_21 4 (dk_at dksX6_spots_1 16 rfl rfl)
theorem dX6_spots_41 : decode cX6_spots 41 = .ok (.iload_n 3, 1) := dk_29 (dk_at dksX6_spots_1 18 rfl rfl)
theorem dX6_spots_42 : decode cX6_spots 42 = .ok (.iastore, 1) := dk_79 (dk_at dksX6_spots_1 19 rfl rfl)
theorem dX6_spots_43 : decode cX6_spots 43 = .ok (.aload_n 0, 1) := dk_42 (dk_at dksX6_spots_1 20 rfl rfl)
theorem dX6_spots_44 : decode cX6_spots 44 = .ok (.getfield 113, 3) := dk_180 0 113 (dk_at dksX6_spots_1 21 rfl rfl)
theorem dX6_spots_47 : decode cX6_spots 47 = .ok (.aload_n 0, 1) := dk_42 (dk_at dksX6_spots_2 0 rfl rfl)
theorem dX6_spots_48 : decode cX6_spots 48 = .ok (.getfield 48, 3) := dk_180 0 48 (dk_at dksX6_spots_2 1 rfl rfl)
theorem dX6_spots_51 : decode cX6_spots 51 = .ok (.dup2, 1) := dk_92 (dk_at dksX6_spots_2 4 rfl rfl)
theorem dX6_spots_52 : decode cX6_spots 52 = .ok (.iaload, 1) := dk_46 (dk_at dksX6_spots_2 5 rfl rfl)
theorem dX6_spots_53 : decode cX6_spots 53 = .ok (.iconst 1, 1) := dk_4 (dk_at dksX6_spots_2 6 rfl rfl)
theorem dX6_spots_54 : decode cX6_spots 54 = .ok (.iadd, 1) := dk_96 (dk_at dksX6_spots_2 7 rfl rfl)
theorem dX6_spots_55 : decode cX6_spots 55 = .ok (.iastore, 1) := dk_79 (dk_at dksX6_spots_2 8 rfl rfl)
theorem dX6_spots_56 : decode cX6_spots 56 = .ok (.return_, 1) := dk_177 (dk_at dksX6_spots_2 9 rfl rfl)
abbrev cX6_image : ByteArray := prog_29_method_134_code
def yX6_image : MethodName := ⟨RX6, "image", "()I"⟩
def dkwX6_image_9 : List UInt8 := [132, 2, 1, 167, 255, 230, 42, 27, 182, 2, 129, 42, 180, 1, 5, 172]
abbrev dktX6_image_9 : List UInt8 := dkwX6_image_9 ++ []
def dkwX6_image_8 : List UInt8 := [61, 28, 42, 180, 1, 5, 162, 0, 24, 6, 27, 104, 42, 180, 1, 2, 28, 46, 96, 17, 0, 241, 112, 60]
abbrev dktX6_image_8 : List UInt8 := dkwX6_image_8 ++ dktX6_image_9
def dkwX6_image_7 : List UInt8 := [46, 182, 2, 129, 42, 42, 180, 0, 122, 27, 46, 182, 2, 129, 132, 1, 1, 167, 255, 202, 16, 29, 60, 3]
abbrev dktX6_image_7 : List UInt8 := dkwX6_image_7 ++ dktX6_image_8
def dkwX6_image_6 : List UInt8 := [180, 0, 48, 46, 96, 162, 0, 39, 42, 42, 180, 0, 116, 27, 46, 182, 2, 129, 42, 42, 180, 0, 119, 27]
abbrev dktX6_image_6 : List UInt8 := dkwX6_image_6 ++ dktX6_image_7
def dkwX6_image_5 : List UInt8 := [182, 2, 129, 16, 40, 42, 180, 0, 48, 104, 60, 27, 16, 40, 42, 180, 0, 48, 104, 42, 180, 0, 113, 42]
abbrev dktX6_image_5 : List UInt8 := dkwX6_image_5 ++ dktX6_image_6
def dkwX6_image_4 : List UInt8 := [132, 2, 1, 167, 255, 196, 132, 1, 1, 167, 255, 175, 42, 42, 180, 0, 113, 42, 180, 0, 48, 46]
abbrev dktX6_image_4 : List UInt8 := dkwX6_image_4 ++ dktX6_image_5
def dkwX6_image_3 : List UInt8 := [182, 1, 243, 182, 2, 129, 42, 42, 27, 28, 182, 2, 15, 153, 0, 7, 4, 167, 0, 4, 3, 182, 2, 129]
abbrev dktX6_image_3 : List UInt8 := dkwX6_image_3 ++ dktX6_image_4
def dkwX6_image_2 : List UInt8 := [182, 1, 243, 2, 160, 0, 6, 167, 0, 41, 42, 27, 182, 2, 129, 42, 28, 182, 2, 129, 42, 42, 27, 28]
abbrev dktX6_image_2 : List UInt8 := dkwX6_image_2 ++ dktX6_image_3
def dkwX6_image_1 : List UInt8 := [180, 0, 69, 42, 180, 0, 48, 46, 162, 0, 74, 3, 61, 28, 16, 48, 162, 0, 60, 42, 27, 28]
abbrev dktX6_image_1 : List UInt8 := dkwX6_image_1 ++ dktX6_image_2
def dkwX6_image_0 : List UInt8 := [42, 3, 181, 1, 5, 42, 42, 180, 0, 88, 42, 180, 0, 48, 46, 182, 2, 129, 3, 60, 27, 42]
abbrev dktX6_image_0 : List UInt8 := dkwX6_image_0 ++ dktX6_image_1
theorem dksX6_image_0 : cX6_image.data.toList.drop 0 = dktX6_image_0 := by decide +kernel
theorem dksX6_image_1 : cX6_image.data.toList.drop 22 = dktX6_image_1 := dk_seg dksX6_image_0 22 rfl rfl
theorem dksX6_image_2 : cX6_image.data.toList.drop 44 = dktX6_image_2 := dk_seg dksX6_image_1 22 rfl rfl
theorem dksX6_image_3 : cX6_image.data.toList.drop 68 = dktX6_image_3 := dk_seg dksX6_image_2 24 rfl rfl
theorem dksX6_image_4 : cX6_image.data.toList.drop 92 = dktX6_image_4 := dk_seg dksX6_image_3 24 rfl rfl
theorem dksX6_image_5 : cX6_image.data.toList.drop 114 = dktX6_image_5 := dk_seg dksX6_image_4 22 rfl rfl
theorem dksX6_image_6 : cX6_image.data.toList.drop 138 = dktX6_image_6 := dk_seg dksX6_image_5 24 rfl rfl
theorem dksX6_image_7 : cX6_image.data.toList.drop 162 = dktX6_image_7 := dk_seg dksX6_image_6 24 rfl rfl
theorem dksX6_image_8 : cX6_image.data.toList.drop 186 = dktX6_image_8 := dk_seg dksX6_image_7 24 rfl rfl
theorem dksX6_image_9 : cX6_image.data.toList.drop 210 = dktX6_image_9 := dk_seg dksX6_image_8 24 rfl rfl
theorem dX6_image_0 : decode cX6_image 0 = .ok (.aload_n 0, 1) := dk_42 (dk_at dksX6_image_0 0 rfl rfl)
theorem dX6_image_1 : decode cX6_image 1 = .ok (.iconst 0, 1) := dk_3 (dk_at dksX6_image_0 1 rfl rfl)
theorem dX6_image_2 : decode cX6_image 2 = .ok (.putfield 261, 3) := dk_181 1 5 (dk_at dksX6_image_0 2 rfl rfl)
theorem dX6_image_5 : decode cX6_image 5 = .ok (.aload_n 0, 1) := dk_42 (dk_at dksX6_image_0 5 rfl rfl)
theorem dX6_image_6 : decode cX6_image 6 = .ok (.aload_n 0, 1) := dk_42 (dk_at dksX6_image_0 6 rfl rfl)
theorem dX6_image_7 : decode cX6_image 7 = .ok (.getfield 88, 3) := dk_180 0 88 (dk_at dksX6_image_0 7 rfl rfl)
theorem dX6_image_10 : decode cX6_image 10 = .ok (.aload_n 0, 1) := dk_42 (dk_at dksX6_image_0 10 rfl rfl)
theorem dX6_image_11 : decode cX6_image 11 = .ok (.getfield 48, 3) := dk_180 0 48 (dk_at dksX6_image_0 11 rfl rfl)
theorem dX6_image_14 : decode cX6_image 14 = .ok (.iaload, 1) := dk_46 (dk_at dksX6_image_0 14 rfl rfl)
theorem dX6_image_15 : decode cX6_image 15 = .ok (.invokevirtual 641, 3) := dk_182 2 129 (dk_at dksX6_image_0 15 rfl rfl)
theorem dX6_image_18 : decode cX6_image 18 = .ok (.iconst 0, 1) := dk_3 (dk_at dksX6_image_0 18 rfl rfl)
theorem dX6_image_19 : decode cX6_image 19 = .ok (.istore_n 1, 1) := dk_60 (dk_at dksX6_image_0 19 rfl rfl)
theorem dX6_image_20 : decode cX6_image 20 = .ok (.iload_n 1, 1) := dk_27 (dk_at dksX6_image_0 20 rfl rfl)
theorem dX6_image_21 : decode cX6_image 21 = .ok (.aload_n 0, 1) := dk_42 (dk_at dksX6_image_0 21 rfl rfl)
theorem dX6_image_22 : decode cX6_image 22 = .ok (.getfield 69, 3) := dk_180 0 69 (dk_at dksX6_image_1 0 rfl rfl)
theorem dX6_image_25 : decode cX6_image 25 = .ok (.aload_n 0, 1) := dk_42 (dk_at dksX6_image_1 3 rfl rfl)
theorem dX6_image_26 : decode cX6_image 26 = .ok (.getfield 48, 3) := dk_180 0 48 (dk_at dksX6_image_1 4 rfl rfl)
theorem dX6_image_29 : decode cX6_image 29 = .ok (.iaload, 1) := dk_46 (dk_at dksX6_image_1 7 rfl rfl)
theorem dX6_image_30 : decode cX6_image 30 = .ok (.if_icmp .ge 74, 3) := dk_162 0 74 (dk_at dksX6_image_1 8 rfl rfl)
theorem dX6_image_33 : decode cX6_image 33 = .ok (.iconst 0, 1) := dk_3 (dk_at dksX6_image_1 11 rfl rfl)
theorem dX6_image_34 : decode cX6_image 34 = .ok (.istore_n 2, 1) := dk_61 (dk_at dksX6_image_1 12 rfl rfl)
theorem dX6_image_35 : decode cX6_image 35 = .ok (.iload_n 2, 1) := dk_28 (dk_at dksX6_image_1 13 rfl rfl)
theorem dX6_image_36 : decode cX6_image 36 = .ok (.bipush 48, 2) := dk_16 48 (dk_at dksX6_image_1 14 rfl rfl)
theorem dX6_image_38 : decode cX6_image 38 = .ok (.if_icmp .ge 60, 3) := dk_162 0 60 (dk_at dksX6_image_1 16 rfl rfl)
theorem dX6_image_41 : decode cX6_image 41 = .ok (.aload_n 0, 1) := dk_42 (dk_at dksX6_image_1 19 rfl rfl)
theorem dX6_image_42 : decode cX6_image 42 = .ok (.iload_n 1, 1) := dk_27 (dk_at dksX6_image_1 20 rfl rfl)
theorem dX6_image_43 : decode cX6_image 43 = .ok (.iload_n 2, 1) := dk_28 (dk_at dksX6_image_1 21 rfl rfl)
theorem dX6_image_44 : decode cX6_image 44 = .ok (.invokevirtual 499, 3) := dk_182 1 243 (dk_at dksX6_image_2 0 rfl rfl)
theorem dX6_image_47 : decode cX6_image 47 = .ok (.iconst (-1), 1) := dk_2 (dk_at dksX6_image_2 3 rfl rfl)
theorem dX6_image_48 : decode cX6_image 48 = .ok (.if_icmp .ne 6, 3) := dk_160 0 6 (dk_at dksX6_image_2 4 rfl rfl)
theorem dX6_image_51 : decode cX6_image 51 = .ok (.goto 41, 3) := dk_167 0 41 (dk_at dksX6_image_2 7 rfl rfl)
theorem dX6_image_54 : decode cX6_image 54 = .ok (.aload_n 0, 1) := dk_42 (dk_at dksX6_image_2 10 rfl rfl)
theorem dX6_image_55 : decode cX6_image 55 = .ok (.iload_n 1, 1) := dk_27 (dk_at dksX6_image_2 11 rfl rfl)
theorem dX6_image_56 : decode cX6_image 56 = .ok (.invokevirtual 641, 3) := dk_182 2 129 (dk_at dksX6_image_2 12 rfl rfl)
theorem dX6_image_59 : decode cX6_image 59 = .ok (.aload_n 0, 1) := dk_42 (dk_at dksX6_image_2 15 rfl rfl)
theorem dX6_image_60 : decode cX6_image 60 = .ok (.iload_n 2, 1) := dk_28 (dk_at dksX6_image_2 16 rfl rfl)
theorem dX6_image_61 : decode cX6_image 61 = .ok (.invokevirtual 641, 3) := dk_182 2 129 (dk_at dksX6_image_2 17 rfl rfl)
theorem dX6_image_64 : decode cX6_image 64 = .ok (.aload_n 0, 1) := dk_42 (dk_at dksX6_image_2 20 rfl rfl)
theorem dX6_image_65 : decode cX6_image 65 = .ok (.aload_n 0, 1) := dk_42 (dk_at dksX6_image_2 21 rfl rfl)
theorem dX6_image_66 : decode cX6_image 66 = .ok (.iload_n 1, 1) := dk_27 (dk_at dksX6_image_2 22 rfl rfl)
theorem dX6_image_67 : decode cX6_image 67 = .ok (.iload_n 2, 1) := dk_28 (dk_at dksX6_image_2 23 rfl rfl)
theorem dX6_image_68 : decode cX6_image 68 = .ok (.invokevirtual 499, 3) := dk_182 1 243 (dk_at dksX6_image_3 0 rfl rfl)
theorem dX6_image_71 : decode cX6_image 71 = .ok (.invokevirtual 641, 3) := dk_182 2 129 (dk_at dksX6_image_3 3 rfl rfl)
theorem dX6_image_74 : decode cX6_image 74 = .ok (.aload_n 0, 1) := dk_42 (dk_at dksX6_image_3 6 rfl rfl)
theorem dX6_image_75 : decode cX6_image 75 = .ok (.aload_n 0, 1) := dk_42 (dk_at dksX6_image_3 7 rfl rfl)
theorem dX6_image_76 : decode cX6_image 76 = .ok (.iload_n 1, 1) := dk_27 (dk_at dksX6_image_3 8 rfl rfl)
theorem dX6_image_77 : decode cX6_image 77 = .ok (.iload_n 2, 1) := dk_28 (dk_at dksX6_image_3 9 rfl rfl)
theorem dX6_image_78 : decode cX6_image 78 = .ok (.invokevirtual 527, 3) := dk_182 2 15 (dk_at dksX6_image_3 10 rfl rfl)
theorem dX6_image_81 : decode cX6_image 81 = .ok (.ifCond .eq 7, 3) := dk_153 0 7 (dk_at dksX6_image_3 13 rfl rfl)
theorem dX6_image_84 : decode cX6_image 84 = .ok (.iconst 1, 1) := dk_4 (dk_at dksX6_image_3 16 rfl rfl)
theorem dX6_image_85 : decode cX6_image 85 = .ok (.goto 4, 3) := dk_167 0 4 (dk_at dksX6_image_3 17 rfl rfl)
theorem dX6_image_88 : decode cX6_image 88 = .ok (.iconst 0, 1) := dk_3 (dk_at dksX6_image_3 20 rfl rfl)
theorem dX6_image_89 : decode cX6_image 89 = .ok (.invokevirtual 641, 3) := dk_182 2 129 (dk_at dksX6_image_3 21 rfl rfl)
theorem dX6_image_92 : decode cX6_image 92 = .ok (.iinc 2 1, 3) := dk_132 2 1 (dk_at dksX6_image_4 0 rfl rfl)
theorem dX6_image_95 : decode cX6_image 95 = .ok (.goto (-60), 3) := dk_167 255 196 (dk_at dksX6_image_4 3 rfl rfl)
theorem dX6_image_98 : decode cX6_image 98 = .ok (.iinc 1 1, 3) := dk_132 1 1 (dk_at dksX6_image_4 6 rfl rfl)
theorem dX6_image_101 : decode cX6_image 101 = .ok (.goto (-81), 3) := dk_167 255 175 (dk_at dksX6_image_4 9 rfl rfl)
theorem dX6_image_104 : decode cX6_image 104 = .ok (.aload_n 0, 1) := dk_42 (dk_at dksX6_image_4 12 rfl rfl)
theorem dX6_image_105 : decode cX6_image 105 = .ok (.aload_n 0, 1) := dk_42 (dk_at dksX6_image_4 13 rfl rfl)
theorem dX6_image_106 : decode cX6_image 106 = .ok (.getfield 113, 3) := dk_180 0 113 (dk_at dksX6_image_4 14 rfl rfl)
theorem dX6_image_109 : decode cX6_image 109 = .ok (.aload_n 0, 1) := dk_42 (dk_at dksX6_image_4 17 rfl rfl)
theorem dX6_image_110 : decode cX6_image 110 = .ok (.getfield 48, 3) := dk_180 0 48 (dk_at dksX6_image_4 18 rfl rfl)
theorem dX6_image_113 : decode cX6_image 113 = .ok (.iaload, 1) := dk_46 (dk_at dksX6_image_4 21 rfl rfl)
theorem dX6_image_114 : decode cX6_image 114 = .ok (.invokevirtual 641, 3) := dk_182 2 129 (dk_at dksX6_image_5 0 rfl rfl)
theorem dX6_image_117 : decode cX6_image 117 = .ok (.bipush 40, 2) := dk_16 40 (dk_at dksX6_image_5 3 rfl rfl)
theorem dX6_image_119 : decode cX6_image 119 = .ok (.aload_n 0, 1) := dk_42 (dk_at dksX6_image_5 5 rfl rfl)
theorem dX6_image_120 : decode cX6_image 120 = .ok (.getfield 48, 3) := dk_180 0 48 (dk_at dksX6_image_5 6 rfl rfl)
theorem dX6_image_123 : decode cX6_image 123 = .ok (.imul, 1) := dk_104 (dk_at dksX6_image_5 9 rfl rfl)
theorem dX6_image_124 : decode cX6_image 124 = .ok (.istore_n 1, 1) := dk_60 (dk_at dksX6_image_5 10 rfl rfl)
theorem dX6_image_125 : decode cX6_image 125 = .ok (.iload_n 1, 1) := dk_27 (dk_at dksX6_image_5 11 rfl rfl)
theorem dX6_image_126 : decode cX6_image 126 = .ok (.bipush 40, 2) := dk_16 40 (dk_at dksX6_image_5 12 rfl rfl)
theorem dX6_image_128 : decode cX6_image 128 = .ok (.aload_n 0, 1) := dk_42 (dk_at dksX6_image_5 14 rfl rfl)
theorem dX6_image_129 : decode cX6_image 129 = .ok (.getfield 48, 3) := dk_180 0 48 (dk_at dksX6_image_5 15 rfl rfl)
theorem dX6_image_132 : decode cX6_image 132 = .ok (.imul, 1) := dk_104 (dk_at dksX6_image_5 18 rfl rfl)
theorem dX6_image_133 : decode cX6_image 133 = .ok (.aload_n 0, 1) := dk_42 (dk_at dksX6_image_5 19 rfl rfl)
theorem dX6_image_134 : decode cX6_image 134 = .ok (.getfield 113, 3) := dk_180 0 113 (dk_at dksX6_image_5 20 rfl rfl)
theorem dX6_image_137 : decode cX6_image 137 = .ok (.aload_n 0, 1) := dk_42 (dk_at dksX6_image_5 23 rfl rfl)
theorem dX6_image_138 : decode cX6_image 138 = .ok (.getfield 48, 3) := dk_180 0 48 (dk_at dksX6_image_6 0 rfl rfl)
theorem dX6_image_141 : decode cX6_image 141 = .ok (.iaload, 1) := dk_46 (dk_at dksX6_image_6 3 rfl rfl)
theorem dX6_image_142 : decode cX6_image 142 = .ok (.iadd, 1) := dk_96 (dk_at dksX6_image_6 4 rfl rfl)
theorem dX6_image_143 : decode cX6_image 143 = .ok (.if_icmp .ge 39, 3) := dk_162 0 39 (dk_at dksX6_image_6 5 rfl rfl)
theorem dX6_image_146 : decode cX6_image 146 = .ok (.aload_n 0, 1) := dk_42 (dk_at dksX6_image_6 8 rfl rfl)
theorem dX6_image_147 : decode cX6_image 147 = .ok (.aload_n 0, 1) := dk_42 (dk_at dksX6_image_6 9 rfl rfl)
theorem dX6_image_148 : decode cX6_image 148 = .ok (.getfield 116, 3) := dk_180 0 116 (dk_at dksX6_image_6 10 rfl rfl)
theorem dX6_image_151 : decode cX6_image 151 = .ok (.iload_n 1, 1) := dk_27 (dk_at dksX6_image_6 13 rfl rfl)
theorem dX6_image_152 : decode cX6_image 152 = .ok (.iaload, 1) := dk_46 (dk_at dksX6_image_6 14 rfl rfl)
theorem dX6_image_153 : decode cX6_image 153 = .ok (.invokevirtual 641, 3) := dk_182 2 129 (dk_at dksX6_image_6 15 rfl rfl)
theorem dX6_image_156 : decode cX6_image 156 = .ok (.aload_n 0, 1) := dk_42 (dk_at dksX6_image_6 18 rfl rfl)
theorem dX6_image_157 : decode cX6_image 157 = .ok (.aload_n 0, 1) := dk_42 (dk_at dksX6_image_6 19 rfl rfl)
theorem dX6_image_158 : decode cX6_image 158 = .ok (.getfield 119, 3) := dk_180 0 119 (dk_at dksX6_image_6 20 rfl rfl)
theorem dX6_image_161 : decode cX6_image 161 = .ok (.iload_n 1, 1) := dk_27 (dk_at dksX6_image_6 23 rfl rfl)
theorem dX6_image_162 : decode cX6_image 162 = .ok (.iaload, 1) := dk_46 (dk_at dksX6_image_7 0 rfl rfl)
theorem dX6_image_163 : decode cX6_image 163 = .ok (.invokevirtual 641, 3) := dk_182 2 129 (dk_at dksX6_image_7 1 rfl rfl)
theorem dX6_image_166 : decode cX6_image 166 = .ok (.aload_n 0, 1) := dk_42 (dk_at dksX6_image_7 4 rfl rfl)
theorem dX6_image_167 : decode cX6_image 167 = .ok (.aload_n 0, 1) := dk_42 (dk_at dksX6_image_7 5 rfl rfl)
theorem dX6_image_168 : decode cX6_image 168 = .ok (.getfield 122, 3) := dk_180 0 122 (dk_at dksX6_image_7 6 rfl rfl)
theorem dX6_image_171 : decode cX6_image 171 = .ok (.iload_n 1, 1) := dk_27 (dk_at dksX6_image_7 9 rfl rfl)
theorem dX6_image_172 : decode cX6_image 172 = .ok (.iaload, 1) := dk_46 (dk_at dksX6_image_7 10 rfl rfl)
theorem dX6_image_173 : decode cX6_image 173 = .ok (.invokevirtual 641, 3) := dk_182 2 129 (dk_at dksX6_image_7 11 rfl rfl)
theorem dX6_image_176 : decode cX6_image 176 = .ok (.iinc 1 1, 3) := dk_132 1 1 (dk_at dksX6_image_7 14 rfl rfl)
theorem dX6_image_179 : decode cX6_image 179 = .ok (.goto (-54), 3) := dk_167 255 202 (dk_at dksX6_image_7 17 rfl rfl)
theorem dX6_image_182 : decode cX6_image 182 = .ok (.bipush 29, 2) := dk_16 29 (dk_at dksX6_image_7 20 rfl rfl)
theorem dX6_image_184 : decode cX6_image 184 = .ok (.istore_n 1, 1) := dk_60 (dk_at dksX6_image_7 22 rfl rfl)
theorem dX6_image_185 : decode cX6_image 185 = .ok (.iconst 0, 1) := dk_3 (dk_at dksX6_image_7 23 rfl rfl)
theorem dX6_image_186 : decode cX6_image 186 = .ok (.istore_n 2, 1) := dk_61 (dk_at dksX6_image_8 0 rfl rfl)
theorem dX6_image_187 : decode cX6_image 187 = .ok (.iload_n 2, 1) := dk_28 (dk_at dksX6_image_8 1 rfl rfl)
theorem dX6_image_188 : decode cX6_image 188 = .ok (.aload_n 0, 1) := dk_42 (dk_at dksX6_image_8 2 rfl rfl)
theorem dX6_image_189 : decode cX6_image 189 = .ok (.getfield 261, 3) := dk_180 1 5 (dk_at dksX6_image_8 3 rfl rfl)
theorem dX6_image_192 : decode cX6_image 192 = .ok (.if_icmp .ge 24, 3) := dk_162 0 24 (dk_at dksX6_image_8 6 rfl rfl)
theorem dX6_image_195 : decode cX6_image 195 = .ok (.iconst 3, 1) := dk_6 (dk_at dksX6_image_8 9 rfl rfl)
theorem dX6_image_196 : decode cX6_image 196 = .ok (.iload_n 1, 1) := dk_27 (dk_at dksX6_image_8 10 rfl rfl)
theorem dX6_image_197 : decode cX6_image 197 = .ok (.imul, 1) := dk_104 (dk_at dksX6_image_8 11 rfl rfl)
theorem dX6_image_198 : decode cX6_image 198 = .ok (.aload_n 0, 1) := dk_42 (dk_at dksX6_image_8 12 rfl rfl)
theorem dX6_image_199 : decode cX6_image 199 = .ok (.getfield 258, 3) := dk_180 1 2 (dk_at dksX6_image_8 13 rfl rfl)
theorem dX6_image_202 : decode cX6_image 202 = .ok (.iload_n 2, 1) := dk_28 (dk_at dksX6_image_8 16 rfl rfl)
theorem dX6_image_203 : decode cX6_image 203 = .ok (.iaload, 1) := dk_46 (dk_at dksX6_image_8 17 rfl rfl)
theorem dX6_image_204 : decode cX6_image 204 = .ok (.iadd, 1) := dk_96 (dk_at dksX6_image_8 18 rfl rfl)
theorem dX6_image_205 : decode cX6_image 205 = .ok (.sipush 241, 3) := dk_17 0 241 (dk_at dksX6_image_8 19 rfl rfl)
theorem dX6_image_208 : decode cX6_image 208 = .ok (.irem, 1) := dk_112 (dk_at dksX6_image_8 22 rfl rfl)
theorem dX6_image_209 : decode cX6_image 209 = .ok (.istore_n 1, 1) := dk_60 (dk_at dksX6_image_8 23 rfl rfl)
theorem dX6_image_210 : decode cX6_image 210 = .ok (.iinc 2 1, 3) := dk_132 2 1 (dk_at dksX6_image_9 0 rfl rfl)
theorem dX6_image_213 : decode cX6_image 213 = .ok (.goto (-26), 3) := dk_167 255 230 (dk_at dksX6_image_9 3 rfl rfl)
theorem dX6_image_216 : decode cX6_image 216 = .ok (.aload_n 0, 1) := dk_42 (dk_at dksX6_image_9 6 rfl rfl)
theorem dX6_image_217 : decode cX6_image 217 = .ok (.iload_n 1, 1) := dk_27 (dk_at dksX6_image_9 7 rfl rfl)
theorem dX6_image_218 : decode cX6_image 218 = .ok (.invokevirtual 641, 3) := dk_182 2 129 (dk_at dksX6_image_9 8 rfl rfl)
theorem dX6_image_221 : decode cX6_image 221 = .ok (.aload_n 0, 1) := dk_42 (dk_at dksX6_image_9 11 rfl rfl)
theorem dX6_image_222 : decode cX6_image 222 = .ok (.getfield 261, 3) := dk_180 1 5 (dk_at dksX6_image_9 12 rfl rfl)
theorem dX6_image_225 : decode cX6_image 225 = .ok (.ireturn, 1) := dk_172 (dk_at dksX6_image_9 15 rfl rfl)
abbrev cX6_writes : ByteArray := prog_29_method_133_code
def yX6_writes : MethodName := ⟨RX6, "writes", "(I)V"⟩
def dkwX6_writes_1 : List UInt8 := [177]
abbrev dktX6_writes_1 : List UInt8 := dkwX6_writes_1 ++ []
def dkwX6_writes_0 : List UInt8 := [42, 180, 1, 2, 42, 180, 1, 5, 27, 17, 0, 255, 126, 79, 42, 89, 180, 1, 5, 4, 96, 181, 1, 5]
abbrev dktX6_writes_0 : List UInt8 := dkwX6_writes_0 ++ dktX6_writes_1
theorem dksX6_writes_0 : cX6_writes.data.toList.drop 0 = dktX6_writes_0 := by decide +kernel
theorem dksX6_writes_1 : cX6_writes.data.toList.drop 24 = dktX6_writes_1 := dk_seg dksX6_writes_0 24 rfl rfl
theorem dX6_writes_0 : decode cX6_writes 0 = .ok (.aload_n 0, 1) := dk_42 (dk_at dksX6_writes_0 0 rfl rfl)
theorem dX6_writes_1 : decode cX6_writes 1 = .ok (.getfield 258, 3) := dk_180 1 2 (dk_at dksX6_writes_0 1 rfl rfl)
theorem dX6_writes_4 : decode cX6_writes 4 = .ok (.aload_n 0, 1) := dk_42 (dk_at dksX6_writes_0 4 rfl rfl)
theorem dX6_writes_5 : decode cX6_writes 5 = .ok (.getfield 261, 3) := dk_180 1 5 (dk_at dksX6_writes_0 5 rfl rfl)
theorem dX6_writes_8 : decode cX6_writes 8 = .ok (.iload_n 1, 1) := dk_27 (dk_at dksX6_writes_0 8 rfl rfl)
theorem dX6_writes_9 : decode cX6_writes 9 = .ok (.sipush 255, 3) := dk_17 0 255 (dk_at dksX6_writes_0 9 rfl rfl)
theorem dX6_writes_12 : decode cX6_writes 12 = .ok (.iand, 1) := dk_126 (dk_at dksX6_writes_0 12 rfl rfl)
theorem dX6_writes_13 : decode cX6_writes 13 = .ok (.iastore, 1) := dk_79 (dk_at dksX6_writes_0 13 rfl rfl)
theorem dX6_writes_14 : decode cX6_writes 14 = .ok (.aload_n 0, 1) := dk_42 (dk_at dksX6_writes_0 14 rfl rfl)
theorem dX6_writes_15 : decode cX6_writes 15 = .ok (.dup, 1) := dk_89 (dk_at dksX6_writes_0 15 rfl rfl)
theorem dX6_writes_16 : decode cX6_writes 16 = .ok (.getfield 261, 3) := dk_180 1 5 (dk_at dksX6_writes_0 16 rfl rfl)
theorem dX6_writes_19 : decode cX6_writes 19 = .ok (.iconst 1, 1) := dk_4 (dk_at dksX6_writes_0 19 rfl rfl)
theorem dX6_writes_20 : decode cX6_writes 20 = .ok (.iadd, 1) := dk_96 (dk_at dksX6_writes_0 20 rfl rfl)
theorem dX6_writes_21 : decode cX6_writes 21 = .ok (.putfield 261, 3) := dk_181 1 5 (dk_at dksX6_writes_0 21 rfl rfl)
theorem dX6_writes_24 : decode cX6_writes 24 = .ok (.return_, 1) := dk_177 (dk_at dksX6_writes_1 0 rfl rfl)
abbrev cX6_octet : ByteArray := prog_29_method_135_code
def yX6_octet : MethodName := ⟨RX6, "octet", "(I)I"⟩
def dkwX6_octet_0 : List UInt8 := [27, 155, 0, 20, 27, 42, 180, 1, 5, 162, 0, 12, 42, 180, 1, 2, 27, 46, 167, 0, 4, 2, 172]
abbrev dktX6_octet_0 : List UInt8 := dkwX6_octet_0 ++ []
theorem dksX6_octet_0 : cX6_octet.data.toList.drop 0 = dktX6_octet_0 := by decide +kernel
theorem dX6_octet_0 : decode cX6_octet 0 = .ok (.iload_n 1, 1) := dk_27 (dk_at dksX6_octet_0 0 rfl rfl)
theorem dX6_octet_1 : decode cX6_octet 1 = .ok (.ifCond .lt 20, 3) := dk_155 0 20 (dk_at dksX6_octet_0 1 rfl rfl)
theorem dX6_octet_4 : decode cX6_octet 4 = .ok (.iload_n 1, 1) := dk_27 (dk_at dksX6_octet_0 4 rfl rfl)
theorem dX6_octet_5 : decode cX6_octet 5 = .ok (.aload_n 0, 1) := dk_42 (dk_at dksX6_octet_0 5 rfl rfl)
theorem dX6_octet_6 : decode cX6_octet 6 = .ok (.getfield 261, 3) := dk_180 1 5 (dk_at dksX6_octet_0 6 rfl rfl)
theorem dX6_octet_9 : decode cX6_octet 9 = .ok (.if_icmp .ge 12, 3) := dk_162 0 12 (dk_at dksX6_octet_0 9 rfl rfl)
theorem dX6_octet_12 : decode cX6_octet 12 = .ok (.aload_n 0, 1) := dk_42 (dk_at dksX6_octet_0 12 rfl rfl)
theorem dX6_octet_13 : decode cX6_octet 13 = .ok (.getfield 258, 3) := dk_180 1 2 (dk_at dksX6_octet_0 13 rfl rfl)
theorem dX6_octet_16 : decode cX6_octet 16 = .ok (.iload_n 1, 1) := dk_27 (dk_at dksX6_octet_0 16 rfl rfl)
theorem dX6_octet_17 : decode cX6_octet 17 = .ok (.iaload, 1) := dk_46 (dk_at dksX6_octet_0 17 rfl rfl)
theorem dX6_octet_18 : decode cX6_octet 18 = .ok (.goto 4, 3) := dk_167 0 4 (dk_at dksX6_octet_0 18 rfl rfl)
theorem dX6_octet_21 : decode cX6_octet 21 = .ok (.iconst (-1), 1) := dk_2 (dk_at dksX6_octet_0 21 rfl rfl)
theorem dX6_octet_22 : decode cX6_octet 22 = .ok (.ireturn, 1) := dk_172 (dk_at dksX6_octet_0 22 rfl rfl)
abbrev cX6_on : ByteArray := prog_29_method_137_code
def yX6_on : MethodName := ⟨RX6, "on", "()Z"⟩
def dkwX6_on_8 : List UInt8 := [132, 3, 3, 167, 255, 220, 4, 172]
abbrev dktX6_on_8 : List UInt8 := dkwX6_on_8 ++ []
def dkwX6_on_7 : List UInt8 := [180, 0, 7, 29, 46, 42, 180, 0, 7, 29, 4, 96, 46, 42, 180, 0, 7, 29, 5, 96, 46, 182, 2, 126]
abbrev dktX6_on_7 : List UInt8 := dkwX6_on_7 ++ dktX6_on_8
def dkwX6_on_6 : List UInt8 := [3, 182, 2, 120, 132, 3, 4, 167, 255, 205, 28, 4, 96, 62, 29, 27, 4, 100, 162, 0, 35, 42, 42]
abbrev dktX6_on_6 : List UInt8 := dkwX6_on_6 ++ dktX6_on_7
def dkwX6_on_5 : List UInt8 := [42, 180, 0, 7, 29, 5, 96, 46, 42, 180, 0, 7, 29, 6, 96, 46, 4, 160, 0, 7, 4, 167, 0, 4]
abbrev dktX6_on_5 : List UInt8 := dkwX6_on_5 ++ dktX6_on_6
def dkwX6_on_4 : List UInt8 := [96, 61, 4, 62, 29, 28, 162, 0, 52, 42, 42, 180, 0, 7, 29, 46, 42, 180, 0, 7, 29, 4, 96, 46]
abbrev dktX6_on_4 : List UInt8 := dkwX6_on_4 ++ dktX6_on_5
def dkwX6_on_3 : List UInt8 := [180, 0, 48, 3, 79, 42, 180, 0, 113, 42, 180, 0, 48, 3, 79, 4, 7, 42, 180, 0, 7, 3, 46, 104]
abbrev dktX6_on_3 : List UInt8 := dkwX6_on_3 ++ dktX6_on_4
def dkwX6_on_2 : List UInt8 := [17, 1, 128, 42, 180, 0, 48, 104, 28, 96, 2, 79, 132, 2, 1, 167, 255, 230, 42, 180, 0, 88, 42]
abbrev dktX6_on_2 : List UInt8 := dkwX6_on_2 ++ dktX6_on_3
def dkwX6_on_1 : List UInt8 := [155, 0, 7, 4, 167, 0, 4, 3, 172, 3, 61, 28, 17, 1, 128, 162, 0, 25, 42, 180, 0, 91]
abbrev dktX6_on_1 : List UInt8 := dkwX6_on_1 ++ dktX6_on_2
def dkwX6_on_0 : List UInt8 := [42, 180, 0, 13, 60, 42, 3, 181, 0, 13, 42, 27, 182, 2, 132, 154, 0, 17, 42, 7, 182, 1, 8]
abbrev dktX6_on_0 : List UInt8 := dkwX6_on_0 ++ dktX6_on_1
theorem dksX6_on_0 : cX6_on.data.toList.drop 0 = dktX6_on_0 := by decide +kernel
theorem dksX6_on_1 : cX6_on.data.toList.drop 23 = dktX6_on_1 := dk_seg dksX6_on_0 23 rfl rfl
theorem dksX6_on_2 : cX6_on.data.toList.drop 45 = dktX6_on_2 := dk_seg dksX6_on_1 22 rfl rfl
theorem dksX6_on_3 : cX6_on.data.toList.drop 68 = dktX6_on_3 := dk_seg dksX6_on_2 23 rfl rfl
theorem dksX6_on_4 : cX6_on.data.toList.drop 92 = dktX6_on_4 := dk_seg dksX6_on_3 24 rfl rfl
theorem dksX6_on_5 : cX6_on.data.toList.drop 116 = dktX6_on_5 := dk_seg dksX6_on_4 24 rfl rfl
theorem dksX6_on_6 : cX6_on.data.toList.drop 140 = dktX6_on_6 := dk_seg dksX6_on_5 24 rfl rfl
theorem dksX6_on_7 : cX6_on.data.toList.drop 163 = dktX6_on_7 := dk_seg dksX6_on_6 23 rfl rfl
theorem dksX6_on_8 : cX6_on.data.toList.drop 187 = dktX6_on_8 := dk_seg dksX6_on_7 24 rfl rfl
theorem dX6_on_0 : decode cX6_on 0 = .ok (.aload_n 0, 1) := dk_42 (dk_at dksX6_on_0 0 rfl rfl)
theorem dX6_on_1 : decode cX6_on 1 = .ok (.getfield 13, 3) := dk_180 0 13 (dk_at dksX6_on_0 1 rfl rfl)
theorem dX6_on_4 : decode cX6_on 4 = .ok (.istore_n 1, 1) := dk_60 (dk_at dksX6_on_0 4 rfl rfl)
theorem dX6_on_5 : decode cX6_on 5 = .ok (.aload_n 0, 1) := dk_42 (dk_at dksX6_on_0 5 rfl rfl)
theorem dX6_on_6 : decode cX6_on 6 = .ok (.iconst 0, 1) := dk_3 (dk_at dksX6_on_0 6 rfl rfl)
theorem dX6_on_7 : decode cX6_on 7 = .ok (.putfield 13, 3) := dk_181 0 13 (dk_at dksX6_on_0 7 rfl rfl)
theorem dX6_on_10 : decode cX6_on 10 = .ok (.aload_n 0, 1) := dk_42 (dk_at dksX6_on_0 10 rfl rfl)
theorem dX6_on_11 : decode cX6_on 11 = .ok (.iload_n 1, 1) := dk_27 (dk_at dksX6_on_0 11 rfl rfl)
theorem dX6_on_12 : decode cX6_on 12 = .ok (.invokevirtual 644, 3) := dk_182 2 132 (dk_at dksX6_on_0 12 rfl rfl)
theorem dX6_on_15 : decode cX6_on 15 = .ok (.ifCond .ne 17, 3) := dk_154 0 17 (dk_at dksX6_on_0 15 rfl rfl)
theorem dX6_on_18 : decode cX6_on 18 = .ok (.aload_n 0, 1) := dk_42 (dk_at dksX6_on_0 18 rfl rfl)
theorem dX6_on_19 : decode cX6_on 19 = .ok (.iconst 4, 1) := dk_7 (dk_at dksX6_on_0 19 rfl rfl)
theorem dX6_on_20 : decode cX6_on 20 = .ok (.invokevirtual 264, 3) := dk_182 1 8 (dk_at dksX6_on_0 20 rfl rfl)
theorem dX6_on_23 : decode cX6_on 23 = .ok (.ifCond .lt 7, 3) := dk_155 0 7 (dk_at dksX6_on_1 0 rfl rfl)
theorem dX6_on_26 : decode cX6_on 26 = .ok (.iconst 1, 1) := dk_4 (dk_at dksX6_on_1 3 rfl rfl)
theorem dX6_on_27 : decode cX6_on 27 = .ok (.goto 4, 3) := dk_167 0 4 (dk_at dksX6_on_1 4 rfl rfl)
theorem dX6_on_30 : decode cX6_on 30 = .ok (.iconst 0, 1) := dk_3 (dk_at dksX6_on_1 7 rfl rfl)
theorem dX6_on_31 : decode cX6_on 31 = .ok (.ireturn, 1) := dk_172 (dk_at dksX6_on_1 8 rfl rfl)
theorem dX6_on_32 : decode cX6_on 32 = .ok (.iconst 0, 1) := dk_3 (dk_at dksX6_on_1 9 rfl rfl)
theorem dX6_on_33 : decode cX6_on 33 = .ok (.istore_n 2, 1) := dk_61 (dk_at dksX6_on_1 10 rfl rfl)
theorem dX6_on_34 : decode cX6_on 34 = .ok (.iload_n 2, 1) := dk_28 (dk_at dksX6_on_1 11 rfl rfl)
theorem dX6_on_35 : decode cX6_on 35 = .ok (.sipush 384, 3) := dk_17 1 128 (dk_at dksX6_on_1 12 rfl rfl)
theorem dX6_on_38 : decode cX6_on 38 = .ok (.if_icmp .ge 25, 3) := dk_162 0 25 (dk_at dksX6_on_1 15 rfl rfl)
theorem dX6_on_41 : decode cX6_on 41 = .ok (.aload_n 0, 1) := dk_42 (dk_at dksX6_on_1 18 rfl rfl)
theorem dX6_on_42 : decode cX6_on 42 = .ok (.getfield 91, 3) := dk_180 0 91 (dk_at dksX6_on_1 19 rfl rfl)
theorem dX6_on_45 : decode cX6_on 45 = .ok (.sipush 384, 3) := dk_17 1 128 (dk_at dksX6_on_2 0 rfl rfl)
theorem dX6_on_48 : decode cX6_on 48 = .ok (.aload_n 0, 1) := dk_42 (dk_at dksX6_on_2 3 rfl rfl)
theorem dX6_on_49 : decode cX6_on 49 = .ok (.getfield 48, 3) := dk_180 0 48 (dk_at dksX6_on_2 4 rfl rfl)
theorem dX6_on_52 : decode cX6_on 52 = .ok (.imul, 1) := dk_104 (dk_at dksX6_on_2 7 rfl rfl)
theorem dX6_on_53 : decode cX6_on 53 = .ok (.iload_n 2, 1) := dk_28 (dk_at dksX6_on_2 8 rfl rfl)
theorem dX6_on_54 : decode cX6_on 54 = .ok (.iadd, 1) := dk_96 (dk_at dksX6_on_2 9 rfl rfl)
theorem dX6_on_55 : decode cX6_on 55 = .ok (.iconst (-1), 1) := dk_2 (dk_at dksX6_on_2 10 rfl rfl)
theorem dX6_on_56 : decode cX6_on 56 = .ok (.iastore, 1) := dk_79 (dk_at dksX6_on_2 11 rfl rfl)
theorem dX6_on_57 : decode cX6_on 57 = .ok (.iinc 2 1, 3) := dk_132 2 1 (dk_at dksX6_on_2 12 rfl rfl)
theorem dX6_on_60 : decode cX6_on 60 = .ok (.goto (-26), 3) := dk_167 255 230 (dk_at dksX6_on_2 15 rfl rfl)
theorem dX6_on_63 : decode cX6_on 63 = .ok (.aload_n 0, 1) := dk_42 (dk_at dksX6_on_2 18 rfl rfl)
theorem dX6_on_64 : decode cX6_on 64 = .ok (.getfield 88, 3) := dk_180 0 88 (dk_at dksX6_on_2 19 rfl rfl)
theorem dX6_on_67 : decode cX6_on 67 = .ok (.aload_n 0, 1) := dk_42 (dk_at dksX6_on_2 22 rfl rfl)
theorem dX6_on_68 : decode cX6_on 68 = .ok (.getfield 48, 3) := dk_180 0 48 (dk_at dksX6_on_3 0 rfl rfl)
theorem dX6_on_71 : decode cX6_on 71 = .ok (.iconst 0, 1) := dk_3 (dk_at dksX6_on_3 3 rfl rfl)
theorem dX6_on_72 : decode cX6_on 72 = .ok (.iastore, 1) := dk_79 (dk_at dksX6_on_3 4 rfl rfl)
theorem dX6_on_73 : decode cX6_on 73 = .ok (.aload_n 0, 1) := dk_42 (dk_at dksX6_on_3 5 rfl rfl)
theorem dX6_on_74 : decode cX6_on 74 = .ok (.getfield 113, 3) := dk_180 0 113 (dk_at dksX6_on_3 6 rfl rfl)
theorem dX6_on_77 : decode cX6_on 77 = .ok (.aload_n 0, 1) := dk_42 (dk_at dksX6_on_3 9 rfl rfl)
theorem dX6_on_78 : decode cX6_on 78 = .ok (.getfield 48, 3) := dk_180 0 48 (dk_at dksX6_on_3 10 rfl rfl)
theorem dX6_on_81 : decode cX6_on 81 = .ok (.iconst 0, 1) := dk_3 (dk_at dksX6_on_3 13 rfl rfl)
theorem dX6_on_82 : decode cX6_on 82 = .ok (.iastore, 1) := dk_79 (dk_at dksX6_on_3 14 rfl rfl)
theorem dX6_on_83 : decode cX6_on 83 = .ok (.iconst 1, 1) := dk_4 (dk_at dksX6_on_3 15 rfl rfl)
theorem dX6_on_84 : decode cX6_on 84 = .ok (.iconst 4, 1) := dk_7 (dk_at dksX6_on_3 16 rfl rfl)
theorem dX6_on_85 : decode cX6_on 85 = .ok (.aload_n 0, 1) := dk_42 (dk_at dksX6_on_3 17 rfl rfl)
theorem dX6_on_86 : decode cX6_on 86 = .ok (.getfield 7, 3) := dk_180 0 7 (dk_at dksX6_on_3 18 rfl rfl)
theorem dX6_on_89 : decode cX6_on 89 = .ok (.iconst 0, 1) := dk_3 (dk_at dksX6_on_3 21 rfl rfl)
theorem dX6_on_90 : decode cX6_on 90 = .ok (.iaload, 1) := dk_46 (dk_at dksX6_on_3 22 rfl rfl)
theorem dX6_on_91 : decode cX6_on 91 = .ok (.imul, 1) := dk_104 (dk_at dksX6_on_3 23 rfl rfl)
theorem dX6_on_92 : decode cX6_on 92 = .ok (.iadd, 1) := dk_96 (dk_at dksX6_on_4 0 rfl rfl)
theorem dX6_on_93 : decode cX6_on 93 = .ok (.istore_n 2, 1) := dk_61 (dk_at dksX6_on_4 1 rfl rfl)
theorem dX6_on_94 : decode cX6_on 94 = .ok (.iconst 1, 1) := dk_4 (dk_at dksX6_on_4 2 rfl rfl)
theorem dX6_on_95 : decode cX6_on 95 = .ok (.istore_n 3, 1) := dk_62 (dk_at dksX6_on_4 3 rfl rfl)
theorem dX6_on_96 : decode cX6_on 96 = .ok (.iload_n 3, 1) := dk_29 (dk_at dksX6_on_4 4 rfl rfl)
theorem dX6_on_97 : decode cX6_on 97 = .ok (.iload_n 2, 1) := dk_28 (dk_at dksX6_on_4 5 rfl rfl)
theorem dX6_on_98 : decode cX6_on 98 = .ok (.if_icmp .ge 52, 3) := dk_162 0 52 (dk_at dksX6_on_4 6 rfl rfl)
theorem dX6_on_101 : decode cX6_on 101 = .ok (.aload_n 0, 1) := dk_42 (dk_at dksX6_on_4 9 rfl rfl)
theorem dX6_on_102 : decode cX6_on 102 = .ok (.aload_n 0, 1) := dk_42 (dk_at dksX6_on_4 10 rfl rfl)
theorem dX6_on_103 : decode cX6_on 103 = .ok (.getfield 7, 3) := dk_180 0 7 (dk_at dksX6_on_4 11 rfl rfl)
theorem dX6_on_106 : decode cX6_on 106 = .ok (.iload_n 3, 1) := dk_29 (dk_at dksX6_on_4 14 rfl rfl)
theorem dX6_on_107 : decode cX6_on 107 = .ok (.iaload, 1) := dk_46 (dk_at dksX6_on_4 15 rfl rfl)
theorem dX6_on_108 : decode cX6_on 108 = .ok (.aload_n 0, 1) := dk_42 (dk_at dksX6_on_4 16 rfl rfl)
theorem dX6_on_109 : decode cX6_on 109 = .ok (.getfield 7, 3) := dk_180 0 7 (dk_at dksX6_on_4 17 rfl rfl)
theorem dX6_on_112 : decode cX6_on 112 = .ok (.iload_n 3, 1) := dk_29 (dk_at dksX6_on_4 20 rfl rfl)
theorem dX6_on_113 : decode cX6_on 113 = .ok (.iconst 1, 1) := dk_4 (dk_at dksX6_on_4 21 rfl rfl)
theorem dX6_on_114 : decode cX6_on 114 = .ok (.iadd, 1) := dk_96 (dk_at dksX6_on_4 22 rfl rfl)
theorem dX6_on_115 : decode cX6_on 115 = .ok (.iaload, 1) := dk_46 (dk_at dksX6_on_4 23 rfl rfl)
theorem dX6_on_116 : decode cX6_on 116 = .ok (.aload_n 0, 1) := dk_42 (dk_at dksX6_on_5 0 rfl rfl)
theorem dX6_on_117 : decode cX6_on 117 = .ok (.getfield 7, 3) := dk_180 0 7 (dk_at dksX6_on_5 1 rfl rfl)
theorem dX6_on_120 : decode cX6_on 120 = .ok (.iload_n 3, 1) := dk_29 (dk_at dksX6_on_5 4 rfl rfl)
theorem dX6_on_121 : decode cX6_on 121 = .ok (.iconst 2, 1) := dk_5 (dk_at dksX6_on_5 5 rfl rfl)
theorem dX6_on_122 : decode cX6_on 122 = .ok (.iadd, 1) := dk_96 (dk_at dksX6_on_5 6 rfl rfl)
theorem dX6_on_123 : decode cX6_on 123 = .ok (.iaload, 1) := dk_46 (dk_at dksX6_on_5 7 rfl rfl)
theorem dX6_on_124 : decode cX6_on 124 = .ok (.aload_n 0, 1) := dk_42 (dk_at dksX6_on_5 8 rfl rfl)
theorem dX6_on_125 : decode cX6_on 125 = .ok (.getfield 7, 3) := dk_180 0 7 (dk_at dksX6_on_5 9 rfl rfl)
theorem dX6_on_128 : decode cX6_on 128 = .ok (.iload_n 3, 1) := dk_29 (dk_at dksX6_on_5 12 rfl rfl)
theorem dX6_on_129 : decode cX6_on 129 = .ok (.iconst 3, 1) := dk_6 (dk_at dksX6_on_5 13 rfl rfl)
theorem dX6_on_130 : decode cX6_on 130 = .ok (.iadd, 1) := dk_96 (dk_at dksX6_on_5 14 rfl rfl)
theorem dX6_on_131 : decode cX6_on 131 = .ok (.iaload, 1) := dk_46 (dk_at dksX6_on_5 15 rfl rfl)
theorem dX6_on_132 : decode cX6_on 132 = .ok (.iconst 1, 1) := dk_4 (dk_at dksX6_on_5 16 rfl rfl)
theorem dX6_on_133 : decode cX6_on 133 = .ok (.if_icmp .ne 7, 3) := dk_160 0 7 (dk_at dksX6_on_5 17 rfl rfl)
theorem dX6_on_136 : decode cX6_on 136 = .ok (.iconst 1, 1) := dk_4 (dk_at dksX6_on_5 20 rfl rfl)
theorem dX6_on_137 : decode cX6_on 137 = .ok (.goto 4, 3) := dk_167 0 4 (dk_at dksX6_on_5 21 rfl rfl)
theorem dX6_on_140 : decode cX6_on 140 = .ok (.iconst 0, 1) := dk_3 (dk_at dksX6_on_6 0 rfl rfl)
theorem dX6_on_141 : decode cX6_on 141 = .ok (.invokevirtual 632, 3) := dk_182 2 120 (dk_at dksX6_on_6 1 rfl rfl)
theorem dX6_on_144 : decode cX6_on 144 = .ok (.iinc 3 4, 3) := dk_132 3 4 (dk_at dksX6_on_6 4 rfl rfl)
theorem dX6_on_147 : decode cX6_on 147 = .ok (.goto (-51), 3) := dk_167 255 205 (dk_at dksX6_on_6 7 rfl rfl)
theorem dX6_on_150 : decode cX6_on 150 = .ok (.iload_n 2, 1) := dk_28 (dk_at dksX6_on_6 10 rfl rfl)
theorem dX6_on_151 : decode cX6_on 151 = .ok (.iconst 1, 1) := dk_4 (dk_at dksX6_on_6 11 rfl rfl)
theorem dX6_on_152 : decode cX6_on 152 = .ok (.iadd, 1) := dk_96 (dk_at dksX6_on_6 12 rfl rfl)
theorem dX6_on_153 : decode cX6_on 153 = .ok (.istore_n 3, 1) := dk_62 (dk_at dksX6_on_6 13 rfl rfl)
theorem dX6_on_154 : decode cX6_on 154 = .ok (.iload_n 3, 1) := dk_29 (dk_at dksX6_on_6 14 rfl rfl)
theorem dX6_on_155 : decode cX6_on 155 = .ok (.iload_n 1, 1) := dk_27 (dk_at dksX6_on_6 15 rfl rfl)
theorem dX6_on_156 : decode cX6_on 156 = .ok (.iconst 1, 1) := dk_4 (dk_at dksX6_on_6 16 rfl rfl)
theorem dX6_on_157 : decode cX6_on 157 = .ok (.isub, 1) := dk_100 (dk_at dksX6_on_6 17 rfl rfl)
theorem dX6_on_158 : decode cX6_on 158 = .ok (.if_icmp .ge 35, 3) := dk_162 0 35 (dk_at dksX6_on_6 18 rfl rfl)
theorem dX6_on_161 : decode cX6_on 161 = .ok (.aload_n 0, 1) := dk_42 (dk_at dksX6_on_6 21 rfl rfl)
theorem dX6_on_162 : decode cX6_on 162 = .ok (.aload_n 0, 1) := dk_42 (dk_at dksX6_on_6 22 rfl rfl)
theorem dX6_on_163 : decode cX6_on 163 = .ok (.getfield 7, 3) := dk_180 0 7 (dk_at dksX6_on_7 0 rfl rfl)
theorem dX6_on_166 : decode cX6_on 166 = .ok (.iload_n 3, 1) := dk_29 (dk_at dksX6_on_7 3 rfl rfl)
theorem dX6_on_167 : decode cX6_on 167 = .ok (.iaload, 1) := dk_46 (dk_at dksX6_on_7 4 rfl rfl)
theorem dX6_on_168 : decode cX6_on 168 = .ok (.aload_n 0, 1) := dk_42 (dk_at dksX6_on_7 5 rfl rfl)
theorem dX6_on_169 : decode cX6_on 169 = .ok (.getfield 7, 3) := dk_180 0 7 (dk_at dksX6_on_7 6 rfl rfl)
theorem dX6_on_172 : decode cX6_on 172 = .ok (.iload_n 3, 1) := dk_29 (dk_at dksX6_on_7 9 rfl rfl)
theorem dX6_on_173 : decode cX6_on 173 = .ok (.iconst 1, 1) := dk_4 (dk_at dksX6_on_7 10 rfl rfl)
theorem dX6_on_174 : decode cX6_on 174 = .ok (.iadd, 1) := dk_96 (dk_at dksX6_on_7 11 rfl rfl)
theorem dX6_on_175 : decode cX6_on 175 = .ok (.iaload, 1) := dk_46 (dk_at dksX6_on_7 12 rfl rfl)
theorem dX6_on_176 : decode cX6_on 176 = .ok (.aload_n 0, 1) := dk_42 (dk_at dksX6_on_7 13 rfl rfl)
theorem dX6_on_177 : decode cX6_on 177 = .ok (.getfield 7, 3) := dk_180 0 7 (dk_at dksX6_on_7 14 rfl rfl)
theorem dX6_on_180 : decode cX6_on 180 = .ok (.iload_n 3, 1) := dk_29 (dk_at dksX6_on_7 17 rfl rfl)
theorem dX6_on_181 : decode cX6_on 181 = .ok (.iconst 2, 1) := dk_5 (dk_at dksX6_on_7 18 rfl rfl)
theorem dX6_on_182 : decode cX6_on 182 = .ok (.iadd, 1) := dk_96 (dk_at dksX6_on_7 19 rfl rfl)
theorem dX6_on_183 : decode cX6_on 183 = .ok (.iaload, 1) := dk_46 (dk_at dksX6_on_7 20 rfl rfl)
theorem dX6_on_184 : decode cX6_on 184 = .ok (.invokevirtual 638, 3) := dk_182 2 126 (dk_at dksX6_on_7 21 rfl rfl)
theorem dX6_on_187 : decode cX6_on 187 = .ok (.iinc 3 3, 3) := dk_132 3 3 (dk_at dksX6_on_8 0 rfl rfl)
theorem dX6_on_190 : decode cX6_on 190 = .ok (.goto (-36), 3) := dk_167 255 220 (dk_at dksX6_on_8 3 rfl rfl)
theorem dX6_on_193 : decode cX6_on 193 = .ok (.iconst 1, 1) := dk_4 (dk_at dksX6_on_8 6 rfl rfl)
theorem dX6_on_194 : decode cX6_on 194 = .ok (.ireturn, 1) := dk_172 (dk_at dksX6_on_8 7 rfl rfl)
abbrev cX6_isWhole : ByteArray := prog_29_method_136_code
def yX6_isWhole : MethodName := ⟨RX6, "isWhole", "(I)Z"⟩
def dkwX6_isWhole_12 : List UInt8 := [167, 255, 201, 4, 172]
abbrev dktX6_isWhole_12 : List UInt8 := dkwX6_isWhole_12 ++ []
def dkwX6_isWhole_11 : List UInt8 := [162, 0, 18, 42, 180, 0, 7, 21, 5, 5, 96, 46, 184, 1, 234, 154, 0, 5, 3, 172, 132, 5, 3]
abbrev dktX6_isWhole_11 : List UInt8 := dkwX6_isWhole_11 ++ dktX6_isWhole_12
def dkwX6_isWhole_10 : List UInt8 := [42, 180, 0, 7, 21, 5, 46, 6, 163, 0, 34, 42, 180, 0, 7, 21, 5, 4, 96, 46, 42, 182, 1, 223]
abbrev dktX6_isWhole_10 : List UInt8 := dkwX6_isWhole_10 ++ dktX6_isWhole_11
def dkwX6_isWhole_9 : List UInt8 := [172, 21, 6, 54, 4, 132, 5, 4, 167, 255, 154, 28, 4, 96, 54, 5, 21, 5, 27, 4, 100, 162, 0, 53]
abbrev dktX6_isWhole_9 : List UInt8 := dkwX6_isWhole_9 ++ dktX6_isWhole_10
def dkwX6_isWhole_8 : List UInt8 := [5, 96, 46, 42, 182, 1, 223, 162, 0, 16, 42, 180, 0, 7, 21, 5, 6, 96, 46, 4, 164, 0, 5, 3]
abbrev dktX6_isWhole_8 : List UInt8 := dkwX6_isWhole_8 ++ dktX6_isWhole_9
def dkwX6_isWhole_7 : List UInt8 := [21, 5, 4, 96, 46, 184, 1, 234, 153, 0, 39, 21, 6, 21, 4, 164, 0, 32, 42, 180, 0, 7, 21, 5]
abbrev dktX6_isWhole_7 : List UInt8 := dkwX6_isWhole_7 ++ dktX6_isWhole_8
def dkwX6_isWhole_6 : List UInt8 := [4, 96, 46, 96, 54, 6, 42, 42, 180, 0, 7, 21, 5, 46, 182, 1, 249, 153, 0, 54, 42, 180, 0, 7]
abbrev dktX6_isWhole_6 : List UInt8 := dkwX6_isWhole_6 ++ dktX6_isWhole_7
def dkwX6_isWhole_5 : List UInt8 := [54, 5, 21, 5, 28, 162, 0, 102, 16, 48, 42, 180, 0, 7, 21, 5, 46, 104, 42, 180, 0, 7, 21, 5]
abbrev dktX6_isWhole_5 : List UInt8 := dkwX6_isWhole_5 ++ dktX6_isWhole_6
def dkwX6_isWhole_4 : List UInt8 := [132, 4, 1, 167, 255, 229, 42, 180, 0, 7, 27, 4, 100, 46, 29, 159, 0, 5, 3, 172, 2, 54, 4, 4]
abbrev dktX6_isWhole_4 : List UInt8 := dkwX6_isWhole_4 ++ dktX6_isWhole_5
def dkwX6_isWhole_3 : List UInt8 := [21, 4, 27, 4, 100, 162, 0, 25, 6, 29, 104, 42, 180, 0, 7, 21, 4, 46, 96, 17, 0, 241, 112, 62]
abbrev dktX6_isWhole_3 : List UInt8 := dkwX6_isWhole_3 ++ dktX6_isWhole_4
def dkwX6_isWhole_2 : List UInt8 := [28, 5, 96, 6, 42, 180, 0, 7, 28, 46, 104, 96, 159, 0, 5, 3, 172, 16, 29, 62, 3, 54, 4]
abbrev dktX6_isWhole_2 : List UInt8 := dkwX6_isWhole_2 ++ dktX6_isWhole_3
def dkwX6_isWhole_1 : List UInt8 := [3, 46, 104, 96, 61, 28, 27, 4, 100, 162, 0, 30, 42, 180, 0, 7, 28, 46, 16, 40, 163, 0, 19, 27]
abbrev dktX6_isWhole_1 : List UInt8 := dkwX6_isWhole_1 ++ dktX6_isWhole_2
def dkwX6_isWhole_0 : List UInt8 := [27, 6, 161, 0, 14, 42, 180, 0, 7, 3, 46, 16, 96, 164, 0, 5, 3, 172, 4, 7, 42, 180, 0, 7]
abbrev dktX6_isWhole_0 : List UInt8 := dkwX6_isWhole_0 ++ dktX6_isWhole_1
theorem dksX6_isWhole_0 : cX6_isWhole.data.toList.drop 0 = dktX6_isWhole_0 := by decide +kernel
theorem dksX6_isWhole_1 : cX6_isWhole.data.toList.drop 24 = dktX6_isWhole_1 := dk_seg dksX6_isWhole_0 24 rfl rfl
theorem dksX6_isWhole_2 : cX6_isWhole.data.toList.drop 48 = dktX6_isWhole_2 := dk_seg dksX6_isWhole_1 24 rfl rfl
theorem dksX6_isWhole_3 : cX6_isWhole.data.toList.drop 71 = dktX6_isWhole_3 := dk_seg dksX6_isWhole_2 23 rfl rfl
theorem dksX6_isWhole_4 : cX6_isWhole.data.toList.drop 95 = dktX6_isWhole_4 := dk_seg dksX6_isWhole_3 24 rfl rfl
theorem dksX6_isWhole_5 : cX6_isWhole.data.toList.drop 119 = dktX6_isWhole_5 := dk_seg dksX6_isWhole_4 24 rfl rfl
theorem dksX6_isWhole_6 : cX6_isWhole.data.toList.drop 143 = dktX6_isWhole_6 := dk_seg dksX6_isWhole_5 24 rfl rfl
theorem dksX6_isWhole_7 : cX6_isWhole.data.toList.drop 167 = dktX6_isWhole_7 := dk_seg dksX6_isWhole_6 24 rfl rfl
theorem dksX6_isWhole_8 : cX6_isWhole.data.toList.drop 191 = dktX6_isWhole_8 := dk_seg dksX6_isWhole_7 24 rfl rfl
theorem dksX6_isWhole_9 : cX6_isWhole.data.toList.drop 215 = dktX6_isWhole_9 := dk_seg dksX6_isWhole_8 24 rfl rfl
theorem dksX6_isWhole_10 : cX6_isWhole.data.toList.drop 239 = dktX6_isWhole_10 := dk_seg dksX6_isWhole_9 24 rfl rfl
theorem dksX6_isWhole_11 : cX6_isWhole.data.toList.drop 263 = dktX6_isWhole_11 := dk_seg dksX6_isWhole_10 24 rfl rfl
theorem dksX6_isWhole_12 : cX6_isWhole.data.toList.drop 286 = dktX6_isWhole_12 := dk_seg dksX6_isWhole_11 23 rfl rfl
theorem dX6_isWhole_0 : decode cX6_isWhole 0 = .ok (.iload_n 1, 1) := dk_27 (dk_at dksX6_isWhole_0 0 rfl rfl)
theorem dX6_isWhole_1 : decode cX6_isWhole 1 = .ok (.iconst 3, 1) := dk_6 (dk_at dksX6_isWhole_0 1 rfl rfl)
theorem dX6_isWhole_2 : decode cX6_isWhole 2 = .ok (.if_icmp .lt 14, 3) := dk_161 0 14 (dk_at dksX6_isWhole_0 2 rfl rfl)
theorem dX6_isWhole_5 : decode cX6_isWhole 5 = .ok (.aload_n 0, 1) := dk_42 (dk_at dksX6_isWhole_0 5 rfl rfl)
theorem dX6_isWhole_6 : decode cX6_isWhole 6 = .ok (.getfield 7, 3) := dk_180 0 7 (dk_at dksX6_isWhole_0 6 rfl rfl)
theorem dX6_isWhole_9 : decode cX6_isWhole 9 = .ok (.iconst 0, 1) := dk_3 (dk_at dksX6_isWhole_0 9 rfl rfl)
theorem dX6_isWhole_10 : decode cX6_isWhole 10 = .ok (.iaload, 1) := dk_46 (dk_at dksX6_isWhole_0 10 rfl rfl)
theorem dX6_isWhole_11 : decode cX6_isWhole 11 = .ok (.bipush 96, 2) := dk_16 96 (dk_at dksX6_isWhole_0 11 rfl rfl)
theorem dX6_isWhole_13 : decode cX6_isWhole 13 = .ok (.if_icmp .le 5, 3) := dk_164 0 5 (dk_at dksX6_isWhole_0 13 rfl rfl)
theorem dX6_isWhole_16 : decode cX6_isWhole 16 = .ok (.iconst 0, 1) := dk_3 (dk_at dksX6_isWhole_0 16 rfl rfl)
theorem dX6_isWhole_17 : decode cX6_isWhole 17 = .ok (.ireturn, 1) := dk_172 (dk_at dksX6_isWhole_0 17 rfl rfl)
theorem dX6_isWhole_18 : decode cX6_isWhole 18 = .ok (.iconst 1, 1) := dk_4 (dk_at dksX6_isWhole_0 18 rfl rfl)
theorem dX6_isWhole_19 : decode cX6_isWhole 19 = .ok (.iconst 4, 1) := dk_7 (dk_at dksX6_isWhole_0 19 rfl rfl)
theorem dX6_isWhole_20 : decode cX6_isWhole 20 = .ok (.aload_n 0, 1) := dk_42 (dk_at dksX6_isWhole_0 20 rfl rfl)
theorem dX6_isWhole_21 : decode cX6_isWhole 21 = .ok (.getfield 7, 3) := dk_180 0 7 (dk_at dksX6_isWhole_0 21 rfl rfl)
theorem dX6_isWhole_24 : decode cX6_isWhole 24 = .ok (.iconst 0, 1) := dk_3 (dk_at dksX6_isWhole_1 0 rfl rfl)
theorem dX6_isWhole_25 : decode cX6_isWhole 25 = .ok (.iaload, 1) := dk_46 (dk_at dksX6_isWhole_1 1 rfl rfl)
theorem dX6_isWhole_26 : decode cX6_isWhole 26 = .ok (.imul, 1) := dk_104 (dk_at dksX6_isWhole_1 2 rfl rfl)
theorem dX6_isWhole_27 : decode cX6_isWhole 27 = .ok (.iadd, 1) := dk_96 (dk_at dksX6_isWhole_1 3 rfl rfl)
theorem dX6_isWhole_28 : decode cX6_isWhole 28 = .ok (.istore_n 2, 1) := dk_61 (dk_at dksX6_isWhole_1 4 rfl rfl)
theorem dX6_isWhole_29 : decode cX6_isWhole 29 = .ok (.iload_n 2, 1) := dk_28 (dk_at dksX6_isWhole_1 5 rfl rfl)
theorem dX6_isWhole_30 : decode cX6_isWhole 30 = .ok (.iload_n 1, 1) := dk_27 (dk_at dksX6_isWhole_1 6 rfl rfl)
theorem dX6_isWhole_31 : decode cX6_isWhole 31 = .ok (.iconst 1, 1) := dk_4 (dk_at dksX6_isWhole_1 7 rfl rfl)
theorem dX6_isWhole_32 : decode cX6_isWhole 32 = .ok (.isub, 1) := dk_100 (dk_at dksX6_isWhole_1 8 rfl rfl)
theorem dX6_isWhole_33 : decode cX6_isWhole 33 = .ok (.if_icmp .ge 30, 3) := dk_162 0 30 (dk_at dksX6_isWhole_1 9 rfl rfl)
theorem dX6_isWhole_36 : decode cX6_isWhole 36 = .ok (.aload_n 0, 1) := dk_42 (dk_at dksX6_isWhole_1 12 rfl rfl)
theorem dX6_isWhole_37 : decode cX6_isWhole 37 = .ok (.getfield 7, 3) := dk_180 0 7 (dk_at dksX6_isWhole_1 13 rfl rfl)
theorem dX6_isWhole_40 : decode cX6_isWhole 40 = .ok (.iload_n 2, 1) := dk_28 (dk_at dksX6_isWhole_1 16 rfl rfl)
theorem dX6_isWhole_41 : decode cX6_isWhole 41 = .ok (.iaload, 1) := dk_46 (dk_at dksX6_isWhole_1 17 rfl rfl)
theorem dX6_isWhole_42 : decode cX6_isWhole 42 = .ok (.bipush 40, 2) := dk_16 40 (dk_at dksX6_isWhole_1 18 rfl rfl)
theorem dX6_isWhole_44 : decode cX6_isWhole 44 = .ok (.if_icmp .gt 19, 3) := dk_163 0 19 (dk_at dksX6_isWhole_1 20 rfl rfl)
theorem dX6_isWhole_47 : decode cX6_isWhole 47 = .ok (.iload_n 1, 1) := dk_27 (dk_at dksX6_isWhole_1 23 rfl rfl)
theorem dX6_isWhole_48 : decode cX6_isWhole 48 = .ok (.iload_n 2, 1) := dk_28 (dk_at dksX6_isWhole_2 0 rfl rfl)
theorem dX6_isWhole_49 : decode cX6_isWhole 49 = .ok (.iconst 2, 1) := dk_5 (dk_at dksX6_isWhole_2 1 rfl rfl)
theorem dX6_isWhole_50 : decode cX6_isWhole 50 = .ok (.iadd, 1) := dk_96 (dk_at dksX6_isWhole_2 2 rfl rfl)
theorem dX6_isWhole_51 : decode cX6_isWhole 51 = .ok (.iconst 3, 1) := dk_6 (dk_at dksX6_isWhole_2 3 rfl rfl)
theorem dX6_isWhole_52 : decode cX6_isWhole 52 = .ok (.aload_n 0, 1) := dk_42 (dk_at dksX6_isWhole_2 4 rfl rfl)
theorem dX6_isWhole_53 : decode cX6_isWhole 53 = .ok (.getfield 7, 3) := dk_180 0 7 (dk_at dksX6_isWhole_2 5 rfl rfl)
theorem dX6_isWhole_56 : decode cX6_isWhole 56 = .ok (.iload_n 2, 1) := dk_28 (dk_at dksX6_isWhole_2 8 rfl rfl)
theorem dX6_isWhole_57 : decode cX6_isWhole 57 = .ok (.iaload, 1) := dk_46 (dk_at dksX6_isWhole_2 9 rfl rfl)
theorem dX6_isWhole_58 : decode cX6_isWhole 58 = .ok (.imul, 1) := dk_104 (dk_at dksX6_isWhole_2 10 rfl rfl)
theorem dX6_isWhole_59 : decode cX6_isWhole 59 = .ok (.iadd, 1) := dk_96 (dk_at dksX6_isWhole_2 11 rfl rfl)
theorem dX6_isWhole_60 : decode cX6_isWhole 60 = .ok (.if_icmp .eq 5, 3) := dk_159 0 5 (dk_at dksX6_isWhole_2 12 rfl rfl)
theorem dX6_isWhole_63 : decode cX6_isWhole 63 = .ok (.iconst 0, 1) := dk_3 (dk_at dksX6_isWhole_2 15 rfl rfl)
theorem dX6_isWhole_64 : decode cX6_isWhole 64 = .ok (.ireturn, 1) := dk_172 (dk_at dksX6_isWhole_2 16 rfl rfl)
theorem dX6_isWhole_65 : decode cX6_isWhole 65 = .ok (.bipush 29, 2) := dk_16 29 (dk_at dksX6_isWhole_2 17 rfl rfl)
theorem dX6_isWhole_67 : decode cX6_isWhole 67 = .ok (.istore_n 3, 1) := dk_62 (dk_at dksX6_isWhole_2 19 rfl rfl)
theorem dX6_isWhole_68 : decode cX6_isWhole 68 = .ok (.iconst 0, 1) := dk_3 (dk_at dksX6_isWhole_2 20 rfl rfl)
theorem dX6_isWhole_69 : decode cX6_isWhole 69 = .ok (.istore 4, 2) := dk_54 4 (dk_at dksX6_isWhole_2 21 rfl rfl)
theorem dX6_isWhole_71 : decode cX6_isWhole 71 = .ok (.iload 4, 2) := dk_21 4 (dk_at dksX6_isWhole_3 0 rfl rfl)
theorem dX6_isWhole_73 : decode cX6_isWhole 73 = .ok (.iload_n 1, 1) := dk_27 (dk_at dksX6_isWhole_3 2 rfl rfl)
theorem dX6_isWhole_74 : decode cX6_isWhole 74 = .ok (.iconst 1, 1) := dk_4 (dk_at dksX6_isWhole_3 3 rfl rfl)
theorem dX6_isWhole_75 : decode cX6_isWhole 75 = .ok (.isub, 1) := dk_100 (dk_at dksX6_isWhole_3 4 rfl rfl)
theorem dX6_isWhole_76 : decode cX6_isWhole 76 = .ok (.if_icmp .ge 25, 3) := dk_162 0 25 (dk_at dksX6_isWhole_3 5 rfl rfl)
theorem dX6_isWhole_79 : decode cX6_isWhole 79 = .ok (.iconst 3, 1) := dk_6 (dk_at dksX6_isWhole_3 8 rfl rfl)
theorem dX6_isWhole_80 : decode cX6_isWhole 80 = .ok (.iload_n 3, 1) := dk_29 (dk_at dksX6_isWhole_3 9 rfl rfl)
theorem dX6_isWhole_81 : decode cX6_isWhole 81 = .ok (.imul, 1) := dk_104 (dk_at dksX6_isWhole_3 10 rfl rfl)
theorem dX6_isWhole_82 : decode cX6_isWhole 82 = .ok (.aload_n 0, 1) := dk_42 (dk_at dksX6_isWhole_3 11 rfl rfl)
theorem dX6_isWhole_83 : decode cX6_isWhole 83 = .ok (.getfield 7, 3) := dk_180 0 7 (dk_at dksX6_isWhole_3 12 rfl rfl)
theorem dX6_isWhole_86 : decode cX6_isWhole 86 = .ok (.iload 4, 2) := dk_21 4 (dk_at dksX6_isWhole_3 15 rfl rfl)
theorem dX6_isWhole_88 : decode cX6_isWhole 88 = .ok (.iaload, 1) := dk_46 (dk_at dksX6_isWhole_3 17 rfl rfl)
theorem dX6_isWhole_89 : decode cX6_isWhole 89 = .ok (.iadd, 1) := dk_96 (dk_at dksX6_isWhole_3 18 rfl rfl)
theorem dX6_isWhole_90 : decode cX6_isWhole 90 = .ok (.sipush 241, 3) := dk_17 0 241 (dk_at dksX6_isWhole_3 19 rfl rfl)
theorem dX6_isWhole_93 : decode cX6_isWhole 93 = .ok (.irem, 1) := dk_112 (dk_at dksX6_isWhole_3 22 rfl rfl)
theorem dX6_isWhole_94 : decode cX6_isWhole 94 = .ok (.istore_n 3, 1) := dk_62 (dk_at dksX6_isWhole_3 23 rfl rfl)
theorem dX6_isWhole_95 : decode cX6_isWhole 95 = .ok (.iinc 4 1, 3) := dk_132 4 1 (dk_at dksX6_isWhole_4 0 rfl rfl)
theorem dX6_isWhole_98 : decode cX6_isWhole 98 = .ok (.goto (-27), 3) := dk_167 255 229 (dk_at dksX6_isWhole_4 3 rfl rfl)
theorem dX6_isWhole_101 : decode cX6_isWhole 101 = .ok (.aload_n 0, 1) := dk_42 (dk_at dksX6_isWhole_4 6 rfl rfl)
theorem dX6_isWhole_102 : decode cX6_isWhole 102 = .ok (.getfield 7, 3) := dk_180 0 7 (dk_at dksX6_isWhole_4 7 rfl rfl)
theorem dX6_isWhole_105 : decode cX6_isWhole 105 = .ok (.iload_n 1, 1) := dk_27 (dk_at dksX6_isWhole_4 10 rfl rfl)
theorem dX6_isWhole_106 : decode cX6_isWhole 106 = .ok (.iconst 1, 1) := dk_4 (dk_at dksX6_isWhole_4 11 rfl rfl)
theorem dX6_isWhole_107 : decode cX6_isWhole 107 = .ok (.isub, 1) := dk_100 (dk_at dksX6_isWhole_4 12 rfl rfl)
theorem dX6_isWhole_108 : decode cX6_isWhole 108 = .ok (.iaload, 1) := dk_46 (dk_at dksX6_isWhole_4 13 rfl rfl)
theorem dX6_isWhole_109 : decode cX6_isWhole 109 = .ok (.iload_n 3, 1) := dk_29 (dk_at dksX6_isWhole_4 14 rfl rfl)
theorem dX6_isWhole_110 : decode cX6_isWhole 110 = .ok (.if_icmp .eq 5, 3) := dk_159 0 5 (dk_at dksX6_isWhole_4 15 rfl rfl)
theorem dX6_isWhole_113 : decode cX6_isWhole 113 = .ok (.iconst 0, 1) := dk_3 (dk_at dksX6_isWhole_4 18 rfl rfl)
theorem dX6_isWhole_114 : decode cX6_isWhole 114 = .ok (.ireturn, 1) := dk_172 (dk_at dksX6_isWhole_4 19 rfl rfl)
theorem dX6_isWhole_115 : decode cX6_isWhole 115 = .ok (.iconst (-1), 1) := dk_2 (dk_at dksX6_isWhole_4 20 rfl rfl)
theorem dX6_isWhole_116 : decode cX6_isWhole 116 = .ok (.istore 4, 2) := dk_54 4 (dk_at dksX6_isWhole_4 21 rfl rfl)
theorem dX6_isWhole_118 : decode cX6_isWhole 118 = .ok (.iconst 1, 1) := dk_4 (dk_at dksX6_isWhole_4 23 rfl rfl)
theorem dX6_isWhole_119 : decode cX6_isWhole 119 = .ok (.istore 5, 2) := dk_54 5 (dk_at dksX6_isWhole_5 0 rfl rfl)
theorem dX6_isWhole_121 : decode cX6_isWhole 121 = .ok (.iload 5, 2) := dk_21 5 (dk_at dksX6_isWhole_5 2 rfl rfl)
theorem dX6_isWhole_123 : decode cX6_isWhole 123 = .ok (.iload_n 2, 1) := dk_28 (dk_at dksX6_isWhole_5 4 rfl rfl)
theorem dX6_isWhole_124 : decode cX6_isWhole 124 = .ok (.if_icmp .ge 102, 3) := dk_162 0 102 (dk_at dksX6_isWhole_5 5 rfl rfl)
theorem dX6_isWhole_127 : decode cX6_isWhole 127 = .ok (.bipush 48, 2) := dk_16 48 (dk_at dksX6_isWhole_5 8 rfl rfl)
theorem dX6_isWhole_129 : decode cX6_isWhole 129 = .ok (.aload_n 0, 1) := dk_42 (dk_at dksX6_isWhole_5 10 rfl rfl)
theorem dX6_isWhole_130 : decode cX6_isWhole 130 = .ok (.getfield 7, 3) := dk_180 0 7 (dk_at dksX6_isWhole_5 11 rfl rfl)
theorem dX6_isWhole_133 : decode cX6_isWhole 133 = .ok (.iload 5, 2) := dk_21 5 (dk_at dksX6_isWhole_5 14 rfl rfl)
theorem dX6_isWhole_135 : decode cX6_isWhole 135 = .ok (.iaload, 1) := dk_46 (dk_at dksX6_isWhole_5 16 rfl rfl)
theorem dX6_isWhole_136 : decode cX6_isWhole 136 = .ok (.imul, 1) := dk_104 (dk_at dksX6_isWhole_5 17 rfl rfl)
theorem dX6_isWhole_137 : decode cX6_isWhole 137 = .ok (.aload_n 0, 1) := dk_42 (dk_at dksX6_isWhole_5 18 rfl rfl)
theorem dX6_isWhole_138 : decode cX6_isWhole 138 = .ok (.getfield 7, 3) := dk_180 0 7 (dk_at dksX6_isWhole_5 19 rfl rfl)
theorem dX6_isWhole_141 : decode cX6_isWhole 141 = .ok (.iload 5, 2) := dk_21 5 (dk_at dksX6_isWhole_5 22 rfl rfl)
theorem dX6_isWhole_143 : decode cX6_isWhole 143 = .ok (.iconst 1, 1) := dk_4 (dk_at dksX6_isWhole_6 0 rfl rfl)
theorem dX6_isWhole_144 : decode cX6_isWhole 144 = .ok (.iadd, 1) := dk_96 (dk_at dksX6_isWhole_6 1 rfl rfl)
theorem dX6_isWhole_145 : decode cX6_isWhole 145 = .ok (.iaload, 1) := dk_46 (dk_at dksX6_isWhole_6 2 rfl rfl)
theorem dX6_isWhole_146 : decode cX6_isWhole 146 = .ok (.iadd, 1) := dk_96 (dk_at dksX6_isWhole_6 3 rfl rfl)
theorem dX6_isWhole_147 : decode cX6_isWhole 147 = .ok (.istore 6, 2) := dk_54 6 (dk_at dksX6_isWhole_6 4 rfl rfl)
theorem dX6_isWhole_149 : decode cX6_isWhole 149 = .ok (.aload_n 0, 1) := dk_42 (dk_at dksX6_isWhole_6 6 rfl rfl)
theorem dX6_isWhole_150 : decode cX6_isWhole 150 = .ok (.aload_n 0, 1) := dk_42 (dk_at dksX6_isWhole_6 7 rfl rfl)
theorem dX6_isWhole_151 : decode cX6_isWhole 151 = .ok (.getfield 7, 3) := dk_180 0 7 (dk_at dksX6_isWhole_6 8 rfl rfl)
theorem dX6_isWhole_154 : decode cX6_isWhole 154 = .ok (.iload 5, 2) := dk_21 5 (dk_at dksX6_isWhole_6 11 rfl rfl)
theorem dX6_isWhole_156 : decode cX6_isWhole 156 = .ok (.iaload, 1) := dk_46 (dk_at dksX6_isWhole_6 13 rfl rfl)
theorem dX6_isWhole_157 : decode cX6_isWhole 157 = .ok (.invokevirtual 505, 3) := dk_182 1 249 (dk_at dksX6_isWhole_6 14 rfl rfl)
theorem dX6_isWhole_160 : decode cX6_isWhole 160 = .ok (.ifCond .eq 54, 3) := dk_153 0 54 (dk_at dksX6_isWhole_6 17 rfl rfl)
theorem dX6_isWhole_163 : decode cX6_isWhole 163 = .ok (.aload_n 0, 1) := dk_42 (dk_at dksX6_isWhole_6 20 rfl rfl)
theorem dX6_isWhole_164 : decode cX6_isWhole 164 = .ok (.getfield 7, 3) := dk_180 0 7 (dk_at dksX6_isWhole_6 21 rfl rfl)
theorem dX6_isWhole_167 : decode cX6_isWhole 167 = .ok (.iload 5, 2) := dk_21 5 (dk_at dksX6_isWhole_7 0 rfl rfl)
theorem dX6_isWhole_169 : decode cX6_isWhole 169 = .ok (.iconst 1, 1) := dk_4 (dk_at dksX6_isWhole_7 2 rfl rfl)
theorem dX6_isWhole_170 : decode cX6_isWhole 170 = .ok (.iadd, 1) := dk_96 (dk_at dksX6_isWhole_7 3 rfl rfl)
theorem dX6_isWhole_171 : decode cX6_isWhole 171 = .ok (.iaload, 1) := dk_46 (dk_at dksX6_isWhole_7 4 rfl rfl)
theorem dX6_isWhole_172 : decode cX6_isWhole 172 = .ok (.invokestatic 490, 3) := dk_184 1 234 (dk_at dksX6_isWhole_7 5 rfl rfl)
theorem dX6_isWhole_175 : decode cX6_isWhole 175 = .ok (.ifCond .eq 39, 3) := dk_153 0 39 (dk_at dksX6_isWhole_7 8 rfl rfl)
theorem dX6_isWhole_178 : decode cX6_isWhole 178 = .ok (.iload 6, 2) := dk_21 6 (dk_at dksX6_isWhole_7 11 rfl rfl)
theorem dX6_isWhole_180 : decode cX6_isWhole 180 = .ok (.iload 4, 2) := dk_21 4 (dk_at dksX6_isWhole_7 13 rfl rfl)
theorem dX6_isWhole_182 : decode cX6_isWhole 182 = .ok (.if_icmp .le 32, 3) := dk_164 0 32 (dk_at dksX6_isWhole_7 15 rfl rfl)
theorem dX6_isWhole_185 : decode cX6_isWhole 185 = .ok (.aload_n 0, 1) := dk_42 (dk_at dksX6_isWhole_7 18 rfl rfl)
theorem dX6_isWhole_186 : decode cX6_isWhole 186 = .ok (.getfield 7, 3) := dk_180 0 7 (dk_at dksX6_isWhole_7 19 rfl rfl)
theorem dX6_isWhole_189 : decode cX6_isWhole 189 = .ok (.iload 5, 2) := dk_21 5 (dk_at dksX6_isWhole_7 22 rfl rfl)
theorem dX6_isWhole_191 : decode cX6_isWhole 191 = .ok (.iconst 2, 1) := dk_5 (dk_at dksX6_isWhole_8 0 rfl rfl)
theorem dX6_isWhole_192 : decode cX6_isWhole 192 = .ok (.iadd, 1) := dk_96 (dk_at dksX6_isWhole_8 1 rfl rfl)
theorem dX6_isWhole_193 : decode cX6_isWhole 193 = .ok (.iaload, 1) := dk_46 (dk_at dksX6_isWhole_8 2 rfl rfl)
theorem dX6_isWhole_194 : decode cX6_isWhole 194 = .ok (.aload_n 0, 1) := dk_42 (dk_at dksX6_isWhole_8 3 rfl rfl)
theorem dX6_isWhole_195 : decode cX6_isWhole 195 = .ok (.invokevirtual 479, 3) := dk_182 1 223 (dk_at dksX6_isWhole_8 4 rfl rfl)
theorem dX6_isWhole_198 : decode cX6_isWhole 198 = .ok (.if_icmp .ge 16, 3) := dk_162 0 16 (dk_at dksX6_isWhole_8 7 rfl rfl)
theorem dX6_isWhole_201 : decode cX6_isWhole 201 = .ok (.aload_n 0, 1) := dk_42 (dk_at dksX6_isWhole_8 10 rfl rfl)
theorem dX6_isWhole_202 : decode cX6_isWhole 202 = .ok (.getfield 7, 3) := dk_180 0 7 (dk_at dksX6_isWhole_8 11 rfl rfl)
theorem dX6_isWhole_205 : decode cX6_isWhole 205 = .ok (.iload 5, 2) := dk_21 5 (dk_at dksX6_isWhole_8 14 rfl rfl)
theorem dX6_isWhole_207 : decode cX6_isWhole 207 = .ok (.iconst 3, 1) := dk_6 (dk_at dksX6_isWhole_8 16 rfl rfl)
theorem dX6_isWhole_208 : decode cX6_isWhole 208 = .ok (.iadd, 1) := dk_96 (dk_at dksX6_isWhole_8 17 rfl rfl)
theorem dX6_isWhole_209 : decode cX6_isWhole 209 = .ok (.iaload, 1) := dk_46 (dk_at dksX6_isWhole_8 18 rfl rfl)
theorem dX6_isWhole_210 : decode cX6_isWhole 210 = .ok (.iconst 1, 1) := dk_4 (dk_at dksX6_isWhole_8 19 rfl rfl)
theorem dX6_isWhole_211 : decode cX6_isWhole 211 = .ok (.if_icmp .le 5, 3) := dk_164 0 5 (dk_at dksX6_isWhole_8 20 rfl rfl)
theorem dX6_isWhole_214 : decode cX6_isWhole 214 = .ok (.iconst 0, 1) := dk_3 (dk_at dksX6_isWhole_8 23 rfl rfl)
theorem dX6_isWhole_215 : decode cX6_isWhole 215 = .ok (.ireturn, 1) := dk_172 (dk_at dksX6_isWhole_9 0 rfl rfl)
theorem dX6_isWhole_216 : decode cX6_isWhole 216 = .ok (.iload 6, 2) := dk_21 6 (dk_at dksX6_isWhole_9 1 rfl rfl)
theorem dX6_isWhole_218 : decode cX6_isWhole 218 = .ok (.istore 4, 2) := dk_54 4 (dk_at dksX6_isWhole_9 3 rfl rfl)
theorem dX6_isWhole_220 : decode cX6_isWhole 220 = .ok (.iinc 5 4, 3) := dk_132 5 4 (dk_at dksX6_isWhole_9 5 rfl rfl)
theorem dX6_isWhole_223 : decode cX6_isWhole 223 = .ok (.goto (-102), 3) := dk_167 255 154 (dk_at dksX6_isWhole_9 8 rfl rfl)
theorem dX6_isWhole_226 : decode cX6_isWhole 226 = .ok (.iload_n 2, 1) := dk_28 (dk_at dksX6_isWhole_9 11 rfl rfl)
theorem dX6_isWhole_227 : decode cX6_isWhole 227 = .ok (.iconst 1, 1) := dk_4 (dk_at dksX6_isWhole_9 12 rfl rfl)
theorem dX6_isWhole_228 : decode cX6_isWhole 228 = .ok (.iadd, 1) := dk_96 (dk_at dksX6_isWhole_9 13 rfl rfl)
theorem dX6_isWhole_229 : decode cX6_isWhole 229 = .ok (.istore 5, 2) := dk_54 5 (dk_at dksX6_isWhole_9 14 rfl rfl)
theorem dX6_isWhole_231 : decode cX6_isWhole 231 = .ok (.iload 5, 2) := dk_21 5 (dk_at dksX6_isWhole_9 16 rfl rfl)
theorem dX6_isWhole_233 : decode cX6_isWhole 233 = .ok (.iload_n 1, 1) := dk_27 (dk_at dksX6_isWhole_9 18 rfl rfl)
theorem dX6_isWhole_234 : decode cX6_isWhole 234 = .ok (.iconst 1, 1) := dk_4 (dk_at dksX6_isWhole_9 19 rfl rfl)
theorem dX6_isWhole_235 : decode cX6_isWhole 235 = .ok (.isub, 1) := dk_100 (dk_at dksX6_isWhole_9 20 rfl rfl)
theorem dX6_isWhole_236 : decode cX6_isWhole 236 = .ok (.if_icmp .ge 53, 3) := dk_162 0 53 (dk_at dksX6_isWhole_9 21 rfl rfl)
theorem dX6_isWhole_239 : decode cX6_isWhole 239 = .ok (.aload_n 0, 1) := dk_42 (dk_at dksX6_isWhole_10 0 rfl rfl)
theorem dX6_isWhole_240 : decode cX6_isWhole 240 = .ok (.getfield 7, 3) := dk_180 0 7 (dk_at dksX6_isWhole_10 1 rfl rfl)
theorem dX6_isWhole_243 : decode cX6_isWhole 243 = .ok (.iload 5, 2) := dk_21 5 (dk_at dksX6_isWhole_10 4 rfl rfl)
theorem dX6_isWhole_245 : decode cX6_isWhole 245 = .ok (.iaload, 1) := dk_46 (dk_at dksX6_isWhole_10 6 rfl rfl)
theorem dX6_isWhole_246 : decode cX6_isWhole 246 = .ok (.iconst 3, 1) := dk_6 (dk_at dksX6_isWhole_10 7 rfl rfl)
theorem dX6_isWhole_247 : decode cX6_isWhole 247 = .ok (.if_icmp .gt 34, 3) := dk_163 0 34 (dk_at dksX6_isWhole_10 8 rfl rfl)
theorem dX6_isWhole_250 : decode cX6_isWhole 250 = .ok (.aload_n 0, 1) := dk_42 (dk_at dksX6_isWhole_10 11 rfl rfl)
theorem dX6_isWhole_251 : decode cX6_isWhole 251 = .ok (.getfield 7, 3) := dk_180 0 7 (dk_at dksX6_isWhole_10 12 rfl rfl)
theorem dX6_isWhole_254 : decode cX6_isWhole 254 = .ok (.iload 5, 2) := dk_21 5 (dk_at dksX6_isWhole_10 15 rfl rfl)
theorem dX6_isWhole_256 : decode cX6_isWhole 256 = .ok (.iconst 1, 1) := dk_4 (dk_at dksX6_isWhole_10 17 rfl rfl)
theorem dX6_isWhole_257 : decode cX6_isWhole 257 = .ok (.iadd, 1) := dk_96 (dk_at dksX6_isWhole_10 18 rfl rfl)
theorem dX6_isWhole_258 : decode cX6_isWhole 258 = .ok (.iaload, 1) := dk_46 (dk_at dksX6_isWhole_10 19 rfl rfl)
theorem dX6_isWhole_259 : decode cX6_isWhole 259 = .ok (.aload_n 0, 1) := dk_42 (dk_at dksX6_isWhole_10 20 rfl rfl)
theorem dX6_isWhole_260 : decode cX6_isWhole 260 = .ok (.invokevirtual 479, 3) := dk_182 1 223 (dk_at dksX6_isWhole_10 21 rfl rfl)
theorem dX6_isWhole_263 : decode cX6_isWhole 263 = .ok (.if_icmp .ge 18, 3) := dk_162 0 18 (dk_at dksX6_isWhole_11 0 rfl rfl)
theorem dX6_isWhole_266 : decode cX6_isWhole 266 = .ok (.aload_n 0, 1) := dk_42 (dk_at dksX6_isWhole_11 3 rfl rfl)
theorem dX6_isWhole_267 : decode cX6_isWhole 267 = .ok (.getfield 7, 3) := dk_180 0 7 (dk_at dksX6_isWhole_11 4 rfl rfl)
theorem dX6_isWhole_270 : decode cX6_isWhole 270 = .ok (.iload 5, 2) := dk_21 5 (dk_at dksX6_isWhole_11 7 rfl rfl)
theorem dX6_isWhole_272 : decode cX6_isWhole 272 = .ok (.iconst 2, 1) := dk_5 (dk_at dksX6_isWhole_11 9 rfl rfl)
theorem dX6_isWhole_273 : decode cX6_isWhole 273 = .ok (.iadd, 1) := dk_96 (dk_at dksX6_isWhole_11 10 rfl rfl)
theorem dX6_isWhole_274 : decode cX6_isWhole 274 = .ok (.iaload, 1) := dk_46 (dk_at dksX6_isWhole_11 11 rfl rfl)
theorem dX6_isWhole_275 : decode cX6_isWhole 275 = .ok (.invokestatic 490, 3) := dk_184 1 234 (dk_at dksX6_isWhole_11 12 rfl rfl)
theorem dX6_isWhole_278 : decode cX6_isWhole 278 = .ok (.ifCond .ne 5, 3) := dk_154 0 5 (dk_at dksX6_isWhole_11 15 rfl rfl)
theorem dX6_isWhole_281 : decode cX6_isWhole 281 = .ok (.iconst 0, 1) := dk_3 (dk_at dksX6_isWhole_11 18 rfl rfl)
theorem dX6_isWhole_282 : decode cX6_isWhole 282 = .ok (.ireturn, 1) := dk_172 (dk_at dksX6_isWhole_11 19 rfl rfl)
theorem dX6_isWhole_283 : decode cX6_isWhole 283 = .ok (.iinc 5 3, 3) := dk_132 5 3 (dk_at dksX6_isWhole_11 20 rfl rfl)
theorem dX6_isWhole_286 : decode cX6_isWhole 286 = .ok (.goto (-55), 3) := dk_167 255 201 (dk_at dksX6_isWhole_12 0 rfl rfl)
theorem dX6_isWhole_289 : decode cX6_isWhole 289 = .ok (.iconst 1, 1) := dk_4 (dk_at dksX6_isWhole_12 3 rfl rfl)
theorem dX6_isWhole_290 : decode cX6_isWhole 290 = .ok (.ireturn, 1) := dk_172 (dk_at dksX6_isWhole_12 4 rfl rfl)
theorem q178 : (Jvm.Cond.initialized "ToldTracksModel") ∈ lw_all := lw_g (lw_at lw_m1 10 rfl) rfl
theorem q973 : (Jvm.Cond.selects "ToldTracksModel" ({ cls := "java/lang/Object", name := "getClass", desc := "()Ljava/lang/Class;" } : Jvm.MethodName) ({ cls := "java/lang/Object", name := "getClass", desc := "()Ljava/lang/Class;" } : Jvm.MethodName)) ∈ lw_all := lw_g (lw_at lw_m4 85 rfl) rfl
theorem q1998 : (Jvm.Cond.instantiable "ToldTracksModel" (83 : Nat)) ∈ lw_all := lw_g (lw_at lw_m8 150 rfl) rfl
theorem q2000 : (Jvm.Cond.instanceMethod ({ cls := "ToldTracksModel", name := "<init>", desc := "()V" } : Jvm.MethodName)) ∈ lw_all := lw_g (lw_at lw_m8 152 rfl) rfl
theorem q2001 : (Jvm.Cond.code ({ cls := "ToldTracksModel", name := "<init>", desc := "()V" } : Jvm.MethodName) prog_29_method_1_code (2 : Nat) (Option.none : Option Jvm.ClassFile.FieldType)) ∈ lw_all := lw_g (lw_at lw_m8 153 rfl) rfl
theorem q2002 : (Jvm.Cond.methodLink "ToldTracksModel" (1 : Nat) ({ cls := "java/lang/Object", name := "<init>", desc := "()V" } : Jvm.MethodName)) ∈ lw_all := lw_g (lw_at lw_m8 154 rfl) rfl
theorem q2003 : (Jvm.Cond.fieldLink "ToldTracksModel" (7 : Nat) "ToldTracksModel" "tape" "[I") ∈ lw_all := lw_g (lw_at lw_m8 155 rfl) rfl
theorem q2004 : (Jvm.Cond.fieldLink "ToldTracksModel" (13 : Nat) "ToldTracksModel" "taped" "I") ∈ lw_all := lw_g (lw_at lw_m8 156 rfl) rfl
theorem q2005 : (Jvm.Cond.fieldLink "ToldTracksModel" (17 : Nat) "ToldTracksModel" "size" "I") ∈ lw_all := lw_g (lw_at lw_m8 157 rfl) rfl
theorem q2006 : (Jvm.Cond.fieldLink "ToldTracksModel" (20 : Nat) "ToldTracksModel" "sign" "I") ∈ lw_all := lw_g (lw_at lw_m8 158 rfl) rfl
theorem q2007 : (Jvm.Cond.fieldLink "ToldTracksModel" (23 : Nat) "ToldTracksModel" "signAt" "I") ∈ lw_all := lw_g (lw_at lw_m8 159 rfl) rfl
theorem q2008 : (Jvm.Cond.fieldLink "ToldTracksModel" (26 : Nat) "ToldTracksModel" "signEnd" "I") ∈ lw_all := lw_g (lw_at lw_m8 160 rfl) rfl
theorem q2009 : (Jvm.Cond.fieldLink "ToldTracksModel" (29 : Nat) "ToldTracksModel" "value" "I") ∈ lw_all := lw_g (lw_at lw_m8 161 rfl) rfl
theorem q2010 : (Jvm.Cond.fieldLink "ToldTracksModel" (32 : Nat) "ToldTracksModel" "word" "J") ∈ lw_all := lw_g (lw_at lw_m8 162 rfl) rfl
theorem q2011 : (Jvm.Cond.fieldLink "ToldTracksModel" (36 : Nat) "ToldTracksModel" "faultKind" "I") ∈ lw_all := lw_g (lw_at lw_m8 163 rfl) rfl
theorem q2012 : (Jvm.Cond.fieldLink "ToldTracksModel" (39 : Nat) "ToldTracksModel" "faultPlace" "I") ∈ lw_all := lw_g (lw_at lw_m8 164 rfl) rfl
theorem q2013 : (Jvm.Cond.fieldLink "ToldTracksModel" (42 : Nat) "ToldTracksModel" "toldKind" "I") ∈ lw_all := lw_g (lw_at lw_m8 165 rfl) rfl
theorem q2014 : (Jvm.Cond.fieldLink "ToldTracksModel" (45 : Nat) "ToldTracksModel" "toldPlace" "I") ∈ lw_all := lw_g (lw_at lw_m8 166 rfl) rfl
theorem q2015 : (Jvm.Cond.fieldLink "ToldTracksModel" (48 : Nat) "ToldTracksModel" "bank" "I") ∈ lw_all := lw_g (lw_at lw_m8 167 rfl) rfl
theorem q2016 : (Jvm.Cond.fieldLink "ToldTracksModel" (51 : Nat) "ToldTracksModel" "columns" "[I") ∈ lw_all := lw_g (lw_at lw_m8 168 rfl) rfl
theorem q2017 : (Jvm.Cond.fieldLink "ToldTracksModel" (54 : Nat) "ToldTracksModel" "rows" "[I") ∈ lw_all := lw_g (lw_at lw_m8 169 rfl) rfl
theorem q2018 : (Jvm.Cond.fieldLink "ToldTracksModel" (57 : Nat) "ToldTracksModel" "many" "[I") ∈ lw_all := lw_g (lw_at lw_m8 170 rfl) rfl
theorem q2019 : (Jvm.Cond.fieldLink "ToldTracksModel" (60 : Nat) "ToldTracksModel" "sumFrom" "[I") ∈ lw_all := lw_g (lw_at lw_m8 171 rfl) rfl
theorem q2020 : (Jvm.Cond.fieldLink "ToldTracksModel" (63 : Nat) "ToldTracksModel" "testFrom" "[I") ∈ lw_all := lw_g (lw_at lw_m8 172 rfl) rfl
theorem q2021 : (Jvm.Cond.fieldLink "ToldTracksModel" (66 : Nat) "ToldTracksModel" "testTo" "[I") ∈ lw_all := lw_g (lw_at lw_m8 173 rfl) rfl
theorem q2022 : (Jvm.Cond.fieldLink "ToldTracksModel" (69 : Nat) "ToldTracksModel" "ships" "[I") ∈ lw_all := lw_g (lw_at lw_m8 174 rfl) rfl
theorem q2023 : (Jvm.Cond.fieldLink "ToldTracksModel" (72 : Nat) "ToldTracksModel" "shipName" "[J") ∈ lw_all := lw_g (lw_at lw_m8 175 rfl) rfl
theorem q2024 : (Jvm.Cond.fieldLink "ToldTracksModel" (76 : Nat) "ToldTracksModel" "look" "[I") ∈ lw_all := lw_g (lw_at lw_m8 176 rfl) rfl
theorem q2025 : (Jvm.Cond.fieldLink "ToldTracksModel" (79 : Nat) "ToldTracksModel" "speed" "[I") ∈ lw_all := lw_g (lw_at lw_m8 177 rfl) rfl
theorem q2026 : (Jvm.Cond.fieldLink "ToldTracksModel" (82 : Nat) "ToldTracksModel" "draft" "[I") ∈ lw_all := lw_g (lw_at lw_m8 178 rfl) rfl
theorem q2027 : (Jvm.Cond.fieldLink "ToldTracksModel" (85 : Nat) "ToldTracksModel" "load" "[I") ∈ lw_all := lw_g (lw_at lw_m8 179 rfl) rfl
theorem q2028 : (Jvm.Cond.fieldLink "ToldTracksModel" (88 : Nat) "ToldTracksModel" "sayings" "[I") ∈ lw_all := lw_g (lw_at lw_m8 180 rfl) rfl
theorem q2029 : (Jvm.Cond.fieldLink "ToldTracksModel" (91 : Nat) "ToldTracksModel" "cellSaid" "[I") ∈ lw_all := lw_g (lw_at lw_m8 181 rfl) rfl
theorem q2030 : (Jvm.Cond.fieldLink "ToldTracksModel" (94 : Nat) "ToldTracksModel" "isLaden" "[Z") ∈ lw_all := lw_g (lw_at lw_m8 182 rfl) rfl
theorem q2031 : (Jvm.Cond.fieldLink "ToldTracksModel" (98 : Nat) "ToldTracksModel" "books" "[I") ∈ lw_all := lw_g (lw_at lw_m8 183 rfl) rfl
theorem q2032 : (Jvm.Cond.fieldLink "ToldTracksModel" (101 : Nat) "ToldTracksModel" "bookShip" "[I") ∈ lw_all := lw_g (lw_at lw_m8 184 rfl) rfl
theorem q2033 : (Jvm.Cond.fieldLink "ToldTracksModel" (104 : Nat) "ToldTracksModel" "bookCell" "[I") ∈ lw_all := lw_g (lw_at lw_m8 185 rfl) rfl
theorem q2034 : (Jvm.Cond.fieldLink "ToldTracksModel" (107 : Nat) "ToldTracksModel" "bookFrom" "[I") ∈ lw_all := lw_g (lw_at lw_m8 186 rfl) rfl
theorem q2035 : (Jvm.Cond.fieldLink "ToldTracksModel" (110 : Nat) "ToldTracksModel" "bookTo" "[I") ∈ lw_all := lw_g (lw_at lw_m8 187 rfl) rfl
theorem q2036 : (Jvm.Cond.fieldLink "ToldTracksModel" (113 : Nat) "ToldTracksModel" "sights" "[I") ∈ lw_all := lw_g (lw_at lw_m8 188 rfl) rfl
theorem q2037 : (Jvm.Cond.fieldLink "ToldTracksModel" (116 : Nat) "ToldTracksModel" "sightLook" "[I") ∈ lw_all := lw_g (lw_at lw_m8 189 rfl) rfl
theorem q2038 : (Jvm.Cond.fieldLink "ToldTracksModel" (119 : Nat) "ToldTracksModel" "sightCell" "[I") ∈ lw_all := lw_g (lw_at lw_m8 190 rfl) rfl
theorem q2039 : (Jvm.Cond.fieldLink "ToldTracksModel" (122 : Nat) "ToldTracksModel" "sightHour" "[I") ∈ lw_all := lw_g (lw_at lw_m8 191 rfl) rfl
theorem q2040 : (Jvm.Cond.fieldLink "ToldTracksModel" (125 : Nat) "ToldTracksModel" "luck" "[I") ∈ lw_all := lw_g (lw_at lw_m8 192 rfl) rfl
theorem q2041 : (Jvm.Cond.fieldLink "ToldTracksModel" (128 : Nat) "ToldTracksModel" "codeSort" "[I") ∈ lw_all := lw_g (lw_at lw_m8 193 rfl) rfl
theorem q2042 : (Jvm.Cond.fieldLink "ToldTracksModel" (131 : Nat) "ToldTracksModel" "codeValue" "[I") ∈ lw_all := lw_g (lw_at lw_m8 194 rfl) rfl
theorem q2043 : (Jvm.Cond.fieldLink "ToldTracksModel" (134 : Nat) "ToldTracksModel" "codes" "I") ∈ lw_all := lw_g (lw_at lw_m8 195 rfl) rfl
theorem q2044 : (Jvm.Cond.fieldLink "ToldTracksModel" (137 : Nat) "ToldTracksModel" "in" "I") ∈ lw_all := lw_g (lw_at lw_m8 196 rfl) rfl
theorem q2045 : (Jvm.Cond.fieldLink "ToldTracksModel" (140 : Nat) "ToldTracksModel" "frame" "[I") ∈ lw_all := lw_g (lw_at lw_m8 197 rfl) rfl
theorem q2046 : (Jvm.Cond.fieldLink "ToldTracksModel" (143 : Nat) "ToldTracksModel" "phase" "[I") ∈ lw_all := lw_g (lw_at lw_m8 198 rfl) rfl
theorem q2047 : (Jvm.Cond.fieldLink "ToldTracksModel" (146 : Nat) "ToldTracksModel" "begins" "[Z") ∈ lw_all := lw_g (lw_at lw_m8 199 rfl) rfl
theorem q2048 : (Jvm.Cond.fieldLink "ToldTracksModel" (149 : Nat) "ToldTracksModel" "pair" "[I") ∈ lw_all := lw_g (lw_at lw_m8 200 rfl) rfl
theorem q2049 : (Jvm.Cond.fieldLink "ToldTracksModel" (152 : Nat) "ToldTracksModel" "base" "[I") ∈ lw_all := lw_g (lw_at lw_m8 201 rfl) rfl
theorem q2050 : (Jvm.Cond.fieldLink "ToldTracksModel" (155 : Nat) "ToldTracksModel" "deep" "I") ∈ lw_all := lw_g (lw_at lw_m8 202 rfl) rfl
theorem q2051 : (Jvm.Cond.fieldLink "ToldTracksModel" (158 : Nat) "ToldTracksModel" "open" "I") ∈ lw_all := lw_g (lw_at lw_m8 203 rfl) rfl
theorem q2052 : (Jvm.Cond.fieldLink "ToldTracksModel" (161 : Nat) "ToldTracksModel" "ops" "[I") ∈ lw_all := lw_g (lw_at lw_m8 204 rfl) rfl
theorem q2053 : (Jvm.Cond.fieldLink "ToldTracksModel" (164 : Nat) "ToldTracksModel" "opMany" "I") ∈ lw_all := lw_g (lw_at lw_m8 205 rfl) rfl
theorem q2054 : (Jvm.Cond.fieldLink "ToldTracksModel" (167 : Nat) "ToldTracksModel" "operand" "Z") ∈ lw_all := lw_g (lw_at lw_m8 206 rfl) rfl
theorem q2055 : (Jvm.Cond.fieldLink "ToldTracksModel" (171 : Nat) "ToldTracksModel" "refused" "[I") ∈ lw_all := lw_g (lw_at lw_m8 207 rfl) rfl
theorem q2056 : (Jvm.Cond.fieldLink "ToldTracksModel" (174 : Nat) "ToldTracksModel" "heap" "[J") ∈ lw_all := lw_g (lw_at lw_m8 208 rfl) rfl
theorem q2057 : (Jvm.Cond.fieldLink "ToldTracksModel" (177 : Nat) "ToldTracksModel" "moment" "[I") ∈ lw_all := lw_g (lw_at lw_m8 209 rfl) rfl
theorem q2058 : (Jvm.Cond.fieldLink "ToldTracksModel" (180 : Nat) "ToldTracksModel" "depths" "[I") ∈ lw_all := lw_g (lw_at lw_m8 210 rfl) rfl
theorem q2059 : (Jvm.Cond.fieldLink "ToldTracksModel" (183 : Nat) "ToldTracksModel" "costs" "[I") ∈ lw_all := lw_g (lw_at lw_m8 211 rfl) rfl
theorem q2060 : (Jvm.Cond.fieldLink "ToldTracksModel" (186 : Nat) "ToldTracksModel" "steps" "[I") ∈ lw_all := lw_g (lw_at lw_m8 212 rfl) rfl
theorem q2061 : (Jvm.Cond.fieldLink "ToldTracksModel" (189 : Nat) "ToldTracksModel" "queue" "[I") ∈ lw_all := lw_g (lw_at lw_m8 213 rfl) rfl
theorem q2062 : (Jvm.Cond.fieldLink "ToldTracksModel" (192 : Nat) "ToldTracksModel" "queued" "I") ∈ lw_all := lw_g (lw_at lw_m8 214 rfl) rfl
theorem q2063 : (Jvm.Cond.fieldLink "ToldTracksModel" (195 : Nat) "ToldTracksModel" "facts" "I") ∈ lw_all := lw_g (lw_at lw_m8 215 rfl) rfl
theorem q2064 : (Jvm.Cond.fieldLink "ToldTracksModel" (198 : Nat) "ToldTracksModel" "factCell" "[I") ∈ lw_all := lw_g (lw_at lw_m8 216 rfl) rfl
theorem q2065 : (Jvm.Cond.fieldLink "ToldTracksModel" (201 : Nat) "ToldTracksModel" "factFrom" "[I") ∈ lw_all := lw_g (lw_at lw_m8 217 rfl) rfl
theorem q2066 : (Jvm.Cond.fieldLink "ToldTracksModel" (204 : Nat) "ToldTracksModel" "factTo" "[I") ∈ lw_all := lw_g (lw_at lw_m8 218 rfl) rfl
theorem q2067 : (Jvm.Cond.fieldLink "ToldTracksModel" (207 : Nat) "ToldTracksModel" "isLaid" "Z") ∈ lw_all := lw_g (lw_at lw_m8 219 rfl) rfl
theorem q2068 : (Jvm.Cond.fieldLink "ToldTracksModel" (210 : Nat) "ToldTracksModel" "many48" "I") ∈ lw_all := lw_g (lw_at lw_m8 220 rfl) rfl
theorem q2069 : (Jvm.Cond.fieldLink "ToldTracksModel" (213 : Nat) "ToldTracksModel" "keptMany" "I") ∈ lw_all := lw_g (lw_at lw_m8 221 rfl) rfl
theorem q2070 : (Jvm.Cond.fieldLink "ToldTracksModel" (216 : Nat) "ToldTracksModel" "hours" "[I") ∈ lw_all := lw_g (lw_at lw_m8 222 rfl) rfl
theorem q2071 : (Jvm.Cond.fieldLink "ToldTracksModel" (219 : Nat) "ToldTracksModel" "isGood" "[Z") ∈ lw_all := lw_g (lw_at lw_m8 223 rfl) rfl
theorem q2072 : (Jvm.Cond.fieldLink "ToldTracksModel" (222 : Nat) "ToldTracksModel" "isKept" "[Z") ∈ lw_all := lw_g (lw_at lw_m8 224 rfl) rfl
theorem q2073 : (Jvm.Cond.fieldLink "ToldTracksModel" (225 : Nat) "ToldTracksModel" "goesWith" "[Z") ∈ lw_all := lw_g (lw_at lw_m8 225 rfl) rfl
theorem q2074 : (Jvm.Cond.fieldLink "ToldTracksModel" (228 : Nat) "ToldTracksModel" "longest" "[I") ∈ lw_all := lw_g (lw_at lw_m8 226 rfl) rfl
theorem q2075 : (Jvm.Cond.fieldLink "ToldTracksModel" (231 : Nat) "ToldTracksModel" "farFrom" "[I") ∈ lw_all := lw_g (lw_at lw_m8 227 rfl) rfl
theorem q2076 : (Jvm.Cond.fieldLink "ToldTracksModel" (234 : Nat) "ToldTracksModel" "silentHours" "I") ∈ lw_all := lw_g (lw_at lw_m8 228 rfl) rfl
theorem q2077 : (Jvm.Cond.fieldLink "ToldTracksModel" (237 : Nat) "ToldTracksModel" "set" "[I") ∈ lw_all := lw_g (lw_at lw_m8 229 rfl) rfl
theorem q2078 : (Jvm.Cond.fieldLink "ToldTracksModel" (240 : Nat) "ToldTracksModel" "oldSet" "[I") ∈ lw_all := lw_g (lw_at lw_m8 230 rfl) rfl
theorem q2079 : (Jvm.Cond.fieldLink "ToldTracksModel" (243 : Nat) "ToldTracksModel" "firstMay" "[Z") ∈ lw_all := lw_g (lw_at lw_m8 231 rfl) rfl
theorem q2080 : (Jvm.Cond.fieldLink "ToldTracksModel" (246 : Nat) "ToldTracksModel" "firstHour" "[Z") ∈ lw_all := lw_g (lw_at lw_m8 232 rfl) rfl
theorem q2081 : (Jvm.Cond.fieldLink "ToldTracksModel" (249 : Nat) "ToldTracksModel" "explained" "[I") ∈ lw_all := lw_g (lw_at lw_m8 233 rfl) rfl
theorem q2082 : (Jvm.Cond.fieldLink "ToldTracksModel" (252 : Nat) "ToldTracksModel" "missed" "[J") ∈ lw_all := lw_g (lw_at lw_m8 234 rfl) rfl
theorem q2083 : (Jvm.Cond.fieldLink "ToldTracksModel" (255 : Nat) "ToldTracksModel" "settled" "[I") ∈ lw_all := lw_g (lw_at lw_m8 235 rfl) rfl
theorem q2084 : (Jvm.Cond.fieldLink "ToldTracksModel" (258 : Nat) "ToldTracksModel" "out" "[I") ∈ lw_all := lw_g (lw_at lw_m8 236 rfl) rfl
theorem q2085 : (Jvm.Cond.fieldLink "ToldTracksModel" (261 : Nat) "ToldTracksModel" "outs" "I") ∈ lw_all := lw_g (lw_at lw_m8 237 rfl) rfl
theorem q2086 : (Jvm.Cond.laysFinal "ToldTracksModel" "ToldTracksModel" "tape" "[I") ∈ lw_all := lw_g (lw_at lw_m8 238 rfl) rfl
theorem q2087 : (Jvm.Cond.soleField "ToldTracksModel" "tape") ∈ lw_all := lw_g (lw_at lw_m8 239 rfl) rfl
theorem q2088 : (Jvm.Cond.lays "ToldTracksModel" "ToldTracksModel" "taped" "I") ∈ lw_all := lw_g (lw_at lw_m9 0 rfl) rfl
theorem q2089 : (Jvm.Cond.soleField "ToldTracksModel" "taped") ∈ lw_all := lw_g (lw_at lw_m9 1 rfl) rfl
theorem q2090 : (Jvm.Cond.lays "ToldTracksModel" "ToldTracksModel" "size" "I") ∈ lw_all := lw_g (lw_at lw_m9 2 rfl) rfl
theorem q2091 : (Jvm.Cond.soleField "ToldTracksModel" "size") ∈ lw_all := lw_g (lw_at lw_m9 3 rfl) rfl
theorem q2092 : (Jvm.Cond.lays "ToldTracksModel" "ToldTracksModel" "sign" "I") ∈ lw_all := lw_g (lw_at lw_m9 4 rfl) rfl
theorem q2093 : (Jvm.Cond.soleField "ToldTracksModel" "sign") ∈ lw_all := lw_g (lw_at lw_m9 5 rfl) rfl
theorem q2094 : (Jvm.Cond.lays "ToldTracksModel" "ToldTracksModel" "signAt" "I") ∈ lw_all := lw_g (lw_at lw_m9 6 rfl) rfl
theorem q2095 : (Jvm.Cond.soleField "ToldTracksModel" "signAt") ∈ lw_all := lw_g (lw_at lw_m9 7 rfl) rfl
theorem q2096 : (Jvm.Cond.lays "ToldTracksModel" "ToldTracksModel" "signEnd" "I") ∈ lw_all := lw_g (lw_at lw_m9 8 rfl) rfl
theorem q2097 : (Jvm.Cond.soleField "ToldTracksModel" "signEnd") ∈ lw_all := lw_g (lw_at lw_m9 9 rfl) rfl
theorem q2098 : (Jvm.Cond.lays "ToldTracksModel" "ToldTracksModel" "value" "I") ∈ lw_all := lw_g (lw_at lw_m9 10 rfl) rfl
theorem q2099 : (Jvm.Cond.soleField "ToldTracksModel" "value") ∈ lw_all := lw_g (lw_at lw_m9 11 rfl) rfl
theorem q2100 : (Jvm.Cond.lays "ToldTracksModel" "ToldTracksModel" "word" "J") ∈ lw_all := lw_g (lw_at lw_m9 12 rfl) rfl
theorem q2101 : (Jvm.Cond.soleField "ToldTracksModel" "word") ∈ lw_all := lw_g (lw_at lw_m9 13 rfl) rfl
theorem q2102 : (Jvm.Cond.lays "ToldTracksModel" "ToldTracksModel" "faultKind" "I") ∈ lw_all := lw_g (lw_at lw_m9 14 rfl) rfl
theorem q2103 : (Jvm.Cond.soleField "ToldTracksModel" "faultKind") ∈ lw_all := lw_g (lw_at lw_m9 15 rfl) rfl
theorem q2104 : (Jvm.Cond.lays "ToldTracksModel" "ToldTracksModel" "faultPlace" "I") ∈ lw_all := lw_g (lw_at lw_m9 16 rfl) rfl
theorem q2105 : (Jvm.Cond.soleField "ToldTracksModel" "faultPlace") ∈ lw_all := lw_g (lw_at lw_m9 17 rfl) rfl
theorem q2106 : (Jvm.Cond.lays "ToldTracksModel" "ToldTracksModel" "toldKind" "I") ∈ lw_all := lw_g (lw_at lw_m9 18 rfl) rfl
theorem q2107 : (Jvm.Cond.soleField "ToldTracksModel" "toldKind") ∈ lw_all := lw_g (lw_at lw_m9 19 rfl) rfl
theorem q2108 : (Jvm.Cond.lays "ToldTracksModel" "ToldTracksModel" "toldPlace" "I") ∈ lw_all := lw_g (lw_at lw_m9 20 rfl) rfl
theorem q2109 : (Jvm.Cond.soleField "ToldTracksModel" "toldPlace") ∈ lw_all := lw_g (lw_at lw_m9 21 rfl) rfl
theorem q2110 : (Jvm.Cond.lays "ToldTracksModel" "ToldTracksModel" "bank" "I") ∈ lw_all := lw_g (lw_at lw_m9 22 rfl) rfl
theorem q2111 : (Jvm.Cond.soleField "ToldTracksModel" "bank") ∈ lw_all := lw_g (lw_at lw_m9 23 rfl) rfl
theorem q2112 : (Jvm.Cond.laysFinal "ToldTracksModel" "ToldTracksModel" "columns" "[I") ∈ lw_all := lw_g (lw_at lw_m9 24 rfl) rfl
theorem q2113 : (Jvm.Cond.soleField "ToldTracksModel" "columns") ∈ lw_all := lw_g (lw_at lw_m9 25 rfl) rfl
theorem q2114 : (Jvm.Cond.laysFinal "ToldTracksModel" "ToldTracksModel" "rows" "[I") ∈ lw_all := lw_g (lw_at lw_m9 26 rfl) rfl
theorem q2115 : (Jvm.Cond.soleField "ToldTracksModel" "rows") ∈ lw_all := lw_g (lw_at lw_m9 27 rfl) rfl
theorem q2116 : (Jvm.Cond.laysFinal "ToldTracksModel" "ToldTracksModel" "many" "[I") ∈ lw_all := lw_g (lw_at lw_m9 28 rfl) rfl
theorem q2117 : (Jvm.Cond.soleField "ToldTracksModel" "many") ∈ lw_all := lw_g (lw_at lw_m9 29 rfl) rfl
theorem q2118 : (Jvm.Cond.laysFinal "ToldTracksModel" "ToldTracksModel" "sumFrom" "[I") ∈ lw_all := lw_g (lw_at lw_m9 30 rfl) rfl
theorem q2119 : (Jvm.Cond.soleField "ToldTracksModel" "sumFrom") ∈ lw_all := lw_g (lw_at lw_m9 31 rfl) rfl
theorem q2120 : (Jvm.Cond.laysFinal "ToldTracksModel" "ToldTracksModel" "testFrom" "[I") ∈ lw_all := lw_g (lw_at lw_m9 32 rfl) rfl
theorem q2121 : (Jvm.Cond.soleField "ToldTracksModel" "testFrom") ∈ lw_all := lw_g (lw_at lw_m9 33 rfl) rfl
theorem q2122 : (Jvm.Cond.laysFinal "ToldTracksModel" "ToldTracksModel" "testTo" "[I") ∈ lw_all := lw_g (lw_at lw_m9 34 rfl) rfl
theorem q2123 : (Jvm.Cond.soleField "ToldTracksModel" "testTo") ∈ lw_all := lw_g (lw_at lw_m9 35 rfl) rfl
theorem q2124 : (Jvm.Cond.laysFinal "ToldTracksModel" "ToldTracksModel" "ships" "[I") ∈ lw_all := lw_g (lw_at lw_m9 36 rfl) rfl
theorem q2125 : (Jvm.Cond.soleField "ToldTracksModel" "ships") ∈ lw_all := lw_g (lw_at lw_m9 37 rfl) rfl
theorem q2126 : (Jvm.Cond.laysFinal "ToldTracksModel" "ToldTracksModel" "shipName" "[J") ∈ lw_all := lw_g (lw_at lw_m9 38 rfl) rfl
theorem q2127 : (Jvm.Cond.soleField "ToldTracksModel" "shipName") ∈ lw_all := lw_g (lw_at lw_m9 39 rfl) rfl
theorem q2128 : (Jvm.Cond.laysFinal "ToldTracksModel" "ToldTracksModel" "look" "[I") ∈ lw_all := lw_g (lw_at lw_m9 40 rfl) rfl
theorem q2129 : (Jvm.Cond.soleField "ToldTracksModel" "look") ∈ lw_all := lw_g (lw_at lw_m9 41 rfl) rfl
theorem q2130 : (Jvm.Cond.laysFinal "ToldTracksModel" "ToldTracksModel" "speed" "[I") ∈ lw_all := lw_g (lw_at lw_m9 42 rfl) rfl
theorem q2131 : (Jvm.Cond.soleField "ToldTracksModel" "speed") ∈ lw_all := lw_g (lw_at lw_m9 43 rfl) rfl
theorem q2132 : (Jvm.Cond.laysFinal "ToldTracksModel" "ToldTracksModel" "draft" "[I") ∈ lw_all := lw_g (lw_at lw_m9 44 rfl) rfl
theorem q2133 : (Jvm.Cond.soleField "ToldTracksModel" "draft") ∈ lw_all := lw_g (lw_at lw_m9 45 rfl) rfl
theorem q2134 : (Jvm.Cond.laysFinal "ToldTracksModel" "ToldTracksModel" "load" "[I") ∈ lw_all := lw_g (lw_at lw_m9 46 rfl) rfl
theorem q2135 : (Jvm.Cond.soleField "ToldTracksModel" "load") ∈ lw_all := lw_g (lw_at lw_m9 47 rfl) rfl
theorem q2136 : (Jvm.Cond.laysFinal "ToldTracksModel" "ToldTracksModel" "sayings" "[I") ∈ lw_all := lw_g (lw_at lw_m9 48 rfl) rfl
theorem q2137 : (Jvm.Cond.soleField "ToldTracksModel" "sayings") ∈ lw_all := lw_g (lw_at lw_m9 49 rfl) rfl
theorem q2138 : (Jvm.Cond.laysFinal "ToldTracksModel" "ToldTracksModel" "cellSaid" "[I") ∈ lw_all := lw_g (lw_at lw_m9 50 rfl) rfl
theorem q2139 : (Jvm.Cond.soleField "ToldTracksModel" "cellSaid") ∈ lw_all := lw_g (lw_at lw_m9 51 rfl) rfl
theorem q2140 : (Jvm.Cond.laysFinal "ToldTracksModel" "ToldTracksModel" "isLaden" "[Z") ∈ lw_all := lw_g (lw_at lw_m9 52 rfl) rfl
theorem q2141 : (Jvm.Cond.soleField "ToldTracksModel" "isLaden") ∈ lw_all := lw_g (lw_at lw_m9 53 rfl) rfl
theorem q2142 : (Jvm.Cond.laysFinal "ToldTracksModel" "ToldTracksModel" "books" "[I") ∈ lw_all := lw_g (lw_at lw_m9 54 rfl) rfl
theorem q2143 : (Jvm.Cond.soleField "ToldTracksModel" "books") ∈ lw_all := lw_g (lw_at lw_m9 55 rfl) rfl
theorem q2144 : (Jvm.Cond.laysFinal "ToldTracksModel" "ToldTracksModel" "bookShip" "[I") ∈ lw_all := lw_g (lw_at lw_m9 56 rfl) rfl
theorem q2145 : (Jvm.Cond.soleField "ToldTracksModel" "bookShip") ∈ lw_all := lw_g (lw_at lw_m9 57 rfl) rfl
theorem q2146 : (Jvm.Cond.laysFinal "ToldTracksModel" "ToldTracksModel" "bookCell" "[I") ∈ lw_all := lw_g (lw_at lw_m9 58 rfl) rfl
theorem q2147 : (Jvm.Cond.soleField "ToldTracksModel" "bookCell") ∈ lw_all := lw_g (lw_at lw_m9 59 rfl) rfl
theorem q2148 : (Jvm.Cond.laysFinal "ToldTracksModel" "ToldTracksModel" "bookFrom" "[I") ∈ lw_all := lw_g (lw_at lw_m9 60 rfl) rfl
theorem q2149 : (Jvm.Cond.soleField "ToldTracksModel" "bookFrom") ∈ lw_all := lw_g (lw_at lw_m9 61 rfl) rfl
theorem q2150 : (Jvm.Cond.laysFinal "ToldTracksModel" "ToldTracksModel" "bookTo" "[I") ∈ lw_all := lw_g (lw_at lw_m9 62 rfl) rfl
theorem q2151 : (Jvm.Cond.soleField "ToldTracksModel" "bookTo") ∈ lw_all := lw_g (lw_at lw_m9 63 rfl) rfl
theorem q2152 : (Jvm.Cond.laysFinal "ToldTracksModel" "ToldTracksModel" "sights" "[I") ∈ lw_all := lw_g (lw_at lw_m9 64 rfl) rfl
theorem q2153 : (Jvm.Cond.soleField "ToldTracksModel" "sights") ∈ lw_all := lw_g (lw_at lw_m9 65 rfl) rfl
theorem q2154 : (Jvm.Cond.laysFinal "ToldTracksModel" "ToldTracksModel" "sightLook" "[I") ∈ lw_all := lw_g (lw_at lw_m9 66 rfl) rfl
theorem q2155 : (Jvm.Cond.soleField "ToldTracksModel" "sightLook") ∈ lw_all := lw_g (lw_at lw_m9 67 rfl) rfl
theorem q2156 : (Jvm.Cond.laysFinal "ToldTracksModel" "ToldTracksModel" "sightCell" "[I") ∈ lw_all := lw_g (lw_at lw_m9 68 rfl) rfl
theorem q2157 : (Jvm.Cond.soleField "ToldTracksModel" "sightCell") ∈ lw_all := lw_g (lw_at lw_m9 69 rfl) rfl
theorem q2158 : (Jvm.Cond.laysFinal "ToldTracksModel" "ToldTracksModel" "sightHour" "[I") ∈ lw_all := lw_g (lw_at lw_m9 70 rfl) rfl
theorem q2159 : (Jvm.Cond.soleField "ToldTracksModel" "sightHour") ∈ lw_all := lw_g (lw_at lw_m9 71 rfl) rfl
theorem q2160 : (Jvm.Cond.laysFinal "ToldTracksModel" "ToldTracksModel" "luck" "[I") ∈ lw_all := lw_g (lw_at lw_m9 72 rfl) rfl
theorem q2161 : (Jvm.Cond.soleField "ToldTracksModel" "luck") ∈ lw_all := lw_g (lw_at lw_m9 73 rfl) rfl
theorem q2162 : (Jvm.Cond.laysFinal "ToldTracksModel" "ToldTracksModel" "codeSort" "[I") ∈ lw_all := lw_g (lw_at lw_m9 74 rfl) rfl
theorem q2163 : (Jvm.Cond.soleField "ToldTracksModel" "codeSort") ∈ lw_all := lw_g (lw_at lw_m9 75 rfl) rfl
theorem q2164 : (Jvm.Cond.laysFinal "ToldTracksModel" "ToldTracksModel" "codeValue" "[I") ∈ lw_all := lw_g (lw_at lw_m9 76 rfl) rfl
theorem q2165 : (Jvm.Cond.soleField "ToldTracksModel" "codeValue") ∈ lw_all := lw_g (lw_at lw_m9 77 rfl) rfl
theorem q2166 : (Jvm.Cond.lays "ToldTracksModel" "ToldTracksModel" "codes" "I") ∈ lw_all := lw_g (lw_at lw_m9 78 rfl) rfl
theorem q2167 : (Jvm.Cond.soleField "ToldTracksModel" "codes") ∈ lw_all := lw_g (lw_at lw_m9 79 rfl) rfl
theorem q2168 : (Jvm.Cond.lays "ToldTracksModel" "ToldTracksModel" "in" "I") ∈ lw_all := lw_g (lw_at lw_m9 80 rfl) rfl
theorem q2169 : (Jvm.Cond.soleField "ToldTracksModel" "in") ∈ lw_all := lw_g (lw_at lw_m9 81 rfl) rfl
theorem q2170 : (Jvm.Cond.laysFinal "ToldTracksModel" "ToldTracksModel" "frame" "[I") ∈ lw_all := lw_g (lw_at lw_m9 82 rfl) rfl
theorem q2171 : (Jvm.Cond.soleField "ToldTracksModel" "frame") ∈ lw_all := lw_g (lw_at lw_m9 83 rfl) rfl
theorem q2172 : (Jvm.Cond.laysFinal "ToldTracksModel" "ToldTracksModel" "phase" "[I") ∈ lw_all := lw_g (lw_at lw_m9 84 rfl) rfl
theorem q2173 : (Jvm.Cond.soleField "ToldTracksModel" "phase") ∈ lw_all := lw_g (lw_at lw_m9 85 rfl) rfl
theorem q2174 : (Jvm.Cond.laysFinal "ToldTracksModel" "ToldTracksModel" "begins" "[Z") ∈ lw_all := lw_g (lw_at lw_m9 86 rfl) rfl
theorem q2175 : (Jvm.Cond.soleField "ToldTracksModel" "begins") ∈ lw_all := lw_g (lw_at lw_m9 87 rfl) rfl
theorem q2176 : (Jvm.Cond.laysFinal "ToldTracksModel" "ToldTracksModel" "pair" "[I") ∈ lw_all := lw_g (lw_at lw_m9 88 rfl) rfl
theorem q2177 : (Jvm.Cond.soleField "ToldTracksModel" "pair") ∈ lw_all := lw_g (lw_at lw_m9 89 rfl) rfl
theorem q2178 : (Jvm.Cond.laysFinal "ToldTracksModel" "ToldTracksModel" "base" "[I") ∈ lw_all := lw_g (lw_at lw_m9 90 rfl) rfl
theorem q2179 : (Jvm.Cond.soleField "ToldTracksModel" "base") ∈ lw_all := lw_g (lw_at lw_m9 91 rfl) rfl
theorem q2180 : (Jvm.Cond.lays "ToldTracksModel" "ToldTracksModel" "deep" "I") ∈ lw_all := lw_g (lw_at lw_m9 92 rfl) rfl
theorem q2181 : (Jvm.Cond.soleField "ToldTracksModel" "deep") ∈ lw_all := lw_g (lw_at lw_m9 93 rfl) rfl
theorem q2182 : (Jvm.Cond.lays "ToldTracksModel" "ToldTracksModel" "open" "I") ∈ lw_all := lw_g (lw_at lw_m9 94 rfl) rfl
theorem q2183 : (Jvm.Cond.soleField "ToldTracksModel" "open") ∈ lw_all := lw_g (lw_at lw_m9 95 rfl) rfl
theorem q2184 : (Jvm.Cond.laysFinal "ToldTracksModel" "ToldTracksModel" "ops" "[I") ∈ lw_all := lw_g (lw_at lw_m9 96 rfl) rfl
theorem q2185 : (Jvm.Cond.soleField "ToldTracksModel" "ops") ∈ lw_all := lw_g (lw_at lw_m9 97 rfl) rfl
theorem q2186 : (Jvm.Cond.lays "ToldTracksModel" "ToldTracksModel" "opMany" "I") ∈ lw_all := lw_g (lw_at lw_m9 98 rfl) rfl
theorem q2187 : (Jvm.Cond.soleField "ToldTracksModel" "opMany") ∈ lw_all := lw_g (lw_at lw_m9 99 rfl) rfl
theorem q2188 : (Jvm.Cond.lays "ToldTracksModel" "ToldTracksModel" "operand" "Z") ∈ lw_all := lw_g (lw_at lw_m9 100 rfl) rfl
theorem q2189 : (Jvm.Cond.soleField "ToldTracksModel" "operand") ∈ lw_all := lw_g (lw_at lw_m9 101 rfl) rfl
theorem q2190 : (Jvm.Cond.laysFinal "ToldTracksModel" "ToldTracksModel" "refused" "[I") ∈ lw_all := lw_g (lw_at lw_m9 102 rfl) rfl
theorem q2191 : (Jvm.Cond.soleField "ToldTracksModel" "refused") ∈ lw_all := lw_g (lw_at lw_m9 103 rfl) rfl
theorem q2192 : (Jvm.Cond.laysFinal "ToldTracksModel" "ToldTracksModel" "heap" "[J") ∈ lw_all := lw_g (lw_at lw_m9 104 rfl) rfl
theorem q2193 : (Jvm.Cond.soleField "ToldTracksModel" "heap") ∈ lw_all := lw_g (lw_at lw_m9 105 rfl) rfl
theorem q2194 : (Jvm.Cond.laysFinal "ToldTracksModel" "ToldTracksModel" "moment" "[I") ∈ lw_all := lw_g (lw_at lw_m9 106 rfl) rfl
theorem q2195 : (Jvm.Cond.soleField "ToldTracksModel" "moment") ∈ lw_all := lw_g (lw_at lw_m9 107 rfl) rfl
theorem q2196 : (Jvm.Cond.laysFinal "ToldTracksModel" "ToldTracksModel" "depths" "[I") ∈ lw_all := lw_g (lw_at lw_m9 108 rfl) rfl
theorem q2197 : (Jvm.Cond.soleField "ToldTracksModel" "depths") ∈ lw_all := lw_g (lw_at lw_m9 109 rfl) rfl
theorem q2198 : (Jvm.Cond.laysFinal "ToldTracksModel" "ToldTracksModel" "costs" "[I") ∈ lw_all := lw_g (lw_at lw_m9 110 rfl) rfl
theorem q2199 : (Jvm.Cond.soleField "ToldTracksModel" "costs") ∈ lw_all := lw_g (lw_at lw_m9 111 rfl) rfl
theorem q2200 : (Jvm.Cond.laysFinal "ToldTracksModel" "ToldTracksModel" "steps" "[I") ∈ lw_all := lw_g (lw_at lw_m9 112 rfl) rfl
theorem q2201 : (Jvm.Cond.soleField "ToldTracksModel" "steps") ∈ lw_all := lw_g (lw_at lw_m9 113 rfl) rfl
theorem q2202 : (Jvm.Cond.laysFinal "ToldTracksModel" "ToldTracksModel" "queue" "[I") ∈ lw_all := lw_g (lw_at lw_m9 114 rfl) rfl
theorem q2203 : (Jvm.Cond.soleField "ToldTracksModel" "queue") ∈ lw_all := lw_g (lw_at lw_m9 115 rfl) rfl
theorem q2204 : (Jvm.Cond.lays "ToldTracksModel" "ToldTracksModel" "queued" "I") ∈ lw_all := lw_g (lw_at lw_m9 116 rfl) rfl
theorem q2205 : (Jvm.Cond.soleField "ToldTracksModel" "queued") ∈ lw_all := lw_g (lw_at lw_m9 117 rfl) rfl
theorem q2206 : (Jvm.Cond.lays "ToldTracksModel" "ToldTracksModel" "facts" "I") ∈ lw_all := lw_g (lw_at lw_m9 118 rfl) rfl
theorem q2207 : (Jvm.Cond.soleField "ToldTracksModel" "facts") ∈ lw_all := lw_g (lw_at lw_m9 119 rfl) rfl
theorem q2208 : (Jvm.Cond.laysFinal "ToldTracksModel" "ToldTracksModel" "factCell" "[I") ∈ lw_all := lw_g (lw_at lw_m9 120 rfl) rfl
theorem q2209 : (Jvm.Cond.soleField "ToldTracksModel" "factCell") ∈ lw_all := lw_g (lw_at lw_m9 121 rfl) rfl
theorem q2210 : (Jvm.Cond.laysFinal "ToldTracksModel" "ToldTracksModel" "factFrom" "[I") ∈ lw_all := lw_g (lw_at lw_m9 122 rfl) rfl
theorem q2211 : (Jvm.Cond.soleField "ToldTracksModel" "factFrom") ∈ lw_all := lw_g (lw_at lw_m9 123 rfl) rfl
theorem q2212 : (Jvm.Cond.laysFinal "ToldTracksModel" "ToldTracksModel" "factTo" "[I") ∈ lw_all := lw_g (lw_at lw_m9 124 rfl) rfl
theorem q2213 : (Jvm.Cond.soleField "ToldTracksModel" "factTo") ∈ lw_all := lw_g (lw_at lw_m9 125 rfl) rfl
theorem q2214 : (Jvm.Cond.lays "ToldTracksModel" "ToldTracksModel" "isLaid" "Z") ∈ lw_all := lw_g (lw_at lw_m9 126 rfl) rfl
theorem q2215 : (Jvm.Cond.soleField "ToldTracksModel" "isLaid") ∈ lw_all := lw_g (lw_at lw_m9 127 rfl) rfl
theorem q2216 : (Jvm.Cond.lays "ToldTracksModel" "ToldTracksModel" "many48" "I") ∈ lw_all := lw_g (lw_at lw_m9 128 rfl) rfl
theorem q2217 : (Jvm.Cond.soleField "ToldTracksModel" "many48") ∈ lw_all := lw_g (lw_at lw_m9 129 rfl) rfl
theorem q2218 : (Jvm.Cond.lays "ToldTracksModel" "ToldTracksModel" "keptMany" "I") ∈ lw_all := lw_g (lw_at lw_m9 130 rfl) rfl
theorem q2219 : (Jvm.Cond.soleField "ToldTracksModel" "keptMany") ∈ lw_all := lw_g (lw_at lw_m9 131 rfl) rfl
theorem q2220 : (Jvm.Cond.laysFinal "ToldTracksModel" "ToldTracksModel" "hours" "[I") ∈ lw_all := lw_g (lw_at lw_m9 132 rfl) rfl
theorem q2221 : (Jvm.Cond.soleField "ToldTracksModel" "hours") ∈ lw_all := lw_g (lw_at lw_m9 133 rfl) rfl
theorem q2222 : (Jvm.Cond.laysFinal "ToldTracksModel" "ToldTracksModel" "isGood" "[Z") ∈ lw_all := lw_g (lw_at lw_m9 134 rfl) rfl
theorem q2223 : (Jvm.Cond.soleField "ToldTracksModel" "isGood") ∈ lw_all := lw_g (lw_at lw_m9 135 rfl) rfl
theorem q2224 : (Jvm.Cond.laysFinal "ToldTracksModel" "ToldTracksModel" "isKept" "[Z") ∈ lw_all := lw_g (lw_at lw_m9 136 rfl) rfl
theorem q2225 : (Jvm.Cond.soleField "ToldTracksModel" "isKept") ∈ lw_all := lw_g (lw_at lw_m9 137 rfl) rfl
theorem q2226 : (Jvm.Cond.laysFinal "ToldTracksModel" "ToldTracksModel" "goesWith" "[Z") ∈ lw_all := lw_g (lw_at lw_m9 138 rfl) rfl
theorem q2227 : (Jvm.Cond.soleField "ToldTracksModel" "goesWith") ∈ lw_all := lw_g (lw_at lw_m9 139 rfl) rfl
theorem q2228 : (Jvm.Cond.laysFinal "ToldTracksModel" "ToldTracksModel" "longest" "[I") ∈ lw_all := lw_g (lw_at lw_m9 140 rfl) rfl
theorem q2229 : (Jvm.Cond.soleField "ToldTracksModel" "longest") ∈ lw_all := lw_g (lw_at lw_m9 141 rfl) rfl
theorem q2230 : (Jvm.Cond.laysFinal "ToldTracksModel" "ToldTracksModel" "farFrom" "[I") ∈ lw_all := lw_g (lw_at lw_m9 142 rfl) rfl
theorem q2231 : (Jvm.Cond.soleField "ToldTracksModel" "farFrom") ∈ lw_all := lw_g (lw_at lw_m9 143 rfl) rfl
theorem q2232 : (Jvm.Cond.lays "ToldTracksModel" "ToldTracksModel" "silentHours" "I") ∈ lw_all := lw_g (lw_at lw_m9 144 rfl) rfl
theorem q2233 : (Jvm.Cond.soleField "ToldTracksModel" "silentHours") ∈ lw_all := lw_g (lw_at lw_m9 145 rfl) rfl
theorem q2234 : (Jvm.Cond.laysFinal "ToldTracksModel" "ToldTracksModel" "set" "[I") ∈ lw_all := lw_g (lw_at lw_m9 146 rfl) rfl
theorem q2235 : (Jvm.Cond.soleField "ToldTracksModel" "set") ∈ lw_all := lw_g (lw_at lw_m9 147 rfl) rfl
theorem q2236 : (Jvm.Cond.laysFinal "ToldTracksModel" "ToldTracksModel" "oldSet" "[I") ∈ lw_all := lw_g (lw_at lw_m9 148 rfl) rfl
theorem q2237 : (Jvm.Cond.soleField "ToldTracksModel" "oldSet") ∈ lw_all := lw_g (lw_at lw_m9 149 rfl) rfl
theorem q2238 : (Jvm.Cond.laysFinal "ToldTracksModel" "ToldTracksModel" "firstMay" "[Z") ∈ lw_all := lw_g (lw_at lw_m9 150 rfl) rfl
theorem q2239 : (Jvm.Cond.soleField "ToldTracksModel" "firstMay") ∈ lw_all := lw_g (lw_at lw_m9 151 rfl) rfl
theorem q2240 : (Jvm.Cond.laysFinal "ToldTracksModel" "ToldTracksModel" "firstHour" "[Z") ∈ lw_all := lw_g (lw_at lw_m9 152 rfl) rfl
theorem q2241 : (Jvm.Cond.soleField "ToldTracksModel" "firstHour") ∈ lw_all := lw_g (lw_at lw_m9 153 rfl) rfl
theorem q2242 : (Jvm.Cond.laysFinal "ToldTracksModel" "ToldTracksModel" "explained" "[I") ∈ lw_all := lw_g (lw_at lw_m9 154 rfl) rfl
theorem q2243 : (Jvm.Cond.soleField "ToldTracksModel" "explained") ∈ lw_all := lw_g (lw_at lw_m9 155 rfl) rfl
theorem q2244 : (Jvm.Cond.laysFinal "ToldTracksModel" "ToldTracksModel" "missed" "[J") ∈ lw_all := lw_g (lw_at lw_m9 156 rfl) rfl
theorem q2245 : (Jvm.Cond.soleField "ToldTracksModel" "missed") ∈ lw_all := lw_g (lw_at lw_m9 157 rfl) rfl
theorem q2246 : (Jvm.Cond.laysFinal "ToldTracksModel" "ToldTracksModel" "settled" "[I") ∈ lw_all := lw_g (lw_at lw_m9 158 rfl) rfl
theorem q2247 : (Jvm.Cond.soleField "ToldTracksModel" "settled") ∈ lw_all := lw_g (lw_at lw_m9 159 rfl) rfl
theorem q2248 : (Jvm.Cond.laysFinal "ToldTracksModel" "ToldTracksModel" "out" "[I") ∈ lw_all := lw_g (lw_at lw_m9 160 rfl) rfl
theorem q2249 : (Jvm.Cond.soleField "ToldTracksModel" "out") ∈ lw_all := lw_g (lw_at lw_m9 161 rfl) rfl
theorem q2250 : (Jvm.Cond.lays "ToldTracksModel" "ToldTracksModel" "outs" "I") ∈ lw_all := lw_g (lw_at lw_m9 162 rfl) rfl
theorem q2251 : (Jvm.Cond.soleField "ToldTracksModel" "outs") ∈ lw_all := lw_g (lw_at lw_m9 163 rfl) rfl
theorem q2252 : (Jvm.Cond.superclass "ToldTracksModel" "java/lang/Object") ∈ lw_all := lw_g (lw_at lw_m9 164 rfl) rfl
theorem q2255 : (Jvm.Cond.instanceMethod ({ cls := "ToldTracksModel", name := "feed", desc := "(IIIII)I" } : Jvm.MethodName)) ∈ lw_all := lw_g (lw_at lw_m9 167 rfl) rfl
theorem q2256 : (Jvm.Cond.selects "ToldTracksModel" ({ cls := "ToldTracksModel", name := "feed", desc := "(IIIII)I" } : Jvm.MethodName) ({ cls := "ToldTracksModel", name := "feed", desc := "(IIIII)I" } : Jvm.MethodName)) ∈ lw_all := lw_g (lw_at lw_m9 168 rfl) rfl
theorem q2257 : (Jvm.Cond.code ({ cls := "ToldTracksModel", name := "feed", desc := "(IIIII)I" } : Jvm.MethodName) prog_29_method_4_code (6 : Nat) (Option.some Jvm.ClassFile.FieldType.int)) ∈ lw_all := lw_g (lw_at lw_m9 169 rfl) rfl
theorem q2258 : (Jvm.Cond.methodLink "ToldTracksModel" (264 : Nat) ({ cls := "ToldTracksModel", name := "refuses", desc := "(I)I" } : Jvm.MethodName)) ∈ lw_all := lw_g (lw_at lw_m9 170 rfl) rfl
theorem q2259 : (Jvm.Cond.privateMethod ({ cls := "ToldTracksModel", name := "refuses", desc := "(I)I" } : Jvm.MethodName)) ∈ lw_tbl := lw_at lw_m9 171 rfl
theorem q2260 : (Jvm.Cond.instanceMethod ({ cls := "ToldTracksModel", name := "refuses", desc := "(I)I" } : Jvm.MethodName)) ∈ lw_all := lw_g (lw_at lw_m9 172 rfl) rfl
theorem q2261 : (Jvm.Cond.code ({ cls := "ToldTracksModel", name := "refuses", desc := "(I)I" } : Jvm.MethodName) prog_29_method_43_code (2 : Nat) (Option.some Jvm.ClassFile.FieldType.int)) ∈ lw_all := lw_g (lw_at lw_m9 173 rfl) rfl
theorem q2262 : (Jvm.Cond.methodLink "ToldTracksModel" (268 : Nat) ({ cls := "ToldTracksModel", name := "put", desc := "(I)V" } : Jvm.MethodName)) ∈ lw_all := lw_g (lw_at lw_m9 174 rfl) rfl
theorem q2263 : (Jvm.Cond.privateMethod ({ cls := "ToldTracksModel", name := "put", desc := "(I)V" } : Jvm.MethodName)) ∈ lw_tbl := lw_at lw_m9 175 rfl
theorem q2264 : (Jvm.Cond.instanceMethod ({ cls := "ToldTracksModel", name := "put", desc := "(I)V" } : Jvm.MethodName)) ∈ lw_all := lw_g (lw_at lw_m9 176 rfl) rfl
theorem q2265 : (Jvm.Cond.code ({ cls := "ToldTracksModel", name := "put", desc := "(I)V" } : Jvm.MethodName) prog_29_method_3_code (3 : Nat) (Option.none : Option Jvm.ClassFile.FieldType)) ∈ lw_all := lw_g (lw_at lw_m9 177 rfl) rfl
theorem q2267 : (Jvm.Cond.instanceMethod ({ cls := "ToldTracksModel", name := "end", desc := "(I)Z" } : Jvm.MethodName)) ∈ lw_all := lw_g (lw_at lw_m9 179 rfl) rfl
theorem q2268 : (Jvm.Cond.selects "ToldTracksModel" ({ cls := "ToldTracksModel", name := "end", desc := "(I)Z" } : Jvm.MethodName) ({ cls := "ToldTracksModel", name := "end", desc := "(I)Z" } : Jvm.MethodName)) ∈ lw_all := lw_g (lw_at lw_m9 180 rfl) rfl
theorem q2269 : (Jvm.Cond.code ({ cls := "ToldTracksModel", name := "end", desc := "(I)Z" } : Jvm.MethodName) prog_29_method_5_code (2 : Nat) (Option.some Jvm.ClassFile.FieldType.boolean)) ∈ lw_all := lw_g (lw_at lw_m9 181 rfl) rfl
theorem q2271 : (Jvm.Cond.instanceMethod ({ cls := "ToldTracksModel", name := "sea", desc := "()I" } : Jvm.MethodName)) ∈ lw_all := lw_g (lw_at lw_m9 183 rfl) rfl
theorem q2272 : (Jvm.Cond.selects "ToldTracksModel" ({ cls := "ToldTracksModel", name := "sea", desc := "()I" } : Jvm.MethodName) ({ cls := "ToldTracksModel", name := "sea", desc := "()I" } : Jvm.MethodName)) ∈ lw_all := lw_g (lw_at lw_m9 184 rfl) rfl
theorem q2273 : (Jvm.Cond.code ({ cls := "ToldTracksModel", name := "sea", desc := "()I" } : Jvm.MethodName) prog_29_method_41_code (2 : Nat) (Option.some Jvm.ClassFile.FieldType.int)) ∈ lw_all := lw_g (lw_at lw_m9 185 rfl) rfl
theorem q2274 : (Jvm.Cond.methodLink "ToldTracksModel" (286 : Nat) ({ cls := "ToldTracksModel", name := "ahead", desc := "()V" } : Jvm.MethodName)) ∈ lw_all := lw_g (lw_at lw_m9 186 rfl) rfl
theorem q2275 : (Jvm.Cond.privateMethod ({ cls := "ToldTracksModel", name := "ahead", desc := "()V" } : Jvm.MethodName)) ∈ lw_tbl := lw_at lw_m9 187 rfl
theorem q2276 : (Jvm.Cond.instanceMethod ({ cls := "ToldTracksModel", name := "ahead", desc := "()V" } : Jvm.MethodName)) ∈ lw_all := lw_g (lw_at lw_m9 188 rfl) rfl
theorem q2277 : (Jvm.Cond.code ({ cls := "ToldTracksModel", name := "ahead", desc := "()V" } : Jvm.MethodName) prog_29_method_9_code (6 : Nat) (Option.none : Option Jvm.ClassFile.FieldType)) ∈ lw_all := lw_g (lw_at lw_m9 189 rfl) rfl
theorem q2278 : (Jvm.Cond.methodLink "ToldTracksModel" (272 : Nat) ({ cls := "ToldTracksModel", name := "isLetter", desc := "(I)Z" } : Jvm.MethodName)) ∈ lw_all := lw_g (lw_at lw_m9 190 rfl) rfl
theorem q2279 : (Jvm.Cond.static ({ cls := "ToldTracksModel", name := "isLetter", desc := "(I)Z" } : Jvm.MethodName)) ∈ lw_all := lw_g (lw_at lw_m9 191 rfl) rfl
theorem q2280 : (Jvm.Cond.code ({ cls := "ToldTracksModel", name := "isLetter", desc := "(I)Z" } : Jvm.MethodName) prog_29_method_7_code (1 : Nat) (Option.some Jvm.ClassFile.FieldType.boolean)) ∈ lw_all := lw_g (lw_at lw_m9 192 rfl) rfl
theorem q2281 : (Jvm.Cond.methodLink "ToldTracksModel" (276 : Nat) ({ cls := "ToldTracksModel", name := "isDigit", desc := "(I)Z" } : Jvm.MethodName)) ∈ lw_all := lw_g (lw_at lw_m9 193 rfl) rfl
theorem q2282 : (Jvm.Cond.static ({ cls := "ToldTracksModel", name := "isDigit", desc := "(I)Z" } : Jvm.MethodName)) ∈ lw_all := lw_g (lw_at lw_m9 194 rfl) rfl
theorem q2283 : (Jvm.Cond.code ({ cls := "ToldTracksModel", name := "isDigit", desc := "(I)Z" } : Jvm.MethodName) prog_29_method_8_code (1 : Nat) (Option.some Jvm.ClassFile.FieldType.boolean)) ∈ lw_all := lw_g (lw_at lw_m9 195 rfl) rfl
theorem q2284 : (Jvm.Cond.methodLink "ToldTracksModel" (279 : Nat) ({ cls := "ToldTracksModel", name := "blame", desc := "(II)V" } : Jvm.MethodName)) ∈ lw_all := lw_g (lw_at lw_m9 196 rfl) rfl
theorem q2285 : (Jvm.Cond.privateMethod ({ cls := "ToldTracksModel", name := "blame", desc := "(II)V" } : Jvm.MethodName)) ∈ lw_tbl := lw_at lw_m9 197 rfl
theorem q2286 : (Jvm.Cond.instanceMethod ({ cls := "ToldTracksModel", name := "blame", desc := "(II)V" } : Jvm.MethodName)) ∈ lw_all := lw_g (lw_at lw_m9 198 rfl) rfl
theorem q2287 : (Jvm.Cond.code ({ cls := "ToldTracksModel", name := "blame", desc := "(II)V" } : Jvm.MethodName) prog_29_method_6_code (3 : Nat) (Option.none : Option Jvm.ClassFile.FieldType)) ∈ lw_all := lw_g (lw_at lw_m9 199 rfl) rfl
theorem q2288 : (Jvm.Cond.methodLink "ToldTracksModel" (438 : Nat) ({ cls := "ToldTracksModel", name := "sizes", desc := "()V" } : Jvm.MethodName)) ∈ lw_all := lw_g (lw_at lw_m9 200 rfl) rfl
theorem q2289 : (Jvm.Cond.privateMethod ({ cls := "ToldTracksModel", name := "sizes", desc := "()V" } : Jvm.MethodName)) ∈ lw_tbl := lw_at lw_m9 201 rfl
theorem q2290 : (Jvm.Cond.instanceMethod ({ cls := "ToldTracksModel", name := "sizes", desc := "()V" } : Jvm.MethodName)) ∈ lw_all := lw_g (lw_at lw_m9 202 rfl) rfl
theorem q2291 : (Jvm.Cond.code ({ cls := "ToldTracksModel", name := "sizes", desc := "()V" } : Jvm.MethodName) prog_29_method_32_code (1 : Nat) (Option.none : Option Jvm.ClassFile.FieldType)) ∈ lw_all := lw_g (lw_at lw_m9 203 rfl) rfl
theorem q2292 : (Jvm.Cond.constantLong "ToldTracksModel" (289 : Nat) (1936292453 : Int64)) ∈ lw_all := lw_g (lw_at lw_m9 204 rfl) rfl
theorem q2293 : (Jvm.Cond.methodLink "ToldTracksModel" (359 : Nat) ({ cls := "ToldTracksModel", name := "isWord", desc := "(J)Z" } : Jvm.MethodName)) ∈ lw_all := lw_g (lw_at lw_m9 205 rfl) rfl
theorem q2294 : (Jvm.Cond.privateMethod ({ cls := "ToldTracksModel", name := "isWord", desc := "(J)Z" } : Jvm.MethodName)) ∈ lw_tbl := lw_at lw_m9 206 rfl
theorem q2295 : (Jvm.Cond.instanceMethod ({ cls := "ToldTracksModel", name := "isWord", desc := "(J)Z" } : Jvm.MethodName)) ∈ lw_all := lw_g (lw_at lw_m9 207 rfl) rfl
theorem q2296 : (Jvm.Cond.code ({ cls := "ToldTracksModel", name := "isWord", desc := "(J)Z" } : Jvm.MethodName) prog_29_method_11_code (3 : Nat) (Option.some Jvm.ClassFile.FieldType.boolean)) ∈ lw_all := lw_g (lw_at lw_m9 208 rfl) rfl
theorem q2297 : (Jvm.Cond.methodLink "ToldTracksModel" (385 : Nat) ({ cls := "ToldTracksModel", name := "number", desc := "(II)I" } : Jvm.MethodName)) ∈ lw_all := lw_g (lw_at lw_m9 209 rfl) rfl
theorem q2298 : (Jvm.Cond.privateMethod ({ cls := "ToldTracksModel", name := "number", desc := "(II)I" } : Jvm.MethodName)) ∈ lw_tbl := lw_at lw_m9 210 rfl
theorem q2299 : (Jvm.Cond.instanceMethod ({ cls := "ToldTracksModel", name := "number", desc := "(II)I" } : Jvm.MethodName)) ∈ lw_all := lw_g (lw_at lw_m9 211 rfl) rfl
theorem q2300 : (Jvm.Cond.code ({ cls := "ToldTracksModel", name := "number", desc := "(II)I" } : Jvm.MethodName) prog_29_method_17_code (4 : Nat) (Option.some Jvm.ClassFile.FieldType.int)) ∈ lw_all := lw_g (lw_at lw_m9 212 rfl) rfl
theorem q2301 : (Jvm.Cond.methodLink "ToldTracksModel" (343 : Nat) ({ cls := "ToldTracksModel", name := "is", desc := "(III)Z" } : Jvm.MethodName)) ∈ lw_all := lw_g (lw_at lw_m9 213 rfl) rfl
theorem q2302 : (Jvm.Cond.static ({ cls := "ToldTracksModel", name := "is", desc := "(III)Z" } : Jvm.MethodName)) ∈ lw_all := lw_g (lw_at lw_m9 214 rfl) rfl
theorem q2303 : (Jvm.Cond.code ({ cls := "ToldTracksModel", name := "is", desc := "(III)Z" } : Jvm.MethodName) prog_29_method_2_code (3 : Nat) (Option.some Jvm.ClassFile.FieldType.boolean)) ∈ lw_all := lw_g (lw_at lw_m9 215 rfl) rfl
theorem q2304 : (Jvm.Cond.methodLink "ToldTracksModel" (389 : Nat) ({ cls := "ToldTracksModel", name := "must", desc := "(I)V" } : Jvm.MethodName)) ∈ lw_all := lw_g (lw_at lw_m9 216 rfl) rfl
theorem q2305 : (Jvm.Cond.privateMethod ({ cls := "ToldTracksModel", name := "must", desc := "(I)V" } : Jvm.MethodName)) ∈ lw_tbl := lw_at lw_m9 217 rfl
theorem q2306 : (Jvm.Cond.instanceMethod ({ cls := "ToldTracksModel", name := "must", desc := "(I)V" } : Jvm.MethodName)) ∈ lw_all := lw_g (lw_at lw_m9 218 rfl) rfl
theorem q2307 : (Jvm.Cond.code ({ cls := "ToldTracksModel", name := "must", desc := "(I)V" } : Jvm.MethodName) prog_29_method_12_code (2 : Nat) (Option.none : Option Jvm.ClassFile.FieldType)) ∈ lw_all := lw_g (lw_at lw_m9 219 rfl) rfl
theorem q2308 : (Jvm.Cond.methodLink "ToldTracksModel" (283 : Nat) ({ cls := "ToldTracksModel", name := "isSign", desc := "(I)Z" } : Jvm.MethodName)) ∈ lw_all := lw_g (lw_at lw_m9 220 rfl) rfl
theorem q2309 : (Jvm.Cond.privateMethod ({ cls := "ToldTracksModel", name := "isSign", desc := "(I)Z" } : Jvm.MethodName)) ∈ lw_tbl := lw_at lw_m9 221 rfl
theorem q2310 : (Jvm.Cond.instanceMethod ({ cls := "ToldTracksModel", name := "isSign", desc := "(I)Z" } : Jvm.MethodName)) ∈ lw_all := lw_g (lw_at lw_m9 222 rfl) rfl
theorem q2311 : (Jvm.Cond.code ({ cls := "ToldTracksModel", name := "isSign", desc := "(I)Z" } : Jvm.MethodName) prog_29_method_10_code (2 : Nat) (Option.some Jvm.ClassFile.FieldType.boolean)) ∈ lw_all := lw_g (lw_at lw_m9 223 rfl) rfl
theorem q2312 : (Jvm.Cond.methodLink "ToldTracksModel" (441 : Nat) ({ cls := "ToldTracksModel", name := "statement", desc := "()V" } : Jvm.MethodName)) ∈ lw_all := lw_g (lw_at lw_m9 224 rfl) rfl
theorem q2313 : (Jvm.Cond.privateMethod ({ cls := "ToldTracksModel", name := "statement", desc := "()V" } : Jvm.MethodName)) ∈ lw_tbl := lw_at lw_m9 225 rfl
theorem q2314 : (Jvm.Cond.instanceMethod ({ cls := "ToldTracksModel", name := "statement", desc := "()V" } : Jvm.MethodName)) ∈ lw_all := lw_g (lw_at lw_m9 226 rfl) rfl
theorem q2315 : (Jvm.Cond.code ({ cls := "ToldTracksModel", name := "statement", desc := "()V" } : Jvm.MethodName) prog_29_method_40_code (1 : Nat) (Option.none : Option Jvm.ClassFile.FieldType)) ∈ lw_all := lw_g (lw_at lw_m9 227 rfl) rfl
theorem q2316 : (Jvm.Cond.constantLong "ToldTracksModel" (291 : Nat) (431198598248 : Int64)) ∈ lw_all := lw_g (lw_at lw_m9 228 rfl) rfl
theorem q2317 : (Jvm.Cond.methodLink "ToldTracksModel" (420 : Nat) ({ cls := "ToldTracksModel", name := "rule", desc := "(I)V" } : Jvm.MethodName)) ∈ lw_all := lw_g (lw_at lw_m9 229 rfl) rfl
theorem q2318 : (Jvm.Cond.privateMethod ({ cls := "ToldTracksModel", name := "rule", desc := "(I)V" } : Jvm.MethodName)) ∈ lw_tbl := lw_at lw_m9 230 rfl
theorem q2319 : (Jvm.Cond.instanceMethod ({ cls := "ToldTracksModel", name := "rule", desc := "(I)V" } : Jvm.MethodName)) ∈ lw_all := lw_g (lw_at lw_m9 231 rfl) rfl
theorem q2320 : (Jvm.Cond.code ({ cls := "ToldTracksModel", name := "rule", desc := "(I)V" } : Jvm.MethodName) prog_29_method_33_code (3 : Nat) (Option.none : Option Jvm.ClassFile.FieldType)) ∈ lw_all := lw_g (lw_at lw_m9 232 rfl) rfl
theorem q2321 : (Jvm.Cond.methodLink "ToldTracksModel" (392 : Nat) ({ cls := "ToldTracksModel", name := "mostRules", desc := "(I)I" } : Jvm.MethodName)) ∈ lw_all := lw_g (lw_at lw_m9 233 rfl) rfl
theorem q2322 : (Jvm.Cond.static ({ cls := "ToldTracksModel", name := "mostRules", desc := "(I)I" } : Jvm.MethodName)) ∈ lw_all := lw_g (lw_at lw_m9 234 rfl) rfl
theorem q2323 : (Jvm.Cond.code ({ cls := "ToldTracksModel", name := "mostRules", desc := "(I)I" } : Jvm.MethodName) prog_29_method_15_code (1 : Nat) (Option.some Jvm.ClassFile.FieldType.int)) ∈ lw_all := lw_g (lw_at lw_m9 235 rfl) rfl
theorem q2324 : (Jvm.Cond.methodLink "ToldTracksModel" (395 : Nat) ({ cls := "ToldTracksModel", name := "counts", desc := "(Z)Z" } : Jvm.MethodName)) ∈ lw_all := lw_g (lw_at lw_m9 236 rfl) rfl
theorem q2325 : (Jvm.Cond.privateMethod ({ cls := "ToldTracksModel", name := "counts", desc := "(Z)Z" } : Jvm.MethodName)) ∈ lw_tbl := lw_at lw_m9 237 rfl
theorem q2326 : (Jvm.Cond.instanceMethod ({ cls := "ToldTracksModel", name := "counts", desc := "(Z)Z" } : Jvm.MethodName)) ∈ lw_all := lw_g (lw_at lw_m9 238 rfl) rfl
theorem q2327 : (Jvm.Cond.code ({ cls := "ToldTracksModel", name := "counts", desc := "(Z)Z" } : Jvm.MethodName) prog_29_method_28_code (2 : Nat) (Option.some Jvm.ClassFile.FieldType.boolean)) ∈ lw_all := lw_g (lw_at lw_m9 239 rfl) rfl
theorem q2328 : (Jvm.Cond.methodLink "ToldTracksModel" (399 : Nat) ({ cls := "ToldTracksModel", name := "firstRule", desc := "(I)I" } : Jvm.MethodName)) ∈ lw_all := lw_g (lw_at lw_m10 0 rfl) rfl
theorem q2329 : (Jvm.Cond.static ({ cls := "ToldTracksModel", name := "firstRule", desc := "(I)I" } : Jvm.MethodName)) ∈ lw_all := lw_g (lw_at lw_m10 1 rfl) rfl
theorem q2330 : (Jvm.Cond.code ({ cls := "ToldTracksModel", name := "firstRule", desc := "(I)I" } : Jvm.MethodName) prog_29_method_14_code (1 : Nat) (Option.some Jvm.ClassFile.FieldType.int)) ∈ lw_all := lw_g (lw_at lw_m10 2 rfl) rfl
theorem q2331 : (Jvm.Cond.methodLink "ToldTracksModel" (402 : Nat) ({ cls := "ToldTracksModel", name := "reads", desc := "(Z)V" } : Jvm.MethodName)) ∈ lw_all := lw_g (lw_at lw_m10 3 rfl) rfl
theorem q2332 : (Jvm.Cond.privateMethod ({ cls := "ToldTracksModel", name := "reads", desc := "(Z)V" } : Jvm.MethodName)) ∈ lw_tbl := lw_at lw_m10 4 rfl
theorem q2333 : (Jvm.Cond.instanceMethod ({ cls := "ToldTracksModel", name := "reads", desc := "(Z)V" } : Jvm.MethodName)) ∈ lw_all := lw_g (lw_at lw_m10 5 rfl) rfl
theorem q2334 : (Jvm.Cond.code ({ cls := "ToldTracksModel", name := "reads", desc := "(Z)V" } : Jvm.MethodName) prog_29_method_27_code (3 : Nat) (Option.none : Option Jvm.ClassFile.FieldType)) ∈ lw_all := lw_g (lw_at lw_m10 6 rfl) rfl
theorem q2335 : (Jvm.Cond.methodLink "ToldTracksModel" (353 : Nat) ({ cls := "ToldTracksModel", name := "pushes", desc := "(I)V" } : Jvm.MethodName)) ∈ lw_all := lw_g (lw_at lw_m10 7 rfl) rfl
theorem q2336 : (Jvm.Cond.privateMethod ({ cls := "ToldTracksModel", name := "pushes", desc := "(I)V" } : Jvm.MethodName)) ∈ lw_tbl := lw_at lw_m10 8 rfl
theorem q2337 : (Jvm.Cond.instanceMethod ({ cls := "ToldTracksModel", name := "pushes", desc := "(I)V" } : Jvm.MethodName)) ∈ lw_all := lw_g (lw_at lw_m10 9 rfl) rfl
theorem q2338 : (Jvm.Cond.code ({ cls := "ToldTracksModel", name := "pushes", desc := "(I)V" } : Jvm.MethodName) prog_29_method_22_code (2 : Nat) (Option.none : Option Jvm.ClassFile.FieldType)) ∈ lw_all := lw_g (lw_at lw_m10 10 rfl) rfl
theorem q2339 : (Jvm.Cond.methodLink "ToldTracksModel" (372 : Nat) ({ cls := "ToldTracksModel", name := "operand", desc := "()Z" } : Jvm.MethodName)) ∈ lw_all := lw_g (lw_at lw_m10 11 rfl) rfl
theorem q2340 : (Jvm.Cond.privateMethod ({ cls := "ToldTracksModel", name := "operand", desc := "()Z" } : Jvm.MethodName)) ∈ lw_tbl := lw_at lw_m10 12 rfl
theorem q2341 : (Jvm.Cond.instanceMethod ({ cls := "ToldTracksModel", name := "operand", desc := "()Z" } : Jvm.MethodName)) ∈ lw_all := lw_g (lw_at lw_m10 13 rfl) rfl
theorem q2342 : (Jvm.Cond.code ({ cls := "ToldTracksModel", name := "operand", desc := "()Z" } : Jvm.MethodName) prog_29_method_25_code (4 : Nat) (Option.some Jvm.ClassFile.FieldType.boolean)) ∈ lw_all := lw_g (lw_at lw_m10 14 rfl) rfl
theorem q2343 : (Jvm.Cond.methodLink "ToldTracksModel" (356 : Nat) ({ cls := "ToldTracksModel", name := "isTest", desc := "(I)Z" } : Jvm.MethodName)) ∈ lw_all := lw_g (lw_at lw_m10 15 rfl) rfl
theorem q2344 : (Jvm.Cond.static ({ cls := "ToldTracksModel", name := "isTest", desc := "(I)Z" } : Jvm.MethodName)) ∈ lw_all := lw_g (lw_at lw_m10 16 rfl) rfl
theorem q2345 : (Jvm.Cond.code ({ cls := "ToldTracksModel", name := "isTest", desc := "(I)Z" } : Jvm.MethodName) prog_29_method_24_code (1 : Nat) (Option.some Jvm.ClassFile.FieldType.boolean)) ∈ lw_all := lw_g (lw_at lw_m10 17 rfl) rfl
theorem q2346 : (Jvm.Cond.constantLong "ToldTracksModel" (331 : Nat) (7237492 : Int64)) ∈ lw_all := lw_g (lw_at lw_m10 18 rfl) rfl
theorem q2347 : (Jvm.Cond.methodLink "ToldTracksModel" (363 : Nat) ({ cls := "ToldTracksModel", name := "holdsBack", desc := "(I)V" } : Jvm.MethodName)) ∈ lw_all := lw_g (lw_at lw_m10 19 rfl) rfl
theorem q2348 : (Jvm.Cond.privateMethod ({ cls := "ToldTracksModel", name := "holdsBack", desc := "(I)V" } : Jvm.MethodName)) ∈ lw_tbl := lw_at lw_m10 20 rfl
theorem q2349 : (Jvm.Cond.instanceMethod ({ cls := "ToldTracksModel", name := "holdsBack", desc := "(I)V" } : Jvm.MethodName)) ∈ lw_all := lw_g (lw_at lw_m10 21 rfl) rfl
theorem q2350 : (Jvm.Cond.code ({ cls := "ToldTracksModel", name := "holdsBack", desc := "(I)V" } : Jvm.MethodName) prog_29_method_21_code (2 : Nat) (Option.none : Option Jvm.ClassFile.FieldType)) ∈ lw_all := lw_g (lw_at lw_m10 22 rfl) rfl
theorem q2351 : (Jvm.Cond.methodLink "ToldTracksModel" (366 : Nat) ({ cls := "ToldTracksModel", name := "opens", desc := "(I)V" } : Jvm.MethodName)) ∈ lw_all := lw_g (lw_at lw_m10 23 rfl) rfl
theorem q2352 : (Jvm.Cond.privateMethod ({ cls := "ToldTracksModel", name := "opens", desc := "(I)V" } : Jvm.MethodName)) ∈ lw_tbl := lw_at lw_m10 24 rfl
theorem q2353 : (Jvm.Cond.instanceMethod ({ cls := "ToldTracksModel", name := "opens", desc := "(I)V" } : Jvm.MethodName)) ∈ lw_all := lw_g (lw_at lw_m10 25 rfl) rfl
theorem q2354 : (Jvm.Cond.code ({ cls := "ToldTracksModel", name := "opens", desc := "(I)V" } : Jvm.MethodName) prog_29_method_23_code (2 : Nat) (Option.none : Option Jvm.ClassFile.FieldType)) ∈ lw_all := lw_g (lw_at lw_m10 26 rfl) rfl
theorem q2355 : (Jvm.Cond.constantLong "ToldTracksModel" (333 : Nat) (6384748 : Int64)) ∈ lw_all := lw_g (lw_at lw_m10 27 rfl) rfl
theorem q2356 : (Jvm.Cond.methodLink "ToldTracksModel" (350 : Nat) ({ cls := "ToldTracksModel", name := "add", desc := "(II)V" } : Jvm.MethodName)) ∈ lw_all := lw_g (lw_at lw_m10 28 rfl) rfl
theorem q2357 : (Jvm.Cond.privateMethod ({ cls := "ToldTracksModel", name := "add", desc := "(II)V" } : Jvm.MethodName)) ∈ lw_tbl := lw_at lw_m10 29 rfl
theorem q2358 : (Jvm.Cond.instanceMethod ({ cls := "ToldTracksModel", name := "add", desc := "(II)V" } : Jvm.MethodName)) ∈ lw_all := lw_g (lw_at lw_m10 30 rfl) rfl
theorem q2359 : (Jvm.Cond.code ({ cls := "ToldTracksModel", name := "add", desc := "(II)V" } : Jvm.MethodName) prog_29_method_18_code (3 : Nat) (Option.none : Option Jvm.ClassFile.FieldType)) ∈ lw_all := lw_g (lw_at lw_m10 31 rfl) rfl
theorem q2360 : (Jvm.Cond.constantLong "ToldTracksModel" (339 : Nat) (7170414 : Int64)) ∈ lw_all := lw_g (lw_at lw_m10 32 rfl) rfl
theorem q2361 : (Jvm.Cond.constantLong "ToldTracksModel" (341 : Nat) (7168376 : Int64)) ∈ lw_all := lw_g (lw_at lw_m10 33 rfl) rfl
theorem q2362 : (Jvm.Cond.constantLong "ToldTracksModel" (335 : Nat) (109330212154734 : Int64)) ∈ lw_all := lw_g (lw_at lw_m10 34 rfl) rfl
theorem q2363 : (Jvm.Cond.constantLong "ToldTracksModel" (337 : Nat) (7499639 : Int64)) ∈ lw_all := lw_g (lw_at lw_m10 35 rfl) rfl
theorem q2364 : (Jvm.Cond.constantLong "ToldTracksModel" (321 : Nat) (1752135026 : Int64)) ∈ lw_all := lw_g (lw_at lw_m10 36 rfl) rfl
theorem q2365 : (Jvm.Cond.methodLink "ToldTracksModel" (375 : Nat) ({ cls := "ToldTracksModel", name := "goesOn", desc := "()Z" } : Jvm.MethodName)) ∈ lw_all := lw_g (lw_at lw_m10 37 rfl) rfl
theorem q2366 : (Jvm.Cond.privateMethod ({ cls := "ToldTracksModel", name := "goesOn", desc := "()Z" } : Jvm.MethodName)) ∈ lw_tbl := lw_at lw_m10 38 rfl
theorem q2367 : (Jvm.Cond.instanceMethod ({ cls := "ToldTracksModel", name := "goesOn", desc := "()Z" } : Jvm.MethodName)) ∈ lw_all := lw_g (lw_at lw_m10 39 rfl) rfl
theorem q2368 : (Jvm.Cond.code ({ cls := "ToldTracksModel", name := "goesOn", desc := "()Z" } : Jvm.MethodName) prog_29_method_26_code (5 : Nat) (Option.some Jvm.ClassFile.FieldType.boolean)) ∈ lw_all := lw_g (lw_at lw_m10 40 rfl) rfl
theorem q2369 : (Jvm.Cond.methodLink "ToldTracksModel" (369 : Nat) ({ cls := "ToldTracksModel", name := "joins", desc := "(I)V" } : Jvm.MethodName)) ∈ lw_all := lw_g (lw_at lw_m10 41 rfl) rfl
theorem q2370 : (Jvm.Cond.privateMethod ({ cls := "ToldTracksModel", name := "joins", desc := "(I)V" } : Jvm.MethodName)) ∈ lw_tbl := lw_at lw_m10 42 rfl
theorem q2371 : (Jvm.Cond.instanceMethod ({ cls := "ToldTracksModel", name := "joins", desc := "(I)V" } : Jvm.MethodName)) ∈ lw_all := lw_g (lw_at lw_m10 43 rfl) rfl
theorem q2372 : (Jvm.Cond.code ({ cls := "ToldTracksModel", name := "joins", desc := "(I)V" } : Jvm.MethodName) prog_29_method_20_code (2 : Nat) (Option.none : Option Jvm.ClassFile.FieldType)) ∈ lw_all := lw_g (lw_at lw_m10 44 rfl) rfl
theorem q2373 : (Jvm.Cond.methodLink "ToldTracksModel" (347 : Nat) ({ cls := "ToldTracksModel", name := "rank", desc := "(I)I" } : Jvm.MethodName)) ∈ lw_all := lw_g (lw_at lw_m10 45 rfl) rfl
theorem q2374 : (Jvm.Cond.static ({ cls := "ToldTracksModel", name := "rank", desc := "(I)I" } : Jvm.MethodName)) ∈ lw_all := lw_g (lw_at lw_m10 46 rfl) rfl
theorem q2375 : (Jvm.Cond.code ({ cls := "ToldTracksModel", name := "rank", desc := "(I)I" } : Jvm.MethodName) prog_29_method_19_code (1 : Nat) (Option.some Jvm.ClassFile.FieldType.int)) ∈ lw_all := lw_g (lw_at lw_m10 47 rfl) rfl
theorem q2376 : (Jvm.Cond.constantLong "ToldTracksModel" (329 : Nat) (6385252 : Int64)) ∈ lw_all := lw_g (lw_at lw_m10 48 rfl) rfl
theorem q2377 : (Jvm.Cond.constantLong "ToldTracksModel" (327 : Nat) (28530 : Int64)) ∈ lw_all := lw_g (lw_at lw_m10 49 rfl) rfl
theorem q2378 : (Jvm.Cond.constantLong "ToldTracksModel" (325 : Nat) (2003330414 : Int64)) ∈ lw_all := lw_g (lw_at lw_m10 50 rfl) rfl
theorem q2379 : (Jvm.Cond.methodLink "ToldTracksModel" (406 : Nat) ({ cls := "ToldTracksModel", name := "must", desc := "(J)V" } : Jvm.MethodName)) ∈ lw_all := lw_g (lw_at lw_m10 51 rfl) rfl
theorem q2380 : (Jvm.Cond.privateMethod ({ cls := "ToldTracksModel", name := "must", desc := "(J)V" } : Jvm.MethodName)) ∈ lw_tbl := lw_at lw_m10 52 rfl
theorem q2381 : (Jvm.Cond.instanceMethod ({ cls := "ToldTracksModel", name := "must", desc := "(J)V" } : Jvm.MethodName)) ∈ lw_all := lw_g (lw_at lw_m10 53 rfl) rfl
theorem q2382 : (Jvm.Cond.code ({ cls := "ToldTracksModel", name := "must", desc := "(J)V" } : Jvm.MethodName) prog_29_method_29_code (3 : Nat) (Option.none : Option Jvm.ClassFile.FieldType)) ∈ lw_all := lw_g (lw_at lw_m10 54 rfl) rfl
theorem q2383 : (Jvm.Cond.constantLong "ToldTracksModel" (293 : Nat) (1668248436 : Int64)) ∈ lw_all := lw_g (lw_at lw_m10 55 rfl) rfl
theorem q2384 : (Jvm.Cond.constantLong "ToldTracksModel" (295 : Nat) (487301145972 : Int64)) ∈ lw_all := lw_g (lw_at lw_m10 56 rfl) rfl
theorem q2385 : (Jvm.Cond.constantLong "ToldTracksModel" (297 : Nat) (1936222576 : Int64)) ∈ lw_all := lw_g (lw_at lw_m10 57 rfl) rfl
theorem q2386 : (Jvm.Cond.methodLink "ToldTracksModel" (423 : Nat) ({ cls := "ToldTracksModel", name := "ship", desc := "()V" } : Jvm.MethodName)) ∈ lw_all := lw_g (lw_at lw_m10 58 rfl) rfl
theorem q2387 : (Jvm.Cond.privateMethod ({ cls := "ToldTracksModel", name := "ship", desc := "()V" } : Jvm.MethodName)) ∈ lw_tbl := lw_at lw_m10 59 rfl
theorem q2388 : (Jvm.Cond.instanceMethod ({ cls := "ToldTracksModel", name := "ship", desc := "()V" } : Jvm.MethodName)) ∈ lw_all := lw_g (lw_at lw_m10 60 rfl) rfl
theorem q2389 : (Jvm.Cond.code ({ cls := "ToldTracksModel", name := "ship", desc := "()V" } : Jvm.MethodName) prog_29_method_34_code (2 : Nat) (Option.none : Option Jvm.ClassFile.FieldType)) ∈ lw_all := lw_g (lw_at lw_m10 61 rfl) rfl
theorem q2390 : (Jvm.Cond.methodLink "ToldTracksModel" (409 : Nat) ({ cls := "ToldTracksModel", name := "fresh", desc := "()J" } : Jvm.MethodName)) ∈ lw_all := lw_g (lw_at lw_m10 62 rfl) rfl
theorem q2391 : (Jvm.Cond.privateMethod ({ cls := "ToldTracksModel", name := "fresh", desc := "()J" } : Jvm.MethodName)) ∈ lw_tbl := lw_at lw_m10 63 rfl
theorem q2392 : (Jvm.Cond.instanceMethod ({ cls := "ToldTracksModel", name := "fresh", desc := "()J" } : Jvm.MethodName)) ∈ lw_all := lw_g (lw_at lw_m10 64 rfl) rfl
theorem q2393 : (Jvm.Cond.code ({ cls := "ToldTracksModel", name := "fresh", desc := "()J" } : Jvm.MethodName) prog_29_method_30_code (3 : Nat) (Option.some Jvm.ClassFile.FieldType.long)) ∈ lw_all := lw_g (lw_at lw_m10 65 rfl) rfl
theorem q2394 : (Jvm.Cond.methodLink "ToldTracksModel" (378 : Nat) ({ cls := "ToldTracksModel", name := "isOwn", desc := "(J)Z" } : Jvm.MethodName)) ∈ lw_all := lw_g (lw_at lw_m10 66 rfl) rfl
theorem q2395 : (Jvm.Cond.privateMethod ({ cls := "ToldTracksModel", name := "isOwn", desc := "(J)Z" } : Jvm.MethodName)) ∈ lw_tbl := lw_at lw_m10 67 rfl
theorem q2396 : (Jvm.Cond.instanceMethod ({ cls := "ToldTracksModel", name := "isOwn", desc := "(J)Z" } : Jvm.MethodName)) ∈ lw_all := lw_g (lw_at lw_m10 68 rfl) rfl
theorem q2397 : (Jvm.Cond.code ({ cls := "ToldTracksModel", name := "isOwn", desc := "(J)Z" } : Jvm.MethodName) prog_29_method_13_code (3 : Nat) (Option.some Jvm.ClassFile.FieldType.boolean)) ∈ lw_all := lw_g (lw_at lw_m10 69 rfl) rfl
theorem q2398 : (Jvm.Cond.constantLong "ToldTracksModel" (299 : Nat) (1819242347 : Int64)) ∈ lw_all := lw_g (lw_at lw_m10 70 rfl) rfl
theorem q2399 : (Jvm.Cond.constantLong "ToldTracksModel" (301 : Nat) (495806932324 : Int64)) ∈ lw_all := lw_g (lw_at lw_m10 71 rfl) rfl
theorem q2400 : (Jvm.Cond.constantLong "ToldTracksModel" (303 : Nat) (431415715444 : Int64)) ∈ lw_all := lw_g (lw_at lw_m10 72 rfl) rfl
theorem q2401 : (Jvm.Cond.constantLong "ToldTracksModel" (305 : Nat) (1819238756 : Int64)) ∈ lw_all := lw_g (lw_at lw_m10 73 rfl) rfl
theorem q2402 : (Jvm.Cond.constantLong "ToldTracksModel" (307 : Nat) (1935767923 : Int64)) ∈ lw_all := lw_g (lw_at lw_m10 74 rfl) rfl
theorem q2403 : (Jvm.Cond.constantLong "ToldTracksModel" (309 : Nat) (24948 : Int64)) ∈ lw_all := lw_g (lw_at lw_m10 75 rfl) rfl
theorem q2404 : (Jvm.Cond.constantLong "ToldTracksModel" (311 : Nat) (465490437486 : Int64)) ∈ lw_all := lw_g (lw_at lw_m10 76 rfl) rfl
theorem q2405 : (Jvm.Cond.constantLong "ToldTracksModel" (313 : Nat) (1651470187 : Int64)) ∈ lw_all := lw_g (lw_at lw_m10 77 rfl) rfl
theorem q2406 : (Jvm.Cond.constantLong "ToldTracksModel" (315 : Nat) (1718775661 : Int64)) ∈ lw_all := lw_g (lw_at lw_m10 78 rfl) rfl
theorem q2407 : (Jvm.Cond.constantLong "ToldTracksModel" (317 : Nat) (29807 : Int64)) ∈ lw_all := lw_g (lw_at lw_m10 79 rfl) rfl
theorem q2408 : (Jvm.Cond.constantLong "ToldTracksModel" (319 : Nat) (1936024942 : Int64)) ∈ lw_all := lw_g (lw_at lw_m10 80 rfl) rfl
theorem q2409 : (Jvm.Cond.constantLong "ToldTracksModel" (323 : Nat) (1819632491 : Int64)) ∈ lw_all := lw_g (lw_at lw_m10 81 rfl) rfl
theorem q2410 : (Jvm.Cond.methodLink "ToldTracksModel" (381 : Nat) ({ cls := "ToldTracksModel", name := "named", desc := "(J)I" } : Jvm.MethodName)) ∈ lw_all := lw_g (lw_at lw_m10 82 rfl) rfl
theorem q2411 : (Jvm.Cond.privateMethod ({ cls := "ToldTracksModel", name := "named", desc := "(J)I" } : Jvm.MethodName)) ∈ lw_tbl := lw_at lw_m10 83 rfl
theorem q2412 : (Jvm.Cond.instanceMethod ({ cls := "ToldTracksModel", name := "named", desc := "(J)I" } : Jvm.MethodName)) ∈ lw_all := lw_g (lw_at lw_m10 84 rfl) rfl
theorem q2413 : (Jvm.Cond.code ({ cls := "ToldTracksModel", name := "named", desc := "(J)I" } : Jvm.MethodName) prog_29_method_16_code (4 : Nat) (Option.some Jvm.ClassFile.FieldType.int)) ∈ lw_all := lw_g (lw_at lw_m10 85 rfl) rfl
theorem q2414 : (Jvm.Cond.methodLink "ToldTracksModel" (426 : Nat) ({ cls := "ToldTracksModel", name := "says", desc := "()V" } : Jvm.MethodName)) ∈ lw_all := lw_g (lw_at lw_m10 86 rfl) rfl
theorem q2415 : (Jvm.Cond.privateMethod ({ cls := "ToldTracksModel", name := "says", desc := "()V" } : Jvm.MethodName)) ∈ lw_tbl := lw_at lw_m10 87 rfl
theorem q2416 : (Jvm.Cond.instanceMethod ({ cls := "ToldTracksModel", name := "says", desc := "()V" } : Jvm.MethodName)) ∈ lw_all := lw_g (lw_at lw_m10 88 rfl) rfl
theorem q2417 : (Jvm.Cond.code ({ cls := "ToldTracksModel", name := "says", desc := "()V" } : Jvm.MethodName) prog_29_method_36_code (6 : Nat) (Option.none : Option Jvm.ClassFile.FieldType)) ∈ lw_all := lw_g (lw_at lw_m10 89 rfl) rfl
theorem q2418 : (Jvm.Cond.methodLink "ToldTracksModel" (413 : Nat) ({ cls := "ToldTracksModel", name := "asked", desc := "()I" } : Jvm.MethodName)) ∈ lw_all := lw_g (lw_at lw_m10 90 rfl) rfl
theorem q2419 : (Jvm.Cond.privateMethod ({ cls := "ToldTracksModel", name := "asked", desc := "()I" } : Jvm.MethodName)) ∈ lw_tbl := lw_at lw_m10 91 rfl
theorem q2420 : (Jvm.Cond.instanceMethod ({ cls := "ToldTracksModel", name := "asked", desc := "()I" } : Jvm.MethodName)) ∈ lw_all := lw_g (lw_at lw_m10 92 rfl) rfl
theorem q2421 : (Jvm.Cond.code ({ cls := "ToldTracksModel", name := "asked", desc := "()I" } : Jvm.MethodName) prog_29_method_31_code (2 : Nat) (Option.some Jvm.ClassFile.FieldType.int)) ∈ lw_all := lw_g (lw_at lw_m10 93 rfl) rfl
theorem q2422 : (Jvm.Cond.methodLink "ToldTracksModel" (417 : Nat) ({ cls := "ToldTracksModel", name := "cellHere", desc := "()I" } : Jvm.MethodName)) ∈ lw_all := lw_g (lw_at lw_m10 94 rfl) rfl
theorem q2423 : (Jvm.Cond.privateMethod ({ cls := "ToldTracksModel", name := "cellHere", desc := "()I" } : Jvm.MethodName)) ∈ lw_tbl := lw_at lw_m10 95 rfl
theorem q2424 : (Jvm.Cond.instanceMethod ({ cls := "ToldTracksModel", name := "cellHere", desc := "()I" } : Jvm.MethodName)) ∈ lw_all := lw_g (lw_at lw_m10 96 rfl) rfl
theorem q2425 : (Jvm.Cond.code ({ cls := "ToldTracksModel", name := "cellHere", desc := "()I" } : Jvm.MethodName) prog_29_method_35_code (3 : Nat) (Option.some Jvm.ClassFile.FieldType.int)) ∈ lw_all := lw_g (lw_at lw_m10 97 rfl) rfl
theorem q2426 : (Jvm.Cond.methodLink "ToldTracksModel" (429 : Nat) ({ cls := "ToldTracksModel", name := "book", desc := "()V" } : Jvm.MethodName)) ∈ lw_all := lw_g (lw_at lw_m10 98 rfl) rfl
theorem q2427 : (Jvm.Cond.privateMethod ({ cls := "ToldTracksModel", name := "book", desc := "()V" } : Jvm.MethodName)) ∈ lw_tbl := lw_at lw_m10 99 rfl
theorem q2428 : (Jvm.Cond.instanceMethod ({ cls := "ToldTracksModel", name := "book", desc := "()V" } : Jvm.MethodName)) ∈ lw_all := lw_g (lw_at lw_m10 100 rfl) rfl
theorem q2429 : (Jvm.Cond.code ({ cls := "ToldTracksModel", name := "book", desc := "()V" } : Jvm.MethodName) prog_29_method_37_code (2 : Nat) (Option.none : Option Jvm.ClassFile.FieldType)) ∈ lw_all := lw_g (lw_at lw_m10 101 rfl) rfl
theorem q2430 : (Jvm.Cond.methodLink "ToldTracksModel" (432 : Nat) ({ cls := "ToldTracksModel", name := "seen", desc := "()V" } : Jvm.MethodName)) ∈ lw_all := lw_g (lw_at lw_m10 102 rfl) rfl
theorem q2431 : (Jvm.Cond.privateMethod ({ cls := "ToldTracksModel", name := "seen", desc := "()V" } : Jvm.MethodName)) ∈ lw_tbl := lw_at lw_m10 103 rfl
theorem q2432 : (Jvm.Cond.instanceMethod ({ cls := "ToldTracksModel", name := "seen", desc := "()V" } : Jvm.MethodName)) ∈ lw_all := lw_g (lw_at lw_m10 104 rfl) rfl
theorem q2433 : (Jvm.Cond.code ({ cls := "ToldTracksModel", name := "seen", desc := "()V" } : Jvm.MethodName) prog_29_method_38_code (2 : Nat) (Option.none : Option Jvm.ClassFile.FieldType)) ∈ lw_all := lw_g (lw_at lw_m10 105 rfl) rfl
theorem q2434 : (Jvm.Cond.methodLink "ToldTracksModel" (435 : Nat) ({ cls := "ToldTracksModel", name := "lucks", desc := "()V" } : Jvm.MethodName)) ∈ lw_all := lw_g (lw_at lw_m10 106 rfl) rfl
theorem q2435 : (Jvm.Cond.privateMethod ({ cls := "ToldTracksModel", name := "lucks", desc := "()V" } : Jvm.MethodName)) ∈ lw_tbl := lw_at lw_m10 107 rfl
theorem q2436 : (Jvm.Cond.instanceMethod ({ cls := "ToldTracksModel", name := "lucks", desc := "()V" } : Jvm.MethodName)) ∈ lw_all := lw_g (lw_at lw_m10 108 rfl) rfl
theorem q2437 : (Jvm.Cond.code ({ cls := "ToldTracksModel", name := "lucks", desc := "()V" } : Jvm.MethodName) prog_29_method_39_code (1 : Nat) (Option.none : Option Jvm.ClassFile.FieldType)) ∈ lw_all := lw_g (lw_at lw_m10 109 rfl) rfl
theorem q2438 : (Jvm.Cond.methodLink "ToldTracksModel" (444 : Nat) ({ cls := "ToldTracksModel", name := "lays", desc := "()V" } : Jvm.MethodName)) ∈ lw_all := lw_g (lw_at lw_m10 110 rfl) rfl
theorem q2439 : (Jvm.Cond.privateMethod ({ cls := "ToldTracksModel", name := "lays", desc := "()V" } : Jvm.MethodName)) ∈ lw_tbl := lw_at lw_m10 111 rfl
theorem q2440 : (Jvm.Cond.instanceMethod ({ cls := "ToldTracksModel", name := "lays", desc := "()V" } : Jvm.MethodName)) ∈ lw_all := lw_g (lw_at lw_m10 112 rfl) rfl
theorem q2441 : (Jvm.Cond.code ({ cls := "ToldTracksModel", name := "lays", desc := "()V" } : Jvm.MethodName) prog_29_method_58_code (2 : Nat) (Option.none : Option Jvm.ClassFile.FieldType)) ∈ lw_all := lw_g (lw_at lw_m10 113 rfl) rfl
theorem q2442 : (Jvm.Cond.methodLink "ToldTracksModel" (479 : Nat) ({ cls := "ToldTracksModel", name := "cells", desc := "()I" } : Jvm.MethodName)) ∈ lw_all := lw_g (lw_at lw_m10 114 rfl) rfl
theorem q2443 : (Jvm.Cond.privateMethod ({ cls := "ToldTracksModel", name := "cells", desc := "()I" } : Jvm.MethodName)) ∈ lw_tbl := lw_at lw_m10 115 rfl
theorem q2444 : (Jvm.Cond.instanceMethod ({ cls := "ToldTracksModel", name := "cells", desc := "()I" } : Jvm.MethodName)) ∈ lw_all := lw_g (lw_at lw_m10 116 rfl) rfl
theorem q2445 : (Jvm.Cond.code ({ cls := "ToldTracksModel", name := "cells", desc := "()I" } : Jvm.MethodName) prog_29_method_49_code (1 : Nat) (Option.some Jvm.ClassFile.FieldType.int)) ∈ lw_all := lw_g (lw_at lw_m10 117 rfl) rfl
theorem q2446 : (Jvm.Cond.methodLink "ToldTracksModel" (482 : Nat) ({ cls := "ToldTracksModel", name := "sumOf", desc := "(III)I" } : Jvm.MethodName)) ∈ lw_all := lw_g (lw_at lw_m10 118 rfl) rfl
theorem q2447 : (Jvm.Cond.privateMethod ({ cls := "ToldTracksModel", name := "sumOf", desc := "(III)I" } : Jvm.MethodName)) ∈ lw_tbl := lw_at lw_m10 119 rfl
theorem q2448 : (Jvm.Cond.instanceMethod ({ cls := "ToldTracksModel", name := "sumOf", desc := "(III)I" } : Jvm.MethodName)) ∈ lw_all := lw_g (lw_at lw_m10 120 rfl) rfl
theorem q2449 : (Jvm.Cond.code ({ cls := "ToldTracksModel", name := "sumOf", desc := "(III)I" } : Jvm.MethodName) prog_29_method_57_code (7 : Nat) (Option.some Jvm.ClassFile.FieldType.int)) ∈ lw_all := lw_g (lw_at lw_m10 121 rfl) rfl
theorem q2450 : (Jvm.Cond.methodLink "ToldTracksModel" (473 : Nat) ({ cls := "ToldTracksModel", name := "ruleOf", desc := "(IIII)I" } : Jvm.MethodName)) ∈ lw_all := lw_g (lw_at lw_m10 122 rfl) rfl
theorem q2451 : (Jvm.Cond.privateMethod ({ cls := "ToldTracksModel", name := "ruleOf", desc := "(IIII)I" } : Jvm.MethodName)) ∈ lw_tbl := lw_at lw_m10 123 rfl
theorem q2452 : (Jvm.Cond.instanceMethod ({ cls := "ToldTracksModel", name := "ruleOf", desc := "(IIII)I" } : Jvm.MethodName)) ∈ lw_all := lw_g (lw_at lw_m10 124 rfl) rfl
theorem q2453 : (Jvm.Cond.code ({ cls := "ToldTracksModel", name := "ruleOf", desc := "(IIII)I" } : Jvm.MethodName) prog_29_method_56_code (7 : Nat) (Option.some Jvm.ClassFile.FieldType.int)) ∈ lw_all := lw_g (lw_at lw_m10 125 rfl) rfl
theorem q2454 : (Jvm.Cond.methodLink "ToldTracksModel" (463 : Nat) ({ cls := "ToldTracksModel", name := "columnOf", desc := "(I)I" } : Jvm.MethodName)) ∈ lw_all := lw_g (lw_at lw_m10 126 rfl) rfl
theorem q2455 : (Jvm.Cond.privateMethod ({ cls := "ToldTracksModel", name := "columnOf", desc := "(I)I" } : Jvm.MethodName)) ∈ lw_tbl := lw_at lw_m10 127 rfl
theorem q2456 : (Jvm.Cond.instanceMethod ({ cls := "ToldTracksModel", name := "columnOf", desc := "(I)I" } : Jvm.MethodName)) ∈ lw_all := lw_g (lw_at lw_m10 128 rfl) rfl
theorem q2457 : (Jvm.Cond.code ({ cls := "ToldTracksModel", name := "columnOf", desc := "(I)I" } : Jvm.MethodName) prog_29_method_50_code (2 : Nat) (Option.some Jvm.ClassFile.FieldType.int)) ∈ lw_all := lw_g (lw_at lw_m10 129 rfl) rfl
theorem q2458 : (Jvm.Cond.methodLink "ToldTracksModel" (466 : Nat) ({ cls := "ToldTracksModel", name := "rowOf", desc := "(I)I" } : Jvm.MethodName)) ∈ lw_all := lw_g (lw_at lw_m10 130 rfl) rfl
theorem q2459 : (Jvm.Cond.privateMethod ({ cls := "ToldTracksModel", name := "rowOf", desc := "(I)I" } : Jvm.MethodName)) ∈ lw_tbl := lw_at lw_m10 131 rfl
theorem q2460 : (Jvm.Cond.instanceMethod ({ cls := "ToldTracksModel", name := "rowOf", desc := "(I)I" } : Jvm.MethodName)) ∈ lw_all := lw_g (lw_at lw_m10 132 rfl) rfl
theorem q2461 : (Jvm.Cond.code ({ cls := "ToldTracksModel", name := "rowOf", desc := "(I)I" } : Jvm.MethodName) prog_29_method_51_code (2 : Nat) (Option.some Jvm.ClassFile.FieldType.int)) ∈ lw_all := lw_g (lw_at lw_m10 133 rfl) rfl
theorem q2462 : (Jvm.Cond.methodLink "ToldTracksModel" (469 : Nat) ({ cls := "ToldTracksModel", name := "works", desc := "(II)J" } : Jvm.MethodName)) ∈ lw_all := lw_g (lw_at lw_m10 134 rfl) rfl
theorem q2463 : (Jvm.Cond.privateMethod ({ cls := "ToldTracksModel", name := "works", desc := "(II)J" } : Jvm.MethodName)) ∈ lw_tbl := lw_at lw_m10 135 rfl
theorem q2464 : (Jvm.Cond.instanceMethod ({ cls := "ToldTracksModel", name := "works", desc := "(II)J" } : Jvm.MethodName)) ∈ lw_all := lw_g (lw_at lw_m10 136 rfl) rfl
theorem q2465 : (Jvm.Cond.code ({ cls := "ToldTracksModel", name := "works", desc := "(II)J" } : Jvm.MethodName) prog_29_method_48_code (6 : Nat) (Option.some Jvm.ClassFile.FieldType.long)) ∈ lw_all := lw_g (lw_at lw_m10 137 rfl) rfl
theorem q2466 : (Jvm.Cond.methodLink "ToldTracksModel" (459 : Nat) ({ cls := "ToldTracksModel", name := "made", desc := "(IJJ)J" } : Jvm.MethodName)) ∈ lw_all := lw_g (lw_at lw_m10 138 rfl) rfl
theorem q2467 : (Jvm.Cond.static ({ cls := "ToldTracksModel", name := "made", desc := "(IJJ)J" } : Jvm.MethodName)) ∈ lw_all := lw_g (lw_at lw_m10 139 rfl) rfl
theorem q2468 : (Jvm.Cond.code ({ cls := "ToldTracksModel", name := "made", desc := "(IJJ)J" } : Jvm.MethodName) prog_29_method_47_code (5 : Nat) (Option.some Jvm.ClassFile.FieldType.long)) ∈ lw_all := lw_g (lw_at lw_m10 140 rfl) rfl
theorem q2469 : (Jvm.Cond.methodLink "ToldTracksModel" (451 : Nat) ({ cls := "ToldTracksModel", name := "bounded", desc := "(J)J" } : Jvm.MethodName)) ∈ lw_all := lw_g (lw_at lw_m10 141 rfl) rfl
theorem q2470 : (Jvm.Cond.static ({ cls := "ToldTracksModel", name := "bounded", desc := "(J)J" } : Jvm.MethodName)) ∈ lw_all := lw_g (lw_at lw_m10 142 rfl) rfl
theorem q2471 : (Jvm.Cond.code ({ cls := "ToldTracksModel", name := "bounded", desc := "(J)J" } : Jvm.MethodName) prog_29_method_45_code (2 : Nat) (Option.some Jvm.ClassFile.FieldType.long)) ∈ lw_all := lw_g (lw_at lw_m10 143 rfl) rfl
theorem q2472 : (Jvm.Cond.constantLong "ToldTracksModel" (447 : Nat) (1000000 : Int64)) ∈ lw_all := lw_g (lw_at lw_m10 144 rfl) rfl
theorem q2473 : (Jvm.Cond.constantLong "ToldTracksModel" (449 : Nat) (-1000000 : Int64)) ∈ lw_all := lw_g (lw_at lw_m10 145 rfl) rfl
theorem q2474 : (Jvm.Cond.methodLink "ToldTracksModel" (455 : Nat) ({ cls := "ToldTracksModel", name := "over", desc := "(JJ)J" } : Jvm.MethodName)) ∈ lw_all := lw_g (lw_at lw_m10 146 rfl) rfl
theorem q2475 : (Jvm.Cond.static ({ cls := "ToldTracksModel", name := "over", desc := "(JJ)J" } : Jvm.MethodName)) ∈ lw_all := lw_g (lw_at lw_m10 147 rfl) rfl
theorem q2476 : (Jvm.Cond.code ({ cls := "ToldTracksModel", name := "over", desc := "(JJ)J" } : Jvm.MethodName) prog_29_method_46_code (6 : Nat) (Option.some Jvm.ClassFile.FieldType.long)) ∈ lw_all := lw_g (lw_at lw_m10 148 rfl) rfl
theorem q2477 : (Jvm.Cond.constantLong "ToldTracksModel" (477 : Nat) (99 : Int64)) ∈ lw_all := lw_g (lw_at lw_m10 149 rfl) rfl
theorem q2479 : (Jvm.Cond.instanceMethod ({ cls := "ToldTracksModel", name := "fault", desc := "(I)I" } : Jvm.MethodName)) ∈ lw_all := lw_g (lw_at lw_m10 151 rfl) rfl
theorem q2480 : (Jvm.Cond.selects "ToldTracksModel" ({ cls := "ToldTracksModel", name := "fault", desc := "(I)I" } : Jvm.MethodName) ({ cls := "ToldTracksModel", name := "fault", desc := "(I)I" } : Jvm.MethodName)) ∈ lw_all := lw_g (lw_at lw_m10 152 rfl) rfl
theorem q2481 : (Jvm.Cond.code ({ cls := "ToldTracksModel", name := "fault", desc := "(I)I" } : Jvm.MethodName) prog_29_method_42_code (2 : Nat) (Option.some Jvm.ClassFile.FieldType.int)) ∈ lw_all := lw_g (lw_at lw_m10 153 rfl) rfl
theorem q2483 : (Jvm.Cond.instanceMethod ({ cls := "ToldTracksModel", name := "status", desc := "(I)I" } : Jvm.MethodName)) ∈ lw_all := lw_g (lw_at lw_m10 155 rfl) rfl
theorem q2484 : (Jvm.Cond.selects "ToldTracksModel" ({ cls := "ToldTracksModel", name := "status", desc := "(I)I" } : Jvm.MethodName) ({ cls := "ToldTracksModel", name := "status", desc := "(I)I" } : Jvm.MethodName)) ∈ lw_all := lw_g (lw_at lw_m10 156 rfl) rfl
theorem q2485 : (Jvm.Cond.code ({ cls := "ToldTracksModel", name := "status", desc := "(I)I" } : Jvm.MethodName) prog_29_method_44_code (2 : Nat) (Option.some Jvm.ClassFile.FieldType.int)) ∈ lw_all := lw_g (lw_at lw_m10 157 rfl) rfl
theorem q2487 : (Jvm.Cond.instanceMethod ({ cls := "ToldTracksModel", name := "cell", desc := "(IIII)I" } : Jvm.MethodName)) ∈ lw_all := lw_g (lw_at lw_m10 159 rfl) rfl
theorem q2488 : (Jvm.Cond.selects "ToldTracksModel" ({ cls := "ToldTracksModel", name := "cell", desc := "(IIII)I" } : Jvm.MethodName) ({ cls := "ToldTracksModel", name := "cell", desc := "(IIII)I" } : Jvm.MethodName)) ∈ lw_all := lw_g (lw_at lw_m10 160 rfl) rfl
theorem q2489 : (Jvm.Cond.code ({ cls := "ToldTracksModel", name := "cell", desc := "(IIII)I" } : Jvm.MethodName) prog_29_method_60_code (6 : Nat) (Option.some Jvm.ClassFile.FieldType.int)) ∈ lw_all := lw_g (lw_at lw_m10 161 rfl) rfl
theorem q2490 : (Jvm.Cond.methodLink "ToldTracksModel" (486 : Nat) ({ cls := "ToldTracksModel", name := "isCell", desc := "(II)Z" } : Jvm.MethodName)) ∈ lw_all := lw_g (lw_at lw_m10 162 rfl) rfl
theorem q2491 : (Jvm.Cond.privateMethod ({ cls := "ToldTracksModel", name := "isCell", desc := "(II)Z" } : Jvm.MethodName)) ∈ lw_tbl := lw_at lw_m10 163 rfl
theorem q2492 : (Jvm.Cond.instanceMethod ({ cls := "ToldTracksModel", name := "isCell", desc := "(II)Z" } : Jvm.MethodName)) ∈ lw_all := lw_g (lw_at lw_m10 164 rfl) rfl
theorem q2493 : (Jvm.Cond.code ({ cls := "ToldTracksModel", name := "isCell", desc := "(II)Z" } : Jvm.MethodName) prog_29_method_52_code (3 : Nat) (Option.some Jvm.ClassFile.FieldType.boolean)) ∈ lw_all := lw_g (lw_at lw_m10 165 rfl) rfl
theorem q2494 : (Jvm.Cond.methodLink "ToldTracksModel" (490 : Nat) ({ cls := "ToldTracksModel", name := "isHour", desc := "(I)Z" } : Jvm.MethodName)) ∈ lw_all := lw_g (lw_at lw_m10 166 rfl) rfl
theorem q2495 : (Jvm.Cond.static ({ cls := "ToldTracksModel", name := "isHour", desc := "(I)Z" } : Jvm.MethodName)) ∈ lw_all := lw_g (lw_at lw_m10 167 rfl) rfl
theorem q2496 : (Jvm.Cond.code ({ cls := "ToldTracksModel", name := "isHour", desc := "(I)Z" } : Jvm.MethodName) prog_29_method_54_code (1 : Nat) (Option.some Jvm.ClassFile.FieldType.boolean)) ∈ lw_all := lw_g (lw_at lw_m10 168 rfl) rfl
theorem q2497 : (Jvm.Cond.methodLink "ToldTracksModel" (493 : Nat) ({ cls := "ToldTracksModel", name := "at", desc := "(II)I" } : Jvm.MethodName)) ∈ lw_all := lw_g (lw_at lw_m10 169 rfl) rfl
theorem q2498 : (Jvm.Cond.privateMethod ({ cls := "ToldTracksModel", name := "at", desc := "(II)I" } : Jvm.MethodName)) ∈ lw_tbl := lw_at lw_m10 170 rfl
theorem q2499 : (Jvm.Cond.instanceMethod ({ cls := "ToldTracksModel", name := "at", desc := "(II)I" } : Jvm.MethodName)) ∈ lw_all := lw_g (lw_at lw_m10 171 rfl) rfl
theorem q2500 : (Jvm.Cond.code ({ cls := "ToldTracksModel", name := "at", desc := "(II)I" } : Jvm.MethodName) prog_29_method_53_code (3 : Nat) (Option.some Jvm.ClassFile.FieldType.int)) ∈ lw_all := lw_g (lw_at lw_m10 172 rfl) rfl
theorem q2501 : (Jvm.Cond.methodLink "ToldTracksModel" (496 : Nat) ({ cls := "ToldTracksModel", name := "isQuiet", desc := "(II)Z" } : Jvm.MethodName)) ∈ lw_all := lw_g (lw_at lw_m10 173 rfl) rfl
theorem q2502 : (Jvm.Cond.privateMethod ({ cls := "ToldTracksModel", name := "isQuiet", desc := "(II)Z" } : Jvm.MethodName)) ∈ lw_tbl := lw_at lw_m10 174 rfl
theorem q2503 : (Jvm.Cond.instanceMethod ({ cls := "ToldTracksModel", name := "isQuiet", desc := "(II)Z" } : Jvm.MethodName)) ∈ lw_all := lw_g (lw_at lw_m10 175 rfl) rfl
theorem q2504 : (Jvm.Cond.code ({ cls := "ToldTracksModel", name := "isQuiet", desc := "(II)Z" } : Jvm.MethodName) prog_29_method_59_code (3 : Nat) (Option.some Jvm.ClassFile.FieldType.boolean)) ∈ lw_all := lw_g (lw_at lw_m10 176 rfl) rfl
theorem q2506 : (Jvm.Cond.instanceMethod ({ cls := "ToldTracksModel", name := "has", desc := "(I)I" } : Jvm.MethodName)) ∈ lw_all := lw_g (lw_at lw_m10 178 rfl) rfl
theorem q2507 : (Jvm.Cond.selects "ToldTracksModel" ({ cls := "ToldTracksModel", name := "has", desc := "(I)I" } : Jvm.MethodName) ({ cls := "ToldTracksModel", name := "has", desc := "(I)I" } : Jvm.MethodName)) ∈ lw_all := lw_g (lw_at lw_m10 179 rfl) rfl
theorem q2508 : (Jvm.Cond.code ({ cls := "ToldTracksModel", name := "has", desc := "(I)I" } : Jvm.MethodName) prog_29_method_67_code (4 : Nat) (Option.some Jvm.ClassFile.FieldType.int)) ∈ lw_all := lw_g (lw_at lw_m10 180 rfl) rfl
theorem q2509 : (Jvm.Cond.methodLink "ToldTracksModel" (502 : Nat) ({ cls := "ToldTracksModel", name := "sayingsOf", desc := "(I)I" } : Jvm.MethodName)) ∈ lw_all := lw_g (lw_at lw_m10 181 rfl) rfl
theorem q2510 : (Jvm.Cond.privateMethod ({ cls := "ToldTracksModel", name := "sayingsOf", desc := "(I)I" } : Jvm.MethodName)) ∈ lw_tbl := lw_at lw_m10 182 rfl
theorem q2511 : (Jvm.Cond.instanceMethod ({ cls := "ToldTracksModel", name := "sayingsOf", desc := "(I)I" } : Jvm.MethodName)) ∈ lw_all := lw_g (lw_at lw_m10 183 rfl) rfl
theorem q2512 : (Jvm.Cond.code ({ cls := "ToldTracksModel", name := "sayingsOf", desc := "(I)I" } : Jvm.MethodName) prog_29_method_63_code (4 : Nat) (Option.some Jvm.ClassFile.FieldType.int)) ∈ lw_all := lw_g (lw_at lw_m10 184 rfl) rfl
theorem q2513 : (Jvm.Cond.methodLink "ToldTracksModel" (499 : Nat) ({ cls := "ToldTracksModel", name := "said", desc := "(II)I" } : Jvm.MethodName)) ∈ lw_all := lw_g (lw_at lw_m10 185 rfl) rfl
theorem q2514 : (Jvm.Cond.privateMethod ({ cls := "ToldTracksModel", name := "said", desc := "(II)I" } : Jvm.MethodName)) ∈ lw_tbl := lw_at lw_m10 186 rfl
theorem q2515 : (Jvm.Cond.instanceMethod ({ cls := "ToldTracksModel", name := "said", desc := "(II)I" } : Jvm.MethodName)) ∈ lw_all := lw_g (lw_at lw_m10 187 rfl) rfl
theorem q2516 : (Jvm.Cond.code ({ cls := "ToldTracksModel", name := "said", desc := "(II)I" } : Jvm.MethodName) prog_29_method_61_code (3 : Nat) (Option.some Jvm.ClassFile.FieldType.int)) ∈ lw_all := lw_g (lw_at lw_m10 188 rfl) rfl
theorem q2518 : (Jvm.Cond.instanceMethod ({ cls := "ToldTracksModel", name := "letter", desc := "(II)I" } : Jvm.MethodName)) ∈ lw_all := lw_g (lw_at lw_m10 190 rfl) rfl
theorem q2519 : (Jvm.Cond.selects "ToldTracksModel" ({ cls := "ToldTracksModel", name := "letter", desc := "(II)I" } : Jvm.MethodName) ({ cls := "ToldTracksModel", name := "letter", desc := "(II)I" } : Jvm.MethodName)) ∈ lw_all := lw_g (lw_at lw_m10 191 rfl) rfl
theorem q2520 : (Jvm.Cond.code ({ cls := "ToldTracksModel", name := "letter", desc := "(II)I" } : Jvm.MethodName) prog_29_method_68_code (8 : Nat) (Option.some Jvm.ClassFile.FieldType.int)) ∈ lw_all := lw_g (lw_at lw_m10 192 rfl) rfl
theorem q2521 : (Jvm.Cond.methodLink "ToldTracksModel" (505 : Nat) ({ cls := "ToldTracksModel", name := "isShip", desc := "(I)Z" } : Jvm.MethodName)) ∈ lw_all := lw_g (lw_at lw_m10 193 rfl) rfl
theorem q2522 : (Jvm.Cond.privateMethod ({ cls := "ToldTracksModel", name := "isShip", desc := "(I)Z" } : Jvm.MethodName)) ∈ lw_tbl := lw_at lw_m10 194 rfl
theorem q2523 : (Jvm.Cond.instanceMethod ({ cls := "ToldTracksModel", name := "isShip", desc := "(I)Z" } : Jvm.MethodName)) ∈ lw_all := lw_g (lw_at lw_m10 195 rfl) rfl
theorem q2524 : (Jvm.Cond.code ({ cls := "ToldTracksModel", name := "isShip", desc := "(I)Z" } : Jvm.MethodName) prog_29_method_55_code (2 : Nat) (Option.some Jvm.ClassFile.FieldType.boolean)) ∈ lw_all := lw_g (lw_at lw_m10 196 rfl) rfl
theorem q2525 : (Jvm.Cond.constantLong "ToldTracksModel" (508 : Nat) (255 : Int64)) ∈ lw_all := lw_g (lw_at lw_m10 197 rfl) rfl
theorem q2527 : (Jvm.Cond.instanceMethod ({ cls := "ToldTracksModel", name := "far", desc := "(IIIII)I" } : Jvm.MethodName)) ∈ lw_all := lw_g (lw_at lw_m10 199 rfl) rfl
theorem q2528 : (Jvm.Cond.selects "ToldTracksModel" ({ cls := "ToldTracksModel", name := "far", desc := "(IIIII)I" } : Jvm.MethodName) ({ cls := "ToldTracksModel", name := "far", desc := "(IIIII)I" } : Jvm.MethodName)) ∈ lw_all := lw_g (lw_at lw_m10 200 rfl) rfl
theorem q2529 : (Jvm.Cond.code ({ cls := "ToldTracksModel", name := "far", desc := "(IIIII)I" } : Jvm.MethodName) prog_29_method_74_code (7 : Nat) (Option.some Jvm.ClassFile.FieldType.int)) ∈ lw_all := lw_g (lw_at lw_m10 201 rfl) rfl
theorem q2530 : (Jvm.Cond.methodLink "ToldTracksModel" (517 : Nat) ({ cls := "ToldTracksModel", name := "goes", desc := "(II)V" } : Jvm.MethodName)) ∈ lw_all := lw_g (lw_at lw_m10 202 rfl) rfl
theorem q2531 : (Jvm.Cond.privateMethod ({ cls := "ToldTracksModel", name := "goes", desc := "(II)V" } : Jvm.MethodName)) ∈ lw_tbl := lw_at lw_m10 203 rfl
theorem q2532 : (Jvm.Cond.instanceMethod ({ cls := "ToldTracksModel", name := "goes", desc := "(II)V" } : Jvm.MethodName)) ∈ lw_all := lw_g (lw_at lw_m10 204 rfl) rfl
theorem q2533 : (Jvm.Cond.code ({ cls := "ToldTracksModel", name := "goes", desc := "(II)V" } : Jvm.MethodName) prog_29_method_72_code (7 : Nat) (Option.none : Option Jvm.ClassFile.FieldType)) ∈ lw_all := lw_g (lw_at lw_m10 205 rfl) rfl
theorem q2534 : (Jvm.Cond.methodLink "ToldTracksModel" (513 : Nat) ({ cls := "ToldTracksModel", name := "reaches", desc := "(IIII)V" } : Jvm.MethodName)) ∈ lw_all := lw_g (lw_at lw_m10 206 rfl) rfl
theorem q2535 : (Jvm.Cond.privateMethod ({ cls := "ToldTracksModel", name := "reaches", desc := "(IIII)V" } : Jvm.MethodName)) ∈ lw_tbl := lw_at lw_m10 207 rfl
theorem q2536 : (Jvm.Cond.instanceMethod ({ cls := "ToldTracksModel", name := "reaches", desc := "(IIII)V" } : Jvm.MethodName)) ∈ lw_all := lw_g (lw_at lw_m10 208 rfl) rfl
theorem q2537 : (Jvm.Cond.code ({ cls := "ToldTracksModel", name := "reaches", desc := "(IIII)V" } : Jvm.MethodName) prog_29_method_71_code (6 : Nat) (Option.none : Option Jvm.ClassFile.FieldType)) ∈ lw_all := lw_g (lw_at lw_m10 209 rfl) rfl
theorem q2538 : (Jvm.Cond.methodLink "ToldTracksModel" (510 : Nat) ({ cls := "ToldTracksModel", name := "isWater", desc := "(II)Z" } : Jvm.MethodName)) ∈ lw_all := lw_g (lw_at lw_m10 210 rfl) rfl
theorem q2539 : (Jvm.Cond.privateMethod ({ cls := "ToldTracksModel", name := "isWater", desc := "(II)Z" } : Jvm.MethodName)) ∈ lw_tbl := lw_at lw_m10 211 rfl
theorem q2540 : (Jvm.Cond.instanceMethod ({ cls := "ToldTracksModel", name := "isWater", desc := "(II)Z" } : Jvm.MethodName)) ∈ lw_all := lw_g (lw_at lw_m10 212 rfl) rfl
theorem q2541 : (Jvm.Cond.code ({ cls := "ToldTracksModel", name := "isWater", desc := "(II)Z" } : Jvm.MethodName) prog_29_method_69_code (3 : Nat) (Option.some Jvm.ClassFile.FieldType.boolean)) ∈ lw_all := lw_g (lw_at lw_m10 213 rfl) rfl
theorem q2542 : (Jvm.Cond.methodLink "ToldTracksModel" (520 : Nat) ({ cls := "ToldTracksModel", name := "hoursTo", desc := "(II)I" } : Jvm.MethodName)) ∈ lw_all := lw_g (lw_at lw_m10 214 rfl) rfl
theorem q2543 : (Jvm.Cond.privateMethod ({ cls := "ToldTracksModel", name := "hoursTo", desc := "(II)I" } : Jvm.MethodName)) ∈ lw_tbl := lw_at lw_m10 215 rfl
theorem q2544 : (Jvm.Cond.instanceMethod ({ cls := "ToldTracksModel", name := "hoursTo", desc := "(II)I" } : Jvm.MethodName)) ∈ lw_all := lw_g (lw_at lw_m10 216 rfl) rfl
theorem q2545 : (Jvm.Cond.code ({ cls := "ToldTracksModel", name := "hoursTo", desc := "(II)I" } : Jvm.MethodName) prog_29_method_73_code (4 : Nat) (Option.some Jvm.ClassFile.FieldType.int)) ∈ lw_all := lw_g (lw_at lw_m10 217 rfl) rfl
theorem q2547 : (Jvm.Cond.instanceMethod ({ cls := "ToldTracksModel", name := "ship", desc := "(II)I" } : Jvm.MethodName)) ∈ lw_all := lw_g (lw_at lw_m10 219 rfl) rfl
theorem q2548 : (Jvm.Cond.selects "ToldTracksModel" ({ cls := "ToldTracksModel", name := "ship", desc := "(II)I" } : Jvm.MethodName) ({ cls := "ToldTracksModel", name := "ship", desc := "(II)I" } : Jvm.MethodName)) ∈ lw_all := lw_g (lw_at lw_m10 220 rfl) rfl
theorem q2549 : (Jvm.Cond.code ({ cls := "ToldTracksModel", name := "ship", desc := "(II)I" } : Jvm.MethodName) prog_29_method_88_code (4 : Nat) (Option.some Jvm.ClassFile.FieldType.int)) ∈ lw_all := lw_g (lw_at lw_m10 221 rfl) rfl
theorem q2550 : (Jvm.Cond.methodLink "ToldTracksModel" (558 : Nat) ({ cls := "ToldTracksModel", name := "booksOf", desc := "(I)I" } : Jvm.MethodName)) ∈ lw_all := lw_g (lw_at lw_m10 222 rfl) rfl
theorem q2551 : (Jvm.Cond.privateMethod ({ cls := "ToldTracksModel", name := "booksOf", desc := "(I)I" } : Jvm.MethodName)) ∈ lw_tbl := lw_at lw_m10 223 rfl
theorem q2552 : (Jvm.Cond.instanceMethod ({ cls := "ToldTracksModel", name := "booksOf", desc := "(I)I" } : Jvm.MethodName)) ∈ lw_all := lw_g (lw_at lw_m10 224 rfl) rfl
theorem q2553 : (Jvm.Cond.code ({ cls := "ToldTracksModel", name := "booksOf", desc := "(I)I" } : Jvm.MethodName) prog_29_method_66_code (4 : Nat) (Option.some Jvm.ClassFile.FieldType.int)) ∈ lw_all := lw_g (lw_at lw_m10 225 rfl) rfl
theorem q2554 : (Jvm.Cond.methodLink "ToldTracksModel" (546 : Nat) ({ cls := "ToldTracksModel", name := "booksFit", desc := "(I)Z" } : Jvm.MethodName)) ∈ lw_all := lw_g (lw_at lw_m10 226 rfl) rfl
theorem q2555 : (Jvm.Cond.privateMethod ({ cls := "ToldTracksModel", name := "booksFit", desc := "(I)Z" } : Jvm.MethodName)) ∈ lw_tbl := lw_at lw_m10 227 rfl
theorem q2556 : (Jvm.Cond.instanceMethod ({ cls := "ToldTracksModel", name := "booksFit", desc := "(I)Z" } : Jvm.MethodName)) ∈ lw_all := lw_g (lw_at lw_m10 228 rfl) rfl
theorem q2557 : (Jvm.Cond.code ({ cls := "ToldTracksModel", name := "booksFit", desc := "(I)Z" } : Jvm.MethodName) prog_29_method_80_code (2 : Nat) (Option.some Jvm.ClassFile.FieldType.boolean)) ∈ lw_all := lw_g (lw_at lw_m10 229 rfl) rfl
theorem q2558 : (Jvm.Cond.methodLink "ToldTracksModel" (537 : Nat) ({ cls := "ToldTracksModel", name := "addBooks", desc := "(I)V" } : Jvm.MethodName)) ∈ lw_all := lw_g (lw_at lw_m10 230 rfl) rfl
theorem q2559 : (Jvm.Cond.privateMethod ({ cls := "ToldTracksModel", name := "addBooks", desc := "(I)V" } : Jvm.MethodName)) ∈ lw_tbl := lw_at lw_m10 231 rfl
theorem q2560 : (Jvm.Cond.instanceMethod ({ cls := "ToldTracksModel", name := "addBooks", desc := "(I)V" } : Jvm.MethodName)) ∈ lw_all := lw_g (lw_at lw_m10 232 rfl) rfl
theorem q2561 : (Jvm.Cond.code ({ cls := "ToldTracksModel", name := "addBooks", desc := "(I)V" } : Jvm.MethodName) prog_29_method_76_code (3 : Nat) (Option.none : Option Jvm.ClassFile.FieldType)) ∈ lw_all := lw_g (lw_at lw_m10 233 rfl) rfl
theorem q2562 : (Jvm.Cond.methodLink "ToldTracksModel" (523 : Nat) ({ cls := "ToldTracksModel", name := "fact", desc := "(III)V" } : Jvm.MethodName)) ∈ lw_all := lw_g (lw_at lw_m10 234 rfl) rfl
theorem q2563 : (Jvm.Cond.privateMethod ({ cls := "ToldTracksModel", name := "fact", desc := "(III)V" } : Jvm.MethodName)) ∈ lw_tbl := lw_at lw_m10 235 rfl
theorem q2564 : (Jvm.Cond.instanceMethod ({ cls := "ToldTracksModel", name := "fact", desc := "(III)V" } : Jvm.MethodName)) ∈ lw_all := lw_g (lw_at lw_m10 236 rfl) rfl
theorem q2565 : (Jvm.Cond.code ({ cls := "ToldTracksModel", name := "fact", desc := "(III)V" } : Jvm.MethodName) prog_29_method_75_code (4 : Nat) (Option.none : Option Jvm.ClassFile.FieldType)) ∈ lw_all := lw_g (lw_at lw_m10 237 rfl) rfl
theorem q2566 : (Jvm.Cond.methodLink "ToldTracksModel" (540 : Nat) ({ cls := "ToldTracksModel", name := "fit", desc := "(I)Z" } : Jvm.MethodName)) ∈ lw_all := lw_g (lw_at lw_m10 238 rfl) rfl
theorem q2567 : (Jvm.Cond.privateMethod ({ cls := "ToldTracksModel", name := "fit", desc := "(I)Z" } : Jvm.MethodName)) ∈ lw_tbl := lw_at lw_m10 239 rfl
theorem q2568 : (Jvm.Cond.instanceMethod ({ cls := "ToldTracksModel", name := "fit", desc := "(I)Z" } : Jvm.MethodName)) ∈ lw_all := lw_g (lw_at lw_m11 0 rfl) rfl
theorem q2569 : (Jvm.Cond.code ({ cls := "ToldTracksModel", name := "fit", desc := "(I)Z" } : Jvm.MethodName) prog_29_method_79_code (4 : Nat) (Option.some Jvm.ClassFile.FieldType.boolean)) ∈ lw_all := lw_g (lw_at lw_m11 1 rfl) rfl
theorem q2570 : (Jvm.Cond.methodLink "ToldTracksModel" (534 : Nat) ({ cls := "ToldTracksModel", name := "between", desc := "(IIII)I" } : Jvm.MethodName)) ∈ lw_all := lw_g (lw_at lw_m11 2 rfl) rfl
theorem q2571 : (Jvm.Cond.static ({ cls := "ToldTracksModel", name := "between", desc := "(IIII)I" } : Jvm.MethodName)) ∈ lw_all := lw_g (lw_at lw_m11 3 rfl) rfl
theorem q2572 : (Jvm.Cond.code ({ cls := "ToldTracksModel", name := "between", desc := "(IIII)I" } : Jvm.MethodName) prog_29_method_78_code (4 : Nat) (Option.some Jvm.ClassFile.FieldType.int)) ∈ lw_all := lw_g (lw_at lw_m11 4 rfl) rfl
theorem q2573 : (Jvm.Cond.methodLink "ToldTracksModel" (552 : Nat) ({ cls := "ToldTracksModel", name := "keeps", desc := "(I)V" } : Jvm.MethodName)) ∈ lw_all := lw_g (lw_at lw_m11 5 rfl) rfl
theorem q2574 : (Jvm.Cond.privateMethod ({ cls := "ToldTracksModel", name := "keeps", desc := "(I)V" } : Jvm.MethodName)) ∈ lw_tbl := lw_at lw_m11 6 rfl
theorem q2575 : (Jvm.Cond.instanceMethod ({ cls := "ToldTracksModel", name := "keeps", desc := "(I)V" } : Jvm.MethodName)) ∈ lw_all := lw_g (lw_at lw_m11 7 rfl) rfl
theorem q2576 : (Jvm.Cond.code ({ cls := "ToldTracksModel", name := "keeps", desc := "(I)V" } : Jvm.MethodName) prog_29_method_83_code (5 : Nat) (Option.none : Option Jvm.ClassFile.FieldType)) ∈ lw_all := lw_g (lw_at lw_m11 8 rfl) rfl
theorem q2577 : (Jvm.Cond.methodLink "ToldTracksModel" (549 : Nat) ({ cls := "ToldTracksModel", name := "pairs", desc := "(I)V" } : Jvm.MethodName)) ∈ lw_all := lw_g (lw_at lw_m11 9 rfl) rfl
theorem q2578 : (Jvm.Cond.privateMethod ({ cls := "ToldTracksModel", name := "pairs", desc := "(I)V" } : Jvm.MethodName)) ∈ lw_tbl := lw_at lw_m11 10 rfl
theorem q2579 : (Jvm.Cond.instanceMethod ({ cls := "ToldTracksModel", name := "pairs", desc := "(I)V" } : Jvm.MethodName)) ∈ lw_all := lw_g (lw_at lw_m11 11 rfl) rfl
theorem q2580 : (Jvm.Cond.code ({ cls := "ToldTracksModel", name := "pairs", desc := "(I)V" } : Jvm.MethodName) prog_29_method_82_code (5 : Nat) (Option.none : Option Jvm.ClassFile.FieldType)) ∈ lw_all := lw_g (lw_at lw_m11 12 rfl) rfl
theorem q2581 : (Jvm.Cond.methodLink "ToldTracksModel" (527 : Nat) ({ cls := "ToldTracksModel", name := "laden", desc := "(II)Z" } : Jvm.MethodName)) ∈ lw_all := lw_g (lw_at lw_m11 13 rfl) rfl
theorem q2582 : (Jvm.Cond.privateMethod ({ cls := "ToldTracksModel", name := "laden", desc := "(II)Z" } : Jvm.MethodName)) ∈ lw_tbl := lw_at lw_m11 14 rfl
theorem q2583 : (Jvm.Cond.instanceMethod ({ cls := "ToldTracksModel", name := "laden", desc := "(II)Z" } : Jvm.MethodName)) ∈ lw_all := lw_g (lw_at lw_m11 15 rfl) rfl
theorem q2584 : (Jvm.Cond.code ({ cls := "ToldTracksModel", name := "laden", desc := "(II)Z" } : Jvm.MethodName) prog_29_method_62_code (3 : Nat) (Option.some Jvm.ClassFile.FieldType.boolean)) ∈ lw_all := lw_g (lw_at lw_m11 16 rfl) rfl
theorem q2585 : (Jvm.Cond.methodLink "ToldTracksModel" (530 : Nat) ({ cls := "ToldTracksModel", name := "isSound", desc := "(IIZ)Z" } : Jvm.MethodName)) ∈ lw_all := lw_g (lw_at lw_m11 17 rfl) rfl
theorem q2586 : (Jvm.Cond.privateMethod ({ cls := "ToldTracksModel", name := "isSound", desc := "(IIZ)Z" } : Jvm.MethodName)) ∈ lw_tbl := lw_at lw_m11 18 rfl
theorem q2587 : (Jvm.Cond.instanceMethod ({ cls := "ToldTracksModel", name := "isSound", desc := "(IIZ)Z" } : Jvm.MethodName)) ∈ lw_all := lw_g (lw_at lw_m11 19 rfl) rfl
theorem q2588 : (Jvm.Cond.code ({ cls := "ToldTracksModel", name := "isSound", desc := "(IIZ)Z" } : Jvm.MethodName) prog_29_method_70_code (4 : Nat) (Option.some Jvm.ClassFile.FieldType.boolean)) ∈ lw_all := lw_g (lw_at lw_m11 20 rfl) rfl
theorem q2589 : (Jvm.Cond.methodLink "ToldTracksModel" (543 : Nat) ({ cls := "ToldTracksModel", name := "withBooks", desc := "(III)Z" } : Jvm.MethodName)) ∈ lw_all := lw_g (lw_at lw_m11 21 rfl) rfl
theorem q2590 : (Jvm.Cond.privateMethod ({ cls := "ToldTracksModel", name := "withBooks", desc := "(III)Z" } : Jvm.MethodName)) ∈ lw_tbl := lw_at lw_m11 22 rfl
theorem q2591 : (Jvm.Cond.instanceMethod ({ cls := "ToldTracksModel", name := "withBooks", desc := "(III)Z" } : Jvm.MethodName)) ∈ lw_all := lw_g (lw_at lw_m11 23 rfl) rfl
theorem q2592 : (Jvm.Cond.code ({ cls := "ToldTracksModel", name := "withBooks", desc := "(III)Z" } : Jvm.MethodName) prog_29_method_81_code (5 : Nat) (Option.some Jvm.ClassFile.FieldType.boolean)) ∈ lw_all := lw_g (lw_at lw_m11 24 rfl) rfl
theorem q2594 : (Jvm.Cond.instanceMethod ({ cls := "ToldTracksModel", name := "saying", desc := "(III)I" } : Jvm.MethodName)) ∈ lw_all := lw_g (lw_at lw_m11 26 rfl) rfl
theorem q2595 : (Jvm.Cond.selects "ToldTracksModel" ({ cls := "ToldTracksModel", name := "saying", desc := "(III)I" } : Jvm.MethodName) ({ cls := "ToldTracksModel", name := "saying", desc := "(III)I" } : Jvm.MethodName)) ∈ lw_all := lw_g (lw_at lw_m11 27 rfl) rfl
theorem q2596 : (Jvm.Cond.code ({ cls := "ToldTracksModel", name := "saying", desc := "(III)I" } : Jvm.MethodName) prog_29_method_89_code (5 : Nat) (Option.some Jvm.ClassFile.FieldType.int)) ∈ lw_all := lw_g (lw_at lw_m11 28 rfl) rfl
theorem q2597 : (Jvm.Cond.methodLink "ToldTracksModel" (561 : Nat) ({ cls := "ToldTracksModel", name := "hourOf", desc := "(II)I" } : Jvm.MethodName)) ∈ lw_all := lw_g (lw_at lw_m11 29 rfl) rfl
theorem q2598 : (Jvm.Cond.privateMethod ({ cls := "ToldTracksModel", name := "hourOf", desc := "(II)I" } : Jvm.MethodName)) ∈ lw_tbl := lw_at lw_m11 30 rfl
theorem q2599 : (Jvm.Cond.instanceMethod ({ cls := "ToldTracksModel", name := "hourOf", desc := "(II)I" } : Jvm.MethodName)) ∈ lw_all := lw_g (lw_at lw_m11 31 rfl) rfl
theorem q2600 : (Jvm.Cond.code ({ cls := "ToldTracksModel", name := "hourOf", desc := "(II)I" } : Jvm.MethodName) prog_29_method_64_code (5 : Nat) (Option.some Jvm.ClassFile.FieldType.int)) ∈ lw_all := lw_g (lw_at lw_m11 32 rfl) rfl
theorem q2602 : (Jvm.Cond.instanceMethod ({ cls := "ToldTracksModel", name := "can", desc := "(III)I" } : Jvm.MethodName)) ∈ lw_all := lw_g (lw_at lw_m11 34 rfl) rfl
theorem q2603 : (Jvm.Cond.selects "ToldTracksModel" ({ cls := "ToldTracksModel", name := "can", desc := "(III)I" } : Jvm.MethodName) ({ cls := "ToldTracksModel", name := "can", desc := "(III)I" } : Jvm.MethodName)) ∈ lw_all := lw_g (lw_at lw_m11 35 rfl) rfl
theorem q2604 : (Jvm.Cond.code ({ cls := "ToldTracksModel", name := "can", desc := "(III)I" } : Jvm.MethodName) prog_29_method_90_code (4 : Nat) (Option.some Jvm.ClassFile.FieldType.int)) ∈ lw_all := lw_g (lw_at lw_m11 36 rfl) rfl
theorem q2606 : (Jvm.Cond.instanceMethod ({ cls := "ToldTracksModel", name := "reach", desc := "(III)I" } : Jvm.MethodName)) ∈ lw_all := lw_g (lw_at lw_m11 38 rfl) rfl
theorem q2607 : (Jvm.Cond.selects "ToldTracksModel" ({ cls := "ToldTracksModel", name := "reach", desc := "(III)I" } : Jvm.MethodName) ({ cls := "ToldTracksModel", name := "reach", desc := "(III)I" } : Jvm.MethodName)) ∈ lw_all := lw_g (lw_at lw_m11 39 rfl) rfl
theorem q2608 : (Jvm.Cond.code ({ cls := "ToldTracksModel", name := "reach", desc := "(III)I" } : Jvm.MethodName) prog_29_method_91_code (6 : Nat) (Option.some Jvm.ClassFile.FieldType.int)) ∈ lw_all := lw_g (lw_at lw_m11 40 rfl) rfl
theorem q2609 : (Jvm.Cond.methodLink "ToldTracksModel" (564 : Nat) ({ cls := "ToldTracksModel", name := "lays", desc := "(I)V" } : Jvm.MethodName)) ∈ lw_all := lw_g (lw_at lw_m11 41 rfl) rfl
theorem q2610 : (Jvm.Cond.privateMethod ({ cls := "ToldTracksModel", name := "lays", desc := "(I)V" } : Jvm.MethodName)) ∈ lw_tbl := lw_at lw_m11 42 rfl
theorem q2611 : (Jvm.Cond.instanceMethod ({ cls := "ToldTracksModel", name := "lays", desc := "(I)V" } : Jvm.MethodName)) ∈ lw_all := lw_g (lw_at lw_m11 43 rfl) rfl
theorem q2612 : (Jvm.Cond.code ({ cls := "ToldTracksModel", name := "lays", desc := "(I)V" } : Jvm.MethodName) prog_29_method_84_code (4 : Nat) (Option.none : Option Jvm.ClassFile.FieldType)) ∈ lw_all := lw_g (lw_at lw_m11 44 rfl) rfl
theorem q2613 : (Jvm.Cond.methodLink "ToldTracksModel" (566 : Nat) ({ cls := "ToldTracksModel", name := "cellsOf", desc := "(II)I" } : Jvm.MethodName)) ∈ lw_all := lw_g (lw_at lw_m11 45 rfl) rfl
theorem q2614 : (Jvm.Cond.privateMethod ({ cls := "ToldTracksModel", name := "cellsOf", desc := "(II)I" } : Jvm.MethodName)) ∈ lw_tbl := lw_at lw_m11 46 rfl
theorem q2615 : (Jvm.Cond.instanceMethod ({ cls := "ToldTracksModel", name := "cellsOf", desc := "(II)I" } : Jvm.MethodName)) ∈ lw_all := lw_g (lw_at lw_m11 47 rfl) rfl
theorem q2616 : (Jvm.Cond.code ({ cls := "ToldTracksModel", name := "cellsOf", desc := "(II)I" } : Jvm.MethodName) prog_29_method_86_code (5 : Nat) (Option.some Jvm.ClassFile.FieldType.int)) ∈ lw_all := lw_g (lw_at lw_m11 48 rfl) rfl
theorem q2617 : (Jvm.Cond.methodLink "ToldTracksModel" (555 : Nat) ({ cls := "ToldTracksModel", name := "mayBe", desc := "(III)Z" } : Jvm.MethodName)) ∈ lw_all := lw_g (lw_at lw_m11 49 rfl) rfl
theorem q2618 : (Jvm.Cond.privateMethod ({ cls := "ToldTracksModel", name := "mayBe", desc := "(III)Z" } : Jvm.MethodName)) ∈ lw_tbl := lw_at lw_m11 50 rfl
theorem q2619 : (Jvm.Cond.instanceMethod ({ cls := "ToldTracksModel", name := "mayBe", desc := "(III)Z" } : Jvm.MethodName)) ∈ lw_all := lw_g (lw_at lw_m11 51 rfl) rfl
theorem q2620 : (Jvm.Cond.code ({ cls := "ToldTracksModel", name := "mayBe", desc := "(III)Z" } : Jvm.MethodName) prog_29_method_85_code (5 : Nat) (Option.some Jvm.ClassFile.FieldType.boolean)) ∈ lw_all := lw_g (lw_at lw_m11 52 rfl) rfl
theorem q2622 : (Jvm.Cond.instanceMethod ({ cls := "ToldTracksModel", name := "may", desc := "(IIII)I" } : Jvm.MethodName)) ∈ lw_all := lw_g (lw_at lw_m11 54 rfl) rfl
theorem q2623 : (Jvm.Cond.selects "ToldTracksModel" ({ cls := "ToldTracksModel", name := "may", desc := "(IIII)I" } : Jvm.MethodName) ({ cls := "ToldTracksModel", name := "may", desc := "(IIII)I" } : Jvm.MethodName)) ∈ lw_all := lw_g (lw_at lw_m11 55 rfl) rfl
theorem q2624 : (Jvm.Cond.code ({ cls := "ToldTracksModel", name := "may", desc := "(IIII)I" } : Jvm.MethodName) prog_29_method_92_code (5 : Nat) (Option.some Jvm.ClassFile.FieldType.int)) ∈ lw_all := lw_g (lw_at lw_m11 56 rfl) rfl
theorem q2626 : (Jvm.Cond.instanceMethod ({ cls := "ToldTracksModel", name := "judge", desc := "(II)I" } : Jvm.MethodName)) ∈ lw_all := lw_g (lw_at lw_m11 58 rfl) rfl
theorem q2627 : (Jvm.Cond.selects "ToldTracksModel" ({ cls := "ToldTracksModel", name := "judge", desc := "(II)I" } : Jvm.MethodName) ({ cls := "ToldTracksModel", name := "judge", desc := "(II)I" } : Jvm.MethodName)) ∈ lw_all := lw_g (lw_at lw_m11 59 rfl) rfl
theorem q2628 : (Jvm.Cond.code ({ cls := "ToldTracksModel", name := "judge", desc := "(II)I" } : Jvm.MethodName) prog_29_method_101_code (3 : Nat) (Option.some Jvm.ClassFile.FieldType.int)) ∈ lw_all := lw_g (lw_at lw_m11 60 rfl) rfl
theorem q2629 : (Jvm.Cond.methodLink "ToldTracksModel" (596 : Nat) ({ cls := "ToldTracksModel", name := "isKind", desc := "(II)Z" } : Jvm.MethodName)) ∈ lw_all := lw_g (lw_at lw_m11 61 rfl) rfl
theorem q2630 : (Jvm.Cond.privateMethod ({ cls := "ToldTracksModel", name := "isKind", desc := "(II)Z" } : Jvm.MethodName)) ∈ lw_tbl := lw_at lw_m11 62 rfl
theorem q2631 : (Jvm.Cond.instanceMethod ({ cls := "ToldTracksModel", name := "isKind", desc := "(II)Z" } : Jvm.MethodName)) ∈ lw_all := lw_g (lw_at lw_m11 63 rfl) rfl
theorem q2632 : (Jvm.Cond.code ({ cls := "ToldTracksModel", name := "isKind", desc := "(II)Z" } : Jvm.MethodName) prog_29_method_100_code (4 : Nat) (Option.some Jvm.ClassFile.FieldType.boolean)) ∈ lw_all := lw_g (lw_at lw_m11 64 rfl) rfl
theorem q2633 : (Jvm.Cond.methodLink "ToldTracksModel" (587 : Nat) ({ cls := "ToldTracksModel", name := "whoOf", desc := "(I)I" } : Jvm.MethodName)) ∈ lw_all := lw_g (lw_at lw_m11 65 rfl) rfl
theorem q2634 : (Jvm.Cond.privateMethod ({ cls := "ToldTracksModel", name := "whoOf", desc := "(I)I" } : Jvm.MethodName)) ∈ lw_tbl := lw_at lw_m11 66 rfl
theorem q2635 : (Jvm.Cond.instanceMethod ({ cls := "ToldTracksModel", name := "whoOf", desc := "(I)I" } : Jvm.MethodName)) ∈ lw_all := lw_g (lw_at lw_m11 67 rfl) rfl
theorem q2636 : (Jvm.Cond.code ({ cls := "ToldTracksModel", name := "whoOf", desc := "(I)I" } : Jvm.MethodName) prog_29_method_95_code (4 : Nat) (Option.some Jvm.ClassFile.FieldType.int)) ∈ lw_all := lw_g (lw_at lw_m11 68 rfl) rfl
theorem q2637 : (Jvm.Cond.methodLink "ToldTracksModel" (575 : Nat) ({ cls := "ToldTracksModel", name := "saidBy", desc := "(II)Z" } : Jvm.MethodName)) ∈ lw_all := lw_g (lw_at lw_m11 69 rfl) rfl
theorem q2638 : (Jvm.Cond.privateMethod ({ cls := "ToldTracksModel", name := "saidBy", desc := "(II)Z" } : Jvm.MethodName)) ∈ lw_tbl := lw_at lw_m11 70 rfl
theorem q2639 : (Jvm.Cond.instanceMethod ({ cls := "ToldTracksModel", name := "saidBy", desc := "(II)Z" } : Jvm.MethodName)) ∈ lw_all := lw_g (lw_at lw_m11 71 rfl) rfl
theorem q2640 : (Jvm.Cond.code ({ cls := "ToldTracksModel", name := "saidBy", desc := "(II)Z" } : Jvm.MethodName) prog_29_method_94_code (4 : Nat) (Option.some Jvm.ClassFile.FieldType.boolean)) ∈ lw_all := lw_g (lw_at lw_m11 72 rfl) rfl
theorem q2641 : (Jvm.Cond.methodLink "ToldTracksModel" (572 : Nat) ({ cls := "ToldTracksModel", name := "addSayings", desc := "(III)Z" } : Jvm.MethodName)) ∈ lw_all := lw_g (lw_at lw_m11 73 rfl) rfl
theorem q2642 : (Jvm.Cond.privateMethod ({ cls := "ToldTracksModel", name := "addSayings", desc := "(III)Z" } : Jvm.MethodName)) ∈ lw_tbl := lw_at lw_m11 74 rfl
theorem q2643 : (Jvm.Cond.instanceMethod ({ cls := "ToldTracksModel", name := "addSayings", desc := "(III)Z" } : Jvm.MethodName)) ∈ lw_all := lw_g (lw_at lw_m11 75 rfl) rfl
theorem q2644 : (Jvm.Cond.code ({ cls := "ToldTracksModel", name := "addSayings", desc := "(III)Z" } : Jvm.MethodName) prog_29_method_77_code (6 : Nat) (Option.some Jvm.ClassFile.FieldType.boolean)) ∈ lw_all := lw_g (lw_at lw_m11 76 rfl) rfl
theorem q2645 : (Jvm.Cond.methodLink "ToldTracksModel" (590 : Nat) ({ cls := "ToldTracksModel", name := "isPair", desc := "(I)Z" } : Jvm.MethodName)) ∈ lw_all := lw_g (lw_at lw_m11 77 rfl) rfl
theorem q2646 : (Jvm.Cond.privateMethod ({ cls := "ToldTracksModel", name := "isPair", desc := "(I)Z" } : Jvm.MethodName)) ∈ lw_tbl := lw_at lw_m11 78 rfl
theorem q2647 : (Jvm.Cond.instanceMethod ({ cls := "ToldTracksModel", name := "isPair", desc := "(I)Z" } : Jvm.MethodName)) ∈ lw_all := lw_g (lw_at lw_m11 79 rfl) rfl
theorem q2648 : (Jvm.Cond.code ({ cls := "ToldTracksModel", name := "isPair", desc := "(I)Z" } : Jvm.MethodName) prog_29_method_97_code (5 : Nat) (Option.some Jvm.ClassFile.FieldType.boolean)) ∈ lw_all := lw_g (lw_at lw_m11 80 rfl) rfl
theorem q2649 : (Jvm.Cond.methodLink "ToldTracksModel" (578 : Nat) ({ cls := "ToldTracksModel", name := "keepsSets", desc := "()V" } : Jvm.MethodName)) ∈ lw_all := lw_g (lw_at lw_m11 81 rfl) rfl
theorem q2650 : (Jvm.Cond.privateMethod ({ cls := "ToldTracksModel", name := "keepsSets", desc := "()V" } : Jvm.MethodName)) ∈ lw_tbl := lw_at lw_m11 82 rfl
theorem q2651 : (Jvm.Cond.instanceMethod ({ cls := "ToldTracksModel", name := "keepsSets", desc := "()V" } : Jvm.MethodName)) ∈ lw_all := lw_g (lw_at lw_m11 83 rfl) rfl
theorem q2652 : (Jvm.Cond.code ({ cls := "ToldTracksModel", name := "keepsSets", desc := "()V" } : Jvm.MethodName) prog_29_method_98_code (2 : Nat) (Option.none : Option Jvm.ClassFile.FieldType)) ∈ lw_all := lw_g (lw_at lw_m11 84 rfl) rfl
theorem q2653 : (Jvm.Cond.methodLink "ToldTracksModel" (581 : Nat) ({ cls := "ToldTracksModel", name := "parts", desc := "(II)Z" } : Jvm.MethodName)) ∈ lw_all := lw_g (lw_at lw_m11 85 rfl) rfl
theorem q2654 : (Jvm.Cond.privateMethod ({ cls := "ToldTracksModel", name := "parts", desc := "(II)Z" } : Jvm.MethodName)) ∈ lw_tbl := lw_at lw_m11 86 rfl
theorem q2655 : (Jvm.Cond.instanceMethod ({ cls := "ToldTracksModel", name := "parts", desc := "(II)Z" } : Jvm.MethodName)) ∈ lw_all := lw_g (lw_at lw_m11 87 rfl) rfl
theorem q2656 : (Jvm.Cond.code ({ cls := "ToldTracksModel", name := "parts", desc := "(II)Z" } : Jvm.MethodName) prog_29_method_96_code (6 : Nat) (Option.some Jvm.ClassFile.FieldType.boolean)) ∈ lw_all := lw_g (lw_at lw_m11 88 rfl) rfl
theorem q2657 : (Jvm.Cond.methodLink "ToldTracksModel" (584 : Nat) ({ cls := "ToldTracksModel", name := "bringsSets", desc := "()V" } : Jvm.MethodName)) ∈ lw_all := lw_g (lw_at lw_m11 89 rfl) rfl
theorem q2658 : (Jvm.Cond.privateMethod ({ cls := "ToldTracksModel", name := "bringsSets", desc := "()V" } : Jvm.MethodName)) ∈ lw_tbl := lw_at lw_m11 90 rfl
theorem q2659 : (Jvm.Cond.instanceMethod ({ cls := "ToldTracksModel", name := "bringsSets", desc := "()V" } : Jvm.MethodName)) ∈ lw_all := lw_g (lw_at lw_m11 91 rfl) rfl
theorem q2660 : (Jvm.Cond.code ({ cls := "ToldTracksModel", name := "bringsSets", desc := "()V" } : Jvm.MethodName) prog_29_method_99_code (2 : Nat) (Option.none : Option Jvm.ClassFile.FieldType)) ∈ lw_all := lw_g (lw_at lw_m11 92 rfl) rfl
theorem q2661 : (Jvm.Cond.methodLink "ToldTracksModel" (593 : Nat) ({ cls := "ToldTracksModel", name := "gapsOf", desc := "(I)I" } : Jvm.MethodName)) ∈ lw_all := lw_g (lw_at lw_m11 93 rfl) rfl
theorem q2662 : (Jvm.Cond.privateMethod ({ cls := "ToldTracksModel", name := "gapsOf", desc := "(I)I" } : Jvm.MethodName)) ∈ lw_tbl := lw_at lw_m11 94 rfl
theorem q2663 : (Jvm.Cond.instanceMethod ({ cls := "ToldTracksModel", name := "gapsOf", desc := "(I)I" } : Jvm.MethodName)) ∈ lw_all := lw_g (lw_at lw_m11 95 rfl) rfl
theorem q2664 : (Jvm.Cond.code ({ cls := "ToldTracksModel", name := "gapsOf", desc := "(I)I" } : Jvm.MethodName) prog_29_method_93_code (4 : Nat) (Option.some Jvm.ClassFile.FieldType.int)) ∈ lw_all := lw_g (lw_at lw_m11 96 rfl) rfl
theorem q2665 : (Jvm.Cond.methodLink "ToldTracksModel" (569 : Nat) ({ cls := "ToldTracksModel", name := "isHonest", desc := "(II)Z" } : Jvm.MethodName)) ∈ lw_all := lw_g (lw_at lw_m11 97 rfl) rfl
theorem q2666 : (Jvm.Cond.privateMethod ({ cls := "ToldTracksModel", name := "isHonest", desc := "(II)Z" } : Jvm.MethodName)) ∈ lw_tbl := lw_at lw_m11 98 rfl
theorem q2667 : (Jvm.Cond.instanceMethod ({ cls := "ToldTracksModel", name := "isHonest", desc := "(II)Z" } : Jvm.MethodName)) ∈ lw_all := lw_g (lw_at lw_m11 99 rfl) rfl
theorem q2668 : (Jvm.Cond.code ({ cls := "ToldTracksModel", name := "isHonest", desc := "(II)Z" } : Jvm.MethodName) prog_29_method_87_code (4 : Nat) (Option.some Jvm.ClassFile.FieldType.boolean)) ∈ lw_all := lw_g (lw_at lw_m11 100 rfl) rfl
theorem q2670 : (Jvm.Cond.instanceMethod ({ cls := "ToldTracksModel", name := "tale", desc := "(II)I" } : Jvm.MethodName)) ∈ lw_all := lw_g (lw_at lw_m11 102 rfl) rfl
theorem q2671 : (Jvm.Cond.selects "ToldTracksModel" ({ cls := "ToldTracksModel", name := "tale", desc := "(II)I" } : Jvm.MethodName) ({ cls := "ToldTracksModel", name := "tale", desc := "(II)I" } : Jvm.MethodName)) ∈ lw_all := lw_g (lw_at lw_m11 103 rfl) rfl
theorem q2672 : (Jvm.Cond.code ({ cls := "ToldTracksModel", name := "tale", desc := "(II)I" } : Jvm.MethodName) prog_29_method_103_code (3 : Nat) (Option.some Jvm.ClassFile.FieldType.int)) ∈ lw_all := lw_g (lw_at lw_m11 104 rfl) rfl
theorem q2673 : (Jvm.Cond.methodLink "ToldTracksModel" (599 : Nat) ({ cls := "ToldTracksModel", name := "taleOf", desc := "(II)I" } : Jvm.MethodName)) ∈ lw_all := lw_g (lw_at lw_m11 105 rfl) rfl
theorem q2674 : (Jvm.Cond.privateMethod ({ cls := "ToldTracksModel", name := "taleOf", desc := "(II)I" } : Jvm.MethodName)) ∈ lw_tbl := lw_at lw_m11 106 rfl
theorem q2675 : (Jvm.Cond.instanceMethod ({ cls := "ToldTracksModel", name := "taleOf", desc := "(II)I" } : Jvm.MethodName)) ∈ lw_all := lw_g (lw_at lw_m11 107 rfl) rfl
theorem q2676 : (Jvm.Cond.code ({ cls := "ToldTracksModel", name := "taleOf", desc := "(II)I" } : Jvm.MethodName) prog_29_method_102_code (5 : Nat) (Option.some Jvm.ClassFile.FieldType.int)) ∈ lw_all := lw_g (lw_at lw_m11 108 rfl) rfl
theorem q2678 : (Jvm.Cond.instanceMethod ({ cls := "ToldTracksModel", name := "bars", desc := "(I)I" } : Jvm.MethodName)) ∈ lw_all := lw_g (lw_at lw_m11 110 rfl) rfl
theorem q2679 : (Jvm.Cond.selects "ToldTracksModel" ({ cls := "ToldTracksModel", name := "bars", desc := "(I)I" } : Jvm.MethodName) ({ cls := "ToldTracksModel", name := "bars", desc := "(I)I" } : Jvm.MethodName)) ∈ lw_all := lw_g (lw_at lw_m11 111 rfl) rfl
theorem q2680 : (Jvm.Cond.code ({ cls := "ToldTracksModel", name := "bars", desc := "(I)I" } : Jvm.MethodName) prog_29_method_104_code (5 : Nat) (Option.some Jvm.ClassFile.FieldType.int)) ∈ lw_all := lw_g (lw_at lw_m11 112 rfl) rfl
theorem q2682 : (Jvm.Cond.instanceMethod ({ cls := "ToldTracksModel", name := "clash", desc := "(II)I" } : Jvm.MethodName)) ∈ lw_all := lw_g (lw_at lw_m11 114 rfl) rfl
theorem q2683 : (Jvm.Cond.selects "ToldTracksModel" ({ cls := "ToldTracksModel", name := "clash", desc := "(II)I" } : Jvm.MethodName) ({ cls := "ToldTracksModel", name := "clash", desc := "(II)I" } : Jvm.MethodName)) ∈ lw_all := lw_g (lw_at lw_m11 115 rfl) rfl
theorem q2684 : (Jvm.Cond.code ({ cls := "ToldTracksModel", name := "clash", desc := "(II)I" } : Jvm.MethodName) prog_29_method_105_code (8 : Nat) (Option.some Jvm.ClassFile.FieldType.int)) ∈ lw_all := lw_g (lw_at lw_m11 116 rfl) rfl
theorem q2686 : (Jvm.Cond.instanceMethod ({ cls := "ToldTracksModel", name := "who", desc := "(I)I" } : Jvm.MethodName)) ∈ lw_all := lw_g (lw_at lw_m11 118 rfl) rfl
theorem q2687 : (Jvm.Cond.selects "ToldTracksModel" ({ cls := "ToldTracksModel", name := "who", desc := "(I)I" } : Jvm.MethodName) ({ cls := "ToldTracksModel", name := "who", desc := "(I)I" } : Jvm.MethodName)) ∈ lw_all := lw_g (lw_at lw_m11 119 rfl) rfl
theorem q2688 : (Jvm.Cond.code ({ cls := "ToldTracksModel", name := "who", desc := "(I)I" } : Jvm.MethodName) prog_29_method_106_code (2 : Nat) (Option.some Jvm.ClassFile.FieldType.int)) ∈ lw_all := lw_g (lw_at lw_m11 120 rfl) rfl
theorem q2690 : (Jvm.Cond.instanceMethod ({ cls := "ToldTracksModel", name := "swap", desc := "(II)I" } : Jvm.MethodName)) ∈ lw_all := lw_g (lw_at lw_m11 122 rfl) rfl
theorem q2691 : (Jvm.Cond.selects "ToldTracksModel" ({ cls := "ToldTracksModel", name := "swap", desc := "(II)I" } : Jvm.MethodName) ({ cls := "ToldTracksModel", name := "swap", desc := "(II)I" } : Jvm.MethodName)) ∈ lw_all := lw_g (lw_at lw_m11 123 rfl) rfl
theorem q2692 : (Jvm.Cond.code ({ cls := "ToldTracksModel", name := "swap", desc := "(II)I" } : Jvm.MethodName) prog_29_method_108_code (3 : Nat) (Option.some Jvm.ClassFile.FieldType.int)) ∈ lw_all := lw_g (lw_at lw_m11 124 rfl) rfl
theorem q2693 : (Jvm.Cond.methodLink "ToldTracksModel" (602 : Nat) ({ cls := "ToldTracksModel", name := "isFor", desc := "(II)Z" } : Jvm.MethodName)) ∈ lw_all := lw_g (lw_at lw_m11 125 rfl) rfl
theorem q2694 : (Jvm.Cond.privateMethod ({ cls := "ToldTracksModel", name := "isFor", desc := "(II)Z" } : Jvm.MethodName)) ∈ lw_tbl := lw_at lw_m11 126 rfl
theorem q2695 : (Jvm.Cond.instanceMethod ({ cls := "ToldTracksModel", name := "isFor", desc := "(II)Z" } : Jvm.MethodName)) ∈ lw_all := lw_g (lw_at lw_m11 127 rfl) rfl
theorem q2696 : (Jvm.Cond.code ({ cls := "ToldTracksModel", name := "isFor", desc := "(II)Z" } : Jvm.MethodName) prog_29_method_107_code (4 : Nat) (Option.some Jvm.ClassFile.FieldType.boolean)) ∈ lw_all := lw_g (lw_at lw_m11 128 rfl) rfl
theorem q2698 : (Jvm.Cond.instanceMethod ({ cls := "ToldTracksModel", name := "kinds", desc := "(I)I" } : Jvm.MethodName)) ∈ lw_all := lw_g (lw_at lw_m11 130 rfl) rfl
theorem q2699 : (Jvm.Cond.selects "ToldTracksModel" ({ cls := "ToldTracksModel", name := "kinds", desc := "(I)I" } : Jvm.MethodName) ({ cls := "ToldTracksModel", name := "kinds", desc := "(I)I" } : Jvm.MethodName)) ∈ lw_all := lw_g (lw_at lw_m11 131 rfl) rfl
theorem q2700 : (Jvm.Cond.code ({ cls := "ToldTracksModel", name := "kinds", desc := "(I)I" } : Jvm.MethodName) prog_29_method_109_code (4 : Nat) (Option.some Jvm.ClassFile.FieldType.int)) ∈ lw_all := lw_g (lw_at lw_m11 132 rfl) rfl
theorem q2702 : (Jvm.Cond.instanceMethod ({ cls := "ToldTracksModel", name := "lies", desc := "()I" } : Jvm.MethodName)) ∈ lw_all := lw_g (lw_at lw_m11 134 rfl) rfl
theorem q2703 : (Jvm.Cond.selects "ToldTracksModel" ({ cls := "ToldTracksModel", name := "lies", desc := "()I" } : Jvm.MethodName) ({ cls := "ToldTracksModel", name := "lies", desc := "()I" } : Jvm.MethodName)) ∈ lw_all := lw_g (lw_at lw_m11 135 rfl) rfl
theorem q2704 : (Jvm.Cond.code ({ cls := "ToldTracksModel", name := "lies", desc := "()I" } : Jvm.MethodName) prog_29_method_111_code (3 : Nat) (Option.some Jvm.ClassFile.FieldType.int)) ∈ lw_all := lw_g (lw_at lw_m11 136 rfl) rfl
theorem q2705 : (Jvm.Cond.methodLink "ToldTracksModel" (605 : Nat) ({ cls := "ToldTracksModel", name := "liesOf", desc := "(I)I" } : Jvm.MethodName)) ∈ lw_all := lw_g (lw_at lw_m11 137 rfl) rfl
theorem q2706 : (Jvm.Cond.privateMethod ({ cls := "ToldTracksModel", name := "liesOf", desc := "(I)I" } : Jvm.MethodName)) ∈ lw_tbl := lw_at lw_m11 138 rfl
theorem q2707 : (Jvm.Cond.instanceMethod ({ cls := "ToldTracksModel", name := "liesOf", desc := "(I)I" } : Jvm.MethodName)) ∈ lw_all := lw_g (lw_at lw_m11 139 rfl) rfl
theorem q2708 : (Jvm.Cond.code ({ cls := "ToldTracksModel", name := "liesOf", desc := "(I)I" } : Jvm.MethodName) prog_29_method_110_code (2 : Nat) (Option.some Jvm.ClassFile.FieldType.int)) ∈ lw_all := lw_g (lw_at lw_m11 140 rfl) rfl
theorem q2710 : (Jvm.Cond.instanceMethod ({ cls := "ToldTracksModel", name := "met", desc := "(III)I" } : Jvm.MethodName)) ∈ lw_all := lw_g (lw_at lw_m11 142 rfl) rfl
theorem q2711 : (Jvm.Cond.selects "ToldTracksModel" ({ cls := "ToldTracksModel", name := "met", desc := "(III)I" } : Jvm.MethodName) ({ cls := "ToldTracksModel", name := "met", desc := "(III)I" } : Jvm.MethodName)) ∈ lw_all := lw_g (lw_at lw_m11 143 rfl) rfl
theorem q2712 : (Jvm.Cond.code ({ cls := "ToldTracksModel", name := "met", desc := "(III)I" } : Jvm.MethodName) prog_29_method_113_code (10 : Nat) (Option.some Jvm.ClassFile.FieldType.int)) ∈ lw_all := lw_g (lw_at lw_m11 144 rfl) rfl
theorem q2713 : (Jvm.Cond.methodLink "ToldTracksModel" (608 : Nat) ({ cls := "ToldTracksModel", name := "changes", desc := "(IIZ)Z" } : Jvm.MethodName)) ∈ lw_all := lw_g (lw_at lw_m11 145 rfl) rfl
theorem q2714 : (Jvm.Cond.privateMethod ({ cls := "ToldTracksModel", name := "changes", desc := "(IIZ)Z" } : Jvm.MethodName)) ∈ lw_tbl := lw_at lw_m11 146 rfl
theorem q2715 : (Jvm.Cond.instanceMethod ({ cls := "ToldTracksModel", name := "changes", desc := "(IIZ)Z" } : Jvm.MethodName)) ∈ lw_all := lw_g (lw_at lw_m11 147 rfl) rfl
theorem q2716 : (Jvm.Cond.code ({ cls := "ToldTracksModel", name := "changes", desc := "(IIZ)Z" } : Jvm.MethodName) prog_29_method_112_code (6 : Nat) (Option.some Jvm.ClassFile.FieldType.boolean)) ∈ lw_all := lw_g (lw_at lw_m11 148 rfl) rfl
theorem q2718 : (Jvm.Cond.instanceMethod ({ cls := "ToldTracksModel", name := "sighting", desc := "(II)I" } : Jvm.MethodName)) ∈ lw_all := lw_g (lw_at lw_m11 150 rfl) rfl
theorem q2719 : (Jvm.Cond.selects "ToldTracksModel" ({ cls := "ToldTracksModel", name := "sighting", desc := "(II)I" } : Jvm.MethodName) ({ cls := "ToldTracksModel", name := "sighting", desc := "(II)I" } : Jvm.MethodName)) ∈ lw_all := lw_g (lw_at lw_m11 151 rfl) rfl
theorem q2720 : (Jvm.Cond.code ({ cls := "ToldTracksModel", name := "sighting", desc := "(II)I" } : Jvm.MethodName) prog_29_method_115_code (4 : Nat) (Option.some Jvm.ClassFile.FieldType.int)) ∈ lw_all := lw_g (lw_at lw_m11 152 rfl) rfl
theorem q2721 : (Jvm.Cond.methodLink "ToldTracksModel" (611 : Nat) ({ cls := "ToldTracksModel", name := "explains", desc := "()V" } : Jvm.MethodName)) ∈ lw_all := lw_g (lw_at lw_m11 153 rfl) rfl
theorem q2722 : (Jvm.Cond.privateMethod ({ cls := "ToldTracksModel", name := "explains", desc := "()V" } : Jvm.MethodName)) ∈ lw_tbl := lw_at lw_m11 154 rfl
theorem q2723 : (Jvm.Cond.instanceMethod ({ cls := "ToldTracksModel", name := "explains", desc := "()V" } : Jvm.MethodName)) ∈ lw_all := lw_g (lw_at lw_m11 155 rfl) rfl
theorem q2724 : (Jvm.Cond.code ({ cls := "ToldTracksModel", name := "explains", desc := "()V" } : Jvm.MethodName) prog_29_method_114_code (4 : Nat) (Option.none : Option Jvm.ClassFile.FieldType)) ∈ lw_all := lw_g (lw_at lw_m11 156 rfl) rfl
theorem q2726 : (Jvm.Cond.instanceMethod ({ cls := "ToldTracksModel", name := "strange", desc := "()I" } : Jvm.MethodName)) ∈ lw_all := lw_g (lw_at lw_m11 158 rfl) rfl
theorem q2727 : (Jvm.Cond.selects "ToldTracksModel" ({ cls := "ToldTracksModel", name := "strange", desc := "()I" } : Jvm.MethodName) ({ cls := "ToldTracksModel", name := "strange", desc := "()I" } : Jvm.MethodName)) ∈ lw_all := lw_g (lw_at lw_m11 159 rfl) rfl
theorem q2728 : (Jvm.Cond.code ({ cls := "ToldTracksModel", name := "strange", desc := "()I" } : Jvm.MethodName) prog_29_method_116_code (3 : Nat) (Option.some Jvm.ClassFile.FieldType.int)) ∈ lw_all := lw_g (lw_at lw_m11 160 rfl) rfl
theorem q2730 : (Jvm.Cond.instanceMethod ({ cls := "ToldTracksModel", name := "doubted", desc := "()I" } : Jvm.MethodName)) ∈ lw_all := lw_g (lw_at lw_m11 162 rfl) rfl
theorem q2731 : (Jvm.Cond.selects "ToldTracksModel" ({ cls := "ToldTracksModel", name := "doubted", desc := "()I" } : Jvm.MethodName) ({ cls := "ToldTracksModel", name := "doubted", desc := "()I" } : Jvm.MethodName)) ∈ lw_all := lw_g (lw_at lw_m11 163 rfl) rfl
theorem q2732 : (Jvm.Cond.code ({ cls := "ToldTracksModel", name := "doubted", desc := "()I" } : Jvm.MethodName) prog_29_method_117_code (5 : Nat) (Option.some Jvm.ClassFile.FieldType.int)) ∈ lw_all := lw_g (lw_at lw_m11 164 rfl) rfl
theorem q2734 : (Jvm.Cond.instanceMethod ({ cls := "ToldTracksModel", name := "gaps", desc := "(II)I" } : Jvm.MethodName)) ∈ lw_all := lw_g (lw_at lw_m11 166 rfl) rfl
theorem q2735 : (Jvm.Cond.selects "ToldTracksModel" ({ cls := "ToldTracksModel", name := "gaps", desc := "(II)I" } : Jvm.MethodName) ({ cls := "ToldTracksModel", name := "gaps", desc := "(II)I" } : Jvm.MethodName)) ∈ lw_all := lw_g (lw_at lw_m11 167 rfl) rfl
theorem q2736 : (Jvm.Cond.code ({ cls := "ToldTracksModel", name := "gaps", desc := "(II)I" } : Jvm.MethodName) prog_29_method_118_code (4 : Nat) (Option.some Jvm.ClassFile.FieldType.int)) ∈ lw_all := lw_g (lw_at lw_m11 168 rfl) rfl
theorem q2738 : (Jvm.Cond.instanceMethod ({ cls := "ToldTracksModel", name := "chance", desc := "(I)J" } : Jvm.MethodName)) ∈ lw_all := lw_g (lw_at lw_m11 170 rfl) rfl
theorem q2739 : (Jvm.Cond.selects "ToldTracksModel" ({ cls := "ToldTracksModel", name := "chance", desc := "(I)J" } : Jvm.MethodName) ({ cls := "ToldTracksModel", name := "chance", desc := "(I)J" } : Jvm.MethodName)) ∈ lw_all := lw_g (lw_at lw_m11 171 rfl) rfl
theorem q2740 : (Jvm.Cond.code ({ cls := "ToldTracksModel", name := "chance", desc := "(I)J" } : Jvm.MethodName) prog_29_method_120_code (2 : Nat) (Option.some Jvm.ClassFile.FieldType.long)) ∈ lw_all := lw_g (lw_at lw_m11 172 rfl) rfl
theorem q2741 : (Jvm.Cond.methodLink "ToldTracksModel" (618 : Nat) ({ cls := "ToldTracksModel", name := "chanceOf", desc := "(I)J" } : Jvm.MethodName)) ∈ lw_all := lw_g (lw_at lw_m11 173 rfl) rfl
theorem q2742 : (Jvm.Cond.privateMethod ({ cls := "ToldTracksModel", name := "chanceOf", desc := "(I)J" } : Jvm.MethodName)) ∈ lw_tbl := lw_at lw_m11 174 rfl
theorem q2743 : (Jvm.Cond.instanceMethod ({ cls := "ToldTracksModel", name := "chanceOf", desc := "(I)J" } : Jvm.MethodName)) ∈ lw_all := lw_g (lw_at lw_m11 175 rfl) rfl
theorem q2744 : (Jvm.Cond.code ({ cls := "ToldTracksModel", name := "chanceOf", desc := "(I)J" } : Jvm.MethodName) prog_29_method_119_code (7 : Nat) (Option.some Jvm.ClassFile.FieldType.long)) ∈ lw_all := lw_g (lw_at lw_m11 176 rfl) rfl
theorem q2745 : (Jvm.Cond.constantLong "ToldTracksModel" (614 : Nat) (1000000000000 : Int64)) ∈ lw_all := lw_g (lw_at lw_m11 177 rfl) rfl
theorem q2746 : (Jvm.Cond.constantLong "ToldTracksModel" (616 : Nat) (100 : Int64)) ∈ lw_all := lw_g (lw_at lw_m11 178 rfl) rfl
theorem q2747 : (Jvm.Cond.constantLong "ToldTracksModel" (622 : Nat) (-1 : Int64)) ∈ lw_all := lw_g (lw_at lw_m11 179 rfl) rfl
theorem q2749 : (Jvm.Cond.instanceMethod ({ cls := "ToldTracksModel", name := "beyond", desc := "()I" } : Jvm.MethodName)) ∈ lw_all := lw_g (lw_at lw_m11 181 rfl) rfl
theorem q2750 : (Jvm.Cond.selects "ToldTracksModel" ({ cls := "ToldTracksModel", name := "beyond", desc := "()I" } : Jvm.MethodName) ({ cls := "ToldTracksModel", name := "beyond", desc := "()I" } : Jvm.MethodName)) ∈ lw_all := lw_g (lw_at lw_m11 182 rfl) rfl
theorem q2751 : (Jvm.Cond.code ({ cls := "ToldTracksModel", name := "beyond", desc := "()I" } : Jvm.MethodName) prog_29_method_121_code (3 : Nat) (Option.some Jvm.ClassFile.FieldType.int)) ∈ lw_all := lw_g (lw_at lw_m11 183 rfl) rfl
theorem q2752 : (Jvm.Cond.constantLong "ToldTracksModel" (624 : Nat) (50000000000 : Int64)) ∈ lw_all := lw_g (lw_at lw_m11 184 rfl) rfl
theorem q2754 : (Jvm.Cond.instanceMethod ({ cls := "ToldTracksModel", name := "settles", desc := "(III)I" } : Jvm.MethodName)) ∈ lw_all := lw_g (lw_at lw_m11 186 rfl) rfl
theorem q2755 : (Jvm.Cond.selects "ToldTracksModel" ({ cls := "ToldTracksModel", name := "settles", desc := "(III)I" } : Jvm.MethodName) ({ cls := "ToldTracksModel", name := "settles", desc := "(III)I" } : Jvm.MethodName)) ∈ lw_all := lw_g (lw_at lw_m11 187 rfl) rfl
theorem q2756 : (Jvm.Cond.code ({ cls := "ToldTracksModel", name := "settles", desc := "(III)I" } : Jvm.MethodName) prog_29_method_123_code (4 : Nat) (Option.some Jvm.ClassFile.FieldType.int)) ∈ lw_all := lw_g (lw_at lw_m11 188 rfl) rfl
theorem q2757 : (Jvm.Cond.methodLink "ToldTracksModel" (626 : Nat) ({ cls := "ToldTracksModel", name := "settlesAll", desc := "()V" } : Jvm.MethodName)) ∈ lw_all := lw_g (lw_at lw_m11 189 rfl) rfl
theorem q2758 : (Jvm.Cond.privateMethod ({ cls := "ToldTracksModel", name := "settlesAll", desc := "()V" } : Jvm.MethodName)) ∈ lw_tbl := lw_at lw_m11 190 rfl
theorem q2759 : (Jvm.Cond.instanceMethod ({ cls := "ToldTracksModel", name := "settlesAll", desc := "()V" } : Jvm.MethodName)) ∈ lw_all := lw_g (lw_at lw_m11 191 rfl) rfl
theorem q2760 : (Jvm.Cond.code ({ cls := "ToldTracksModel", name := "settlesAll", desc := "()V" } : Jvm.MethodName) prog_29_method_122_code (4 : Nat) (Option.none : Option Jvm.ClassFile.FieldType)) ∈ lw_all := lw_g (lw_at lw_m11 192 rfl) rfl
theorem q2762 : (Jvm.Cond.instanceMethod ({ cls := "ToldTracksModel", name := "next", desc := "(I)I" } : Jvm.MethodName)) ∈ lw_all := lw_g (lw_at lw_m11 194 rfl) rfl
theorem q2763 : (Jvm.Cond.selects "ToldTracksModel" ({ cls := "ToldTracksModel", name := "next", desc := "(I)I" } : Jvm.MethodName) ({ cls := "ToldTracksModel", name := "next", desc := "(I)I" } : Jvm.MethodName)) ∈ lw_all := lw_g (lw_at lw_m11 195 rfl) rfl
theorem q2764 : (Jvm.Cond.code ({ cls := "ToldTracksModel", name := "next", desc := "(I)I" } : Jvm.MethodName) prog_29_method_124_code (7 : Nat) (Option.some Jvm.ClassFile.FieldType.int)) ∈ lw_all := lw_g (lw_at lw_m11 196 rfl) rfl
theorem q2766 : (Jvm.Cond.instanceMethod ({ cls := "ToldTracksModel", name := "off", desc := "(I)I" } : Jvm.MethodName)) ∈ lw_all := lw_g (lw_at lw_m11 198 rfl) rfl
theorem q2767 : (Jvm.Cond.selects "ToldTracksModel" ({ cls := "ToldTracksModel", name := "off", desc := "(I)I" } : Jvm.MethodName) ({ cls := "ToldTracksModel", name := "off", desc := "(I)I" } : Jvm.MethodName)) ∈ lw_all := lw_g (lw_at lw_m11 199 rfl) rfl
theorem q2768 : (Jvm.Cond.code ({ cls := "ToldTracksModel", name := "off", desc := "(I)I" } : Jvm.MethodName) prog_29_method_126_code (2 : Nat) (Option.some Jvm.ClassFile.FieldType.int)) ∈ lw_all := lw_g (lw_at lw_m11 200 rfl) rfl
theorem q2769 : (Jvm.Cond.methodLink "ToldTracksModel" (629 : Nat) ({ cls := "ToldTracksModel", name := "offOf", desc := "(I)I" } : Jvm.MethodName)) ∈ lw_all := lw_g (lw_at lw_m11 201 rfl) rfl
theorem q2770 : (Jvm.Cond.privateMethod ({ cls := "ToldTracksModel", name := "offOf", desc := "(I)I" } : Jvm.MethodName)) ∈ lw_tbl := lw_at lw_m11 202 rfl
theorem q2771 : (Jvm.Cond.instanceMethod ({ cls := "ToldTracksModel", name := "offOf", desc := "(I)I" } : Jvm.MethodName)) ∈ lw_all := lw_g (lw_at lw_m11 203 rfl) rfl
theorem q2772 : (Jvm.Cond.code ({ cls := "ToldTracksModel", name := "offOf", desc := "(I)I" } : Jvm.MethodName) prog_29_method_125_code (6 : Nat) (Option.some Jvm.ClassFile.FieldType.int)) ∈ lw_all := lw_g (lw_at lw_m11 204 rfl) rfl
theorem q2774 : (Jvm.Cond.instanceMethod ({ cls := "ToldTracksModel", name := "whose", desc := "()I" } : Jvm.MethodName)) ∈ lw_all := lw_g (lw_at lw_m11 206 rfl) rfl
theorem q2775 : (Jvm.Cond.selects "ToldTracksModel" ({ cls := "ToldTracksModel", name := "whose", desc := "()I" } : Jvm.MethodName) ({ cls := "ToldTracksModel", name := "whose", desc := "()I" } : Jvm.MethodName)) ∈ lw_all := lw_g (lw_at lw_m11 207 rfl) rfl
theorem q2776 : (Jvm.Cond.code ({ cls := "ToldTracksModel", name := "whose", desc := "()I" } : Jvm.MethodName) prog_29_method_127_code (4 : Nat) (Option.some Jvm.ClassFile.FieldType.int)) ∈ lw_all := lw_g (lw_at lw_m11 208 rfl) rfl
theorem q2778 : (Jvm.Cond.instanceMethod ({ cls := "ToldTracksModel", name := "add", desc := "(IIIIZ)I" } : Jvm.MethodName)) ∈ lw_all := lw_g (lw_at lw_m11 210 rfl) rfl
theorem q2779 : (Jvm.Cond.selects "ToldTracksModel" ({ cls := "ToldTracksModel", name := "add", desc := "(IIIIZ)I" } : Jvm.MethodName) ({ cls := "ToldTracksModel", name := "add", desc := "(IIIIZ)I" } : Jvm.MethodName)) ∈ lw_all := lw_g (lw_at lw_m11 211 rfl) rfl
theorem q2780 : (Jvm.Cond.code ({ cls := "ToldTracksModel", name := "add", desc := "(IIIIZ)I" } : Jvm.MethodName) prog_29_method_129_code (6 : Nat) (Option.some Jvm.ClassFile.FieldType.int)) ∈ lw_all := lw_g (lw_at lw_m11 212 rfl) rfl
theorem q2781 : (Jvm.Cond.methodLink "ToldTracksModel" (632 : Nat) ({ cls := "ToldTracksModel", name := "says", desc := "(IIIZ)V" } : Jvm.MethodName)) ∈ lw_all := lw_g (lw_at lw_m11 213 rfl) rfl
theorem q2782 : (Jvm.Cond.privateMethod ({ cls := "ToldTracksModel", name := "says", desc := "(IIIZ)V" } : Jvm.MethodName)) ∈ lw_tbl := lw_at lw_m11 214 rfl
theorem q2783 : (Jvm.Cond.instanceMethod ({ cls := "ToldTracksModel", name := "says", desc := "(IIIZ)V" } : Jvm.MethodName)) ∈ lw_all := lw_g (lw_at lw_m11 215 rfl) rfl
theorem q2784 : (Jvm.Cond.code ({ cls := "ToldTracksModel", name := "says", desc := "(IIIZ)V" } : Jvm.MethodName) prog_29_method_128_code (5 : Nat) (Option.none : Option Jvm.ClassFile.FieldType)) ∈ lw_all := lw_g (lw_at lw_m11 216 rfl) rfl
theorem q2785 : (Jvm.Cond.methodLink "ToldTracksModel" (635 : Nat) ({ cls := "ToldTracksModel", name := "numberOf", desc := "(II)I" } : Jvm.MethodName)) ∈ lw_all := lw_g (lw_at lw_m11 217 rfl) rfl
theorem q2786 : (Jvm.Cond.privateMethod ({ cls := "ToldTracksModel", name := "numberOf", desc := "(II)I" } : Jvm.MethodName)) ∈ lw_tbl := lw_at lw_m11 218 rfl
theorem q2787 : (Jvm.Cond.instanceMethod ({ cls := "ToldTracksModel", name := "numberOf", desc := "(II)I" } : Jvm.MethodName)) ∈ lw_all := lw_g (lw_at lw_m11 219 rfl) rfl
theorem q2788 : (Jvm.Cond.code ({ cls := "ToldTracksModel", name := "numberOf", desc := "(II)I" } : Jvm.MethodName) prog_29_method_65_code (5 : Nat) (Option.some Jvm.ClassFile.FieldType.int)) ∈ lw_all := lw_g (lw_at lw_m11 220 rfl) rfl
theorem q2790 : (Jvm.Cond.instanceMethod ({ cls := "ToldTracksModel", name := "drop", desc := "(II)I" } : Jvm.MethodName)) ∈ lw_all := lw_g (lw_at lw_m11 222 rfl) rfl
theorem q2791 : (Jvm.Cond.selects "ToldTracksModel" ({ cls := "ToldTracksModel", name := "drop", desc := "(II)I" } : Jvm.MethodName) ({ cls := "ToldTracksModel", name := "drop", desc := "(II)I" } : Jvm.MethodName)) ∈ lw_all := lw_g (lw_at lw_m11 223 rfl) rfl
theorem q2792 : (Jvm.Cond.code ({ cls := "ToldTracksModel", name := "drop", desc := "(II)I" } : Jvm.MethodName) prog_29_method_130_code (4 : Nat) (Option.some Jvm.ClassFile.FieldType.int)) ∈ lw_all := lw_g (lw_at lw_m11 224 rfl) rfl
theorem q2794 : (Jvm.Cond.instanceMethod ({ cls := "ToldTracksModel", name := "spot", desc := "(IIII)I" } : Jvm.MethodName)) ∈ lw_all := lw_g (lw_at lw_m11 226 rfl) rfl
theorem q2795 : (Jvm.Cond.selects "ToldTracksModel" ({ cls := "ToldTracksModel", name := "spot", desc := "(IIII)I" } : Jvm.MethodName) ({ cls := "ToldTracksModel", name := "spot", desc := "(IIII)I" } : Jvm.MethodName)) ∈ lw_all := lw_g (lw_at lw_m11 227 rfl) rfl
theorem q2796 : (Jvm.Cond.code ({ cls := "ToldTracksModel", name := "spot", desc := "(IIII)I" } : Jvm.MethodName) prog_29_method_132_code (5 : Nat) (Option.some Jvm.ClassFile.FieldType.int)) ∈ lw_all := lw_g (lw_at lw_m11 228 rfl) rfl
theorem q2797 : (Jvm.Cond.methodLink "ToldTracksModel" (638 : Nat) ({ cls := "ToldTracksModel", name := "spots", desc := "(III)V" } : Jvm.MethodName)) ∈ lw_all := lw_g (lw_at lw_m11 229 rfl) rfl
theorem q2798 : (Jvm.Cond.privateMethod ({ cls := "ToldTracksModel", name := "spots", desc := "(III)V" } : Jvm.MethodName)) ∈ lw_tbl := lw_at lw_m11 230 rfl
theorem q2799 : (Jvm.Cond.instanceMethod ({ cls := "ToldTracksModel", name := "spots", desc := "(III)V" } : Jvm.MethodName)) ∈ lw_all := lw_g (lw_at lw_m11 231 rfl) rfl
theorem q2800 : (Jvm.Cond.code ({ cls := "ToldTracksModel", name := "spots", desc := "(III)V" } : Jvm.MethodName) prog_29_method_131_code (5 : Nat) (Option.none : Option Jvm.ClassFile.FieldType)) ∈ lw_all := lw_g (lw_at lw_m11 232 rfl) rfl
theorem q2802 : (Jvm.Cond.instanceMethod ({ cls := "ToldTracksModel", name := "image", desc := "()I" } : Jvm.MethodName)) ∈ lw_all := lw_g (lw_at lw_m11 234 rfl) rfl
theorem q2803 : (Jvm.Cond.selects "ToldTracksModel" ({ cls := "ToldTracksModel", name := "image", desc := "()I" } : Jvm.MethodName) ({ cls := "ToldTracksModel", name := "image", desc := "()I" } : Jvm.MethodName)) ∈ lw_all := lw_g (lw_at lw_m11 235 rfl) rfl
theorem q2804 : (Jvm.Cond.code ({ cls := "ToldTracksModel", name := "image", desc := "()I" } : Jvm.MethodName) prog_29_method_134_code (3 : Nat) (Option.some Jvm.ClassFile.FieldType.int)) ∈ lw_all := lw_g (lw_at lw_m11 236 rfl) rfl
theorem q2805 : (Jvm.Cond.methodLink "ToldTracksModel" (641 : Nat) ({ cls := "ToldTracksModel", name := "writes", desc := "(I)V" } : Jvm.MethodName)) ∈ lw_all := lw_g (lw_at lw_m11 237 rfl) rfl
theorem q2806 : (Jvm.Cond.privateMethod ({ cls := "ToldTracksModel", name := "writes", desc := "(I)V" } : Jvm.MethodName)) ∈ lw_tbl := lw_at lw_m11 238 rfl
theorem q2807 : (Jvm.Cond.instanceMethod ({ cls := "ToldTracksModel", name := "writes", desc := "(I)V" } : Jvm.MethodName)) ∈ lw_all := lw_g (lw_at lw_m11 239 rfl) rfl
theorem q2808 : (Jvm.Cond.code ({ cls := "ToldTracksModel", name := "writes", desc := "(I)V" } : Jvm.MethodName) prog_29_method_133_code (2 : Nat) (Option.none : Option Jvm.ClassFile.FieldType)) ∈ lw_all := lw_g (lw_at lw_m12 0 rfl) rfl
theorem q2810 : (Jvm.Cond.instanceMethod ({ cls := "ToldTracksModel", name := "octet", desc := "(I)I" } : Jvm.MethodName)) ∈ lw_all := lw_g (lw_at lw_m12 2 rfl) rfl
theorem q2811 : (Jvm.Cond.selects "ToldTracksModel" ({ cls := "ToldTracksModel", name := "octet", desc := "(I)I" } : Jvm.MethodName) ({ cls := "ToldTracksModel", name := "octet", desc := "(I)I" } : Jvm.MethodName)) ∈ lw_all := lw_g (lw_at lw_m12 3 rfl) rfl
theorem q2812 : (Jvm.Cond.code ({ cls := "ToldTracksModel", name := "octet", desc := "(I)I" } : Jvm.MethodName) prog_29_method_135_code (2 : Nat) (Option.some Jvm.ClassFile.FieldType.int)) ∈ lw_all := lw_g (lw_at lw_m12 4 rfl) rfl
theorem q2814 : (Jvm.Cond.instanceMethod ({ cls := "ToldTracksModel", name := "on", desc := "()Z" } : Jvm.MethodName)) ∈ lw_all := lw_g (lw_at lw_m12 6 rfl) rfl
theorem q2815 : (Jvm.Cond.selects "ToldTracksModel" ({ cls := "ToldTracksModel", name := "on", desc := "()Z" } : Jvm.MethodName) ({ cls := "ToldTracksModel", name := "on", desc := "()Z" } : Jvm.MethodName)) ∈ lw_all := lw_g (lw_at lw_m12 7 rfl) rfl
theorem q2816 : (Jvm.Cond.code ({ cls := "ToldTracksModel", name := "on", desc := "()Z" } : Jvm.MethodName) prog_29_method_137_code (4 : Nat) (Option.some Jvm.ClassFile.FieldType.boolean)) ∈ lw_all := lw_g (lw_at lw_m12 8 rfl) rfl
theorem q2817 : (Jvm.Cond.methodLink "ToldTracksModel" (644 : Nat) ({ cls := "ToldTracksModel", name := "isWhole", desc := "(I)Z" } : Jvm.MethodName)) ∈ lw_all := lw_g (lw_at lw_m12 9 rfl) rfl
theorem q2818 : (Jvm.Cond.privateMethod ({ cls := "ToldTracksModel", name := "isWhole", desc := "(I)Z" } : Jvm.MethodName)) ∈ lw_tbl := lw_at lw_m12 10 rfl
theorem q2819 : (Jvm.Cond.instanceMethod ({ cls := "ToldTracksModel", name := "isWhole", desc := "(I)Z" } : Jvm.MethodName)) ∈ lw_all := lw_g (lw_at lw_m12 11 rfl) rfl
theorem q2820 : (Jvm.Cond.code ({ cls := "ToldTracksModel", name := "isWhole", desc := "(I)Z" } : Jvm.MethodName) prog_29_method_136_code (7 : Nat) (Option.some Jvm.ClassFile.FieldType.boolean)) ∈ lw_all := lw_g (lw_at lw_m12 12 rfl) rfl
theorem q2841 : (Jvm.Cond.castable "ToldTracksModel" "java/lang/Object") ∈ lw_tbl := lw_at lw_m12 33 rfl
theorem in_X6 : ∀ w ∈ wsX60, w ∈ lw_all := lw_in wsX60 [2086, 2088, 2090, 2092, 2094, 2096, 2098, 2100, 2102, 2104, 2106, 2108, 2110, 2112, 2114, 2116, 2118, 2120, 2122, 2124, 2126, 2128, 2130, 2132, 2134, 2136, 2138, 2140, 2142, 2144, 2146, 2148, 2150, 2152, 2154, 2156, 2158, 2160, 2162, 2164, 2166, 2168, 2170, 2172, 2174, 2176, 2178, 2180, 2182, 2184, 2186, 2188, 2190, 2192, 2194, 2196, 2198, 2200, 2202, 2204, 2206, 2208, 2210, 2212, 2214, 2216, 2218, 2220, 2222, 2224, 2226, 2228, 2230, 2232, 2234, 2236, 2238, 2240, 2242, 2244, 2246, 2248, 2250] (by decide +kernel) (by decide +kernel)
