set_option maxRecDepth 100000
abbrev cX0_off : ByteArray := prog_1_method_72_code
def yX0_off : MethodName := ⟨RX0, "off", "(I)I"⟩
def dkwX0_off_2 : List UInt8 := [153, 0, 5, 28, 172, 132, 2, 1, 167, 255, 215, 16, 100, 172]
abbrev dktX0_off_2 : List UInt8 := dkwX0_off_2 ++ []
def dkwX0_off_1 : List UInt8 := [182, 1, 31, 28, 116, 182, 1, 175, 153, 0, 6, 28, 116, 172, 42, 42, 27, 182, 1, 31, 28, 182, 1, 175]
abbrev dktX0_off_1 : List UInt8 := dkwX0_off_1 ++ dktX0_off_2
def dkwX0_off_0 : List UInt8 := [42, 27, 182, 1, 22, 154, 0, 6, 16, 100, 172, 3, 61, 28, 16, 6, 163, 0, 41, 42, 42, 27]
abbrev dktX0_off_0 : List UInt8 := dkwX0_off_0 ++ dktX0_off_1
theorem dksX0_off_0 : cX0_off.data.toList.drop 0 = dktX0_off_0 := by decide +kernel
theorem dksX0_off_1 : cX0_off.data.toList.drop 22 = dktX0_off_1 := dk_seg dksX0_off_0 22 rfl rfl
theorem dksX0_off_2 : cX0_off.data.toList.drop 46 = dktX0_off_2 := dk_seg dksX0_off_1 24 rfl rfl
theorem dX0_off_0 : decode cX0_off 0 = .ok (.aload_n 0, 1) := dk_42 (dk_at dksX0_off_0 0 rfl rfl)
theorem dX0_off_1 : decode cX0_off 1 = .ok (.iload_n 1, 1) := dk_27 (dk_at dksX0_off_0 1 rfl rfl)
theorem dX0_off_2 : decode cX0_off 2 = .ok (.invokevirtual 278, 3) := dk_182 1 22 (dk_at dksX0_off_0 2 rfl rfl)
theorem dX0_off_5 : decode cX0_off 5 = .ok (.ifCond .ne 6, 3) := dk_154 0 6 (dk_at dksX0_off_0 5 rfl rfl)
theorem dX0_off_8 : decode cX0_off 8 = .ok (.bipush 100, 2) := dk_16 100 (dk_at dksX0_off_0 8 rfl rfl)
theorem dX0_off_10 : decode cX0_off 10 = .ok (.ireturn, 1) := dk_172 (dk_at dksX0_off_0 10 rfl rfl)
theorem dX0_off_11 : decode cX0_off 11 = .ok (.iconst 0, 1) := dk_3 (dk_at dksX0_off_0 11 rfl rfl)
theorem dX0_off_12 : decode cX0_off 12 = .ok (.istore_n 2, 1) := dk_61 (dk_at dksX0_off_0 12 rfl rfl)
theorem dX0_off_13 : decode cX0_off 13 = .ok (.iload_n 2, 1) := dk_28 (dk_at dksX0_off_0 13 rfl rfl)
theorem dX0_off_14 : decode cX0_off 14 = .ok (.bipush 6, 2) := dk_16 6 (dk_at dksX0_off_0 14 rfl rfl)
theorem dX0_off_16 : decode cX0_off 16 = .ok (.if_icmp .gt 41, 3) := dk_163 0 41 (dk_at dksX0_off_0 16 rfl rfl)
theorem dX0_off_19 : decode cX0_off 19 = .ok (.aload_n 0, 1) := dk_42 (dk_at dksX0_off_0 19 rfl rfl)
theorem dX0_off_20 : decode cX0_off 20 = .ok (.aload_n 0, 1) := dk_42 (dk_at dksX0_off_0 20 rfl rfl)
theorem dX0_off_21 : decode cX0_off 21 = .ok (.iload_n 1, 1) := dk_27 (dk_at dksX0_off_0 21 rfl rfl)
theorem dX0_off_22 : decode cX0_off 22 = .ok (.invokevirtual 287, 3) := dk_182 1 31 (dk_at dksX0_off_1 0 rfl rfl)
theorem dX0_off_25 : decode cX0_off 25 = .ok (.iload_n 2, 1) := dk_28 (dk_at dksX0_off_1 3 rfl rfl)
theorem dX0_off_26 : decode cX0_off 26 = .ok (.ineg, 1) := dk_116 (dk_at dksX0_off_1 4 rfl rfl)
theorem dX0_off_27 : decode cX0_off 27 = .ok (.invokevirtual 431, 3) := dk_182 1 175 (dk_at dksX0_off_1 5 rfl rfl)
theorem dX0_off_30 : decode cX0_off 30 = .ok (.ifCond .eq 6, 3) := dk_153 0 6 (dk_at dksX0_off_1 8 rfl rfl)
theorem dX0_off_33 : decode cX0_off 33 = .ok (.iload_n 2, 1) := dk_28 (dk_at dksX0_off_1 11 rfl rfl)
theorem dX0_off_34 : decode cX0_off 34 = .ok (.ineg, 1) := dk_116 (dk_at dksX0_off_1 12 rfl rfl)
theorem dX0_off_35 : decode cX0_off 35 = .ok (.ireturn, 1) := dk_172 (dk_at dksX0_off_1 13 rfl rfl)
theorem dX0_off_36 : decode cX0_off 36 = .ok (.aload_n 0, 1) := dk_42 (dk_at dksX0_off_1 14 rfl rfl)
theorem dX0_off_37 : decode cX0_off 37 = .ok (.aload_n 0, 1) := dk_42 (dk_at dksX0_off_1 15 rfl rfl)
theorem dX0_off_38 : decode cX0_off 38 = .ok (.iload_n 1, 1) := dk_27 (dk_at dksX0_off_1 16 rfl rfl)
theorem dX0_off_39 : decode cX0_off 39 = .ok (.invokevirtual 287, 3) := dk_182 1 31 (dk_at dksX0_off_1 17 rfl rfl)
theorem dX0_off_42 : decode cX0_off 42 = .ok (.iload_n 2, 1) := dk_28 (dk_at dksX0_off_1 20 rfl rfl)
theorem dX0_off_43 : decode cX0_off 43 = .ok (.invokevirtual 431, 3) := dk_182 1 175 (dk_at dksX0_off_1 21 rfl rfl)
theorem dX0_off_46 : decode cX0_off 46 = .ok (.ifCond .eq 5, 3) := dk_153 0 5 (dk_at dksX0_off_2 0 rfl rfl)
theorem dX0_off_49 : decode cX0_off 49 = .ok (.iload_n 2, 1) := dk_28 (dk_at dksX0_off_2 3 rfl rfl)
theorem dX0_off_50 : decode cX0_off 50 = .ok (.ireturn, 1) := dk_172 (dk_at dksX0_off_2 4 rfl rfl)
theorem dX0_off_51 : decode cX0_off 51 = .ok (.iinc 2 1, 3) := dk_132 2 1 (dk_at dksX0_off_2 5 rfl rfl)
theorem dX0_off_54 : decode cX0_off 54 = .ok (.goto (-41), 3) := dk_167 255 215 (dk_at dksX0_off_2 8 rfl rfl)
theorem dX0_off_57 : decode cX0_off 57 = .ok (.bipush 100, 2) := dk_16 100 (dk_at dksX0_off_2 11 rfl rfl)
theorem dX0_off_59 : decode cX0_off 59 = .ok (.ireturn, 1) := dk_172 (dk_at dksX0_off_2 13 rfl rfl)
abbrev cX0_isOff : ByteArray := prog_1_method_71_code
def yX0_isOff : MethodName := ⟨RX0, "isOff", "(LToldTracks$Voyage;I)Z"⟩
def dkwX0_isOff_3 : List UInt8 := [43, 180, 1, 44, 182, 0, 100, 28, 43, 180, 1, 122, 182, 1, 85, 153, 0, 7, 4, 167, 0, 4, 3, 172]
abbrev dktX0_isOff_3 : List UInt8 := dkwX0_isOff_3 ++ []
def dkwX0_isOff_2 : List UInt8 := [167, 0, 4, 3, 62, 132, 4, 1, 167, 255, 208, 29, 153, 0, 34, 42, 43, 180, 1, 35, 43, 180, 1, 44]
abbrev dktX0_isOff_2 : List UInt8 := dkwX0_isOff_2 ++ dktX0_isOff_3
def dkwX0_isOff_1 : List UInt8 := [180, 1, 44, 21, 4, 182, 0, 104, 192, 1, 62, 180, 1, 64, 28, 96, 184, 1, 77, 153, 0, 7, 4]
abbrev dktX0_isOff_1 : List UInt8 := dkwX0_isOff_1 ++ dktX0_isOff_2
def dkwX0_isOff_0 : List UInt8 := [3, 62, 3, 54, 4, 21, 4, 43, 180, 1, 44, 182, 0, 100, 162, 0, 42, 29, 154, 0, 26, 43]
abbrev dktX0_isOff_0 : List UInt8 := dkwX0_isOff_0 ++ dktX0_isOff_1
theorem dksX0_isOff_0 : cX0_isOff.data.toList.drop 0 = dktX0_isOff_0 := by decide +kernel
theorem dksX0_isOff_1 : cX0_isOff.data.toList.drop 22 = dktX0_isOff_1 := dk_seg dksX0_isOff_0 22 rfl rfl
theorem dksX0_isOff_2 : cX0_isOff.data.toList.drop 45 = dktX0_isOff_2 := dk_seg dksX0_isOff_1 23 rfl rfl
theorem dksX0_isOff_3 : cX0_isOff.data.toList.drop 69 = dktX0_isOff_3 := dk_seg dksX0_isOff_2 24 rfl rfl
theorem dX0_isOff_0 : decode cX0_isOff 0 = .ok (.iconst 0, 1) := dk_3 (dk_at dksX0_isOff_0 0 rfl rfl)
theorem dX0_isOff_1 : decode cX0_isOff 1 = .ok (.istore_n 3, 1) := dk_62 (dk_at dksX0_isOff_0 1 rfl rfl)
theorem dX0_isOff_2 : decode cX0_isOff 2 = .ok (.iconst 0, 1) := dk_3 (dk_at dksX0_isOff_0 2 rfl rfl)
theorem dX0_isOff_3 : decode cX0_isOff 3 = .ok (.istore 4, 2) := dk_54 4 (dk_at dksX0_isOff_0 3 rfl rfl)
theorem dX0_isOff_5 : decode cX0_isOff 5 = .ok (.iload 4, 2) := dk_21 4 (dk_at dksX0_isOff_0 5 rfl rfl)
theorem dX0_isOff_7 : decode cX0_isOff 7 = .ok (.aload_n 1, 1) := dk_43 (dk_at dksX0_isOff_0 7 rfl rfl)
theorem dX0_isOff_8 : decode cX0_isOff 8 = .ok (.getfield 300, 3) := dk_180 1 44 (dk_at dksX0_isOff_0 8 rfl rfl)
theorem dX0_isOff_11 : decode cX0_isOff 11 = .ok (.invokevirtual 100, 3) := dk_182 0 100 (dk_at dksX0_isOff_0 11 rfl rfl)
theorem dX0_isOff_14 : decode cX0_isOff 14 = .ok (.if_icmp .ge 42, 3) := dk_162 0 42 (dk_at dksX0_isOff_0 14 rfl rfl)
theorem dX0_isOff_17 : decode cX0_isOff 17 = .ok (.iload_n 3, 1) := dk_29 (dk_at dksX0_isOff_0 17 rfl rfl)
theorem dX0_isOff_18 : decode cX0_isOff 18 = .ok (.ifCond .ne 26, 3) := dk_154 0 26 (dk_at dksX0_isOff_0 18 rfl rfl)
theorem dX0_isOff_21 : decode cX0_isOff 21 = .ok (.aload_n 1, 1) := dk_43 (dk_at dksX0_isOff_0 21 rfl rfl)
theorem dX0_isOff_22 : decode cX0_isOff 22 = .ok (.getfield 300, 3) := dk_180 1 44 (dk_at dksX0_isOff_1 0 rfl rfl)
theorem dX0_isOff_25 : decode cX0_isOff 25 = .ok (.iload 4, 2) := dk_21 4 (dk_at dksX0_isOff_1 3 rfl rfl)
theorem dX0_isOff_27 : decode cX0_isOff 27 = .ok (.invokevirtual 104, 3) := dk_182 0 104 (dk_at dksX0_isOff_1 5 rfl rfl)
theorem dX0_isOff_30 : decode cX0_isOff 30 = .ok (.checkcast 318, 3) := dk_192 1 62 (dk_at dksX0_isOff_1 8 rfl rfl)
theorem dX0_isOff_33 : decode cX0_isOff 33 = .ok (.getfield 320, 3) := dk_180 1 64 (dk_at dksX0_isOff_1 11 rfl rfl)
theorem dX0_isOff_36 : decode cX0_isOff 36 = .ok (.iload_n 2, 1) := dk_28 (dk_at dksX0_isOff_1 14 rfl rfl)
theorem dX0_isOff_37 : decode cX0_isOff 37 = .ok (.iadd, 1) := dk_96 (dk_at dksX0_isOff_1 15 rfl rfl)
theorem dX0_isOff_38 : decode cX0_isOff 38 = .ok (.invokestatic 333, 3) := dk_184 1 77 (dk_at dksX0_isOff_1 16 rfl rfl)
theorem dX0_isOff_41 : decode cX0_isOff 41 = .ok (.ifCond .eq 7, 3) := dk_153 0 7 (dk_at dksX0_isOff_1 19 rfl rfl)
theorem dX0_isOff_44 : decode cX0_isOff 44 = .ok (.iconst 1, 1) := dk_4 (dk_at dksX0_isOff_1 22 rfl rfl)
theorem dX0_isOff_45 : decode cX0_isOff 45 = .ok (.goto 4, 3) := dk_167 0 4 (dk_at dksX0_isOff_2 0 rfl rfl)
theorem dX0_isOff_48 : decode cX0_isOff 48 = .ok (.iconst 0, 1) := dk_3 (dk_at dksX0_isOff_2 3 rfl rfl)
theorem dX0_isOff_49 : decode cX0_isOff 49 = .ok (.istore_n 3, 1) := dk_62 (dk_at dksX0_isOff_2 4 rfl rfl)
theorem dX0_isOff_50 : decode cX0_isOff 50 = .ok (.iinc 4 1, 3) := dk_132 4 1 (dk_at dksX0_isOff_2 5 rfl rfl)
theorem dX0_isOff_53 : decode cX0_isOff 53 = .ok (.goto (-48), 3) := dk_167 255 208 (dk_at dksX0_isOff_2 8 rfl rfl)
theorem dX0_isOff_56 : decode cX0_isOff 56 = .ok (.iload_n 3, 1) := dk_29 (dk_at dksX0_isOff_2 11 rfl rfl)
theorem dX0_isOff_57 : decode cX0_isOff 57 = .ok (.ifCond .eq 34, 3) := dk_153 0 34 (dk_at dksX0_isOff_2 12 rfl rfl)
theorem dX0_isOff_60 : decode cX0_isOff 60 = .ok (.aload_n 0, 1) := dk_42 (dk_at dksX0_isOff_2 15 rfl rfl)
theorem dX0_isOff_61 : decode cX0_isOff 61 = .ok (.aload_n 1, 1) := dk_43 (dk_at dksX0_isOff_2 16 rfl rfl)
theorem dX0_isOff_62 : decode cX0_isOff 62 = .ok (.getfield 291, 3) := dk_180 1 35 (dk_at dksX0_isOff_2 17 rfl rfl)
theorem dX0_isOff_65 : decode cX0_isOff 65 = .ok (.aload_n 1, 1) := dk_43 (dk_at dksX0_isOff_2 20 rfl rfl)
theorem dX0_isOff_66 : decode cX0_isOff 66 = .ok (.getfield 300, 3) := dk_180 1 44 (dk_at dksX0_isOff_2 21 rfl rfl)
theorem dX0_isOff_69 : decode cX0_isOff 69 = .ok (.aload_n 1, 1) := dk_43 (dk_at dksX0_isOff_3 0 rfl rfl)
theorem dX0_isOff_70 : decode cX0_isOff 70 = .ok (.getfield 300, 3) := dk_180 1 44 (dk_at dksX0_isOff_3 1 rfl rfl)
theorem dX0_isOff_73 : decode cX0_isOff 73 = .ok (.invokevirtual 100, 3) := dk_182 0 100 (dk_at dksX0_isOff_3 4 rfl rfl)
theorem dX0_isOff_76 : decode cX0_isOff 76 = .ok (.iload_n 2, 1) := dk_28 (dk_at dksX0_isOff_3 7 rfl rfl)
theorem dX0_isOff_77 : decode cX0_isOff 77 = .ok (.aload_n 1, 1) := dk_43 (dk_at dksX0_isOff_3 8 rfl rfl)
theorem dX0_isOff_78 : decode cX0_isOff 78 = .ok (.getfield 378, 3) := dk_180 1 122 (dk_at dksX0_isOff_3 9 rfl rfl)
theorem dX0_isOff_81 : decode cX0_isOff 81 = .ok (.invokevirtual 341, 3) := dk_182 1 85 (dk_at dksX0_isOff_3 12 rfl rfl)
theorem dX0_isOff_84 : decode cX0_isOff 84 = .ok (.ifCond .eq 7, 3) := dk_153 0 7 (dk_at dksX0_isOff_3 15 rfl rfl)
theorem dX0_isOff_87 : decode cX0_isOff 87 = .ok (.iconst 1, 1) := dk_4 (dk_at dksX0_isOff_3 18 rfl rfl)
theorem dX0_isOff_88 : decode cX0_isOff 88 = .ok (.goto 4, 3) := dk_167 0 4 (dk_at dksX0_isOff_3 19 rfl rfl)
theorem dX0_isOff_91 : decode cX0_isOff 91 = .ok (.iconst 0, 1) := dk_3 (dk_at dksX0_isOff_3 22 rfl rfl)
theorem dX0_isOff_92 : decode cX0_isOff 92 = .ok (.ireturn, 1) := dk_172 (dk_at dksX0_isOff_3 23 rfl rfl)
abbrev cX0_whose : ByteArray := prog_1_method_73_code
def yX0_whose : MethodName := ⟨RX0, "whose", "()I"⟩
def dkwX0_whose_2 : List UInt8 := [27, 4, 28, 120, 128, 60, 132, 2, 1, 167, 255, 204, 27, 172]
abbrev dktX0_whose_2 : List UInt8 := dkwX0_whose_2 ++ []
def dkwX0_whose_1 : List UInt8 := [182, 1, 48, 158, 0, 27, 42, 28, 182, 1, 179, 153, 0, 19, 42, 28, 182, 1, 179, 16, 100, 159, 0, 9]
abbrev dktX0_whose_1 : List UInt8 := dkwX0_whose_1 ++ dktX0_whose_2
def dkwX0_whose_0 : List UInt8 := [3, 60, 3, 61, 28, 42, 180, 0, 20, 180, 0, 163, 182, 0, 100, 162, 0, 44, 42, 28, 182, 1, 31]
abbrev dktX0_whose_0 : List UInt8 := dkwX0_whose_0 ++ dktX0_whose_1
theorem dksX0_whose_0 : cX0_whose.data.toList.drop 0 = dktX0_whose_0 := by decide +kernel
theorem dksX0_whose_1 : cX0_whose.data.toList.drop 23 = dktX0_whose_1 := dk_seg dksX0_whose_0 23 rfl rfl
theorem dksX0_whose_2 : cX0_whose.data.toList.drop 47 = dktX0_whose_2 := dk_seg dksX0_whose_1 24 rfl rfl
theorem dX0_whose_0 : decode cX0_whose 0 = .ok (.iconst 0, 1) := dk_3 (dk_at dksX0_whose_0 0 rfl rfl)
theorem dX0_whose_1 : decode cX0_whose 1 = .ok (.istore_n 1, 1) := dk_60 (dk_at dksX0_whose_0 1 rfl rfl)
theorem dX0_whose_2 : decode cX0_whose 2 = .ok (.iconst 0, 1) := dk_3 (dk_at dksX0_whose_0 2 rfl rfl)
theorem dX0_whose_3 : decode cX0_whose 3 = .ok (.istore_n 2, 1) := dk_61 (dk_at dksX0_whose_0 3 rfl rfl)
theorem dX0_whose_4 : decode cX0_whose 4 = .ok (.iload_n 2, 1) := dk_28 (dk_at dksX0_whose_0 4 rfl rfl)
theorem dX0_whose_5 : decode cX0_whose 5 = .ok (.aload_n 0, 1) := dk_42 (dk_at dksX0_whose_0 5 rfl rfl)
theorem dX0_whose_6 : decode cX0_whose 6 = .ok (.getfield 20, 3) := dk_180 0 20 (dk_at dksX0_whose_0 6 rfl rfl)
theorem dX0_whose_9 : decode cX0_whose 9 = .ok (.getfield 163, 3) := dk_180 0 163 (dk_at dksX0_whose_0 9 rfl rfl)
theorem dX0_whose_12 : decode cX0_whose 12 = .ok (.invokevirtual 100, 3) := dk_182 0 100 (dk_at dksX0_whose_0 12 rfl rfl)
theorem dX0_whose_15 : decode cX0_whose 15 = .ok (.if_icmp .ge 44, 3) := dk_162 0 44 (dk_at dksX0_whose_0 15 rfl rfl)
theorem dX0_whose_18 : decode cX0_whose 18 = .ok (.aload_n 0, 1) := dk_42 (dk_at dksX0_whose_0 18 rfl rfl)
theorem dX0_whose_19 : decode cX0_whose 19 = .ok (.iload_n 2, 1) := dk_28 (dk_at dksX0_whose_0 19 rfl rfl)
theorem dX0_whose_20 : decode cX0_whose 20 = .ok (.invokevirtual 287, 3) := dk_182 1 31 (dk_at dksX0_whose_0 20 rfl rfl)
theorem dX0_whose_23 : decode cX0_whose 23 = .ok (.invokevirtual 304, 3) := dk_182 1 48 (dk_at dksX0_whose_1 0 rfl rfl)
theorem dX0_whose_26 : decode cX0_whose 26 = .ok (.ifCond .le 27, 3) := dk_158 0 27 (dk_at dksX0_whose_1 3 rfl rfl)
theorem dX0_whose_29 : decode cX0_whose 29 = .ok (.aload_n 0, 1) := dk_42 (dk_at dksX0_whose_1 6 rfl rfl)
theorem dX0_whose_30 : decode cX0_whose 30 = .ok (.iload_n 2, 1) := dk_28 (dk_at dksX0_whose_1 7 rfl rfl)
theorem dX0_whose_31 : decode cX0_whose 31 = .ok (.invokevirtual 435, 3) := dk_182 1 179 (dk_at dksX0_whose_1 8 rfl rfl)
theorem dX0_whose_34 : decode cX0_whose 34 = .ok (.ifCond .eq 19, 3) := dk_153 0 19 (dk_at dksX0_whose_1 11 rfl rfl)
theorem dX0_whose_37 : decode cX0_whose 37 = .ok (.aload_n 0, 1) := dk_42 (dk_at dksX0_whose_1 14 rfl rfl)
theorem dX0_whose_38 : decode cX0_whose 38 = .ok (.iload_n 2, 1) := dk_28 (dk_at dksX0_whose_1 15 rfl rfl)
theorem dX0_whose_39 : decode cX0_whose 39 = .ok (.invokevirtual 435, 3) := dk_182 1 179 (dk_at dksX0_whose_1 16 rfl rfl)
theorem dX0_whose_42 : decode cX0_whose 42 = .ok (.bipush 100, 2) := dk_16 100 (dk_at dksX0_whose_1 19 rfl rfl)
theorem dX0_whose_44 : decode cX0_whose 44 = .ok (.if_icmp .eq 9, 3) := dk_159 0 9 (dk_at dksX0_whose_1 21 rfl rfl)
theorem dX0_whose_47 : decode cX0_whose 47 = .ok (.iload_n 1, 1) := dk_27 (dk_at dksX0_whose_2 0 rfl rfl)
theorem dX0_whose_48 : decode cX0_whose 48 = .ok (.iconst 1, 1) := dk_4 (dk_at dksX0_whose_2 1 rfl rfl)
theorem dX0_whose_49 : decode cX0_whose 49 = .ok (.iload_n 2, 1) := dk_28 (dk_at dksX0_whose_2 2 rfl rfl)
theorem dX0_whose_50 : decode cX0_whose 50 = .ok (.ishl, 1) := dk_120 (dk_at dksX0_whose_2 3 rfl rfl)
theorem dX0_whose_51 : decode cX0_whose 51 = .ok (.ior, 1) := dk_128 (dk_at dksX0_whose_2 4 rfl rfl)
theorem dX0_whose_52 : decode cX0_whose 52 = .ok (.istore_n 1, 1) := dk_60 (dk_at dksX0_whose_2 5 rfl rfl)
theorem dX0_whose_53 : decode cX0_whose 53 = .ok (.iinc 2 1, 3) := dk_132 2 1 (dk_at dksX0_whose_2 6 rfl rfl)
theorem dX0_whose_56 : decode cX0_whose 56 = .ok (.goto (-52), 3) := dk_167 255 204 (dk_at dksX0_whose_2 9 rfl rfl)
theorem dX0_whose_59 : decode cX0_whose 59 = .ok (.iload_n 1, 1) := dk_27 (dk_at dksX0_whose_2 12 rfl rfl)
theorem dX0_whose_60 : decode cX0_whose 60 = .ok (.ireturn, 1) := dk_172 (dk_at dksX0_whose_2 13 rfl rfl)
abbrev cX0_add : ByteArray := prog_1_method_74_code
def yX0_add : MethodName := ⟨RX0, "add", "(IIIIZ)I"⟩
def dkwX0_add_3 : List UInt8 := [180, 0, 28, 27, 187, 1, 62, 89, 21, 6, 28, 21, 5, 183, 1, 188, 182, 1, 191, 172]
abbrev dktX0_add_3 : List UInt8 := dkwX0_add_3 ++ []
def dkwX0_add_2 : List UInt8 := [180, 0, 28, 182, 1, 5, 16, 96, 160, 0, 9, 42, 5, 182, 0, 79, 172, 42, 182, 1, 185, 42]
abbrev dktX0_add_2 : List UInt8 := dkwX0_add_2 ++ dktX0_add_3
def dkwX0_add_1 : List UInt8 := [153, 0, 33, 21, 6, 2, 159, 0, 27, 42, 180, 0, 28, 27, 28, 182, 1, 182, 154, 0, 15, 42]
abbrev dktX0_add_1 : List UInt8 := dkwX0_add_1 ++ dktX0_add_2
def dkwX0_add_0 : List UInt8 := [42, 180, 0, 20, 29, 21, 4, 182, 1, 74, 54, 6, 42, 27, 182, 1, 22, 153, 0, 40, 28, 184, 1, 77]
abbrev dktX0_add_0 : List UInt8 := dkwX0_add_0 ++ dktX0_add_1
theorem dksX0_add_0 : cX0_add.data.toList.drop 0 = dktX0_add_0 := by decide +kernel
theorem dksX0_add_1 : cX0_add.data.toList.drop 24 = dktX0_add_1 := dk_seg dksX0_add_0 24 rfl rfl
theorem dksX0_add_2 : cX0_add.data.toList.drop 46 = dktX0_add_2 := dk_seg dksX0_add_1 22 rfl rfl
theorem dksX0_add_3 : cX0_add.data.toList.drop 68 = dktX0_add_3 := dk_seg dksX0_add_2 22 rfl rfl
theorem dX0_add_0 : decode cX0_add 0 = .ok (.aload_n 0, 1) := dk_42 (dk_at dksX0_add_0 0 rfl rfl)
theorem dX0_add_1 : decode cX0_add 1 = .ok (.getfield 20, 3) := dk_180 0 20 (dk_at dksX0_add_0 1 rfl rfl)
theorem dX0_add_4 : decode cX0_add 4 = .ok (.iload_n 3, 1) := dk_29 (dk_at dksX0_add_0 4 rfl rfl)
theorem dX0_add_5 : decode cX0_add 5 = .ok (.iload 4, 2) := dk_21 4 (dk_at dksX0_add_0 5 rfl rfl)
theorem dX0_add_7 : decode cX0_add 7 = .ok (.invokevirtual 330, 3) := dk_182 1 74 (dk_at dksX0_add_0 7 rfl rfl)
theorem dX0_add_10 : decode cX0_add 10 = .ok (.istore 6, 2) := dk_54 6 (dk_at dksX0_add_0 10 rfl rfl)
theorem dX0_add_12 : decode cX0_add 12 = .ok (.aload_n 0, 1) := dk_42 (dk_at dksX0_add_0 12 rfl rfl)
theorem dX0_add_13 : decode cX0_add 13 = .ok (.iload_n 1, 1) := dk_27 (dk_at dksX0_add_0 13 rfl rfl)
theorem dX0_add_14 : decode cX0_add 14 = .ok (.invokevirtual 278, 3) := dk_182 1 22 (dk_at dksX0_add_0 14 rfl rfl)
theorem dX0_add_17 : decode cX0_add 17 = .ok (.ifCond .eq 40, 3) := dk_153 0 40 (dk_at dksX0_add_0 17 rfl rfl)
theorem dX0_add_20 : decode cX0_add 20 = .ok (.iload_n 2, 1) := dk_28 (dk_at dksX0_add_0 20 rfl rfl)
theorem dX0_add_21 : decode cX0_add 21 = .ok (.invokestatic 333, 3) := dk_184 1 77 (dk_at dksX0_add_0 21 rfl rfl)
theorem dX0_add_24 : decode cX0_add 24 = .ok (.ifCond .eq 33, 3) := dk_153 0 33 (dk_at dksX0_add_1 0 rfl rfl)
theorem dX0_add_27 : decode cX0_add 27 = .ok (.iload 6, 2) := dk_21 6 (dk_at dksX0_add_1 3 rfl rfl)
theorem dX0_add_29 : decode cX0_add 29 = .ok (.iconst (-1), 1) := dk_2 (dk_at dksX0_add_1 5 rfl rfl)
theorem dX0_add_30 : decode cX0_add 30 = .ok (.if_icmp .eq 27, 3) := dk_159 0 27 (dk_at dksX0_add_1 6 rfl rfl)
theorem dX0_add_33 : decode cX0_add 33 = .ok (.aload_n 0, 1) := dk_42 (dk_at dksX0_add_1 9 rfl rfl)
theorem dX0_add_34 : decode cX0_add 34 = .ok (.getfield 28, 3) := dk_180 0 28 (dk_at dksX0_add_1 10 rfl rfl)
theorem dX0_add_37 : decode cX0_add 37 = .ok (.iload_n 1, 1) := dk_27 (dk_at dksX0_add_1 13 rfl rfl)
theorem dX0_add_38 : decode cX0_add 38 = .ok (.iload_n 2, 1) := dk_28 (dk_at dksX0_add_1 14 rfl rfl)
theorem dX0_add_39 : decode cX0_add 39 = .ok (.invokevirtual 438, 3) := dk_182 1 182 (dk_at dksX0_add_1 15 rfl rfl)
theorem dX0_add_42 : decode cX0_add 42 = .ok (.ifCond .ne 15, 3) := dk_154 0 15 (dk_at dksX0_add_1 18 rfl rfl)
theorem dX0_add_45 : decode cX0_add 45 = .ok (.aload_n 0, 1) := dk_42 (dk_at dksX0_add_1 21 rfl rfl)
theorem dX0_add_46 : decode cX0_add 46 = .ok (.getfield 28, 3) := dk_180 0 28 (dk_at dksX0_add_2 0 rfl rfl)
theorem dX0_add_49 : decode cX0_add 49 = .ok (.invokevirtual 261, 3) := dk_182 1 5 (dk_at dksX0_add_2 3 rfl rfl)
theorem dX0_add_52 : decode cX0_add 52 = .ok (.bipush 96, 2) := dk_16 96 (dk_at dksX0_add_2 6 rfl rfl)
theorem dX0_add_54 : decode cX0_add 54 = .ok (.if_icmp .ne 9, 3) := dk_160 0 9 (dk_at dksX0_add_2 8 rfl rfl)
theorem dX0_add_57 : decode cX0_add 57 = .ok (.aload_n 0, 1) := dk_42 (dk_at dksX0_add_2 11 rfl rfl)
theorem dX0_add_58 : decode cX0_add 58 = .ok (.iconst 2, 1) := dk_5 (dk_at dksX0_add_2 12 rfl rfl)
theorem dX0_add_59 : decode cX0_add 59 = .ok (.invokevirtual 79, 3) := dk_182 0 79 (dk_at dksX0_add_2 13 rfl rfl)
theorem dX0_add_62 : decode cX0_add 62 = .ok (.ireturn, 1) := dk_172 (dk_at dksX0_add_2 16 rfl rfl)
theorem dX0_add_63 : decode cX0_add 63 = .ok (.aload_n 0, 1) := dk_42 (dk_at dksX0_add_2 17 rfl rfl)
theorem dX0_add_64 : decode cX0_add 64 = .ok (.invokevirtual 441, 3) := dk_182 1 185 (dk_at dksX0_add_2 18 rfl rfl)
theorem dX0_add_67 : decode cX0_add 67 = .ok (.aload_n 0, 1) := dk_42 (dk_at dksX0_add_2 21 rfl rfl)
theorem dX0_add_68 : decode cX0_add 68 = .ok (.getfield 28, 3) := dk_180 0 28 (dk_at dksX0_add_3 0 rfl rfl)
theorem dX0_add_71 : decode cX0_add 71 = .ok (.iload_n 1, 1) := dk_27 (dk_at dksX0_add_3 3 rfl rfl)
theorem dX0_add_72 : decode cX0_add 72 = .ok (.new 318, 3) := dk_187 1 62 (dk_at dksX0_add_3 4 rfl rfl)
theorem dX0_add_75 : decode cX0_add 75 = .ok (.dup, 1) := dk_89 (dk_at dksX0_add_3 7 rfl rfl)
theorem dX0_add_76 : decode cX0_add 76 = .ok (.iload 6, 2) := dk_21 6 (dk_at dksX0_add_3 8 rfl rfl)
theorem dX0_add_78 : decode cX0_add 78 = .ok (.iload_n 2, 1) := dk_28 (dk_at dksX0_add_3 10 rfl rfl)
theorem dX0_add_79 : decode cX0_add 79 = .ok (.iload 5, 2) := dk_21 5 (dk_at dksX0_add_3 11 rfl rfl)
theorem dX0_add_81 : decode cX0_add 81 = .ok (.invokespecial 444, 3) := dk_183 1 188 (dk_at dksX0_add_3 13 rfl rfl)
theorem dX0_add_84 : decode cX0_add 84 = .ok (.invokevirtual 447, 3) := dk_182 1 191 (dk_at dksX0_add_3 16 rfl rfl)
theorem dX0_add_87 : decode cX0_add 87 = .ok (.ireturn, 1) := dk_172 (dk_at dksX0_add_3 19 rfl rfl)
abbrev cX0_changed : ByteArray := prog_1_method_24_code
def yX0_changed : MethodName := ⟨RX0, "changed", "()V"⟩
def dkwX0_changed_1 : List UInt8 := [132, 1, 1, 167, 255, 232, 177]
abbrev dktX0_changed_1 : List UInt8 := dkwX0_changed_1 ++ []
def dkwX0_changed_0 : List UInt8 := [3, 60, 27, 42, 180, 0, 45, 182, 0, 100, 162, 0, 19, 42, 180, 0, 45, 27, 1, 182, 0, 219, 87]
abbrev dktX0_changed_0 : List UInt8 := dkwX0_changed_0 ++ dktX0_changed_1
theorem dksX0_changed_0 : cX0_changed.data.toList.drop 0 = dktX0_changed_0 := by decide +kernel
theorem dksX0_changed_1 : cX0_changed.data.toList.drop 23 = dktX0_changed_1 := dk_seg dksX0_changed_0 23 rfl rfl
theorem dX0_changed_0 : decode cX0_changed 0 = .ok (.iconst 0, 1) := dk_3 (dk_at dksX0_changed_0 0 rfl rfl)
theorem dX0_changed_1 : decode cX0_changed 1 = .ok (.istore_n 1, 1) := dk_60 (dk_at dksX0_changed_0 1 rfl rfl)
theorem dX0_changed_2 : decode cX0_changed 2 = .ok (.iload_n 1, 1) := dk_27 (dk_at dksX0_changed_0 2 rfl rfl)
theorem dX0_changed_3 : decode cX0_changed 3 = .ok (.aload_n 0, 1) := dk_42 (dk_at dksX0_changed_0 3 rfl rfl)
theorem dX0_changed_4 : decode cX0_changed 4 = .ok (.getfield 45, 3) := dk_180 0 45 (dk_at dksX0_changed_0 4 rfl rfl)
theorem dX0_changed_7 : decode cX0_changed 7 = .ok (.invokevirtual 100, 3) := dk_182 0 100 (dk_at dksX0_changed_0 7 rfl rfl)
theorem dX0_changed_10 : decode cX0_changed 10 = .ok (.if_icmp .ge 19, 3) := dk_162 0 19 (dk_at dksX0_changed_0 10 rfl rfl)
theorem dX0_changed_13 : decode cX0_changed 13 = .ok (.aload_n 0, 1) := dk_42 (dk_at dksX0_changed_0 13 rfl rfl)
theorem dX0_changed_14 : decode cX0_changed 14 = .ok (.getfield 45, 3) := dk_180 0 45 (dk_at dksX0_changed_0 14 rfl rfl)
theorem dX0_changed_17 : decode cX0_changed 17 = .ok (.iload_n 1, 1) := dk_27 (dk_at dksX0_changed_0 17 rfl rfl)
theorem dX0_changed_18 : decode cX0_changed 18 = .ok (.aconst_null, 1) := dk_1 (dk_at dksX0_changed_0 18 rfl rfl)
theorem dX0_changed_19 : decode cX0_changed 19 = .ok (.invokevirtual 219, 3) := dk_182 0 219 (dk_at dksX0_changed_0 19 rfl rfl)
theorem dX0_changed_22 : decode cX0_changed 22 = .ok (.pop, 1) := dk_87 (dk_at dksX0_changed_0 22 rfl rfl)
theorem dX0_changed_23 : decode cX0_changed 23 = .ok (.iinc 1 1, 3) := dk_132 1 1 (dk_at dksX0_changed_1 0 rfl rfl)
theorem dX0_changed_26 : decode cX0_changed 26 = .ok (.goto (-24), 3) := dk_167 255 232 (dk_at dksX0_changed_1 3 rfl rfl)
theorem dX0_changed_29 : decode cX0_changed 29 = .ok (.return_, 1) := dk_177 (dk_at dksX0_changed_1 6 rfl rfl)
abbrev cX0_drop : ByteArray := prog_1_method_75_code
def yX0_drop : MethodName := ⟨RX0, "drop", "(II)I"⟩
def dkwX0_drop_2 : List UInt8 := [182, 0, 104, 192, 0, 42, 182, 0, 100, 172]
abbrev dktX0_drop_2 : List UInt8 := dkwX0_drop_2 ++ []
def dkwX0_drop_1 : List UInt8 := [180, 0, 249, 27, 182, 0, 104, 192, 0, 42, 28, 182, 1, 194, 87, 42, 180, 0, 28, 180, 0, 249, 27]
abbrev dktX0_drop_1 : List UInt8 := dkwX0_drop_1 ++ dktX0_drop_2
def dkwX0_drop_0 : List UInt8 := [42, 27, 28, 182, 1, 58, 154, 0, 9, 42, 5, 182, 0, 79, 172, 42, 182, 1, 185, 42, 180, 0, 28]
abbrev dktX0_drop_0 : List UInt8 := dkwX0_drop_0 ++ dktX0_drop_1
theorem dksX0_drop_0 : cX0_drop.data.toList.drop 0 = dktX0_drop_0 := by decide +kernel
theorem dksX0_drop_1 : cX0_drop.data.toList.drop 23 = dktX0_drop_1 := dk_seg dksX0_drop_0 23 rfl rfl
theorem dksX0_drop_2 : cX0_drop.data.toList.drop 46 = dktX0_drop_2 := dk_seg dksX0_drop_1 23 rfl rfl
theorem dX0_drop_0 : decode cX0_drop 0 = .ok (.aload_n 0, 1) := dk_42 (dk_at dksX0_drop_0 0 rfl rfl)
theorem dX0_drop_1 : decode cX0_drop 1 = .ok (.iload_n 1, 1) := dk_27 (dk_at dksX0_drop_0 1 rfl rfl)
theorem dX0_drop_2 : decode cX0_drop 2 = .ok (.iload_n 2, 1) := dk_28 (dk_at dksX0_drop_0 2 rfl rfl)
theorem dX0_drop_3 : decode cX0_drop 3 = .ok (.invokevirtual 314, 3) := dk_182 1 58 (dk_at dksX0_drop_0 3 rfl rfl)
theorem dX0_drop_6 : decode cX0_drop 6 = .ok (.ifCond .ne 9, 3) := dk_154 0 9 (dk_at dksX0_drop_0 6 rfl rfl)
theorem dX0_drop_9 : decode cX0_drop 9 = .ok (.aload_n 0, 1) := dk_42 (dk_at dksX0_drop_0 9 rfl rfl)
theorem dX0_drop_10 : decode cX0_drop 10 = .ok (.iconst 2, 1) := dk_5 (dk_at dksX0_drop_0 10 rfl rfl)
theorem dX0_drop_11 : decode cX0_drop 11 = .ok (.invokevirtual 79, 3) := dk_182 0 79 (dk_at dksX0_drop_0 11 rfl rfl)
theorem dX0_drop_14 : decode cX0_drop 14 = .ok (.ireturn, 1) := dk_172 (dk_at dksX0_drop_0 14 rfl rfl)
theorem dX0_drop_15 : decode cX0_drop 15 = .ok (.aload_n 0, 1) := dk_42 (dk_at dksX0_drop_0 15 rfl rfl)
theorem dX0_drop_16 : decode cX0_drop 16 = .ok (.invokevirtual 441, 3) := dk_182 1 185 (dk_at dksX0_drop_0 16 rfl rfl)
theorem dX0_drop_19 : decode cX0_drop 19 = .ok (.aload_n 0, 1) := dk_42 (dk_at dksX0_drop_0 19 rfl rfl)
theorem dX0_drop_20 : decode cX0_drop 20 = .ok (.getfield 28, 3) := dk_180 0 28 (dk_at dksX0_drop_0 20 rfl rfl)
theorem dX0_drop_23 : decode cX0_drop 23 = .ok (.getfield 249, 3) := dk_180 0 249 (dk_at dksX0_drop_1 0 rfl rfl)
theorem dX0_drop_26 : decode cX0_drop 26 = .ok (.iload_n 1, 1) := dk_27 (dk_at dksX0_drop_1 3 rfl rfl)
theorem dX0_drop_27 : decode cX0_drop 27 = .ok (.invokevirtual 104, 3) := dk_182 0 104 (dk_at dksX0_drop_1 4 rfl rfl)
theorem dX0_drop_30 : decode cX0_drop 30 = .ok (.checkcast 42, 3) := dk_192 0 42 (dk_at dksX0_drop_1 7 rfl rfl)
theorem dX0_drop_33 : decode cX0_drop 33 = .ok (.iload_n 2, 1) := dk_28 (dk_at dksX0_drop_1 10 rfl rfl)
theorem dX0_drop_34 : decode cX0_drop 34 = .ok (.invokevirtual 450, 3) := dk_182 1 194 (dk_at dksX0_drop_1 11 rfl rfl)
theorem dX0_drop_37 : decode cX0_drop 37 = .ok (.pop, 1) := dk_87 (dk_at dksX0_drop_1 14 rfl rfl)
theorem dX0_drop_38 : decode cX0_drop 38 = .ok (.aload_n 0, 1) := dk_42 (dk_at dksX0_drop_1 15 rfl rfl)
theorem dX0_drop_39 : decode cX0_drop 39 = .ok (.getfield 28, 3) := dk_180 0 28 (dk_at dksX0_drop_1 16 rfl rfl)
theorem dX0_drop_42 : decode cX0_drop 42 = .ok (.getfield 249, 3) := dk_180 0 249 (dk_at dksX0_drop_1 19 rfl rfl)
theorem dX0_drop_45 : decode cX0_drop 45 = .ok (.iload_n 1, 1) := dk_27 (dk_at dksX0_drop_1 22 rfl rfl)
theorem dX0_drop_46 : decode cX0_drop 46 = .ok (.invokevirtual 104, 3) := dk_182 0 104 (dk_at dksX0_drop_2 0 rfl rfl)
theorem dX0_drop_49 : decode cX0_drop 49 = .ok (.checkcast 42, 3) := dk_192 0 42 (dk_at dksX0_drop_2 3 rfl rfl)
theorem dX0_drop_52 : decode cX0_drop 52 = .ok (.invokevirtual 100, 3) := dk_182 0 100 (dk_at dksX0_drop_2 6 rfl rfl)
theorem dX0_drop_55 : decode cX0_drop 55 = .ok (.ireturn, 1) := dk_172 (dk_at dksX0_drop_2 9 rfl rfl)
abbrev cX0_spot : ByteArray := prog_1_method_77_code
def yX0_spot : MethodName := ⟨RX0, "spot", "(IIII)I"⟩
def dkwX0_spot_3 : List UInt8 := [180, 1, 11, 182, 0, 100, 172]
abbrev dktX0_spot_3 : List UInt8 := dkwX0_spot_3 ++ []
def dkwX0_spot_2 : List UInt8 := [180, 1, 11, 187, 1, 139, 89, 27, 21, 5, 21, 4, 183, 1, 203, 182, 0, 166, 87, 42, 180, 0, 28]
abbrev dktX0_spot_2 : List UInt8 := dkwX0_spot_2 ++ dktX0_spot_3
def dkwX0_spot_1 : List UInt8 := [180, 0, 28, 180, 1, 11, 182, 0, 100, 16, 40, 160, 0, 9, 42, 6, 182, 0, 79, 172, 42, 180, 0, 28]
abbrev dktX0_spot_1 : List UInt8 := dkwX0_spot_1 ++ dktX0_spot_2
def dkwX0_spot_0 : List UInt8 := [42, 180, 0, 20, 28, 29, 182, 1, 74, 54, 5, 42, 27, 21, 5, 21, 4, 182, 1, 199, 153, 0, 18, 42]
abbrev dktX0_spot_0 : List UInt8 := dkwX0_spot_0 ++ dktX0_spot_1
theorem dksX0_spot_0 : cX0_spot.data.toList.drop 0 = dktX0_spot_0 := by decide +kernel
theorem dksX0_spot_1 : cX0_spot.data.toList.drop 24 = dktX0_spot_1 := dk_seg dksX0_spot_0 24 rfl rfl
theorem dksX0_spot_2 : cX0_spot.data.toList.drop 48 = dktX0_spot_2 := dk_seg dksX0_spot_1 24 rfl rfl
theorem dksX0_spot_3 : cX0_spot.data.toList.drop 71 = dktX0_spot_3 := dk_seg dksX0_spot_2 23 rfl rfl
theorem dX0_spot_0 : decode cX0_spot 0 = .ok (.aload_n 0, 1) := dk_42 (dk_at dksX0_spot_0 0 rfl rfl)
theorem dX0_spot_1 : decode cX0_spot 1 = .ok (.getfield 20, 3) := dk_180 0 20 (dk_at dksX0_spot_0 1 rfl rfl)
theorem dX0_spot_4 : decode cX0_spot 4 = .ok (.iload_n 2, 1) := dk_28 (dk_at dksX0_spot_0 4 rfl rfl)
theorem dX0_spot_5 : decode cX0_spot 5 = .ok (.iload_n 3, 1) := dk_29 (dk_at dksX0_spot_0 5 rfl rfl)
theorem dX0_spot_6 : decode cX0_spot 6 = .ok (.invokevirtual 330, 3) := dk_182 1 74 (dk_at dksX0_spot_0 6 rfl rfl)
theorem dX0_spot_9 : decode cX0_spot 9 = .ok (.istore 5, 2) := dk_54 5 (dk_at dksX0_spot_0 9 rfl rfl)
theorem dX0_spot_11 : decode cX0_spot 11 = .ok (.aload_n 0, 1) := dk_42 (dk_at dksX0_spot_0 11 rfl rfl)
theorem dX0_spot_12 : decode cX0_spot 12 = .ok (.iload_n 1, 1) := dk_27 (dk_at dksX0_spot_0 12 rfl rfl)
theorem dX0_spot_13 : decode cX0_spot 13 = .ok (.iload 5, 2) := dk_21 5 (dk_at dksX0_spot_0 13 rfl rfl)
theorem dX0_spot_15 : decode cX0_spot 15 = .ok (.iload 4, 2) := dk_21 4 (dk_at dksX0_spot_0 15 rfl rfl)
theorem dX0_spot_17 : decode cX0_spot 17 = .ok (.invokevirtual 455, 3) := dk_182 1 199 (dk_at dksX0_spot_0 17 rfl rfl)
theorem dX0_spot_20 : decode cX0_spot 20 = .ok (.ifCond .eq 18, 3) := dk_153 0 18 (dk_at dksX0_spot_0 20 rfl rfl)
theorem dX0_spot_23 : decode cX0_spot 23 = .ok (.aload_n 0, 1) := dk_42 (dk_at dksX0_spot_0 23 rfl rfl)
theorem dX0_spot_24 : decode cX0_spot 24 = .ok (.getfield 28, 3) := dk_180 0 28 (dk_at dksX0_spot_1 0 rfl rfl)
theorem dX0_spot_27 : decode cX0_spot 27 = .ok (.getfield 267, 3) := dk_180 1 11 (dk_at dksX0_spot_1 3 rfl rfl)
theorem dX0_spot_30 : decode cX0_spot 30 = .ok (.invokevirtual 100, 3) := dk_182 0 100 (dk_at dksX0_spot_1 6 rfl rfl)
theorem dX0_spot_33 : decode cX0_spot 33 = .ok (.bipush 40, 2) := dk_16 40 (dk_at dksX0_spot_1 9 rfl rfl)
theorem dX0_spot_35 : decode cX0_spot 35 = .ok (.if_icmp .ne 9, 3) := dk_160 0 9 (dk_at dksX0_spot_1 11 rfl rfl)
theorem dX0_spot_38 : decode cX0_spot 38 = .ok (.aload_n 0, 1) := dk_42 (dk_at dksX0_spot_1 14 rfl rfl)
theorem dX0_spot_39 : decode cX0_spot 39 = .ok (.iconst 3, 1) := dk_6 (dk_at dksX0_spot_1 15 rfl rfl)
theorem dX0_spot_40 : decode cX0_spot 40 = .ok (.invokevirtual 79, 3) := dk_182 0 79 (dk_at dksX0_spot_1 16 rfl rfl)
theorem dX0_spot_43 : decode cX0_spot 43 = .ok (.ireturn, 1) := dk_172 (dk_at dksX0_spot_1 19 rfl rfl)
theorem dX0_spot_44 : decode cX0_spot 44 = .ok (.aload_n 0, 1) := dk_42 (dk_at dksX0_spot_1 20 rfl rfl)
theorem dX0_spot_45 : decode cX0_spot 45 = .ok (.getfield 28, 3) := dk_180 0 28 (dk_at dksX0_spot_1 21 rfl rfl)
theorem dX0_spot_48 : decode cX0_spot 48 = .ok (.getfield 267, 3) := dk_180 1 11 (dk_at dksX0_spot_2 0 rfl rfl)
theorem dX0_spot_51 : decode cX0_spot 51 = .ok (.new 395, 3) := dk_187 1 139 (dk_at dksX0_spot_2 3 rfl rfl)
theorem dX0_spot_54 : decode cX0_spot 54 = .ok (.dup, 1) := dk_89 (dk_at dksX0_spot_2 6 rfl rfl)
theorem dX0_spot_55 : decode cX0_spot 55 = .ok (.iload_n 1, 1) := dk_27 (dk_at dksX0_spot_2 7 rfl rfl)
theorem dX0_spot_56 : decode cX0_spot 56 = .ok (.iload 5, 2) := dk_21 5 (dk_at dksX0_spot_2 8 rfl rfl)
theorem dX0_spot_58 : decode cX0_spot 58 = .ok (.iload 4, 2) := dk_21 4 (dk_at dksX0_spot_2 10 rfl rfl)
theorem dX0_spot_60 : decode cX0_spot 60 = .ok (.invokespecial 459, 3) := dk_183 1 203 (dk_at dksX0_spot_2 12 rfl rfl)
theorem dX0_spot_63 : decode cX0_spot 63 = .ok (.invokevirtual 166, 3) := dk_182 0 166 (dk_at dksX0_spot_2 15 rfl rfl)
theorem dX0_spot_66 : decode cX0_spot 66 = .ok (.pop, 1) := dk_87 (dk_at dksX0_spot_2 18 rfl rfl)
theorem dX0_spot_67 : decode cX0_spot 67 = .ok (.aload_n 0, 1) := dk_42 (dk_at dksX0_spot_2 19 rfl rfl)
theorem dX0_spot_68 : decode cX0_spot 68 = .ok (.getfield 28, 3) := dk_180 0 28 (dk_at dksX0_spot_2 20 rfl rfl)
theorem dX0_spot_71 : decode cX0_spot 71 = .ok (.getfield 267, 3) := dk_180 1 11 (dk_at dksX0_spot_3 0 rfl rfl)
theorem dX0_spot_74 : decode cX0_spot 74 = .ok (.invokevirtual 100, 3) := dk_182 0 100 (dk_at dksX0_spot_3 3 rfl rfl)
theorem dX0_spot_77 : decode cX0_spot 77 = .ok (.ireturn, 1) := dk_172 (dk_at dksX0_spot_3 6 rfl rfl)
abbrev cX0_isSeen : ByteArray := prog_1_method_76_code
def yX0_isSeen : MethodName := ⟨RX0, "isSeen", "(III)Z"⟩
def dkwX0_isSeen_1 : List UInt8 := [133, 184, 0, 96, 153, 0, 14, 29, 184, 1, 77, 153, 0, 7, 4, 167, 0, 4, 3, 172]
abbrev dktX0_isSeen_1 : List UInt8 := dkwX0_isSeen_1 ++ []
def dkwX0_isSeen_0 : List UInt8 := [27, 133, 9, 20, 1, 197, 184, 0, 96, 153, 0, 33, 28, 133, 9, 42, 180, 0, 20, 182, 0, 143, 4, 100]
abbrev dktX0_isSeen_0 : List UInt8 := dkwX0_isSeen_0 ++ dktX0_isSeen_1
theorem dksX0_isSeen_0 : cX0_isSeen.data.toList.drop 0 = dktX0_isSeen_0 := by decide +kernel
theorem dksX0_isSeen_1 : cX0_isSeen.data.toList.drop 24 = dktX0_isSeen_1 := dk_seg dksX0_isSeen_0 24 rfl rfl
theorem dX0_isSeen_0 : decode cX0_isSeen 0 = .ok (.iload_n 1, 1) := dk_27 (dk_at dksX0_isSeen_0 0 rfl rfl)
theorem dX0_isSeen_1 : decode cX0_isSeen 1 = .ok (.i2l, 1) := dk_133 (dk_at dksX0_isSeen_0 1 rfl rfl)
theorem dX0_isSeen_2 : decode cX0_isSeen 2 = .ok (.lconst 0, 1) := dk_9 (dk_at dksX0_isSeen_0 2 rfl rfl)
theorem dX0_isSeen_3 : decode cX0_isSeen 3 = .ok (.ldc2_w 453, 3) := dk_20 1 197 (dk_at dksX0_isSeen_0 3 rfl rfl)
theorem dX0_isSeen_6 : decode cX0_isSeen 6 = .ok (.invokestatic 96, 3) := dk_184 0 96 (dk_at dksX0_isSeen_0 6 rfl rfl)
theorem dX0_isSeen_9 : decode cX0_isSeen 9 = .ok (.ifCond .eq 33, 3) := dk_153 0 33 (dk_at dksX0_isSeen_0 9 rfl rfl)
theorem dX0_isSeen_12 : decode cX0_isSeen 12 = .ok (.iload_n 2, 1) := dk_28 (dk_at dksX0_isSeen_0 12 rfl rfl)
theorem dX0_isSeen_13 : decode cX0_isSeen 13 = .ok (.i2l, 1) := dk_133 (dk_at dksX0_isSeen_0 13 rfl rfl)
theorem dX0_isSeen_14 : decode cX0_isSeen 14 = .ok (.lconst 0, 1) := dk_9 (dk_at dksX0_isSeen_0 14 rfl rfl)
theorem dX0_isSeen_15 : decode cX0_isSeen 15 = .ok (.aload_n 0, 1) := dk_42 (dk_at dksX0_isSeen_0 15 rfl rfl)
theorem dX0_isSeen_16 : decode cX0_isSeen 16 = .ok (.getfield 20, 3) := dk_180 0 20 (dk_at dksX0_isSeen_0 16 rfl rfl)
theorem dX0_isSeen_19 : decode cX0_isSeen 19 = .ok (.invokevirtual 143, 3) := dk_182 0 143 (dk_at dksX0_isSeen_0 19 rfl rfl)
theorem dX0_isSeen_22 : decode cX0_isSeen 22 = .ok (.iconst 1, 1) := dk_4 (dk_at dksX0_isSeen_0 22 rfl rfl)
theorem dX0_isSeen_23 : decode cX0_isSeen 23 = .ok (.isub, 1) := dk_100 (dk_at dksX0_isSeen_0 23 rfl rfl)
theorem dX0_isSeen_24 : decode cX0_isSeen 24 = .ok (.i2l, 1) := dk_133 (dk_at dksX0_isSeen_1 0 rfl rfl)
theorem dX0_isSeen_25 : decode cX0_isSeen 25 = .ok (.invokestatic 96, 3) := dk_184 0 96 (dk_at dksX0_isSeen_1 1 rfl rfl)
theorem dX0_isSeen_28 : decode cX0_isSeen 28 = .ok (.ifCond .eq 14, 3) := dk_153 0 14 (dk_at dksX0_isSeen_1 4 rfl rfl)
theorem dX0_isSeen_31 : decode cX0_isSeen 31 = .ok (.iload_n 3, 1) := dk_29 (dk_at dksX0_isSeen_1 7 rfl rfl)
theorem dX0_isSeen_32 : decode cX0_isSeen 32 = .ok (.invokestatic 333, 3) := dk_184 1 77 (dk_at dksX0_isSeen_1 8 rfl rfl)
theorem dX0_isSeen_35 : decode cX0_isSeen 35 = .ok (.ifCond .eq 7, 3) := dk_153 0 7 (dk_at dksX0_isSeen_1 11 rfl rfl)
theorem dX0_isSeen_38 : decode cX0_isSeen 38 = .ok (.iconst 1, 1) := dk_4 (dk_at dksX0_isSeen_1 14 rfl rfl)
theorem dX0_isSeen_39 : decode cX0_isSeen 39 = .ok (.goto 4, 3) := dk_167 0 4 (dk_at dksX0_isSeen_1 15 rfl rfl)
theorem dX0_isSeen_42 : decode cX0_isSeen 42 = .ok (.iconst 0, 1) := dk_3 (dk_at dksX0_isSeen_1 18 rfl rfl)
theorem dX0_isSeen_43 : decode cX0_isSeen 43 = .ok (.ireturn, 1) := dk_172 (dk_at dksX0_isSeen_1 19 rfl rfl)
abbrev cX0_image : ByteArray := prog_1_method_78_code
def yX0_image : MethodName := ⟨RX0, "image", "()I"⟩
def dkwX0_image_10 : List UInt8 := [42, 180, 0, 56, 182, 1, 210, 182, 1, 208, 42, 180, 0, 56, 180, 1, 206, 172]
abbrev dktX0_image_10 : List UInt8 := dkwX0_image_10 ++ []
def dkwX0_image_9 : List UInt8 := [182, 1, 208, 42, 180, 0, 56, 44, 180, 1, 142, 182, 1, 208, 132, 1, 1, 167, 255, 191, 42, 180, 0, 56]
abbrev dktX0_image_9 : List UInt8 := dkwX0_image_9 ++ dktX0_image_10
def dkwX0_image_8 : List UInt8 := [192, 1, 139, 77, 42, 180, 0, 56, 44, 180, 1, 138, 182, 1, 208, 42, 180, 0, 56, 44, 180, 1, 141]
abbrev dktX0_image_8 : List UInt8 := dkwX0_image_8 ++ dktX0_image_9
def dkwX0_image_7 : List UInt8 := [180, 0, 28, 180, 1, 11, 182, 0, 100, 162, 0, 57, 42, 180, 0, 28, 180, 1, 11, 27, 182, 0, 104]
abbrev dktX0_image_7 : List UInt8 := dkwX0_image_7 ++ dktX0_image_8
def dkwX0_image_6 : List UInt8 := [167, 255, 139, 42, 180, 0, 56, 42, 180, 0, 28, 180, 1, 11, 182, 0, 100, 182, 1, 208, 3, 60, 27, 42]
abbrev dktX0_image_6 : List UInt8 := dkwX0_image_6 ++ dktX0_image_7
def dkwX0_image_5 : List UInt8 := [180, 1, 66, 153, 0, 7, 4, 167, 0, 4, 3, 182, 1, 208, 132, 2, 1, 167, 255, 161, 132, 1, 1]
abbrev dktX0_image_5 : List UInt8 := dkwX0_image_5 ++ dktX0_image_6
def dkwX0_image_4 : List UInt8 := [180, 1, 64, 182, 1, 208, 42, 180, 0, 56, 45, 180, 1, 65, 182, 1, 208, 42, 180, 0, 56, 45]
abbrev dktX0_image_4 : List UInt8 := dkwX0_image_4 ++ dktX0_image_5
def dkwX0_image_3 : List UInt8 := [192, 0, 42, 28, 182, 0, 104, 192, 1, 62, 78, 42, 180, 0, 56, 27, 182, 1, 208, 42, 180, 0, 56, 45]
abbrev dktX0_image_3 : List UInt8 := dkwX0_image_3 ++ dktX0_image_4
def dkwX0_image_2 : List UInt8 := [27, 182, 0, 104, 192, 0, 42, 182, 0, 100, 162, 0, 80, 42, 180, 0, 28, 180, 0, 249, 27, 182, 0, 104]
abbrev dktX0_image_2 : List UInt8 := dkwX0_image_2 ++ dktX0_image_3
def dkwX0_image_1 : List UInt8 := [27, 42, 180, 0, 28, 180, 0, 249, 182, 0, 100, 162, 0, 109, 3, 61, 28, 42, 180, 0, 28, 180, 0, 249]
abbrev dktX0_image_1 : List UInt8 := dkwX0_image_1 ++ dktX0_image_2
def dkwX0_image_0 : List UInt8 := [42, 180, 0, 56, 3, 181, 1, 206, 42, 180, 0, 56, 42, 180, 0, 28, 182, 1, 5, 182, 1, 208, 3, 60]
abbrev dktX0_image_0 : List UInt8 := dkwX0_image_0 ++ dktX0_image_1
theorem dksX0_image_0 : cX0_image.data.toList.drop 0 = dktX0_image_0 := by decide +kernel
theorem dksX0_image_1 : cX0_image.data.toList.drop 24 = dktX0_image_1 := dk_seg dksX0_image_0 24 rfl rfl
theorem dksX0_image_2 : cX0_image.data.toList.drop 48 = dktX0_image_2 := dk_seg dksX0_image_1 24 rfl rfl
theorem dksX0_image_3 : cX0_image.data.toList.drop 72 = dktX0_image_3 := dk_seg dksX0_image_2 24 rfl rfl
theorem dksX0_image_4 : cX0_image.data.toList.drop 96 = dktX0_image_4 := dk_seg dksX0_image_3 24 rfl rfl
theorem dksX0_image_5 : cX0_image.data.toList.drop 118 = dktX0_image_5 := dk_seg dksX0_image_4 22 rfl rfl
theorem dksX0_image_6 : cX0_image.data.toList.drop 141 = dktX0_image_6 := dk_seg dksX0_image_5 23 rfl rfl
theorem dksX0_image_7 : cX0_image.data.toList.drop 165 = dktX0_image_7 := dk_seg dksX0_image_6 24 rfl rfl
theorem dksX0_image_8 : cX0_image.data.toList.drop 188 = dktX0_image_8 := dk_seg dksX0_image_7 23 rfl rfl
theorem dksX0_image_9 : cX0_image.data.toList.drop 211 = dktX0_image_9 := dk_seg dksX0_image_8 23 rfl rfl
theorem dksX0_image_10 : cX0_image.data.toList.drop 235 = dktX0_image_10 := dk_seg dksX0_image_9 24 rfl rfl
theorem dX0_image_0 : decode cX0_image 0 = .ok (.aload_n 0, 1) := dk_42 (dk_at dksX0_image_0 0 rfl rfl)
theorem dX0_image_1 : decode cX0_image 1 = .ok (.getfield 56, 3) := dk_180 0 56 (dk_at dksX0_image_0 1 rfl rfl)
theorem dX0_image_4 : decode cX0_image 4 = .ok (.iconst 0, 1) := dk_3 (dk_at dksX0_image_0 4 rfl rfl)
theorem dX0_image_5 : decode cX0_image 5 = .ok (.putfield 462, 3) := dk_181 1 206 (dk_at dksX0_image_0 5 rfl rfl)
theorem dX0_image_8 : decode cX0_image 8 = .ok (.aload_n 0, 1) := dk_42 (dk_at dksX0_image_0 8 rfl rfl)
theorem dX0_image_9 : decode cX0_image 9 = .ok (.getfield 56, 3) := dk_180 0 56 (dk_at dksX0_image_0 9 rfl rfl)
theorem dX0_image_12 : decode cX0_image 12 = .ok (.aload_n 0, 1) := dk_42 (dk_at dksX0_image_0 12 rfl rfl)
theorem dX0_image_13 : decode cX0_image 13 = .ok (.getfield 28, 3) := dk_180 0 28 (dk_at dksX0_image_0 13 rfl rfl)
theorem dX0_image_16 : decode cX0_image 16 = .ok (.invokevirtual 261, 3) := dk_182 1 5 (dk_at dksX0_image_0 16 rfl rfl)
theorem dX0_image_19 : decode cX0_image 19 = .ok (.invokevirtual 464, 3) := dk_182 1 208 (dk_at dksX0_image_0 19 rfl rfl)
theorem dX0_image_22 : decode cX0_image 22 = .ok (.iconst 0, 1) := dk_3 (dk_at dksX0_image_0 22 rfl rfl)
theorem dX0_image_23 : decode cX0_image 23 = .ok (.istore_n 1, 1) := dk_60 (dk_at dksX0_image_0 23 rfl rfl)
theorem dX0_image_24 : decode cX0_image 24 = .ok (.iload_n 1, 1) := dk_27 (dk_at dksX0_image_1 0 rfl rfl)
theorem dX0_image_25 : decode cX0_image 25 = .ok (.aload_n 0, 1) := dk_42 (dk_at dksX0_image_1 1 rfl rfl)
theorem dX0_image_26 : decode cX0_image 26 = .ok (.getfield 28, 3) := dk_180 0 28 (dk_at dksX0_image_1 2 rfl rfl)
theorem dX0_image_29 : decode cX0_image 29 = .ok (.getfield 249, 3) := dk_180 0 249 (dk_at dksX0_image_1 5 rfl rfl)
theorem dX0_image_32 : decode cX0_image 32 = .ok (.invokevirtual 100, 3) := dk_182 0 100 (dk_at dksX0_image_1 8 rfl rfl)
theorem dX0_image_35 : decode cX0_image 35 = .ok (.if_icmp .ge 109, 3) := dk_162 0 109 (dk_at dksX0_image_1 11 rfl rfl)
theorem dX0_image_38 : decode cX0_image 38 = .ok (.iconst 0, 1) := dk_3 (dk_at dksX0_image_1 14 rfl rfl)
theorem dX0_image_39 : decode cX0_image 39 = .ok (.istore_n 2, 1) := dk_61 (dk_at dksX0_image_1 15 rfl rfl)
theorem dX0_image_40 : decode cX0_image 40 = .ok (.iload_n 2, 1) := dk_28 (dk_at dksX0_image_1 16 rfl rfl)
theorem dX0_image_41 : decode cX0_image 41 = .ok (.aload_n 0, 1) := dk_42 (dk_at dksX0_image_1 17 rfl rfl)
theorem dX0_image_42 : decode cX0_image 42 = .ok (.getfield 28, 3) := dk_180 0 28 (dk_at dksX0_image_1 18 rfl rfl)
theorem dX0_image_45 : decode cX0_image 45 = .ok (.getfield 249, 3) := dk_180 0 249 (dk_at dksX0_image_1 21 rfl rfl)
theorem dX0_image_48 : decode cX0_image 48 = .ok (.iload_n 1, 1) := dk_27 (dk_at dksX0_image_2 0 rfl rfl)
theorem dX0_image_49 : decode cX0_image 49 = .ok (.invokevirtual 104, 3) := dk_182 0 104 (dk_at dksX0_image_2 1 rfl rfl)
theorem dX0_image_52 : decode cX0_image 52 = .ok (.checkcast 42, 3) := dk_192 0 42 (dk_at dksX0_image_2 4 rfl rfl)
theorem dX0_image_55 : decode cX0_image 55 = .ok (.invokevirtual 100, 3) := dk_182 0 100 (dk_at dksX0_image_2 7 rfl rfl)
theorem dX0_image_58 : decode cX0_image 58 = .ok (.if_icmp .ge 80, 3) := dk_162 0 80 (dk_at dksX0_image_2 10 rfl rfl)
theorem dX0_image_61 : decode cX0_image 61 = .ok (.aload_n 0, 1) := dk_42 (dk_at dksX0_image_2 13 rfl rfl)
theorem dX0_image_62 : decode cX0_image 62 = .ok (.getfield 28, 3) := dk_180 0 28 (dk_at dksX0_image_2 14 rfl rfl)
theorem dX0_image_65 : decode cX0_image 65 = .ok (.getfield 249, 3) := dk_180 0 249 (dk_at dksX0_image_2 17 rfl rfl)
theorem dX0_image_68 : decode cX0_image 68 = .ok (.iload_n 1, 1) := dk_27 (dk_at dksX0_image_2 20 rfl rfl)
theorem dX0_image_69 : decode cX0_image 69 = .ok (.invokevirtual 104, 3) := dk_182 0 104 (dk_at dksX0_image_2 21 rfl rfl)
theorem dX0_image_72 : decode cX0_image 72 = .ok (.checkcast 42, 3) := dk_192 0 42 (dk_at dksX0_image_3 0 rfl rfl)
theorem dX0_image_75 : decode cX0_image 75 = .ok (.iload_n 2, 1) := dk_28 (dk_at dksX0_image_3 3 rfl rfl)
theorem dX0_image_76 : decode cX0_image 76 = .ok (.invokevirtual 104, 3) := dk_182 0 104 (dk_at dksX0_image_3 4 rfl rfl)
theorem dX0_image_79 : decode cX0_image 79 = .ok (.checkcast 318, 3) := dk_192 1 62 (dk_at dksX0_image_3 7 rfl rfl)
theorem dX0_image_82 : decode cX0_image 82 = .ok (.astore_n 3, 1) := dk_78 (dk_at dksX0_image_3 10 rfl rfl)
theorem dX0_image_83 : decode cX0_image 83 = .ok (.aload_n 0, 1) := dk_42 (dk_at dksX0_image_3 11 rfl rfl)
theorem dX0_image_84 : decode cX0_image 84 = .ok (.getfield 56, 3) := dk_180 0 56 (dk_at dksX0_image_3 12 rfl rfl)
theorem dX0_image_87 : decode cX0_image 87 = .ok (.iload_n 1, 1) := dk_27 (dk_at dksX0_image_3 15 rfl rfl)
theorem dX0_image_88 : decode cX0_image 88 = .ok (.invokevirtual 464, 3) := dk_182 1 208 (dk_at dksX0_image_3 16 rfl rfl)
theorem dX0_image_91 : decode cX0_image 91 = .ok (.aload_n 0, 1) := dk_42 (dk_at dksX0_image_3 19 rfl rfl)
theorem dX0_image_92 : decode cX0_image 92 = .ok (.getfield 56, 3) := dk_180 0 56 (dk_at dksX0_image_3 20 rfl rfl)
theorem dX0_image_95 : decode cX0_image 95 = .ok (.aload_n 3, 1) := dk_45 (dk_at dksX0_image_3 23 rfl rfl)
theorem dX0_image_96 : decode cX0_image 96 = .ok (.getfield 320, 3) := dk_180 1 64 (dk_at dksX0_image_4 0 rfl rfl)
theorem dX0_image_99 : decode cX0_image 99 = .ok (.invokevirtual 464, 3) := dk_182 1 208 (dk_at dksX0_image_4 3 rfl rfl)
theorem dX0_image_102 : decode cX0_image 102 = .ok (.aload_n 0, 1) := dk_42 (dk_at dksX0_image_4 6 rfl rfl)
theorem dX0_image_103 : decode cX0_image 103 = .ok (.getfield 56, 3) := dk_180 0 56 (dk_at dksX0_image_4 7 rfl rfl)
theorem dX0_image_106 : decode cX0_image 106 = .ok (.aload_n 3, 1) := dk_45 (dk_at dksX0_image_4 10 rfl rfl)
theorem dX0_image_107 : decode cX0_image 107 = .ok (.getfield 321, 3) := dk_180 1 65 (dk_at dksX0_image_4 11 rfl rfl)
theorem dX0_image_110 : decode cX0_image 110 = .ok (.invokevirtual 464, 3) := dk_182 1 208 (dk_at dksX0_image_4 14 rfl rfl)
theorem dX0_image_113 : decode cX0_image 113 = .ok (.aload_n 0, 1) := dk_42 (dk_at dksX0_image_4 17 rfl rfl)
theorem dX0_image_114 : decode cX0_image 114 = .ok (.getfield 56, 3) := dk_180 0 56 (dk_at dksX0_image_4 18 rfl rfl)
theorem dX0_image_117 : decode cX0_image 117 = .ok (.aload_n 3, 1) := dk_45 (dk_at dksX0_image_4 21 rfl rfl)
theorem dX0_image_118 : decode cX0_image 118 = .ok (.getfield 322, 3) := dk_180 1 66 (dk_at dksX0_image_5 0 rfl rfl)
theorem dX0_image_121 : decode cX0_image 121 = .ok (.ifCond .eq 7, 3) := dk_153 0 7 (dk_at dksX0_image_5 3 rfl rfl)
theorem dX0_image_124 : decode cX0_image 124 = .ok (.iconst 1, 1) := dk_4 (dk_at dksX0_image_5 6 rfl rfl)
theorem dX0_image_125 : decode cX0_image 125 = .ok (.goto 4, 3) := dk_167 0 4 (dk_at dksX0_image_5 7 rfl rfl)
theorem dX0_image_128 : decode cX0_image 128 = .ok (.iconst 0, 1) := dk_3 (dk_at dksX0_image_5 10 rfl rfl)
theorem dX0_image_129 : decode cX0_image 129 = .ok (.invokevirtual 464, 3) := dk_182 1 208 (dk_at dksX0_image_5 11 rfl rfl)
theorem dX0_image_132 : decode cX0_image 132 = .ok (.iinc 2 1, 3) := dk_132 2 1 (dk_at dksX0_image_5 14 rfl rfl)
theorem dX0_image_135 : decode cX0_image 135 = .ok (.goto (-95), 3) := dk_167 255 161 (dk_at dksX0_image_5 17 rfl rfl)
theorem dX0_image_138 : decode cX0_image 138 = .ok (.iinc 1 1, 3) := dk_132 1 1 (dk_at dksX0_image_5 20 rfl rfl)
theorem dX0_image_141 : decode cX0_image 141 = .ok (.goto (-117), 3) := dk_167 255 139 (dk_at dksX0_image_6 0 rfl rfl)
theorem dX0_image_144 : decode cX0_image 144 = .ok (.aload_n 0, 1) := dk_42 (dk_at dksX0_image_6 3 rfl rfl)
theorem dX0_image_145 : decode cX0_image 145 = .ok (.getfield 56, 3) := dk_180 0 56 (dk_at dksX0_image_6 4 rfl rfl)
theorem dX0_image_148 : decode cX0_image 148 = .ok (.aload_n 0, 1) := dk_42 (dk_at dksX0_image_6 7 rfl rfl)
theorem dX0_image_149 : decode cX0_image 149 = .ok (.getfield 28, 3) := dk_180 0 28 (dk_at dksX0_image_6 8 rfl rfl)
theorem dX0_image_152 : decode cX0_image 152 = .ok (.getfield 267, 3) := dk_180 1 11 (dk_at dksX0_image_6 11 rfl rfl)
theorem dX0_image_155 : decode cX0_image 155 = .ok (.invokevirtual 100, 3) := dk_182 0 100 (dk_at dksX0_image_6 14 rfl rfl)
theorem dX0_image_158 : decode cX0_image 158 = .ok (.invokevirtual 464, 3) := dk_182 1 208 (dk_at dksX0_image_6 17 rfl rfl)
theorem dX0_image_161 : decode cX0_image 161 = .ok (.iconst 0, 1) := dk_3 (dk_at dksX0_image_6 20 rfl rfl)
theorem dX0_image_162 : decode cX0_image 162 = .ok (.istore_n 1, 1) := dk_60 (dk_at dksX0_image_6 21 rfl rfl)
theorem dX0_image_163 : decode cX0_image 163 = .ok (.iload_n 1, 1) := dk_27 (dk_at dksX0_image_6 22 rfl rfl)
theorem dX0_image_164 : decode cX0_image 164 = .ok (.aload_n 0, 1) := dk_42 (dk_at dksX0_image_6 23 rfl rfl)
theorem dX0_image_165 : decode cX0_image 165 = .ok (.getfield 28, 3) := dk_180 0 28 (dk_at dksX0_image_7 0 rfl rfl)
theorem dX0_image_168 : decode cX0_image 168 = .ok (.getfield 267, 3) := dk_180 1 11 (dk_at dksX0_image_7 3 rfl rfl)
theorem dX0_image_171 : decode cX0_image 171 = .ok (.invokevirtual 100, 3) := dk_182 0 100 (dk_at dksX0_image_7 6 rfl rfl)
theorem dX0_image_174 : decode cX0_image 174 = .ok (.if_icmp .ge 57, 3) := dk_162 0 57 (dk_at dksX0_image_7 9 rfl rfl)
theorem dX0_image_177 : decode cX0_image 177 = .ok (.aload_n 0, 1) := dk_42 (dk_at dksX0_image_7 12 rfl rfl)
theorem dX0_image_178 : decode cX0_image 178 = .ok (.getfield 28, 3) := dk_180 0 28 (dk_at dksX0_image_7 13 rfl rfl)
theorem dX0_image_181 : decode cX0_image 181 = .ok (.getfield 267, 3) := dk_180 1 11 (dk_at dksX0_image_7 16 rfl rfl)
theorem dX0_image_184 : decode cX0_image 184 = .ok (.iload_n 1, 1) := dk_27 (dk_at dksX0_image_7 19 rfl rfl)
theorem dX0_image_185 : decode cX0_image 185 = .ok (.invokevirtual 104, 3) := dk_182 0 104 (dk_at dksX0_image_7 20 rfl rfl)
theorem dX0_image_188 : decode cX0_image 188 = .ok (.checkcast 395, 3) := dk_192 1 139 (dk_at dksX0_image_8 0 rfl rfl)
theorem dX0_image_191 : decode cX0_image 191 = .ok (.astore_n 2, 1) := dk_77 (dk_at dksX0_image_8 3 rfl rfl)
theorem dX0_image_192 : decode cX0_image 192 = .ok (.aload_n 0, 1) := dk_42 (dk_at dksX0_image_8 4 rfl rfl)
theorem dX0_image_193 : decode cX0_image 193 = .ok (.getfield 56, 3) := dk_180 0 56 (dk_at dksX0_image_8 5 rfl rfl)
theorem dX0_image_196 : decode cX0_image 196 = .ok (.aload_n 2, 1) := dk_44 (dk_at dksX0_image_8 8 rfl rfl)
theorem dX0_image_197 : decode cX0_image 197 = .ok (.getfield 394, 3) := dk_180 1 138 (dk_at dksX0_image_8 9 rfl rfl)
theorem dX0_image_200 : decode cX0_image 200 = .ok (.invokevirtual 464, 3) := dk_182 1 208 (dk_at dksX0_image_8 12 rfl rfl)
theorem dX0_image_203 : decode cX0_image 203 = .ok (.aload_n 0, 1) := dk_42 (dk_at dksX0_image_8 15 rfl rfl)
theorem dX0_image_204 : decode cX0_image 204 = .ok (.getfield 56, 3) := dk_180 0 56 (dk_at dksX0_image_8 16 rfl rfl)
theorem dX0_image_207 : decode cX0_image 207 = .ok (.aload_n 2, 1) := dk_44 (dk_at dksX0_image_8 19 rfl rfl)
theorem dX0_image_208 : decode cX0_image 208 = .ok (.getfield 397, 3) := dk_180 1 141 (dk_at dksX0_image_8 20 rfl rfl)
theorem dX0_image_211 : decode cX0_image 211 = .ok (.invokevirtual 464, 3) := dk_182 1 208 (dk_at dksX0_image_9 0 rfl rfl)
theorem dX0_image_214 : decode cX0_image 214 = .ok (.aload_n 0, 1) := dk_42 (dk_at dksX0_image_9 3 rfl rfl)
theorem dX0_image_215 : decode cX0_image 215 = .ok (.getfield 56, 3) := dk_180 0 56 (dk_at dksX0_image_9 4 rfl rfl)
theorem dX0_image_218 : decode cX0_image 218 = .ok (.aload_n 2, 1) := dk_44 (dk_at dksX0_image_9 7 rfl rfl)
theorem dX0_image_219 : decode cX0_image 219 = .ok (.getfield 398, 3) := dk_180 1 142 (dk_at dksX0_image_9 8 rfl rfl)
theorem dX0_image_222 : decode cX0_image 222 = .ok (.invokevirtual 464, 3) := dk_182 1 208 (dk_at dksX0_image_9 11 rfl rfl)
theorem dX0_image_225 : decode cX0_image 225 = .ok (.iinc 1 1, 3) := dk_132 1 1 (dk_at dksX0_image_9 14 rfl rfl)
theorem dX0_image_228 : decode cX0_image 228 = .ok (.goto (-65), 3) := dk_167 255 191 (dk_at dksX0_image_9 17 rfl rfl)
theorem dX0_image_231 : decode cX0_image 231 = .ok (.aload_n 0, 1) := dk_42 (dk_at dksX0_image_9 20 rfl rfl)
theorem dX0_image_232 : decode cX0_image 232 = .ok (.getfield 56, 3) := dk_180 0 56 (dk_at dksX0_image_9 21 rfl rfl)
theorem dX0_image_235 : decode cX0_image 235 = .ok (.aload_n 0, 1) := dk_42 (dk_at dksX0_image_10 0 rfl rfl)
theorem dX0_image_236 : decode cX0_image 236 = .ok (.getfield 56, 3) := dk_180 0 56 (dk_at dksX0_image_10 1 rfl rfl)
theorem dX0_image_239 : decode cX0_image 239 = .ok (.invokevirtual 466, 3) := dk_182 1 210 (dk_at dksX0_image_10 4 rfl rfl)
theorem dX0_image_242 : decode cX0_image 242 = .ok (.invokevirtual 464, 3) := dk_182 1 208 (dk_at dksX0_image_10 7 rfl rfl)
theorem dX0_image_245 : decode cX0_image 245 = .ok (.aload_n 0, 1) := dk_42 (dk_at dksX0_image_10 10 rfl rfl)
theorem dX0_image_246 : decode cX0_image 246 = .ok (.getfield 56, 3) := dk_180 0 56 (dk_at dksX0_image_10 11 rfl rfl)
theorem dX0_image_249 : decode cX0_image 249 = .ok (.getfield 462, 3) := dk_180 1 206 (dk_at dksX0_image_10 14 rfl rfl)
theorem dX0_image_252 : decode cX0_image 252 = .ok (.ireturn, 1) := dk_172 (dk_at dksX0_image_10 17 rfl rfl)
abbrev cX0_octet : ByteArray := prog_1_method_79_code
def yX0_octet : MethodName := ⟨RX0, "octet", "(I)I"⟩
def dkwX0_octet_1 : List UInt8 := [180, 1, 213, 27, 46, 167, 0, 4, 2, 172]
abbrev dktX0_octet_1 : List UInt8 := dkwX0_octet_1 ++ []
def dkwX0_octet_0 : List UInt8 := [27, 133, 9, 42, 180, 0, 56, 180, 1, 206, 4, 100, 133, 184, 0, 96, 153, 0, 15, 42, 180, 0, 56]
abbrev dktX0_octet_0 : List UInt8 := dkwX0_octet_0 ++ dktX0_octet_1
theorem dksX0_octet_0 : cX0_octet.data.toList.drop 0 = dktX0_octet_0 := by decide +kernel
theorem dksX0_octet_1 : cX0_octet.data.toList.drop 23 = dktX0_octet_1 := dk_seg dksX0_octet_0 23 rfl rfl
theorem dX0_octet_0 : decode cX0_octet 0 = .ok (.iload_n 1, 1) := dk_27 (dk_at dksX0_octet_0 0 rfl rfl)
theorem dX0_octet_1 : decode cX0_octet 1 = .ok (.i2l, 1) := dk_133 (dk_at dksX0_octet_0 1 rfl rfl)
theorem dX0_octet_2 : decode cX0_octet 2 = .ok (.lconst 0, 1) := dk_9 (dk_at dksX0_octet_0 2 rfl rfl)
theorem dX0_octet_3 : decode cX0_octet 3 = .ok (.aload_n 0, 1) := dk_42 (dk_at dksX0_octet_0 3 rfl rfl)
theorem dX0_octet_4 : decode cX0_octet 4 = .ok (.getfield 56, 3) := dk_180 0 56 (dk_at dksX0_octet_0 4 rfl rfl)
theorem dX0_octet_7 : decode cX0_octet 7 = .ok (.getfield 462, 3) := dk_180 1 206 (dk_at dksX0_octet_0 7 rfl rfl)
theorem dX0_octet_10 : decode cX0_octet 10 = .ok (.iconst 1, 1) := dk_4 (dk_at dksX0_octet_0 10 rfl rfl)
theorem dX0_octet_11 : decode cX0_octet 11 = .ok (.isub, 1) := dk_100 (dk_at dksX0_octet_0 11 rfl rfl)
theorem dX0_octet_12 : decode cX0_octet 12 = .ok (.i2l, 1) := dk_133 (dk_at dksX0_octet_0 12 rfl rfl)
theorem dX0_octet_13 : decode cX0_octet 13 = .ok (.invokestatic 96, 3) := dk_184 0 96 (dk_at dksX0_octet_0 13 rfl rfl)
theorem dX0_octet_16 : decode cX0_octet 16 = .ok (.ifCond .eq 15, 3) := dk_153 0 15 (dk_at dksX0_octet_0 16 rfl rfl)
theorem dX0_octet_19 : decode cX0_octet 19 = .ok (.aload_n 0, 1) := dk_42 (dk_at dksX0_octet_0 19 rfl rfl)
theorem dX0_octet_20 : decode cX0_octet 20 = .ok (.getfield 56, 3) := dk_180 0 56 (dk_at dksX0_octet_0 20 rfl rfl)
theorem dX0_octet_23 : decode cX0_octet 23 = .ok (.getfield 469, 3) := dk_180 1 213 (dk_at dksX0_octet_1 0 rfl rfl)
theorem dX0_octet_26 : decode cX0_octet 26 = .ok (.iload_n 1, 1) := dk_27 (dk_at dksX0_octet_1 3 rfl rfl)
theorem dX0_octet_27 : decode cX0_octet 27 = .ok (.iaload, 1) := dk_46 (dk_at dksX0_octet_1 4 rfl rfl)
theorem dX0_octet_28 : decode cX0_octet 28 = .ok (.goto 4, 3) := dk_167 0 4 (dk_at dksX0_octet_1 5 rfl rfl)
theorem dX0_octet_31 : decode cX0_octet 31 = .ok (.iconst (-1), 1) := dk_2 (dk_at dksX0_octet_1 8 rfl rfl)
theorem dX0_octet_32 : decode cX0_octet 32 = .ok (.ireturn, 1) := dk_172 (dk_at dksX0_octet_1 9 rfl rfl)
abbrev cX0_on : ByteArray := prog_1_method_81_code
def yX0_on : MethodName := ⟨RX0, "on", "()Z"⟩
def dkwX0_on_1 : List UInt8 := [182, 0, 90, 172, 42, 44, 181, 0, 28, 42, 182, 1, 185, 4, 172]
abbrev dktX0_on_1 : List UInt8 := dkwX0_on_1 ++ []
def dkwX0_on_0 : List UInt8 := [42, 180, 0, 83, 60, 42, 3, 181, 0, 83, 42, 27, 182, 1, 219, 77, 44, 199, 0, 9, 42, 7]
abbrev dktX0_on_0 : List UInt8 := dkwX0_on_0 ++ dktX0_on_1
theorem dksX0_on_0 : cX0_on.data.toList.drop 0 = dktX0_on_0 := by decide +kernel
theorem dksX0_on_1 : cX0_on.data.toList.drop 22 = dktX0_on_1 := dk_seg dksX0_on_0 22 rfl rfl
theorem dX0_on_0 : decode cX0_on 0 = .ok (.aload_n 0, 1) := dk_42 (dk_at dksX0_on_0 0 rfl rfl)
theorem dX0_on_1 : decode cX0_on 1 = .ok (.getfield 83, 3) := dk_180 0 83 (dk_at dksX0_on_0 1 rfl rfl)
theorem dX0_on_4 : decode cX0_on 4 = .ok (.istore_n 1, 1) := dk_60 (dk_at dksX0_on_0 4 rfl rfl)
theorem dX0_on_5 : decode cX0_on 5 = .ok (.aload_n 0, 1) := dk_42 (dk_at dksX0_on_0 5 rfl rfl)
theorem dX0_on_6 : decode cX0_on 6 = .ok (.iconst 0, 1) := dk_3 (dk_at dksX0_on_0 6 rfl rfl)
theorem dX0_on_7 : decode cX0_on 7 = .ok (.putfield 83, 3) := dk_181 0 83 (dk_at dksX0_on_0 7 rfl rfl)
theorem dX0_on_10 : decode cX0_on 10 = .ok (.aload_n 0, 1) := dk_42 (dk_at dksX0_on_0 10 rfl rfl)
theorem dX0_on_11 : decode cX0_on 11 = .ok (.iload_n 1, 1) := dk_27 (dk_at dksX0_on_0 11 rfl rfl)
theorem dX0_on_12 : decode cX0_on 12 = .ok (.invokevirtual 475, 3) := dk_182 1 219 (dk_at dksX0_on_0 12 rfl rfl)
theorem dX0_on_15 : decode cX0_on 15 = .ok (.astore_n 2, 1) := dk_77 (dk_at dksX0_on_0 15 rfl rfl)
theorem dX0_on_16 : decode cX0_on 16 = .ok (.aload_n 2, 1) := dk_44 (dk_at dksX0_on_0 16 rfl rfl)
theorem dX0_on_17 : decode cX0_on 17 = .ok (.ifnonnull 9, 3) := dk_199 0 9 (dk_at dksX0_on_0 17 rfl rfl)
theorem dX0_on_20 : decode cX0_on 20 = .ok (.aload_n 0, 1) := dk_42 (dk_at dksX0_on_0 20 rfl rfl)
theorem dX0_on_21 : decode cX0_on 21 = .ok (.iconst 4, 1) := dk_7 (dk_at dksX0_on_0 21 rfl rfl)
theorem dX0_on_22 : decode cX0_on 22 = .ok (.invokevirtual 90, 3) := dk_182 0 90 (dk_at dksX0_on_1 0 rfl rfl)
theorem dX0_on_25 : decode cX0_on 25 = .ok (.ireturn, 1) := dk_172 (dk_at dksX0_on_1 3 rfl rfl)
theorem dX0_on_26 : decode cX0_on 26 = .ok (.aload_n 0, 1) := dk_42 (dk_at dksX0_on_1 4 rfl rfl)
theorem dX0_on_27 : decode cX0_on 27 = .ok (.aload_n 2, 1) := dk_44 (dk_at dksX0_on_1 5 rfl rfl)
theorem dX0_on_28 : decode cX0_on 28 = .ok (.putfield 28, 3) := dk_181 0 28 (dk_at dksX0_on_1 6 rfl rfl)
theorem dX0_on_31 : decode cX0_on 31 = .ok (.aload_n 0, 1) := dk_42 (dk_at dksX0_on_1 9 rfl rfl)
theorem dX0_on_32 : decode cX0_on 32 = .ok (.invokevirtual 441, 3) := dk_182 1 185 (dk_at dksX0_on_1 10 rfl rfl)
theorem dX0_on_35 : decode cX0_on 35 = .ok (.iconst 1, 1) := dk_4 (dk_at dksX0_on_1 13 rfl rfl)
theorem dX0_on_36 : decode cX0_on 36 = .ok (.ireturn, 1) := dk_172 (dk_at dksX0_on_1 14 rfl rfl)
abbrev cX0_read : ByteArray := prog_1_method_80_code
def yX0_read : MethodName := ⟨RX0, "read", "(I)LToldTracks$Told;"⟩
def dkwX0_read_18 : List UInt8 := [96, 52, 183, 1, 203, 182, 0, 166, 87, 132, 7, 3, 167, 255, 170, 25, 5, 176]
abbrev dktX0_read_18 : List UInt8 := dkwX0_read_18 ++ []
def dkwX0_read_17 : List UInt8 := [89, 42, 180, 0, 9, 21, 7, 52, 42, 180, 0, 9, 21, 7, 4, 96, 52, 42, 180, 0, 9, 21, 7, 5]
abbrev dktX0_read_17 : List UInt8 := dkwX0_read_17 ++ dktX0_read_18
def dkwX0_read_16 : List UInt8 := [180, 0, 9, 21, 7, 5, 96, 52, 182, 1, 199, 154, 0, 5, 1, 176, 25, 5, 180, 1, 11, 187, 1, 139]
abbrev dktX0_read_16 : List UInt8 := dkwX0_read_16 ++ dktX0_read_17
def dkwX0_read_15 : List UInt8 := [27, 4, 100, 162, 0, 84, 42, 42, 180, 0, 9, 21, 7, 52, 42, 180, 0, 9, 21, 7, 4, 96, 52, 42]
abbrev dktX0_read_15 : List UInt8 := dkwX0_read_15 ++ dktX0_read_16
def dkwX0_read_14 : List UInt8 := [183, 1, 188, 182, 0, 166, 87, 21, 8, 54, 6, 132, 7, 4, 167, 255, 86, 29, 4, 96, 54, 7, 21, 7]
abbrev dktX0_read_14 : List UInt8 := dkwX0_read_14 ++ dktX0_read_15
def dkwX0_read_13 : List UInt8 := [21, 7, 4, 96, 52, 42, 180, 0, 9, 21, 7, 6, 96, 52, 4, 160, 0, 7, 4, 167, 0, 4, 3]
abbrev dktX0_read_13 : List UInt8 := dkwX0_read_13 ++ dktX0_read_14
def dkwX0_read_12 : List UInt8 := [182, 0, 104, 192, 0, 42, 187, 1, 62, 89, 42, 180, 0, 9, 21, 7, 5, 96, 52, 42, 180, 0, 9]
abbrev dktX0_read_12 : List UInt8 := dkwX0_read_12 ++ dktX0_read_13
def dkwX0_read_11 : List UInt8 := [163, 0, 10, 21, 8, 21, 6, 163, 0, 5, 1, 176, 25, 5, 180, 0, 249, 42, 180, 0, 9, 21, 7, 52]
abbrev dktX0_read_11 : List UInt8 := dkwX0_read_11 ++ dktX0_read_12
def dkwX0_read_10 : List UInt8 := [5, 96, 52, 42, 180, 0, 20, 182, 0, 143, 162, 0, 23, 42, 180, 0, 9, 21, 7, 6, 96, 52, 4]
abbrev dktX0_read_10 : List UInt8 := dkwX0_read_10 ++ dktX0_read_11
def dkwX0_read_9 : List UInt8 := [153, 0, 57, 42, 180, 0, 9, 21, 7, 4, 96, 52, 184, 1, 77, 153, 0, 42, 42, 180, 0, 9, 21, 7]
abbrev dktX0_read_9 : List UInt8 := dkwX0_read_9 ++ dktX0_read_10
def dkwX0_read_8 : List UInt8 := [180, 0, 9, 21, 7, 4, 96, 52, 96, 54, 8, 42, 42, 180, 0, 9, 21, 7, 52, 182, 1, 22]
abbrev dktX0_read_8 : List UInt8 := dkwX0_read_8 ++ dktX0_read_9
def dkwX0_read_7 : List UInt8 := [54, 6, 4, 54, 7, 21, 7, 29, 162, 0, 170, 16, 48, 42, 180, 0, 9, 21, 7, 52, 104, 42]
abbrev dktX0_read_7 : List UInt8 := dkwX0_read_7 ++ dktX0_read_8
def dkwX0_read_6 : List UInt8 := [25, 5, 180, 0, 249, 187, 0, 42, 89, 183, 0, 44, 182, 0, 166, 87, 132, 6, 1, 167, 255, 222, 2]
abbrev dktX0_read_6 : List UInt8 := dkwX0_read_6 ++ dktX0_read_7
def dkwX0_read_5 : List UInt8 := [89, 183, 1, 218, 58, 5, 3, 54, 6, 21, 6, 42, 180, 0, 20, 180, 0, 163, 182, 0, 100, 162, 0, 25]
abbrev dktX0_read_5 : List UInt8 := dkwX0_read_5 ++ dktX0_read_6
def dkwX0_read_4 : List UInt8 := [132, 5, 1, 167, 255, 231, 21, 4, 42, 180, 0, 9, 27, 4, 100, 52, 159, 0, 5, 1, 176, 187, 0, 250]
abbrev dktX0_read_4 : List UInt8 := dkwX0_read_4 ++ dktX0_read_5
def dkwX0_read_3 : List UInt8 := [21, 5, 27, 4, 100, 162, 0, 23, 21, 4, 42, 180, 0, 9, 21, 5, 52, 184, 1, 216, 54, 4]
abbrev dktX0_read_3 : List UInt8 := dkwX0_read_3 ++ dktX0_read_4
def dkwX0_read_2 : List UInt8 := [29, 5, 96, 6, 42, 180, 0, 9, 29, 52, 104, 96, 159, 0, 5, 1, 176, 16, 29, 54, 4, 3, 54, 5]
abbrev dktX0_read_2 : List UInt8 := dkwX0_read_2 ++ dktX0_read_3
def dkwX0_read_1 : List UInt8 := [16, 96, 163, 0, 37, 27, 29, 5, 96, 161, 0, 30, 42, 180, 0, 9, 29, 52, 16, 40, 163, 0, 19, 27]
abbrev dktX0_read_1 : List UInt8 := dkwX0_read_1 ++ dktX0_read_2
def dkwX0_read_0 : List UInt8 := [27, 6, 162, 0, 8, 16, 96, 167, 0, 9, 42, 180, 0, 9, 3, 52, 61, 4, 7, 28, 104, 96, 62, 28]
abbrev dktX0_read_0 : List UInt8 := dkwX0_read_0 ++ dktX0_read_1
theorem dksX0_read_0 : cX0_read.data.toList.drop 0 = dktX0_read_0 := by decide +kernel
theorem dksX0_read_1 : cX0_read.data.toList.drop 24 = dktX0_read_1 := dk_seg dksX0_read_0 24 rfl rfl
theorem dksX0_read_2 : cX0_read.data.toList.drop 48 = dktX0_read_2 := dk_seg dksX0_read_1 24 rfl rfl
theorem dksX0_read_3 : cX0_read.data.toList.drop 72 = dktX0_read_3 := dk_seg dksX0_read_2 24 rfl rfl
theorem dksX0_read_4 : cX0_read.data.toList.drop 94 = dktX0_read_4 := dk_seg dksX0_read_3 22 rfl rfl
theorem dksX0_read_5 : cX0_read.data.toList.drop 118 = dktX0_read_5 := dk_seg dksX0_read_4 24 rfl rfl
theorem dksX0_read_6 : cX0_read.data.toList.drop 142 = dktX0_read_6 := dk_seg dksX0_read_5 24 rfl rfl
theorem dksX0_read_7 : cX0_read.data.toList.drop 165 = dktX0_read_7 := dk_seg dksX0_read_6 23 rfl rfl
theorem dksX0_read_8 : cX0_read.data.toList.drop 187 = dktX0_read_8 := dk_seg dksX0_read_7 22 rfl rfl
theorem dksX0_read_9 : cX0_read.data.toList.drop 209 = dktX0_read_9 := dk_seg dksX0_read_8 22 rfl rfl
theorem dksX0_read_10 : cX0_read.data.toList.drop 233 = dktX0_read_10 := dk_seg dksX0_read_9 24 rfl rfl
theorem dksX0_read_11 : cX0_read.data.toList.drop 256 = dktX0_read_11 := dk_seg dksX0_read_10 23 rfl rfl
theorem dksX0_read_12 : cX0_read.data.toList.drop 280 = dktX0_read_12 := dk_seg dksX0_read_11 24 rfl rfl
theorem dksX0_read_13 : cX0_read.data.toList.drop 303 = dktX0_read_13 := dk_seg dksX0_read_12 23 rfl rfl
theorem dksX0_read_14 : cX0_read.data.toList.drop 326 = dktX0_read_14 := dk_seg dksX0_read_13 23 rfl rfl
theorem dksX0_read_15 : cX0_read.data.toList.drop 350 = dktX0_read_15 := dk_seg dksX0_read_14 24 rfl rfl
theorem dksX0_read_16 : cX0_read.data.toList.drop 374 = dktX0_read_16 := dk_seg dksX0_read_15 24 rfl rfl
theorem dksX0_read_17 : cX0_read.data.toList.drop 398 = dktX0_read_17 := dk_seg dksX0_read_16 24 rfl rfl
theorem dksX0_read_18 : cX0_read.data.toList.drop 422 = dktX0_read_18 := dk_seg dksX0_read_17 24 rfl rfl
theorem dX0_read_0 : decode cX0_read 0 = .ok (.iload_n 1, 1) := dk_27 (dk_at dksX0_read_0 0 rfl rfl)
theorem dX0_read_1 : decode cX0_read 1 = .ok (.iconst 3, 1) := dk_6 (dk_at dksX0_read_0 1 rfl rfl)
theorem dX0_read_2 : decode cX0_read 2 = .ok (.if_icmp .ge 8, 3) := dk_162 0 8 (dk_at dksX0_read_0 2 rfl rfl)
theorem dX0_read_5 : decode cX0_read 5 = .ok (.bipush 96, 2) := dk_16 96 (dk_at dksX0_read_0 5 rfl rfl)
theorem dX0_read_7 : decode cX0_read 7 = .ok (.goto 9, 3) := dk_167 0 9 (dk_at dksX0_read_0 7 rfl rfl)
theorem dX0_read_10 : decode cX0_read 10 = .ok (.aload_n 0, 1) := dk_42 (dk_at dksX0_read_0 10 rfl rfl)
theorem dX0_read_11 : decode cX0_read 11 = .ok (.getfield 9, 3) := dk_180 0 9 (dk_at dksX0_read_0 11 rfl rfl)
theorem dX0_read_14 : decode cX0_read 14 = .ok (.iconst 0, 1) := dk_3 (dk_at dksX0_read_0 14 rfl rfl)
theorem dX0_read_15 : decode cX0_read 15 = .ok (.caload, 1) := dk_52 (dk_at dksX0_read_0 15 rfl rfl)
theorem dX0_read_16 : decode cX0_read 16 = .ok (.istore_n 2, 1) := dk_61 (dk_at dksX0_read_0 16 rfl rfl)
theorem dX0_read_17 : decode cX0_read 17 = .ok (.iconst 1, 1) := dk_4 (dk_at dksX0_read_0 17 rfl rfl)
theorem dX0_read_18 : decode cX0_read 18 = .ok (.iconst 4, 1) := dk_7 (dk_at dksX0_read_0 18 rfl rfl)
theorem dX0_read_19 : decode cX0_read 19 = .ok (.iload_n 2, 1) := dk_28 (dk_at dksX0_read_0 19 rfl rfl)
theorem dX0_read_20 : decode cX0_read 20 = .ok (.imul, 1) := dk_104 (dk_at dksX0_read_0 20 rfl rfl)
theorem dX0_read_21 : decode cX0_read 21 = .ok (.iadd, 1) := dk_96 (dk_at dksX0_read_0 21 rfl rfl)
theorem dX0_read_22 : decode cX0_read 22 = .ok (.istore_n 3, 1) := dk_62 (dk_at dksX0_read_0 22 rfl rfl)
theorem dX0_read_23 : decode cX0_read 23 = .ok (.iload_n 2, 1) := dk_28 (dk_at dksX0_read_0 23 rfl rfl)
theorem dX0_read_24 : decode cX0_read 24 = .ok (.bipush 96, 2) := dk_16 96 (dk_at dksX0_read_1 0 rfl rfl)
theorem dX0_read_26 : decode cX0_read 26 = .ok (.if_icmp .gt 37, 3) := dk_163 0 37 (dk_at dksX0_read_1 2 rfl rfl)
theorem dX0_read_29 : decode cX0_read 29 = .ok (.iload_n 1, 1) := dk_27 (dk_at dksX0_read_1 5 rfl rfl)
theorem dX0_read_30 : decode cX0_read 30 = .ok (.iload_n 3, 1) := dk_29 (dk_at dksX0_read_1 6 rfl rfl)
theorem dX0_read_31 : decode cX0_read 31 = .ok (.iconst 2, 1) := dk_5 (dk_at dksX0_read_1 7 rfl rfl)
theorem dX0_read_32 : decode cX0_read 32 = .ok (.iadd, 1) := dk_96 (dk_at dksX0_read_1 8 rfl rfl)
theorem dX0_read_33 : decode cX0_read 33 = .ok (.if_icmp .lt 30, 3) := dk_161 0 30 (dk_at dksX0_read_1 9 rfl rfl)
theorem dX0_read_36 : decode cX0_read 36 = .ok (.aload_n 0, 1) := dk_42 (dk_at dksX0_read_1 12 rfl rfl)
theorem dX0_read_37 : decode cX0_read 37 = .ok (.getfield 9, 3) := dk_180 0 9 (dk_at dksX0_read_1 13 rfl rfl)
theorem dX0_read_40 : decode cX0_read 40 = .ok (.iload_n 3, 1) := dk_29 (dk_at dksX0_read_1 16 rfl rfl)
theorem dX0_read_41 : decode cX0_read 41 = .ok (.caload, 1) := dk_52 (dk_at dksX0_read_1 17 rfl rfl)
theorem dX0_read_42 : decode cX0_read 42 = .ok (.bipush 40, 2) := dk_16 40 (dk_at dksX0_read_1 18 rfl rfl)
theorem dX0_read_44 : decode cX0_read 44 = .ok (.if_icmp .gt 19, 3) := dk_163 0 19 (dk_at dksX0_read_1 20 rfl rfl)
theorem dX0_read_47 : decode cX0_read 47 = .ok (.iload_n 1, 1) := dk_27 (dk_at dksX0_read_1 23 rfl rfl)
theorem dX0_read_48 : decode cX0_read 48 = .ok (.iload_n 3, 1) := dk_29 (dk_at dksX0_read_2 0 rfl rfl)
theorem dX0_read_49 : decode cX0_read 49 = .ok (.iconst 2, 1) := dk_5 (dk_at dksX0_read_2 1 rfl rfl)
theorem dX0_read_50 : decode cX0_read 50 = .ok (.iadd, 1) := dk_96 (dk_at dksX0_read_2 2 rfl rfl)
theorem dX0_read_51 : decode cX0_read 51 = .ok (.iconst 3, 1) := dk_6 (dk_at dksX0_read_2 3 rfl rfl)
theorem dX0_read_52 : decode cX0_read 52 = .ok (.aload_n 0, 1) := dk_42 (dk_at dksX0_read_2 4 rfl rfl)
theorem dX0_read_53 : decode cX0_read 53 = .ok (.getfield 9, 3) := dk_180 0 9 (dk_at dksX0_read_2 5 rfl rfl)
theorem dX0_read_56 : decode cX0_read 56 = .ok (.iload_n 3, 1) := dk_29 (dk_at dksX0_read_2 8 rfl rfl)
theorem dX0_read_57 : decode cX0_read 57 = .ok (.caload, 1) := dk_52 (dk_at dksX0_read_2 9 rfl rfl)
theorem dX0_read_58 : decode cX0_read 58 = .ok (.imul, 1) := dk_104 (dk_at dksX0_read_2 10 rfl rfl)
theorem dX0_read_59 : decode cX0_read 59 = .ok (.iadd, 1) := dk_96 (dk_at dksX0_read_2 11 rfl rfl)
theorem dX0_read_60 : decode cX0_read 60 = .ok (.if_icmp .eq 5, 3) := dk_159 0 5 (dk_at dksX0_read_2 12 rfl rfl)
theorem dX0_read_63 : decode cX0_read 63 = .ok (.aconst_null, 1) := dk_1 (dk_at dksX0_read_2 15 rfl rfl)
theorem dX0_read_64 : decode cX0_read 64 = .ok (.areturn, 1) := dk_176 (dk_at dksX0_read_2 16 rfl rfl)
theorem dX0_read_65 : decode cX0_read 65 = .ok (.bipush 29, 2) := dk_16 29 (dk_at dksX0_read_2 17 rfl rfl)
theorem dX0_read_67 : decode cX0_read 67 = .ok (.istore 4, 2) := dk_54 4 (dk_at dksX0_read_2 19 rfl rfl)
theorem dX0_read_69 : decode cX0_read 69 = .ok (.iconst 0, 1) := dk_3 (dk_at dksX0_read_2 21 rfl rfl)
theorem dX0_read_70 : decode cX0_read 70 = .ok (.istore 5, 2) := dk_54 5 (dk_at dksX0_read_2 22 rfl rfl)
theorem dX0_read_72 : decode cX0_read 72 = .ok (.iload 5, 2) := dk_21 5 (dk_at dksX0_read_3 0 rfl rfl)
theorem dX0_read_74 : decode cX0_read 74 = .ok (.iload_n 1, 1) := dk_27 (dk_at dksX0_read_3 2 rfl rfl)
theorem dX0_read_75 : decode cX0_read 75 = .ok (.iconst 1, 1) := dk_4 (dk_at dksX0_read_3 3 rfl rfl)
theorem dX0_read_76 : decode cX0_read 76 = .ok (.isub, 1) := dk_100 (dk_at dksX0_read_3 4 rfl rfl)
theorem dX0_read_77 : decode cX0_read 77 = .ok (.if_icmp .ge 23, 3) := dk_162 0 23 (dk_at dksX0_read_3 5 rfl rfl)
theorem dX0_read_80 : decode cX0_read 80 = .ok (.iload 4, 2) := dk_21 4 (dk_at dksX0_read_3 8 rfl rfl)
theorem dX0_read_82 : decode cX0_read 82 = .ok (.aload_n 0, 1) := dk_42 (dk_at dksX0_read_3 10 rfl rfl)
theorem dX0_read_83 : decode cX0_read 83 = .ok (.getfield 9, 3) := dk_180 0 9 (dk_at dksX0_read_3 11 rfl rfl)
theorem dX0_read_86 : decode cX0_read 86 = .ok (.iload 5, 2) := dk_21 5 (dk_at dksX0_read_3 14 rfl rfl)
theorem dX0_read_88 : decode cX0_read 88 = .ok (.caload, 1) := dk_52 (dk_at dksX0_read_3 16 rfl rfl)
theorem dX0_read_89 : decode cX0_read 89 = .ok (.invokestatic 472, 3) := dk_184 1 216 (dk_at dksX0_read_3 17 rfl rfl)
theorem dX0_read_92 : decode cX0_read 92 = .ok (.istore 4, 2) := dk_54 4 (dk_at dksX0_read_3 20 rfl rfl)
theorem dX0_read_94 : decode cX0_read 94 = .ok (.iinc 5 1, 3) := dk_132 5 1 (dk_at dksX0_read_4 0 rfl rfl)
theorem dX0_read_97 : decode cX0_read 97 = .ok (.goto (-25), 3) := dk_167 255 231 (dk_at dksX0_read_4 3 rfl rfl)
theorem dX0_read_100 : decode cX0_read 100 = .ok (.iload 4, 2) := dk_21 4 (dk_at dksX0_read_4 6 rfl rfl)
theorem dX0_read_102 : decode cX0_read 102 = .ok (.aload_n 0, 1) := dk_42 (dk_at dksX0_read_4 8 rfl rfl)
theorem dX0_read_103 : decode cX0_read 103 = .ok (.getfield 9, 3) := dk_180 0 9 (dk_at dksX0_read_4 9 rfl rfl)
theorem dX0_read_106 : decode cX0_read 106 = .ok (.iload_n 1, 1) := dk_27 (dk_at dksX0_read_4 12 rfl rfl)
theorem dX0_read_107 : decode cX0_read 107 = .ok (.iconst 1, 1) := dk_4 (dk_at dksX0_read_4 13 rfl rfl)
theorem dX0_read_108 : decode cX0_read 108 = .ok (.isub, 1) := dk_100 (dk_at dksX0_read_4 14 rfl rfl)
theorem dX0_read_109 : decode cX0_read 109 = .ok (.caload, 1) := dk_52 (dk_at dksX0_read_4 15 rfl rfl)
theorem dX0_read_110 : decode cX0_read 110 = .ok (.if_icmp .eq 5, 3) := dk_159 0 5 (dk_at dksX0_read_4 16 rfl rfl)
theorem dX0_read_113 : decode cX0_read 113 = .ok (.aconst_null, 1) := dk_1 (dk_at dksX0_read_4 19 rfl rfl)
theorem dX0_read_114 : decode cX0_read 114 = .ok (.areturn, 1) := dk_176 (dk_at dksX0_read_4 20 rfl rfl)
theorem dX0_read_115 : decode cX0_read 115 = .ok (.new 250, 3) := dk_187 0 250 (dk_at dksX0_read_4 21 rfl rfl)
theorem dX0_read_118 : decode cX0_read 118 = .ok (.dup, 1) := dk_89 (dk_at dksX0_read_5 0 rfl rfl)
theorem dX0_read_119 : decode cX0_read 119 = .ok (.invokespecial 474, 3) := dk_183 1 218 (dk_at dksX0_read_5 1 rfl rfl)
theorem dX0_read_122 : decode cX0_read 122 = .ok (.astore 5, 2) := dk_58 5 (dk_at dksX0_read_5 4 rfl rfl)
theorem dX0_read_124 : decode cX0_read 124 = .ok (.iconst 0, 1) := dk_3 (dk_at dksX0_read_5 6 rfl rfl)
theorem dX0_read_125 : decode cX0_read 125 = .ok (.istore 6, 2) := dk_54 6 (dk_at dksX0_read_5 7 rfl rfl)
theorem dX0_read_127 : decode cX0_read 127 = .ok (.iload 6, 2) := dk_21 6 (dk_at dksX0_read_5 9 rfl rfl)
theorem dX0_read_129 : decode cX0_read 129 = .ok (.aload_n 0, 1) := dk_42 (dk_at dksX0_read_5 11 rfl rfl)
theorem dX0_read_130 : decode cX0_read 130 = .ok (.getfield 20, 3) := dk_180 0 20 (dk_at dksX0_read_5 12 rfl rfl)
theorem dX0_read_133 : decode cX0_read 133 = .ok (.getfield 163, 3) := dk_180 0 163 (dk_at dksX0_read_5 15 rfl rfl)
theorem dX0_read_136 : decode cX0_read 136 = .ok (.invokevirtual 100, 3) := dk_182 0 100 (dk_at dksX0_read_5 18 rfl rfl)
theorem dX0_read_139 : decode cX0_read 139 = .ok (.if_icmp .ge 25, 3) := dk_162 0 25 (dk_at dksX0_read_5 21 rfl rfl)
theorem dX0_read_142 : decode cX0_read 142 = .ok (.aload 5, 2) := dk_25 5 (dk_at dksX0_read_6 0 rfl rfl)
theorem dX0_read_144 : decode cX0_read 144 = .ok (.getfield 249, 3) := dk_180 0 249 (dk_at dksX0_read_6 2 rfl rfl)
theorem dX0_read_147 : decode cX0_read 147 = .ok (.new 42, 3) := dk_187 0 42 (dk_at dksX0_read_6 5 rfl rfl)
theorem dX0_read_150 : decode cX0_read 150 = .ok (.dup, 1) := dk_89 (dk_at dksX0_read_6 8 rfl rfl)
theorem dX0_read_151 : decode cX0_read 151 = .ok (.invokespecial 44, 3) := dk_183 0 44 (dk_at dksX0_read_6 9 rfl rfl)
theorem dX0_read_154 : decode cX0_read 154 = .ok (.invokevirtual 166, 3) := dk_182 0 166 (dk_at dksX0_read_6 12 rfl rfl)
theorem dX0_read_157 : decode cX0_read 157 = .ok (.pop, 1) := dk_87 (dk_at dksX0_read_6 15 rfl rfl)
theorem dX0_read_158 : decode cX0_read 158 = .ok (.iinc 6 1, 3) := dk_132 6 1 (dk_at dksX0_read_6 16 rfl rfl)
theorem dX0_read_161 : decode cX0_read 161 = .ok (.goto (-34), 3) := dk_167 255 222 (dk_at dksX0_read_6 19 rfl rfl)
theorem dX0_read_164 : decode cX0_read 164 = .ok (.iconst (-1), 1) := dk_2 (dk_at dksX0_read_6 22 rfl rfl)
theorem dX0_read_165 : decode cX0_read 165 = .ok (.istore 6, 2) := dk_54 6 (dk_at dksX0_read_7 0 rfl rfl)
theorem dX0_read_167 : decode cX0_read 167 = .ok (.iconst 1, 1) := dk_4 (dk_at dksX0_read_7 2 rfl rfl)
theorem dX0_read_168 : decode cX0_read 168 = .ok (.istore 7, 2) := dk_54 7 (dk_at dksX0_read_7 3 rfl rfl)
theorem dX0_read_170 : decode cX0_read 170 = .ok (.iload 7, 2) := dk_21 7 (dk_at dksX0_read_7 5 rfl rfl)
theorem dX0_read_172 : decode cX0_read 172 = .ok (.iload_n 3, 1) := dk_29 (dk_at dksX0_read_7 7 rfl rfl)
theorem dX0_read_173 : decode cX0_read 173 = .ok (.if_icmp .ge 170, 3) := dk_162 0 170 (dk_at dksX0_read_7 8 rfl rfl)
theorem dX0_read_176 : decode cX0_read 176 = .ok (.bipush 48, 2) := dk_16 48 (dk_at dksX0_read_7 11 rfl rfl)
theorem dX0_read_178 : decode cX0_read 178 = .ok (.aload_n 0, 1) := dk_42 (dk_at dksX0_read_7 13 rfl rfl)
theorem dX0_read_179 : decode cX0_read 179 = .ok (.getfield 9, 3) := dk_180 0 9 (dk_at dksX0_read_7 14 rfl rfl)
theorem dX0_read_182 : decode cX0_read 182 = .ok (.iload 7, 2) := dk_21 7 (dk_at dksX0_read_7 17 rfl rfl)
theorem dX0_read_184 : decode cX0_read 184 = .ok (.caload, 1) := dk_52 (dk_at dksX0_read_7 19 rfl rfl)
theorem dX0_read_185 : decode cX0_read 185 = .ok (.imul, 1) := dk_104 (dk_at dksX0_read_7 20 rfl rfl)
theorem dX0_read_186 : decode cX0_read 186 = .ok (.aload_n 0, 1) := dk_42 (dk_at dksX0_read_7 21 rfl rfl)
theorem dX0_read_187 : decode cX0_read 187 = .ok (.getfield 9, 3) := dk_180 0 9 (dk_at dksX0_read_8 0 rfl rfl)
theorem dX0_read_190 : decode cX0_read 190 = .ok (.iload 7, 2) := dk_21 7 (dk_at dksX0_read_8 3 rfl rfl)
theorem dX0_read_192 : decode cX0_read 192 = .ok (.iconst 1, 1) := dk_4 (dk_at dksX0_read_8 5 rfl rfl)
theorem dX0_read_193 : decode cX0_read 193 = .ok (.iadd, 1) := dk_96 (dk_at dksX0_read_8 6 rfl rfl)
theorem dX0_read_194 : decode cX0_read 194 = .ok (.caload, 1) := dk_52 (dk_at dksX0_read_8 7 rfl rfl)
theorem dX0_read_195 : decode cX0_read 195 = .ok (.iadd, 1) := dk_96 (dk_at dksX0_read_8 8 rfl rfl)
theorem dX0_read_196 : decode cX0_read 196 = .ok (.istore 8, 2) := dk_54 8 (dk_at dksX0_read_8 9 rfl rfl)
theorem dX0_read_198 : decode cX0_read 198 = .ok (.aload_n 0, 1) := dk_42 (dk_at dksX0_read_8 11 rfl rfl)
theorem dX0_read_199 : decode cX0_read 199 = .ok (.aload_n 0, 1) := dk_42 (dk_at dksX0_read_8 12 rfl rfl)
theorem dX0_read_200 : decode cX0_read 200 = .ok (.getfield 9, 3) := dk_180 0 9 (dk_at dksX0_read_8 13 rfl rfl)
theorem dX0_read_203 : decode cX0_read 203 = .ok (.iload 7, 2) := dk_21 7 (dk_at dksX0_read_8 16 rfl rfl)
theorem dX0_read_205 : decode cX0_read 205 = .ok (.caload, 1) := dk_52 (dk_at dksX0_read_8 18 rfl rfl)
theorem dX0_read_206 : decode cX0_read 206 = .ok (.invokevirtual 278, 3) := dk_182 1 22 (dk_at dksX0_read_8 19 rfl rfl)
theorem dX0_read_209 : decode cX0_read 209 = .ok (.ifCond .eq 57, 3) := dk_153 0 57 (dk_at dksX0_read_9 0 rfl rfl)
theorem dX0_read_212 : decode cX0_read 212 = .ok (.aload_n 0, 1) := dk_42 (dk_at dksX0_read_9 3 rfl rfl)
theorem dX0_read_213 : decode cX0_read 213 = .ok (.getfield 9, 3) := dk_180 0 9 (dk_at dksX0_read_9 4 rfl rfl)
theorem dX0_read_216 : decode cX0_read 216 = .ok (.iload 7, 2) := dk_21 7 (dk_at dksX0_read_9 7 rfl rfl)
theorem dX0_read_218 : decode cX0_read 218 = .ok (.iconst 1, 1) := dk_4 (dk_at dksX0_read_9 9 rfl rfl)
theorem dX0_read_219 : decode cX0_read 219 = .ok (.iadd, 1) := dk_96 (dk_at dksX0_read_9 10 rfl rfl)
theorem dX0_read_220 : decode cX0_read 220 = .ok (.caload, 1) := dk_52 (dk_at dksX0_read_9 11 rfl rfl)
theorem dX0_read_221 : decode cX0_read 221 = .ok (.invokestatic 333, 3) := dk_184 1 77 (dk_at dksX0_read_9 12 rfl rfl)
theorem dX0_read_224 : decode cX0_read 224 = .ok (.ifCond .eq 42, 3) := dk_153 0 42 (dk_at dksX0_read_9 15 rfl rfl)
theorem dX0_read_227 : decode cX0_read 227 = .ok (.aload_n 0, 1) := dk_42 (dk_at dksX0_read_9 18 rfl rfl)
theorem dX0_read_228 : decode cX0_read 228 = .ok (.getfield 9, 3) := dk_180 0 9 (dk_at dksX0_read_9 19 rfl rfl)
theorem dX0_read_231 : decode cX0_read 231 = .ok (.iload 7, 2) := dk_21 7 (dk_at dksX0_read_9 22 rfl rfl)
theorem dX0_read_233 : decode cX0_read 233 = .ok (.iconst 2, 1) := dk_5 (dk_at dksX0_read_10 0 rfl rfl)
theorem dX0_read_234 : decode cX0_read 234 = .ok (.iadd, 1) := dk_96 (dk_at dksX0_read_10 1 rfl rfl)
theorem dX0_read_235 : decode cX0_read 235 = .ok (.caload, 1) := dk_52 (dk_at dksX0_read_10 2 rfl rfl)
theorem dX0_read_236 : decode cX0_read 236 = .ok (.aload_n 0, 1) := dk_42 (dk_at dksX0_read_10 3 rfl rfl)
theorem dX0_read_237 : decode cX0_read 237 = .ok (.getfield 20, 3) := dk_180 0 20 (dk_at dksX0_read_10 4 rfl rfl)
theorem dX0_read_240 : decode cX0_read 240 = .ok (.invokevirtual 143, 3) := dk_182 0 143 (dk_at dksX0_read_10 7 rfl rfl)
theorem dX0_read_243 : decode cX0_read 243 = .ok (.if_icmp .ge 23, 3) := dk_162 0 23 (dk_at dksX0_read_10 10 rfl rfl)
theorem dX0_read_246 : decode cX0_read 246 = .ok (.aload_n 0, 1) := dk_42 (dk_at dksX0_read_10 13 rfl rfl)
theorem dX0_read_247 : decode cX0_read 247 = .ok (.getfield 9, 3) := dk_180 0 9 (dk_at dksX0_read_10 14 rfl rfl)
theorem dX0_read_250 : decode cX0_read 250 = .ok (.iload 7, 2) := dk_21 7 (dk_at dksX0_read_10 17 rfl rfl)
theorem dX0_read_252 : decode cX0_read 252 = .ok (.iconst 3, 1) := dk_6 (dk_at dksX0_read_10 19 rfl rfl)
theorem dX0_read_253 : decode cX0_read 253 = .ok (.iadd, 1) := dk_96 (dk_at dksX0_read_10 20 rfl rfl)
theorem dX0_read_254 : decode cX0_read 254 = .ok (.caload, 1) := dk_52 (dk_at dksX0_read_10 21 rfl rfl)
theorem dX0_read_255 : decode cX0_read 255 = .ok (.iconst 1, 1) := dk_4 (dk_at dksX0_read_10 22 rfl rfl)
theorem dX0_read_256 : decode cX0_read 256 = .ok (.if_icmp .gt 10, 3) := dk_163 0 10 (dk_at dksX0_read_11 0 rfl rfl)
theorem dX0_read_259 : decode cX0_read 259 = .ok (.iload 8, 2) := dk_21 8 (dk_at dksX0_read_11 3 rfl rfl)
theorem dX0_read_261 : decode cX0_read 261 = .ok (.iload 6, 2) := dk_21 6 (dk_at dksX0_read_11 5 rfl rfl)
theorem dX0_read_263 : decode cX0_read 263 = .ok (.if_icmp .gt 5, 3) := dk_163 0 5 (dk_at dksX0_read_11 7 rfl rfl)
theorem dX0_read_266 : decode cX0_read 266 = .ok (.aconst_null, 1) := dk_1 (dk_at dksX0_read_11 10 rfl rfl)
theorem dX0_read_267 : decode cX0_read 267 = .ok (.areturn, 1) := dk_176 (dk_at dksX0_read_11 11 rfl rfl)
theorem dX0_read_268 : decode cX0_read 268 = .ok (.aload 5, 2) := dk_25 5 (dk_at dksX0_read_11 12 rfl rfl)
theorem dX0_read_270 : decode cX0_read 270 = .ok (.getfield 249, 3) := dk_180 0 249 (dk_at dksX0_read_11 14 rfl rfl)
theorem dX0_read_273 : decode cX0_read 273 = .ok (.aload_n 0, 1) := dk_42 (dk_at dksX0_read_11 17 rfl rfl)
theorem dX0_read_274 : decode cX0_read 274 = .ok (.getfield 9, 3) := dk_180 0 9 (dk_at dksX0_read_11 18 rfl rfl)
theorem dX0_read_277 : decode cX0_read 277 = .ok (.iload 7, 2) := dk_21 7 (dk_at dksX0_read_11 21 rfl rfl)
theorem dX0_read_279 : decode cX0_read 279 = .ok (.caload, 1) := dk_52 (dk_at dksX0_read_11 23 rfl rfl)
theorem dX0_read_280 : decode cX0_read 280 = .ok (.invokevirtual 104, 3) := dk_182 0 104 (dk_at dksX0_read_12 0 rfl rfl)
theorem dX0_read_283 : decode cX0_read 283 = .ok (.checkcast 42, 3) := dk_192 0 42 (dk_at dksX0_read_12 3 rfl rfl)
theorem dX0_read_286 : decode cX0_read 286 = .ok (.new 318, 3) := dk_187 1 62 (dk_at dksX0_read_12 6 rfl rfl)
theorem dX0_read_289 : decode cX0_read 289 = .ok (.dup, 1) := dk_89 (dk_at dksX0_read_12 9 rfl rfl)
theorem dX0_read_290 : decode cX0_read 290 = .ok (.aload_n 0, 1) := dk_42 (dk_at dksX0_read_12 10 rfl rfl)
theorem dX0_read_291 : decode cX0_read 291 = .ok (.getfield 9, 3) := dk_180 0 9 (dk_at dksX0_read_12 11 rfl rfl)
theorem dX0_read_294 : decode cX0_read 294 = .ok (.iload 7, 2) := dk_21 7 (dk_at dksX0_read_12 14 rfl rfl)
theorem dX0_read_296 : decode cX0_read 296 = .ok (.iconst 2, 1) := dk_5 (dk_at dksX0_read_12 16 rfl rfl)
theorem dX0_read_297 : decode cX0_read 297 = .ok (.iadd, 1) := dk_96 (dk_at dksX0_read_12 17 rfl rfl)
theorem dX0_read_298 : decode cX0_read 298 = .ok (.caload, 1) := dk_52 (dk_at dksX0_read_12 18 rfl rfl)
theorem dX0_read_299 : decode cX0_read 299 = .ok (.aload_n 0, 1) := dk_42 (dk_at dksX0_read_12 19 rfl rfl)
theorem dX0_read_300 : decode cX0_read 300 = .ok (.getfield 9, 3) := dk_180 0 9 (dk_at dksX0_read_12 20 rfl rfl)
theorem dX0_read_303 : decode cX0_read 303 = .ok (.iload 7, 2) := dk_21 7 (dk_at dksX0_read_13 0 rfl rfl)
theorem dX0_read_305 : decode cX0_read 305 = .ok (.iconst 1, 1) := dk_4 (dk_at dksX0_read_13 2 rfl rfl)
theorem dX0_read_306 : decode cX0_read 306 = .ok (.iadd, 1) := dk_96 (dk_at dksX0_read_13 3 rfl rfl)
theorem dX0_read_307 : decode cX0_read 307 = .ok (.caload, 1) := dk_52 (dk_at dksX0_read_13 4 rfl rfl)
theorem dX0_read_308 : decode cX0_read 308 = .ok (.aload_n 0, 1) := dk_42 (dk_at dksX0_read_13 5 rfl rfl)
theorem dX0_read_309 : decode cX0_read 309 = .ok (.getfield 9, 3) := dk_180 0 9 (dk_at dksX0_read_13 6 rfl rfl)
theorem dX0_read_312 : decode cX0_read 312 = .ok (.iload 7, 2) := dk_21 7 (dk_at dksX0_read_13 9 rfl rfl)
theorem dX0_read_314 : decode cX0_read 314 = .ok (.iconst 3, 1) := dk_6 (dk_at dksX0_read_13 11 rfl rfl)
theorem dX0_read_315 : decode cX0_read 315 = .ok (.iadd, 1) := dk_96 (dk_at dksX0_read_13 12 rfl rfl)
theorem dX0_read_316 : decode cX0_read 316 = .ok (.caload, 1) := dk_52 (dk_at dksX0_read_13 13 rfl rfl)
theorem dX0_read_317 : decode cX0_read 317 = .ok (.iconst 1, 1) := dk_4 (dk_at dksX0_read_13 14 rfl rfl)
theorem dX0_read_318 : decode cX0_read 318 = .ok (.if_icmp .ne 7, 3) := dk_160 0 7 (dk_at dksX0_read_13 15 rfl rfl)
theorem dX0_read_321 : decode cX0_read 321 = .ok (.iconst 1, 1) := dk_4 (dk_at dksX0_read_13 18 rfl rfl)
theorem dX0_read_322 : decode cX0_read 322 = .ok (.goto 4, 3) := dk_167 0 4 (dk_at dksX0_read_13 19 rfl rfl)
theorem dX0_read_325 : decode cX0_read 325 = .ok (.iconst 0, 1) := dk_3 (dk_at dksX0_read_13 22 rfl rfl)
theorem dX0_read_326 : decode cX0_read 326 = .ok (.invokespecial 444, 3) := dk_183 1 188 (dk_at dksX0_read_14 0 rfl rfl)
theorem dX0_read_329 : decode cX0_read 329 = .ok (.invokevirtual 166, 3) := dk_182 0 166 (dk_at dksX0_read_14 3 rfl rfl)
theorem dX0_read_332 : decode cX0_read 332 = .ok (.pop, 1) := dk_87 (dk_at dksX0_read_14 6 rfl rfl)
theorem dX0_read_333 : decode cX0_read 333 = .ok (.iload 8, 2) := dk_21 8 (dk_at dksX0_read_14 7 rfl rfl)
theorem dX0_read_335 : decode cX0_read 335 = .ok (.istore 6, 2) := dk_54 6 (dk_at dksX0_read_14 9 rfl rfl)
theorem dX0_read_337 : decode cX0_read 337 = .ok (.iinc 7 4, 3) := dk_132 7 4 (dk_at dksX0_read_14 11 rfl rfl)
theorem dX0_read_340 : decode cX0_read 340 = .ok (.goto (-170), 3) := dk_167 255 86 (dk_at dksX0_read_14 14 rfl rfl)
theorem dX0_read_343 : decode cX0_read 343 = .ok (.iload_n 3, 1) := dk_29 (dk_at dksX0_read_14 17 rfl rfl)
theorem dX0_read_344 : decode cX0_read 344 = .ok (.iconst 1, 1) := dk_4 (dk_at dksX0_read_14 18 rfl rfl)
theorem dX0_read_345 : decode cX0_read 345 = .ok (.iadd, 1) := dk_96 (dk_at dksX0_read_14 19 rfl rfl)
theorem dX0_read_346 : decode cX0_read 346 = .ok (.istore 7, 2) := dk_54 7 (dk_at dksX0_read_14 20 rfl rfl)
theorem dX0_read_348 : decode cX0_read 348 = .ok (.iload 7, 2) := dk_21 7 (dk_at dksX0_read_14 22 rfl rfl)
theorem dX0_read_350 : decode cX0_read 350 = .ok (.iload_n 1, 1) := dk_27 (dk_at dksX0_read_15 0 rfl rfl)
theorem dX0_read_351 : decode cX0_read 351 = .ok (.iconst 1, 1) := dk_4 (dk_at dksX0_read_15 1 rfl rfl)
theorem dX0_read_352 : decode cX0_read 352 = .ok (.isub, 1) := dk_100 (dk_at dksX0_read_15 2 rfl rfl)
theorem dX0_read_353 : decode cX0_read 353 = .ok (.if_icmp .ge 84, 3) := dk_162 0 84 (dk_at dksX0_read_15 3 rfl rfl)
theorem dX0_read_356 : decode cX0_read 356 = .ok (.aload_n 0, 1) := dk_42 (dk_at dksX0_read_15 6 rfl rfl)
theorem dX0_read_357 : decode cX0_read 357 = .ok (.aload_n 0, 1) := dk_42 (dk_at dksX0_read_15 7 rfl rfl)
theorem dX0_read_358 : decode cX0_read 358 = .ok (.getfield 9, 3) := dk_180 0 9 (dk_at dksX0_read_15 8 rfl rfl)
theorem dX0_read_361 : decode cX0_read 361 = .ok (.iload 7, 2) := dk_21 7 (dk_at dksX0_read_15 11 rfl rfl)
theorem dX0_read_363 : decode cX0_read 363 = .ok (.caload, 1) := dk_52 (dk_at dksX0_read_15 13 rfl rfl)
theorem dX0_read_364 : decode cX0_read 364 = .ok (.aload_n 0, 1) := dk_42 (dk_at dksX0_read_15 14 rfl rfl)
theorem dX0_read_365 : decode cX0_read 365 = .ok (.getfield 9, 3) := dk_180 0 9 (dk_at dksX0_read_15 15 rfl rfl)
theorem dX0_read_368 : decode cX0_read 368 = .ok (.iload 7, 2) := dk_21 7 (dk_at dksX0_read_15 18 rfl rfl)
theorem dX0_read_370 : decode cX0_read 370 = .ok (.iconst 1, 1) := dk_4 (dk_at dksX0_read_15 20 rfl rfl)
theorem dX0_read_371 : decode cX0_read 371 = .ok (.iadd, 1) := dk_96 (dk_at dksX0_read_15 21 rfl rfl)
theorem dX0_read_372 : decode cX0_read 372 = .ok (.caload, 1) := dk_52 (dk_at dksX0_read_15 22 rfl rfl)
theorem dX0_read_373 : decode cX0_read 373 = .ok (.aload_n 0, 1) := dk_42 (dk_at dksX0_read_15 23 rfl rfl)
theorem dX0_read_374 : decode cX0_read 374 = .ok (.getfield 9, 3) := dk_180 0 9 (dk_at dksX0_read_16 0 rfl rfl)
theorem dX0_read_377 : decode cX0_read 377 = .ok (.iload 7, 2) := dk_21 7 (dk_at dksX0_read_16 3 rfl rfl)
theorem dX0_read_379 : decode cX0_read 379 = .ok (.iconst 2, 1) := dk_5 (dk_at dksX0_read_16 5 rfl rfl)
theorem dX0_read_380 : decode cX0_read 380 = .ok (.iadd, 1) := dk_96 (dk_at dksX0_read_16 6 rfl rfl)
theorem dX0_read_381 : decode cX0_read 381 = .ok (.caload, 1) := dk_52 (dk_at dksX0_read_16 7 rfl rfl)
theorem dX0_read_382 : decode cX0_read 382 = .ok (.invokevirtual 455, 3) := dk_182 1 199 (dk_at dksX0_read_16 8 rfl rfl)
theorem dX0_read_385 : decode cX0_read 385 = .ok (.ifCond .ne 5, 3) := dk_154 0 5 (dk_at dksX0_read_16 11 rfl rfl)
theorem dX0_read_388 : decode cX0_read 388 = .ok (.aconst_null, 1) := dk_1 (dk_at dksX0_read_16 14 rfl rfl)
theorem dX0_read_389 : decode cX0_read 389 = .ok (.areturn, 1) := dk_176 (dk_at dksX0_read_16 15 rfl rfl)
theorem dX0_read_390 : decode cX0_read 390 = .ok (.aload 5, 2) := dk_25 5 (dk_at dksX0_read_16 16 rfl rfl)
theorem dX0_read_392 : decode cX0_read 392 = .ok (.getfield 267, 3) := dk_180 1 11 (dk_at dksX0_read_16 18 rfl rfl)
theorem dX0_read_395 : decode cX0_read 395 = .ok (.new 395, 3) := dk_187 1 139 (dk_at dksX0_read_16 21 rfl rfl)
theorem dX0_read_398 : decode cX0_read 398 = .ok (.dup, 1) := dk_89 (dk_at dksX0_read_17 0 rfl rfl)
theorem dX0_read_399 : decode cX0_read 399 = .ok (.aload_n 0, 1) := dk_42 (dk_at dksX0_read_17 1 rfl rfl)
theorem dX0_read_400 : decode cX0_read 400 = .ok (.getfield 9, 3) := dk_180 0 9 (dk_at dksX0_read_17 2 rfl rfl)
theorem dX0_read_403 : decode cX0_read 403 = .ok (.iload 7, 2) := dk_21 7 (dk_at dksX0_read_17 5 rfl rfl)
theorem dX0_read_405 : decode cX0_read 405 = .ok (.caload, 1) := dk_52 (dk_at dksX0_read_17 7 rfl rfl)
theorem dX0_read_406 : decode cX0_read 406 = .ok (.aload_n 0, 1) := dk_42 (dk_at dksX0_read_17 8 rfl rfl)
theorem dX0_read_407 : decode cX0_read 407 = .ok (.getfield 9, 3) := dk_180 0 9 (dk_at dksX0_read_17 9 rfl rfl)
theorem dX0_read_410 : decode cX0_read 410 = .ok (.iload 7, 2) := dk_21 7 (dk_at dksX0_read_17 12 rfl rfl)
theorem dX0_read_412 : decode cX0_read 412 = .ok (.iconst 1, 1) := dk_4 (dk_at dksX0_read_17 14 rfl rfl)
theorem dX0_read_413 : decode cX0_read 413 = .ok (.iadd, 1) := dk_96 (dk_at dksX0_read_17 15 rfl rfl)
theorem dX0_read_414 : decode cX0_read 414 = .ok (.caload, 1) := dk_52 (dk_at dksX0_read_17 16 rfl rfl)
theorem dX0_read_415 : decode cX0_read 415 = .ok (.aload_n 0, 1) := dk_42 (dk_at dksX0_read_17 17 rfl rfl)
theorem dX0_read_416 : decode cX0_read 416 = .ok (.getfield 9, 3) := dk_180 0 9 (dk_at dksX0_read_17 18 rfl rfl)
theorem dX0_read_419 : decode cX0_read 419 = .ok (.iload 7, 2) := dk_21 7 (dk_at dksX0_read_17 21 rfl rfl)
theorem dX0_read_421 : decode cX0_read 421 = .ok (.iconst 2, 1) := dk_5 (dk_at dksX0_read_17 23 rfl rfl)
theorem dX0_read_422 : decode cX0_read 422 = .ok (.iadd, 1) := dk_96 (dk_at dksX0_read_18 0 rfl rfl)
theorem dX0_read_423 : decode cX0_read 423 = .ok (.caload, 1) := dk_52 (dk_at dksX0_read_18 1 rfl rfl)
theorem dX0_read_424 : decode cX0_read 424 = .ok (.invokespecial 459, 3) := dk_183 1 203 (dk_at dksX0_read_18 2 rfl rfl)
theorem dX0_read_427 : decode cX0_read 427 = .ok (.invokevirtual 166, 3) := dk_182 0 166 (dk_at dksX0_read_18 5 rfl rfl)
theorem dX0_read_430 : decode cX0_read 430 = .ok (.pop, 1) := dk_87 (dk_at dksX0_read_18 8 rfl rfl)
theorem dX0_read_431 : decode cX0_read 431 = .ok (.iinc 7 3, 3) := dk_132 7 3 (dk_at dksX0_read_18 9 rfl rfl)
theorem dX0_read_434 : decode cX0_read 434 = .ok (.goto (-86), 3) := dk_167 255 170 (dk_at dksX0_read_18 12 rfl rfl)
theorem dX0_read_437 : decode cX0_read 437 = .ok (.aload 5, 2) := dk_25 5 (dk_at dksX0_read_18 15 rfl rfl)
theorem dX0_read_439 : decode cX0_read 439 = .ok (.areturn, 1) := dk_176 (dk_at dksX0_read_18 17 rfl rfl)
theorem q169 : (Jvm.Cond.initialized "ToldTracks") ∈ lw_all := lw_g (lw_at lw_m1 1 rfl) rfl
theorem q215 : (Jvm.Cond.instantiable "ToldTracks" (11 : Nat)) ∈ lw_all := lw_g (lw_at lw_m1 47 rfl) rfl
theorem q217 : (Jvm.Cond.instanceMethod ({ cls := "ToldTracks", name := "<init>", desc := "()V" } : Jvm.MethodName)) ∈ lw_all := lw_g (lw_at lw_m1 49 rfl) rfl
theorem q218 : (Jvm.Cond.code ({ cls := "ToldTracks", name := "<init>", desc := "()V" } : Jvm.MethodName) prog_1_method_1_code (1 : Nat) (Option.none : Option Jvm.ClassFile.FieldType)) ∈ lw_all := lw_g (lw_at lw_m1 50 rfl) rfl
theorem q219 : (Jvm.Cond.methodLink "ToldTracks" (1 : Nat) ({ cls := "java/lang/Object", name := "<init>", desc := "()V" } : Jvm.MethodName)) ∈ lw_all := lw_g (lw_at lw_m1 51 rfl) rfl
theorem q222 : (Jvm.Cond.classLink "ToldTracks" (17 : Nat) "ToldTracks$Sea") ∈ lw_all := lw_g (lw_at lw_m1 54 rfl) rfl
theorem q224 : (Jvm.Cond.methodLinkNest "ToldTracks" (19 : Nat) ({ cls := "ToldTracks$Sea", name := "<init>", desc := "()V" } : Jvm.MethodName) "ToldTracks") ∈ lw_tbl := lw_at lw_m1 56 rfl
theorem q281 : (Jvm.Cond.fieldLink "ToldTracks" (249 : Nat) "ToldTracks$Told" "says" "Ljava/util/ArrayList;") ∈ lw_all := lw_g (lw_at lw_m1 113 rfl) rfl
theorem q284 : (Jvm.Cond.fieldLink "ToldTracks" (267 : Nat) "ToldTracks$Told" "seen" "Ljava/util/ArrayList;") ∈ lw_all := lw_g (lw_at lw_m1 116 rfl) rfl
theorem q292 : (Jvm.Cond.fieldLink "ToldTracks" (125 : Nat) "ToldTracks$Sea" "columns" "I") ∈ lw_all := lw_g (lw_at lw_m1 124 rfl) rfl
theorem q295 : (Jvm.Cond.fieldLink "ToldTracks" (258 : Nat) "ToldTracks$Sea" "rows" "I") ∈ lw_all := lw_g (lw_at lw_m1 127 rfl) rfl
theorem q297 : (Jvm.Cond.fieldLink "ToldTracks" (246 : Nat) "ToldTracks$Sea" "statements" "I") ∈ lw_all := lw_g (lw_at lw_m1 129 rfl) rfl
theorem q300 : (Jvm.Cond.fieldLink "ToldTracks" (270 : Nat) "ToldTracks$Sea" "luck" "I") ∈ lw_all := lw_g (lw_at lw_m1 132 rfl) rfl
theorem q303 : (Jvm.Cond.fieldLink "ToldTracks" (144 : Nat) "ToldTracks$Sea" "depth" "LToldTracks$Rates;") ∈ lw_all := lw_g (lw_at lw_m1 135 rfl) rfl
theorem q306 : (Jvm.Cond.fieldLink "ToldTracks" (157 : Nat) "ToldTracks$Sea" "cost" "LToldTracks$Rates;") ∈ lw_all := lw_g (lw_at lw_m1 138 rfl) rfl
theorem q311 : (Jvm.Cond.fieldLink "ToldTracks" (163 : Nat) "ToldTracks$Sea" "ships" "Ljava/util/ArrayList;") ∈ lw_all := lw_g (lw_at lw_m1 143 rfl) rfl
theorem q315 : (Jvm.Cond.fieldLink "ToldTracks" (264 : Nat) "ToldTracks$Sea" "books" "Ljava/util/ArrayList;") ∈ lw_all := lw_g (lw_at lw_m1 147 rfl) rfl
theorem q317 : (Jvm.Cond.fieldLink "ToldTracks" (24 : Nat) "ToldTracks$Sea" "told" "LToldTracks$Told;") ∈ lw_all := lw_g (lw_at lw_m1 149 rfl) rfl
theorem q324 : (Jvm.Cond.fieldLink "ToldTracks" (128 : Nat) "ToldTracks$Sea" "depths" "[I") ∈ lw_all := lw_g (lw_at lw_m1 156 rfl) rfl
theorem q326 : (Jvm.Cond.fieldLink "ToldTracks" (154 : Nat) "ToldTracks$Sea" "costs" "[I") ∈ lw_all := lw_g (lw_at lw_m1 158 rfl) rfl
theorem q352 : (Jvm.Cond.classLink "ToldTracks" (29 : Nat) "ToldTracks$Asking") ∈ lw_all := lw_g (lw_at lw_m1 184 rfl) rfl
theorem q354 : (Jvm.Cond.methodLinkNest "ToldTracks" (31 : Nat) ({ cls := "ToldTracks$Asking", name := "<init>", desc := "()V" } : Jvm.MethodName) "ToldTracks") ∈ lw_tbl := lw_at lw_m1 186 rfl
theorem q364 : (Jvm.Cond.classLink "ToldTracks" (36 : Nat) "[S") ∈ lw_all := lw_g (lw_at lw_m1 196 rfl) rfl
theorem q366 : (Jvm.Cond.classLink "ToldTracks" (42 : Nat) "java/util/ArrayList") ∈ lw_all := lw_g (lw_at lw_m1 198 rfl) rfl
theorem q367 : (Jvm.Cond.methodLink "ToldTracks" (44 : Nat) ({ cls := "java/util/ArrayList", name := "<init>", desc := "()V" } : Jvm.MethodName)) ∈ lw_all := lw_g (lw_at lw_m1 199 rfl) rfl
theorem q368 : (Jvm.Cond.classLink "ToldTracks" (53 : Nat) "ToldTracks$Octets") ∈ lw_all := lw_g (lw_at lw_m1 200 rfl) rfl
theorem q370 : (Jvm.Cond.methodLinkNest "ToldTracks" (55 : Nat) ({ cls := "ToldTracks$Octets", name := "<init>", desc := "()V" } : Jvm.MethodName) "ToldTracks") ∈ lw_tbl := lw_at lw_m1 202 rfl
theorem q375 : (Jvm.Cond.fieldLinkNest "ToldTracks" (469 : Nat) "ToldTracks$Octets" "all" "[I" "ToldTracks") ∈ lw_tbl := lw_at lw_m1 207 rfl
theorem q377 : (Jvm.Cond.fieldLinkNest "ToldTracks" (462 : Nat) "ToldTracks$Octets" "size" "I" "ToldTracks") ∈ lw_tbl := lw_at lw_m1 209 rfl
theorem q383 : (Jvm.Cond.fieldLink "ToldTracks" (9 : Nat) "ToldTracks" "tape" "[C") ∈ lw_all := lw_g (lw_at lw_m1 215 rfl) rfl
theorem q385 : (Jvm.Cond.fieldLink "ToldTracks" (83 : Nat) "ToldTracks" "taped" "I") ∈ lw_all := lw_g (lw_at lw_m1 217 rfl) rfl
theorem q386 : (Jvm.Cond.fieldLink "ToldTracks" (13 : Nat) "ToldTracks" "refusals" "[I") ∈ lw_all := lw_g (lw_at lw_m1 218 rfl) rfl
theorem q387 : (Jvm.Cond.fieldLink "ToldTracks" (20 : Nat) "ToldTracks" "sea" "LToldTracks$Sea;") ∈ lw_all := lw_g (lw_at lw_m1 219 rfl) rfl
theorem q390 : (Jvm.Cond.fieldLink "ToldTracks" (28 : Nat) "ToldTracks" "told" "LToldTracks$Told;") ∈ lw_all := lw_g (lw_at lw_m1 222 rfl) rfl
theorem q392 : (Jvm.Cond.fieldLink "ToldTracks" (32 : Nat) "ToldTracks" "asking" "LToldTracks$Asking;") ∈ lw_all := lw_g (lw_at lw_m1 224 rfl) rfl
theorem q393 : (Jvm.Cond.fieldLink "ToldTracks" (38 : Nat) "ToldTracks" "steps" "[[S") ∈ lw_all := lw_g (lw_at lw_m1 225 rfl) rfl
theorem q394 : (Jvm.Cond.fieldLink "ToldTracks" (45 : Nat) "ToldTracks" "voyages" "Ljava/util/ArrayList;") ∈ lw_all := lw_g (lw_at lw_m1 226 rfl) rfl
theorem q395 : (Jvm.Cond.fieldLink "ToldTracks" (237 : Nat) "ToldTracks" "fault" "I") ∈ lw_all := lw_g (lw_at lw_m1 227 rfl) rfl
theorem q396 : (Jvm.Cond.fieldLink "ToldTracks" (49 : Nat) "ToldTracks" "faultPlace" "I") ∈ lw_all := lw_g (lw_at lw_m1 228 rfl) rfl
theorem q397 : (Jvm.Cond.fieldLink "ToldTracks" (56 : Nat) "ToldTracks" "octets" "LToldTracks$Octets;") ∈ lw_all := lw_g (lw_at lw_m1 229 rfl) rfl
theorem q398 : (Jvm.Cond.laysFinal "ToldTracks" "ToldTracks" "tape" "[C") ∈ lw_all := lw_g (lw_at lw_m1 230 rfl) rfl
theorem q399 : (Jvm.Cond.soleField "ToldTracks" "tape") ∈ lw_all := lw_g (lw_at lw_m1 231 rfl) rfl
theorem q400 : (Jvm.Cond.lays "ToldTracks" "ToldTracks" "taped" "I") ∈ lw_all := lw_g (lw_at lw_m1 232 rfl) rfl
theorem q401 : (Jvm.Cond.soleField "ToldTracks" "taped") ∈ lw_all := lw_g (lw_at lw_m1 233 rfl) rfl
theorem q402 : (Jvm.Cond.laysFinal "ToldTracks" "ToldTracks" "refusals" "[I") ∈ lw_all := lw_g (lw_at lw_m1 234 rfl) rfl
theorem q403 : (Jvm.Cond.soleField "ToldTracks" "refusals") ∈ lw_all := lw_g (lw_at lw_m1 235 rfl) rfl
theorem q404 : (Jvm.Cond.lays "ToldTracks" "ToldTracks" "sea" "LToldTracks$Sea;") ∈ lw_all := lw_g (lw_at lw_m1 236 rfl) rfl
theorem q405 : (Jvm.Cond.soleField "ToldTracks" "sea") ∈ lw_all := lw_g (lw_at lw_m1 237 rfl) rfl
theorem q406 : (Jvm.Cond.lays "ToldTracks" "ToldTracks" "told" "LToldTracks$Told;") ∈ lw_all := lw_g (lw_at lw_m1 238 rfl) rfl
theorem q407 : (Jvm.Cond.soleField "ToldTracks" "told") ∈ lw_all := lw_g (lw_at lw_m1 239 rfl) rfl
theorem q408 : (Jvm.Cond.laysFinal "ToldTracks" "ToldTracks" "asking" "LToldTracks$Asking;") ∈ lw_all := lw_g (lw_at lw_m2 0 rfl) rfl
theorem q409 : (Jvm.Cond.soleField "ToldTracks" "asking") ∈ lw_all := lw_g (lw_at lw_m2 1 rfl) rfl
theorem q410 : (Jvm.Cond.lays "ToldTracks" "ToldTracks" "steps" "[[S") ∈ lw_all := lw_g (lw_at lw_m2 2 rfl) rfl
theorem q411 : (Jvm.Cond.soleField "ToldTracks" "steps") ∈ lw_all := lw_g (lw_at lw_m2 3 rfl) rfl
theorem q412 : (Jvm.Cond.laysFinal "ToldTracks" "ToldTracks" "voyages" "Ljava/util/ArrayList;") ∈ lw_all := lw_g (lw_at lw_m2 4 rfl) rfl
theorem q413 : (Jvm.Cond.soleField "ToldTracks" "voyages") ∈ lw_all := lw_g (lw_at lw_m2 5 rfl) rfl
theorem q414 : (Jvm.Cond.lays "ToldTracks" "ToldTracks" "fault" "I") ∈ lw_all := lw_g (lw_at lw_m2 6 rfl) rfl
theorem q415 : (Jvm.Cond.soleField "ToldTracks" "fault") ∈ lw_all := lw_g (lw_at lw_m2 7 rfl) rfl
theorem q416 : (Jvm.Cond.lays "ToldTracks" "ToldTracks" "faultPlace" "I") ∈ lw_all := lw_g (lw_at lw_m2 8 rfl) rfl
theorem q417 : (Jvm.Cond.soleField "ToldTracks" "faultPlace") ∈ lw_all := lw_g (lw_at lw_m2 9 rfl) rfl
theorem q418 : (Jvm.Cond.laysFinal "ToldTracks" "ToldTracks" "octets" "LToldTracks$Octets;") ∈ lw_all := lw_g (lw_at lw_m2 10 rfl) rfl
theorem q419 : (Jvm.Cond.soleField "ToldTracks" "octets") ∈ lw_all := lw_g (lw_at lw_m2 11 rfl) rfl
theorem q420 : (Jvm.Cond.superclass "ToldTracks" "java/lang/Object") ∈ lw_all := lw_g (lw_at lw_m2 12 rfl) rfl
theorem q422 : (Jvm.Cond.instanceMethod ({ cls := "ToldTracks", name := "feed", desc := "(IIIII)I" } : Jvm.MethodName)) ∈ lw_all := lw_g (lw_at lw_m2 14 rfl) rfl
theorem q423 : (Jvm.Cond.selects "ToldTracks" ({ cls := "ToldTracks", name := "feed", desc := "(IIIII)I" } : Jvm.MethodName) ({ cls := "ToldTracks", name := "feed", desc := "(IIIII)I" } : Jvm.MethodName)) ∈ lw_all := lw_g (lw_at lw_m2 15 rfl) rfl
theorem q424 : (Jvm.Cond.code ({ cls := "ToldTracks", name := "feed", desc := "(IIIII)I" } : Jvm.MethodName) prog_1_method_7_code (6 : Nat) (Option.some Jvm.ClassFile.FieldType.int)) ∈ lw_all := lw_g (lw_at lw_m2 16 rfl) rfl
theorem q425 : (Jvm.Cond.methodLink "ToldTracks" (79 : Nat) ({ cls := "ToldTracks", name := "refused", desc := "(I)I" } : Jvm.MethodName)) ∈ lw_all := lw_g (lw_at lw_m2 17 rfl) rfl
theorem q426 : (Jvm.Cond.privateMethod ({ cls := "ToldTracks", name := "refused", desc := "(I)I" } : Jvm.MethodName)) ∈ lw_tbl := lw_at lw_m2 18 rfl
theorem q427 : (Jvm.Cond.instanceMethod ({ cls := "ToldTracks", name := "refused", desc := "(I)I" } : Jvm.MethodName)) ∈ lw_all := lw_g (lw_at lw_m2 19 rfl) rfl
theorem q428 : (Jvm.Cond.code ({ cls := "ToldTracks", name := "refused", desc := "(I)I" } : Jvm.MethodName) prog_1_method_5_code (2 : Nat) (Option.some Jvm.ClassFile.FieldType.int)) ∈ lw_all := lw_g (lw_at lw_m2 20 rfl) rfl
theorem q429 : (Jvm.Cond.methodLink "ToldTracks" (86 : Nat) ({ cls := "ToldTracks", name := "lays", desc := "(I)V" } : Jvm.MethodName)) ∈ lw_all := lw_g (lw_at lw_m2 21 rfl) rfl
theorem q430 : (Jvm.Cond.privateMethod ({ cls := "ToldTracks", name := "lays", desc := "(I)V" } : Jvm.MethodName)) ∈ lw_tbl := lw_at lw_m2 22 rfl
theorem q431 : (Jvm.Cond.instanceMethod ({ cls := "ToldTracks", name := "lays", desc := "(I)V" } : Jvm.MethodName)) ∈ lw_all := lw_g (lw_at lw_m2 23 rfl) rfl
theorem q432 : (Jvm.Cond.code ({ cls := "ToldTracks", name := "lays", desc := "(I)V" } : Jvm.MethodName) prog_1_method_8_code (3 : Nat) (Option.none : Option Jvm.ClassFile.FieldType)) ∈ lw_all := lw_g (lw_at lw_m2 24 rfl) rfl
theorem q434 : (Jvm.Cond.instanceMethod ({ cls := "ToldTracks", name := "end", desc := "(I)Z" } : Jvm.MethodName)) ∈ lw_all := lw_g (lw_at lw_m2 26 rfl) rfl
theorem q435 : (Jvm.Cond.selects "ToldTracks" ({ cls := "ToldTracks", name := "end", desc := "(I)Z" } : Jvm.MethodName) ({ cls := "ToldTracks", name := "end", desc := "(I)Z" } : Jvm.MethodName)) ∈ lw_all := lw_g (lw_at lw_m2 27 rfl) rfl
theorem q436 : (Jvm.Cond.code ({ cls := "ToldTracks", name := "end", desc := "(I)Z" } : Jvm.MethodName) prog_1_method_9_code (2 : Nat) (Option.some Jvm.ClassFile.FieldType.boolean)) ∈ lw_all := lw_g (lw_at lw_m2 28 rfl) rfl
theorem q437 : (Jvm.Cond.methodLink "ToldTracks" (90 : Nat) ({ cls := "ToldTracks", name := "refuses", desc := "(I)Z" } : Jvm.MethodName)) ∈ lw_all := lw_g (lw_at lw_m2 29 rfl) rfl
theorem q438 : (Jvm.Cond.privateMethod ({ cls := "ToldTracks", name := "refuses", desc := "(I)Z" } : Jvm.MethodName)) ∈ lw_tbl := lw_at lw_m2 30 rfl
theorem q439 : (Jvm.Cond.instanceMethod ({ cls := "ToldTracks", name := "refuses", desc := "(I)Z" } : Jvm.MethodName)) ∈ lw_all := lw_g (lw_at lw_m2 31 rfl) rfl
theorem q440 : (Jvm.Cond.code ({ cls := "ToldTracks", name := "refuses", desc := "(I)Z" } : Jvm.MethodName) prog_1_method_6_code (2 : Nat) (Option.some Jvm.ClassFile.FieldType.boolean)) ∈ lw_all := lw_g (lw_at lw_m2 32 rfl) rfl
theorem q442 : (Jvm.Cond.instanceMethod ({ cls := "ToldTracks", name := "status", desc := "(I)I" } : Jvm.MethodName)) ∈ lw_all := lw_g (lw_at lw_m2 34 rfl) rfl
theorem q443 : (Jvm.Cond.selects "ToldTracks" ({ cls := "ToldTracks", name := "status", desc := "(I)I" } : Jvm.MethodName) ({ cls := "ToldTracks", name := "status", desc := "(I)I" } : Jvm.MethodName)) ∈ lw_all := lw_g (lw_at lw_m2 35 rfl) rfl
theorem q444 : (Jvm.Cond.code ({ cls := "ToldTracks", name := "status", desc := "(I)I" } : Jvm.MethodName) prog_1_method_10_code (2 : Nat) (Option.some Jvm.ClassFile.FieldType.int)) ∈ lw_all := lw_g (lw_at lw_m2 36 rfl) rfl
theorem q445 : (Jvm.Cond.constantLong "ToldTracks" (94 : Nat) (4 : Int64)) ∈ lw_all := lw_g (lw_at lw_m2 37 rfl) rfl
theorem q446 : (Jvm.Cond.methodLink "ToldTracks" (96 : Nat) ({ cls := "ToldTracks", name := "isIn", desc := "(JJJ)Z" } : Jvm.MethodName)) ∈ lw_all := lw_g (lw_at lw_m2 38 rfl) rfl
theorem q447 : (Jvm.Cond.static ({ cls := "ToldTracks", name := "isIn", desc := "(JJJ)Z" } : Jvm.MethodName)) ∈ lw_all := lw_g (lw_at lw_m2 39 rfl) rfl
theorem q448 : (Jvm.Cond.code ({ cls := "ToldTracks", name := "isIn", desc := "(JJJ)Z" } : Jvm.MethodName) prog_1_method_2_code (6 : Nat) (Option.some Jvm.ClassFile.FieldType.boolean)) ∈ lw_all := lw_g (lw_at lw_m2 40 rfl) rfl
theorem q450 : (Jvm.Cond.instanceMethod ({ cls := "ToldTracks", name := "sea", desc := "()I" } : Jvm.MethodName)) ∈ lw_all := lw_g (lw_at lw_m2 42 rfl) rfl
theorem q451 : (Jvm.Cond.selects "ToldTracks" ({ cls := "ToldTracks", name := "sea", desc := "()I" } : Jvm.MethodName) ({ cls := "ToldTracks", name := "sea", desc := "()I" } : Jvm.MethodName)) ∈ lw_all := lw_g (lw_at lw_m2 43 rfl) rfl
theorem q452 : (Jvm.Cond.codeWith ({ cls := "ToldTracks", name := "sea", desc := "()I" } : Jvm.MethodName) prog_1_method_25_code (3 : Nat) (Option.some Jvm.ClassFile.FieldType.int) [((10 : Nat), (26 : Nat), (29 : Nat), (232 : Nat))]) ∈ lw_all := lw_g (lw_at lw_m2 44 rfl) rfl
theorem q453 : (Jvm.Cond.classLink "ToldTracks" (232 : Nat) "ToldTracks$Fault") ∈ lw_all := lw_g (lw_at lw_m2 45 rfl) rfl
theorem q454 : (Jvm.Cond.classLink "ToldTracks" (223 : Nat) "ToldTracks$Reader") ∈ lw_all := lw_g (lw_at lw_m2 46 rfl) rfl
theorem q456 : (Jvm.Cond.methodLink "ToldTracks" (225 : Nat) ({ cls := "ToldTracks$Reader", name := "<init>", desc := "(LToldTracks;I)V" } : Jvm.MethodName)) ∈ lw_all := lw_g (lw_at lw_m2 48 rfl) rfl
theorem q499 : (Jvm.Cond.methodLink "ToldTracks" (228 : Nat) ({ cls := "ToldTracks$Reader", name := "text", desc := "()LToldTracks$Sea;" } : Jvm.MethodName)) ∈ lw_all := lw_g (lw_at lw_m2 91 rfl) rfl
theorem q573 : (Jvm.Cond.fieldLink "ToldTracks" (234 : Nat) "ToldTracks$Fault" "kind" "I") ∈ lw_all := lw_g (lw_at lw_m2 165 rfl) rfl
theorem q575 : (Jvm.Cond.fieldLink "ToldTracks" (240 : Nat) "ToldTracks$Fault" "place" "I") ∈ lw_all := lw_g (lw_at lw_m2 167 rfl) rfl
theorem q670 : (Jvm.Cond.static ({ cls := "ToldTracks", name := "digitsOf", desc := "(Ljava/lang/String;)I" } : Jvm.MethodName)) ∈ lw_all := lw_g (lw_at lw_m3 22 rfl) rfl
theorem q671 : (Jvm.Cond.code ({ cls := "ToldTracks", name := "digitsOf", desc := "(Ljava/lang/String;)I" } : Jvm.MethodName) prog_1_method_13_code (3 : Nat) (Option.some Jvm.ClassFile.FieldType.int)) ∈ lw_all := lw_g (lw_at lw_m3 23 rfl) rfl
theorem q672 : (Jvm.Cond.methodLink "ToldTracks" (118 : Nat) ({ cls := "java/lang/String", name := "length", desc := "()I" } : Jvm.MethodName)) ∈ lw_all := lw_g (lw_at lw_m3 24 rfl) rfl
theorem q680 : (Jvm.Cond.methodLink "ToldTracks" (121 : Nat) ({ cls := "java/lang/String", name := "charAt", desc := "(I)C" } : Jvm.MethodName)) ∈ lw_all := lw_g (lw_at lw_m3 32 rfl) rfl
theorem q950 : (Jvm.Cond.selects "ToldTracks" ({ cls := "java/lang/Object", name := "getClass", desc := "()Ljava/lang/Class;" } : Jvm.MethodName) ({ cls := "java/lang/Object", name := "getClass", desc := "()Ljava/lang/Class;" } : Jvm.MethodName)) ∈ lw_all := lw_g (lw_at lw_m4 62 rfl) rfl
theorem q1114 : (Jvm.Cond.static ({ cls := "ToldTracks", name := "isOwn", desc := "(Ljava/lang/String;)Z" } : Jvm.MethodName)) ∈ lw_all := lw_g (lw_at lw_m4 226 rfl) rfl
theorem q1115 : (Jvm.Cond.code ({ cls := "ToldTracks", name := "isOwn", desc := "(Ljava/lang/String;)Z" } : Jvm.MethodName) prog_1_method_3_code (2 : Nat) (Option.some Jvm.ClassFile.FieldType.boolean)) ∈ lw_all := lw_g (lw_at lw_m4 227 rfl) rfl
theorem q1116 : (Jvm.Cond.fieldLink "ToldTracks" (60 : Nat) "ToldTracks" "OWN" "[Ljava/lang/String;") ∈ lw_all := lw_g (lw_at lw_m4 228 rfl) rfl
theorem q1117 : (Jvm.Cond.laysStatic "ToldTracks" "OWN" "[Ljava/lang/String;") ∈ lw_tbl := lw_at lw_m4 229 rfl
theorem q1118 : (Jvm.Cond.methodLink "ToldTracks" (64 : Nat) ({ cls := "java/lang/String", name := "equals", desc := "(Ljava/lang/Object;)Z" } : Jvm.MethodName)) ∈ lw_all := lw_g (lw_at lw_m4 230 rfl) rfl
theorem q1124 : (Jvm.Cond.static ({ cls := "ToldTracks", name := "named", desc := "(Ljava/util/ArrayList;Ljava/lang/String;)LToldTracks$Named;" } : Jvm.MethodName)) ∈ lw_all := lw_g (lw_at lw_m4 236 rfl) rfl
theorem q1125 : (Jvm.Cond.code ({ cls := "ToldTracks", name := "named", desc := "(Ljava/util/ArrayList;Ljava/lang/String;)LToldTracks$Named;" } : Jvm.MethodName) prog_1_method_11_code (3 : Nat) (Option.some (Jvm.ClassFile.FieldType.object "ToldTracks$Named"))) ∈ lw_all := lw_g (lw_at lw_m4 237 rfl) rfl
theorem q1126 : (Jvm.Cond.methodLink "ToldTracks" (100 : Nat) ({ cls := "java/util/ArrayList", name := "size", desc := "()I" } : Jvm.MethodName)) ∈ lw_all := lw_g (lw_at lw_m4 238 rfl) rfl
theorem q1127 : (Jvm.Cond.methodLink "ToldTracks" (104 : Nat) ({ cls := "java/util/ArrayList", name := "get", desc := "(I)Ljava/lang/Object;" } : Jvm.MethodName)) ∈ lw_all := lw_g (lw_at lw_m4 239 rfl) rfl
theorem q1139 : (Jvm.Cond.classLink "ToldTracks" (108 : Nat) "ToldTracks$Named") ∈ lw_all := lw_g (lw_at lw_m5 11 rfl) rfl
theorem q1147 : (Jvm.Cond.fieldLink "ToldTracks" (294 : Nat) "ToldTracks$Ship" "look" "I") ∈ lw_all := lw_g (lw_at lw_m5 19 rfl) rfl
theorem q1149 : (Jvm.Cond.fieldLink "ToldTracks" (185 : Nat) "ToldTracks$Ship" "speed" "I") ∈ lw_all := lw_g (lw_at lw_m5 21 rfl) rfl
theorem q1154 : (Jvm.Cond.fieldLink "ToldTracks" (177 : Nat) "ToldTracks$Ship" "draft" "I") ∈ lw_all := lw_g (lw_at lw_m5 26 rfl) rfl
theorem q1157 : (Jvm.Cond.fieldLink "ToldTracks" (297 : Nat) "ToldTracks$Ship" "load" "I") ∈ lw_all := lw_g (lw_at lw_m5 29 rfl) rfl
theorem q1160 : (Jvm.Cond.fieldLink "ToldTracks" (110 : Nat) "ToldTracks$Named" "name" "Ljava/lang/String;") ∈ lw_all := lw_g (lw_at lw_m5 32 rfl) rfl
theorem q1161 : (Jvm.Cond.fieldLink "ToldTracks" (281 : Nat) "ToldTracks$Ship" "name" "Ljava/lang/String;") ∈ lw_all := lw_g (lw_at lw_m5 33 rfl) rfl
theorem q1236 : (Jvm.Cond.fieldLink "ToldTracks" (322 : Nat) "ToldTracks$Saying" "laden" "Z") ∈ lw_all := lw_g (lw_at lw_m5 108 rfl) rfl
theorem q1243 : (Jvm.Cond.fieldLink "ToldTracks" (200 : Nat) "ToldTracks$Fact" "cell" "I") ∈ lw_all := lw_g (lw_at lw_m5 115 rfl) rfl
theorem q1244 : (Jvm.Cond.fieldLink "ToldTracks" (321 : Nat) "ToldTracks$Saying" "cell" "I") ∈ lw_all := lw_g (lw_at lw_m5 116 rfl) rfl
theorem q1250 : (Jvm.Cond.fieldLink "ToldTracks" (192 : Nat) "ToldTracks$Fact" "hour" "I") ∈ lw_all := lw_g (lw_at lw_m5 122 rfl) rfl
theorem q1251 : (Jvm.Cond.fieldLink "ToldTracks" (320 : Nat) "ToldTracks$Saying" "hour" "I") ∈ lw_all := lw_g (lw_at lw_m5 123 rfl) rfl
theorem q1287 : (Jvm.Cond.fieldLink "ToldTracks" (284 : Nat) "ToldTracks$Book" "ship" "I") ∈ lw_all := lw_g (lw_at lw_m5 159 rfl) rfl
theorem q1316 : (Jvm.Cond.fieldLink "ToldTracks" (394 : Nat) "ToldTracks$Sighting" "look" "I") ∈ lw_all := lw_g (lw_at lw_m5 188 rfl) rfl
theorem q1318 : (Jvm.Cond.fieldLink "ToldTracks" (397 : Nat) "ToldTracks$Sighting" "cell" "I") ∈ lw_all := lw_g (lw_at lw_m5 190 rfl) rfl
theorem q1320 : (Jvm.Cond.fieldLink "ToldTracks" (398 : Nat) "ToldTracks$Sighting" "hour" "I") ∈ lw_all := lw_g (lw_at lw_m5 192 rfl) rfl
theorem q1329 : (Jvm.Cond.methodLink "ToldTracks" (243 : Nat) ({ cls := "ToldTracks", name := "begins", desc := "()V" } : Jvm.MethodName)) ∈ lw_all := lw_g (lw_at lw_m5 201 rfl) rfl
theorem q1330 : (Jvm.Cond.privateMethod ({ cls := "ToldTracks", name := "begins", desc := "()V" } : Jvm.MethodName)) ∈ lw_tbl := lw_at lw_m5 202 rfl
theorem q1331 : (Jvm.Cond.instanceMethod ({ cls := "ToldTracks", name := "begins", desc := "()V" } : Jvm.MethodName)) ∈ lw_all := lw_g (lw_at lw_m5 203 rfl) rfl
theorem q1332 : (Jvm.Cond.code ({ cls := "ToldTracks", name := "begins", desc := "()V" } : Jvm.MethodName) prog_1_method_16_code (2 : Nat) (Option.none : Option Jvm.ClassFile.FieldType)) ∈ lw_all := lw_g (lw_at lw_m5 204 rfl) rfl
theorem q1333 : (Jvm.Cond.methodLink "ToldTracks" (143 : Nat) ({ cls := "ToldTracks$Sea", name := "size", desc := "()I" } : Jvm.MethodName)) ∈ lw_all := lw_g (lw_at lw_m5 205 rfl) rfl
theorem q1337 : (Jvm.Cond.methodLink "ToldTracks" (131 : Nat) ({ cls := "ToldTracks$Asking", name := "is", desc := "(IIII)LToldTracks$Asking;" } : Jvm.MethodName)) ∈ lw_all := lw_g (lw_at lw_m5 209 rfl) rfl
theorem q1341 : (Jvm.Cond.methodLink "ToldTracks" (148 : Nat) ({ cls := "ToldTracks$Rates", name := "of", desc := "(LToldTracks$Asking;I)I" } : Jvm.MethodName)) ∈ lw_all := lw_g (lw_at lw_m5 213 rfl) rfl
theorem q1411 : (Jvm.Cond.static ({ cls := "ToldTracks", name := "clip", desc := "(J)J" } : Jvm.MethodName)) ∈ lw_all := lw_g (lw_at lw_m6 43 rfl) rfl
theorem q1412 : (Jvm.Cond.code ({ cls := "ToldTracks", name := "clip", desc := "(J)J" } : Jvm.MethodName) prog_1_method_12_code (2 : Nat) (Option.some Jvm.ClassFile.FieldType.long)) ∈ lw_all := lw_g (lw_at lw_m6 44 rfl) rfl
theorem q1413 : (Jvm.Cond.constantLong "ToldTracks" (114 : Nat) (-1000000 : Int64)) ∈ lw_all := lw_g (lw_at lw_m6 45 rfl) rfl
theorem q1414 : (Jvm.Cond.constantLong "ToldTracks" (116 : Nat) (1000000 : Int64)) ∈ lw_all := lw_g (lw_at lw_m6 46 rfl) rfl
theorem q1415 : (Jvm.Cond.methodLink "ToldTracks" (70 : Nat) ({ cls := "java/lang/Math", name := "min", desc := "(JJ)J" } : Jvm.MethodName)) ∈ lw_all := lw_g (lw_at lw_m6 47 rfl) rfl
theorem q1416 : (Jvm.Cond.methodLink "ToldTracks" (76 : Nat) ({ cls := "java/lang/Math", name := "max", desc := "(JJ)J" } : Jvm.MethodName)) ∈ lw_all := lw_g (lw_at lw_m6 48 rfl) rfl
theorem q1449 : (Jvm.Cond.static ({ cls := "ToldTracks", name := "clipped", desc := "(JI)I" } : Jvm.MethodName)) ∈ lw_all := lw_g (lw_at lw_m6 81 rfl) rfl
theorem q1450 : (Jvm.Cond.code ({ cls := "ToldTracks", name := "clipped", desc := "(JI)I" } : Jvm.MethodName) prog_1_method_4_code (3 : Nat) (Option.some Jvm.ClassFile.FieldType.int)) ∈ lw_all := lw_g (lw_at lw_m6 82 rfl) rfl
theorem q1451 : (Jvm.Cond.methodLink "ToldTracks" (135 : Nat) ({ cls := "ToldTracks", name := "ask", desc := "(II)LToldTracks$Asking;" } : Jvm.MethodName)) ∈ lw_all := lw_g (lw_at lw_m6 83 rfl) rfl
theorem q1452 : (Jvm.Cond.privateMethod ({ cls := "ToldTracks", name := "ask", desc := "(II)LToldTracks$Asking;" } : Jvm.MethodName)) ∈ lw_tbl := lw_at lw_m6 84 rfl
theorem q1453 : (Jvm.Cond.instanceMethod ({ cls := "ToldTracks", name := "ask", desc := "(II)LToldTracks$Asking;" } : Jvm.MethodName)) ∈ lw_all := lw_g (lw_at lw_m6 85 rfl) rfl
theorem q1454 : (Jvm.Cond.code ({ cls := "ToldTracks", name := "ask", desc := "(II)LToldTracks$Asking;" } : Jvm.MethodName) prog_1_method_14_code (3 : Nat) (Option.some (Jvm.ClassFile.FieldType.object "ToldTracks$Asking"))) ∈ lw_all := lw_g (lw_at lw_m6 86 rfl) rfl
theorem q1455 : (Jvm.Cond.methodLink "ToldTracks" (160 : Nat) ({ cls := "java/util/ArrayList", name := "clear", desc := "()V" } : Jvm.MethodName)) ∈ lw_all := lw_g (lw_at lw_m6 87 rfl) rfl
theorem q1459 : (Jvm.Cond.methodLink "ToldTracks" (166 : Nat) ({ cls := "java/util/ArrayList", name := "add", desc := "(Ljava/lang/Object;)Z" } : Jvm.MethodName)) ∈ lw_all := lw_g (lw_at lw_m6 91 rfl) rfl
theorem q1461 : (Jvm.Cond.instanceMethod ({ cls := "ToldTracks", name := "fault", desc := "(I)I" } : Jvm.MethodName)) ∈ lw_all := lw_g (lw_at lw_m6 93 rfl) rfl
theorem q1462 : (Jvm.Cond.selects "ToldTracks" ({ cls := "ToldTracks", name := "fault", desc := "(I)I" } : Jvm.MethodName) ({ cls := "ToldTracks", name := "fault", desc := "(I)I" } : Jvm.MethodName)) ∈ lw_all := lw_g (lw_at lw_m6 94 rfl) rfl
theorem q1463 : (Jvm.Cond.code ({ cls := "ToldTracks", name := "fault", desc := "(I)I" } : Jvm.MethodName) prog_1_method_26_code (2 : Nat) (Option.some Jvm.ClassFile.FieldType.int)) ∈ lw_all := lw_g (lw_at lw_m6 95 rfl) rfl
theorem q1465 : (Jvm.Cond.instanceMethod ({ cls := "ToldTracks", name := "has", desc := "(I)I" } : Jvm.MethodName)) ∈ lw_all := lw_g (lw_at lw_m6 97 rfl) rfl
theorem q1466 : (Jvm.Cond.selects "ToldTracks" ({ cls := "ToldTracks", name := "has", desc := "(I)I" } : Jvm.MethodName) ({ cls := "ToldTracks", name := "has", desc := "(I)I" } : Jvm.MethodName)) ∈ lw_all := lw_g (lw_at lw_m6 98 rfl) rfl
theorem q1467 : (Jvm.Cond.code ({ cls := "ToldTracks", name := "has", desc := "(I)I" } : Jvm.MethodName) prog_1_method_28_code (2 : Nat) (Option.some Jvm.ClassFile.FieldType.int)) ∈ lw_all := lw_g (lw_at lw_m6 99 rfl) rfl
theorem q1468 : (Jvm.Cond.methodLink "ToldTracks" (261 : Nat) ({ cls := "ToldTracks$Told", name := "many", desc := "()I" } : Jvm.MethodName)) ∈ lw_all := lw_g (lw_at lw_m6 100 rfl) rfl
theorem q1469 : (Jvm.Cond.methodLink "ToldTracks" (273 : Nat) ({ cls := "ToldTracks", name := "sayers", desc := "()I" } : Jvm.MethodName)) ∈ lw_all := lw_g (lw_at lw_m6 101 rfl) rfl
theorem q1470 : (Jvm.Cond.privateMethod ({ cls := "ToldTracks", name := "sayers", desc := "()I" } : Jvm.MethodName)) ∈ lw_tbl := lw_at lw_m6 102 rfl
theorem q1471 : (Jvm.Cond.instanceMethod ({ cls := "ToldTracks", name := "sayers", desc := "()I" } : Jvm.MethodName)) ∈ lw_all := lw_g (lw_at lw_m6 103 rfl) rfl
theorem q1472 : (Jvm.Cond.code ({ cls := "ToldTracks", name := "sayers", desc := "()I" } : Jvm.MethodName) prog_1_method_27_code (3 : Nat) (Option.some Jvm.ClassFile.FieldType.int)) ∈ lw_all := lw_g (lw_at lw_m6 104 rfl) rfl
theorem q1473 : (Jvm.Cond.methodLink "ToldTracks" (254 : Nat) ({ cls := "java/util/ArrayList", name := "isEmpty", desc := "()Z" } : Jvm.MethodName)) ∈ lw_all := lw_g (lw_at lw_m6 105 rfl) rfl
theorem q1478 : (Jvm.Cond.instanceMethod ({ cls := "ToldTracks", name := "letter", desc := "(II)I" } : Jvm.MethodName)) ∈ lw_all := lw_g (lw_at lw_m6 110 rfl) rfl
theorem q1479 : (Jvm.Cond.selects "ToldTracks" ({ cls := "ToldTracks", name := "letter", desc := "(II)I" } : Jvm.MethodName) ({ cls := "ToldTracks", name := "letter", desc := "(II)I" } : Jvm.MethodName)) ∈ lw_all := lw_g (lw_at lw_m6 111 rfl) rfl
theorem q1480 : (Jvm.Cond.code ({ cls := "ToldTracks", name := "letter", desc := "(II)I" } : Jvm.MethodName) prog_1_method_31_code (3 : Nat) (Option.some Jvm.ClassFile.FieldType.int)) ∈ lw_all := lw_g (lw_at lw_m6 112 rfl) rfl
theorem q1481 : (Jvm.Cond.methodLink "ToldTracks" (278 : Nat) ({ cls := "ToldTracks", name := "isShip", desc := "(I)Z" } : Jvm.MethodName)) ∈ lw_all := lw_g (lw_at lw_m6 113 rfl) rfl
theorem q1482 : (Jvm.Cond.privateMethod ({ cls := "ToldTracks", name := "isShip", desc := "(I)Z" } : Jvm.MethodName)) ∈ lw_tbl := lw_at lw_m6 114 rfl
theorem q1483 : (Jvm.Cond.instanceMethod ({ cls := "ToldTracks", name := "isShip", desc := "(I)Z" } : Jvm.MethodName)) ∈ lw_all := lw_g (lw_at lw_m6 115 rfl) rfl
theorem q1484 : (Jvm.Cond.code ({ cls := "ToldTracks", name := "isShip", desc := "(I)Z" } : Jvm.MethodName) prog_1_method_29_code (2 : Nat) (Option.some Jvm.ClassFile.FieldType.boolean)) ∈ lw_all := lw_g (lw_at lw_m6 116 rfl) rfl
theorem q1485 : (Jvm.Cond.classLink "ToldTracks" (178 : Nat) "ToldTracks$Ship") ∈ lw_all := lw_g (lw_at lw_m6 117 rfl) rfl
theorem q1487 : (Jvm.Cond.instanceMethod ({ cls := "ToldTracks", name := "ship", desc := "(II)I" } : Jvm.MethodName)) ∈ lw_all := lw_g (lw_at lw_m6 119 rfl) rfl
theorem q1488 : (Jvm.Cond.selects "ToldTracks" ({ cls := "ToldTracks", name := "ship", desc := "(II)I" } : Jvm.MethodName) ({ cls := "ToldTracks", name := "ship", desc := "(II)I" } : Jvm.MethodName)) ∈ lw_all := lw_g (lw_at lw_m6 120 rfl) rfl
theorem q1489 : (Jvm.Cond.code ({ cls := "ToldTracks", name := "ship", desc := "(II)I" } : Jvm.MethodName) prog_1_method_33_code (4 : Nat) (Option.some Jvm.ClassFile.FieldType.int)) ∈ lw_all := lw_g (lw_at lw_m6 121 rfl) rfl
theorem q1490 : (Jvm.Cond.methodLink "ToldTracks" (287 : Nat) ({ cls := "ToldTracks", name := "voyage", desc := "(I)LToldTracks$Voyage;" } : Jvm.MethodName)) ∈ lw_all := lw_g (lw_at lw_m6 122 rfl) rfl
theorem q1491 : (Jvm.Cond.privateMethod ({ cls := "ToldTracks", name := "voyage", desc := "(I)LToldTracks$Voyage;" } : Jvm.MethodName)) ∈ lw_tbl := lw_at lw_m6 123 rfl
theorem q1492 : (Jvm.Cond.instanceMethod ({ cls := "ToldTracks", name := "voyage", desc := "(I)LToldTracks$Voyage;" } : Jvm.MethodName)) ∈ lw_all := lw_g (lw_at lw_m6 124 rfl) rfl
theorem q1493 : (Jvm.Cond.code ({ cls := "ToldTracks", name := "voyage", desc := "(I)LToldTracks$Voyage;" } : Jvm.MethodName) prog_1_method_23_code (2 : Nat) (Option.some (Jvm.ClassFile.FieldType.object "ToldTracks$Voyage"))) ∈ lw_all := lw_g (lw_at lw_m6 125 rfl) rfl
theorem q1494 : (Jvm.Cond.classLink "ToldTracks" (214 : Nat) "ToldTracks$Voyage") ∈ lw_all := lw_g (lw_at lw_m6 126 rfl) rfl
theorem q1496 : (Jvm.Cond.methodLink "ToldTracks" (216 : Nat) ({ cls := "ToldTracks$Voyage", name := "<init>", desc := "(LToldTracks;LToldTracks$Ship;)V" } : Jvm.MethodName)) ∈ lw_all := lw_g (lw_at lw_m6 128 rfl) rfl
theorem q1537 : (Jvm.Cond.privateMethod ({ cls := "ToldTracks", name := "fits", desc := "(LToldTracks$Ship;Ljava/util/ArrayList;)Z" } : Jvm.MethodName)) ∈ lw_tbl := lw_at lw_m6 169 rfl
theorem q1538 : (Jvm.Cond.instanceMethod ({ cls := "ToldTracks", name := "fits", desc := "(LToldTracks$Ship;Ljava/util/ArrayList;)Z" } : Jvm.MethodName)) ∈ lw_all := lw_g (lw_at lw_m6 170 rfl) rfl
theorem q1539 : (Jvm.Cond.code ({ cls := "ToldTracks", name := "fits", desc := "(LToldTracks$Ship;Ljava/util/ArrayList;)Z" } : Jvm.MethodName) prog_1_method_22_code (4 : Nat) (Option.some Jvm.ClassFile.FieldType.boolean)) ∈ lw_all := lw_g (lw_at lw_m6 171 rfl) rfl
theorem q1540 : (Jvm.Cond.classLink "ToldTracks" (193 : Nat) "ToldTracks$Fact") ∈ lw_all := lw_g (lw_at lw_m6 172 rfl) rfl
theorem q1541 : (Jvm.Cond.methodLink "ToldTracks" (207 : Nat) ({ cls := "ToldTracks$Fact", name := "isSound", desc := "(LToldTracks$Sea;LToldTracks$Ship;)Z" } : Jvm.MethodName)) ∈ lw_all := lw_g (lw_at lw_m6 173 rfl) rfl
theorem q1550 : (Jvm.Cond.methodLink "ToldTracks" (211 : Nat) ({ cls := "ToldTracks", name := "isTogether", desc := "(LToldTracks$Ship;LToldTracks$Fact;LToldTracks$Fact;)Z" } : Jvm.MethodName)) ∈ lw_all := lw_g (lw_at lw_m6 182 rfl) rfl
theorem q1551 : (Jvm.Cond.privateMethod ({ cls := "ToldTracks", name := "isTogether", desc := "(LToldTracks$Ship;LToldTracks$Fact;LToldTracks$Fact;)Z" } : Jvm.MethodName)) ∈ lw_tbl := lw_at lw_m6 183 rfl
theorem q1552 : (Jvm.Cond.instanceMethod ({ cls := "ToldTracks", name := "isTogether", desc := "(LToldTracks$Ship;LToldTracks$Fact;LToldTracks$Fact;)Z" } : Jvm.MethodName)) ∈ lw_all := lw_g (lw_at lw_m6 184 rfl) rfl
theorem q1553 : (Jvm.Cond.code ({ cls := "ToldTracks", name := "isTogether", desc := "(LToldTracks$Ship;LToldTracks$Fact;LToldTracks$Fact;)Z" } : Jvm.MethodName) prog_1_method_20_code (4 : Nat) (Option.some Jvm.ClassFile.FieldType.boolean)) ∈ lw_all := lw_g (lw_at lw_m6 185 rfl) rfl
theorem q1554 : (Jvm.Cond.methodLink "ToldTracks" (188 : Nat) ({ cls := "ToldTracks", name := "isTogether", desc := "(LToldTracks$Ship;LToldTracks$Fact;ILToldTracks$Fact;I)Z" } : Jvm.MethodName)) ∈ lw_all := lw_g (lw_at lw_m6 186 rfl) rfl
theorem q1555 : (Jvm.Cond.privateMethod ({ cls := "ToldTracks", name := "isTogether", desc := "(LToldTracks$Ship;LToldTracks$Fact;ILToldTracks$Fact;I)Z" } : Jvm.MethodName)) ∈ lw_tbl := lw_at lw_m6 187 rfl
theorem q1556 : (Jvm.Cond.instanceMethod ({ cls := "ToldTracks", name := "isTogether", desc := "(LToldTracks$Ship;LToldTracks$Fact;ILToldTracks$Fact;I)Z" } : Jvm.MethodName)) ∈ lw_all := lw_g (lw_at lw_m6 188 rfl) rfl
theorem q1557 : (Jvm.Cond.code ({ cls := "ToldTracks", name := "isTogether", desc := "(LToldTracks$Ship;LToldTracks$Fact;ILToldTracks$Fact;I)Z" } : Jvm.MethodName) prog_1_method_21_code (8 : Nat) (Option.some Jvm.ClassFile.FieldType.boolean)) ∈ lw_all := lw_g (lw_at lw_m6 189 rfl) rfl
theorem q1558 : (Jvm.Cond.methodLink "ToldTracks" (197 : Nat) ({ cls := "java/lang/Math", name := "abs", desc := "(I)I" } : Jvm.MethodName)) ∈ lw_all := lw_g (lw_at lw_m6 190 rfl) rfl
theorem q1561 : (Jvm.Cond.methodLink "ToldTracks" (203 : Nat) ({ cls := "ToldTracks", name := "hours", desc := "(LToldTracks$Ship;II)I" } : Jvm.MethodName)) ∈ lw_all := lw_g (lw_at lw_m6 193 rfl) rfl
theorem q1562 : (Jvm.Cond.privateMethod ({ cls := "ToldTracks", name := "hours", desc := "(LToldTracks$Ship;II)I" } : Jvm.MethodName)) ∈ lw_tbl := lw_at lw_m6 194 rfl
theorem q1563 : (Jvm.Cond.instanceMethod ({ cls := "ToldTracks", name := "hours", desc := "(LToldTracks$Ship;II)I" } : Jvm.MethodName)) ∈ lw_all := lw_g (lw_at lw_m6 195 rfl) rfl
theorem q1564 : (Jvm.Cond.code ({ cls := "ToldTracks", name := "hours", desc := "(LToldTracks$Ship;II)I" } : Jvm.MethodName) prog_1_method_19_code (5 : Nat) (Option.some Jvm.ClassFile.FieldType.int)) ∈ lw_all := lw_g (lw_at lw_m6 196 rfl) rfl
theorem q1565 : (Jvm.Cond.methodLink "ToldTracks" (182 : Nat) ({ cls := "ToldTracks", name := "stepsFrom", desc := "(II)[S" } : Jvm.MethodName)) ∈ lw_all := lw_g (lw_at lw_m6 197 rfl) rfl
theorem q1566 : (Jvm.Cond.privateMethod ({ cls := "ToldTracks", name := "stepsFrom", desc := "(II)[S" } : Jvm.MethodName)) ∈ lw_tbl := lw_at lw_m6 198 rfl
theorem q1567 : (Jvm.Cond.instanceMethod ({ cls := "ToldTracks", name := "stepsFrom", desc := "(II)[S" } : Jvm.MethodName)) ∈ lw_all := lw_g (lw_at lw_m6 199 rfl) rfl
theorem q1568 : (Jvm.Cond.code ({ cls := "ToldTracks", name := "stepsFrom", desc := "(II)[S" } : Jvm.MethodName) prog_1_method_17_code (4 : Nat) (Option.some (Jvm.ClassFile.FieldType.array Jvm.ClassFile.FieldType.short))) ∈ lw_all := lw_g (lw_at lw_m6 200 rfl) rfl
theorem q1569 : (Jvm.Cond.methodLink "ToldTracks" (169 : Nat) ({ cls := "ToldTracks", name := "walks", desc := "(II)[S" } : Jvm.MethodName)) ∈ lw_all := lw_g (lw_at lw_m6 201 rfl) rfl
theorem q1570 : (Jvm.Cond.privateMethod ({ cls := "ToldTracks", name := "walks", desc := "(II)[S" } : Jvm.MethodName)) ∈ lw_tbl := lw_at lw_m6 202 rfl
theorem q1571 : (Jvm.Cond.instanceMethod ({ cls := "ToldTracks", name := "walks", desc := "(II)[S" } : Jvm.MethodName)) ∈ lw_all := lw_g (lw_at lw_m6 203 rfl) rfl
theorem q1572 : (Jvm.Cond.code ({ cls := "ToldTracks", name := "walks", desc := "(II)[S" } : Jvm.MethodName) prog_1_method_18_code (9 : Nat) (Option.some (Jvm.ClassFile.FieldType.array Jvm.ClassFile.FieldType.short))) ∈ lw_all := lw_g (lw_at lw_m6 204 rfl) rfl
theorem q1573 : (Jvm.Cond.methodLink "ToldTracks" (173 : Nat) ({ cls := "ToldTracks$Sea", name := "beside", desc := "(II)I" } : Jvm.MethodName)) ∈ lw_all := lw_g (lw_at lw_m6 205 rfl) rfl
theorem q1591 : (Jvm.Cond.fieldLink "ToldTracks" (291 : Nat) "ToldTracks$Voyage" "ship" "LToldTracks$Ship;") ∈ lw_all := lw_g (lw_at lw_m6 223 rfl) rfl
theorem q1594 : (Jvm.Cond.fieldLink "ToldTracks" (300 : Nat) "ToldTracks$Voyage" "says" "Ljava/util/ArrayList;") ∈ lw_all := lw_g (lw_at lw_m6 226 rfl) rfl
theorem q1597 : (Jvm.Cond.fieldLinkNest "ToldTracks" (378 : Nat) "ToldTracks$Voyage" "books" "Ljava/util/ArrayList;" "ToldTracks") ∈ lw_tbl := lw_at lw_m6 229 rfl
theorem q1599 : (Jvm.Cond.fieldLinkNest "ToldTracks" (345 : Nat) "ToldTracks$Voyage" "facts" "Ljava/util/ArrayList;" "ToldTracks") ∈ lw_tbl := lw_at lw_m6 231 rfl
theorem q1603 : (Jvm.Cond.fieldLink "ToldTracks" (310 : Nat) "ToldTracks$Voyage" "isWritten" "Z") ∈ lw_all := lw_g (lw_at lw_m6 235 rfl) rfl
theorem q1605 : (Jvm.Cond.fieldLink "ToldTracks" (301 : Nat) "ToldTracks$Voyage" "keeps" "I") ∈ lw_all := lw_g (lw_at lw_m6 237 rfl) rfl
theorem q1625 : (Jvm.Cond.methodLink "ToldTracks" (219 : Nat) ({ cls := "java/util/ArrayList", name := "set", desc := "(ILjava/lang/Object;)Ljava/lang/Object;" } : Jvm.MethodName)) ∈ lw_all := lw_g (lw_at lw_m7 17 rfl) rfl
theorem q1629 : (Jvm.Cond.methodLink "ToldTracks" (304 : Nat) ({ cls := "ToldTracks$Voyage", name := "lies", desc := "()I" } : Jvm.MethodName)) ∈ lw_all := lw_g (lw_at lw_m7 21 rfl) rfl
theorem q1633 : (Jvm.Cond.methodLink "ToldTracks" (307 : Nat) ({ cls := "ToldTracks", name := "booksOf", desc := "(I)I" } : Jvm.MethodName)) ∈ lw_all := lw_g (lw_at lw_m7 25 rfl) rfl
theorem q1634 : (Jvm.Cond.privateMethod ({ cls := "ToldTracks", name := "booksOf", desc := "(I)I" } : Jvm.MethodName)) ∈ lw_tbl := lw_at lw_m7 26 rfl
theorem q1635 : (Jvm.Cond.instanceMethod ({ cls := "ToldTracks", name := "booksOf", desc := "(I)I" } : Jvm.MethodName)) ∈ lw_all := lw_g (lw_at lw_m7 27 rfl) rfl
theorem q1636 : (Jvm.Cond.code ({ cls := "ToldTracks", name := "booksOf", desc := "(I)I" } : Jvm.MethodName) prog_1_method_32_code (4 : Nat) (Option.some Jvm.ClassFile.FieldType.int)) ∈ lw_all := lw_g (lw_at lw_m7 28 rfl) rfl
theorem q1637 : (Jvm.Cond.classLink "ToldTracks" (282 : Nat) "ToldTracks$Book") ∈ lw_all := lw_g (lw_at lw_m7 29 rfl) rfl
theorem q1639 : (Jvm.Cond.instanceMethod ({ cls := "ToldTracks", name := "saying", desc := "(III)I" } : Jvm.MethodName)) ∈ lw_all := lw_g (lw_at lw_m7 31 rfl) rfl
theorem q1640 : (Jvm.Cond.selects "ToldTracks" ({ cls := "ToldTracks", name := "saying", desc := "(III)I" } : Jvm.MethodName) ({ cls := "ToldTracks", name := "saying", desc := "(III)I" } : Jvm.MethodName)) ∈ lw_all := lw_g (lw_at lw_m7 32 rfl) rfl
theorem q1641 : (Jvm.Cond.code ({ cls := "ToldTracks", name := "saying", desc := "(III)I" } : Jvm.MethodName) prog_1_method_35_code (5 : Nat) (Option.some Jvm.ClassFile.FieldType.int)) ∈ lw_all := lw_g (lw_at lw_m7 33 rfl) rfl
theorem q1642 : (Jvm.Cond.methodLink "ToldTracks" (314 : Nat) ({ cls := "ToldTracks", name := "isSaying", desc := "(II)Z" } : Jvm.MethodName)) ∈ lw_all := lw_g (lw_at lw_m7 34 rfl) rfl
theorem q1643 : (Jvm.Cond.privateMethod ({ cls := "ToldTracks", name := "isSaying", desc := "(II)Z" } : Jvm.MethodName)) ∈ lw_tbl := lw_at lw_m7 35 rfl
theorem q1644 : (Jvm.Cond.instanceMethod ({ cls := "ToldTracks", name := "isSaying", desc := "(II)Z" } : Jvm.MethodName)) ∈ lw_all := lw_g (lw_at lw_m7 36 rfl) rfl
theorem q1645 : (Jvm.Cond.code ({ cls := "ToldTracks", name := "isSaying", desc := "(II)Z" } : Jvm.MethodName) prog_1_method_34_code (3 : Nat) (Option.some Jvm.ClassFile.FieldType.boolean)) ∈ lw_all := lw_g (lw_at lw_m7 37 rfl) rfl
theorem q1646 : (Jvm.Cond.classLink "ToldTracks" (318 : Nat) "ToldTracks$Saying") ∈ lw_all := lw_g (lw_at lw_m7 38 rfl) rfl
theorem q1647 : (Jvm.Cond.methodLink "ToldTracks" (325 : Nat) ({ cls := "ToldTracks$Saying", name := "isSound", desc := "(LToldTracks$Sea;LToldTracks$Ship;)Z" } : Jvm.MethodName)) ∈ lw_all := lw_g (lw_at lw_m7 39 rfl) rfl
theorem q1648 : (Jvm.Cond.methodLink "ToldTracks" (326 : Nat) ({ cls := "ToldTracks$Voyage", name := "isKept", desc := "(LToldTracks$Saying;)Z" } : Jvm.MethodName)) ∈ lw_all := lw_g (lw_at lw_m7 40 rfl) rfl
theorem q1653 : (Jvm.Cond.instanceMethod ({ cls := "ToldTracks", name := "cell", desc := "(IIII)I" } : Jvm.MethodName)) ∈ lw_all := lw_g (lw_at lw_m7 45 rfl) rfl
theorem q1654 : (Jvm.Cond.selects "ToldTracks" ({ cls := "ToldTracks", name := "cell", desc := "(IIII)I" } : Jvm.MethodName) ({ cls := "ToldTracks", name := "cell", desc := "(IIII)I" } : Jvm.MethodName)) ∈ lw_all := lw_g (lw_at lw_m7 46 rfl) rfl
theorem q1655 : (Jvm.Cond.code ({ cls := "ToldTracks", name := "cell", desc := "(IIII)I" } : Jvm.MethodName) prog_1_method_36_code (6 : Nat) (Option.some Jvm.ClassFile.FieldType.int)) ∈ lw_all := lw_g (lw_at lw_m7 47 rfl) rfl
theorem q1656 : (Jvm.Cond.methodLink "ToldTracks" (330 : Nat) ({ cls := "ToldTracks$Sea", name := "at", desc := "(II)I" } : Jvm.MethodName)) ∈ lw_all := lw_g (lw_at lw_m7 48 rfl) rfl
theorem q1657 : (Jvm.Cond.methodLink "ToldTracks" (333 : Nat) ({ cls := "ToldTracks", name := "isHour", desc := "(I)Z" } : Jvm.MethodName)) ∈ lw_all := lw_g (lw_at lw_m7 49 rfl) rfl
theorem q1658 : (Jvm.Cond.static ({ cls := "ToldTracks", name := "isHour", desc := "(I)Z" } : Jvm.MethodName)) ∈ lw_all := lw_g (lw_at lw_m7 50 rfl) rfl
theorem q1659 : (Jvm.Cond.code ({ cls := "ToldTracks", name := "isHour", desc := "(I)Z" } : Jvm.MethodName) prog_1_method_30_code (1 : Nat) (Option.some Jvm.ClassFile.FieldType.boolean)) ∈ lw_all := lw_g (lw_at lw_m7 51 rfl) rfl
theorem q1660 : (Jvm.Cond.constantLong "ToldTracks" (276 : Nat) (47 : Int64)) ∈ lw_all := lw_g (lw_at lw_m7 52 rfl) rfl
theorem q1661 : (Jvm.Cond.methodLink "ToldTracks" (336 : Nat) ({ cls := "ToldTracks", name := "isQuiet", desc := "(II)Z" } : Jvm.MethodName)) ∈ lw_all := lw_g (lw_at lw_m7 53 rfl) rfl
theorem q1662 : (Jvm.Cond.privateMethod ({ cls := "ToldTracks", name := "isQuiet", desc := "(II)Z" } : Jvm.MethodName)) ∈ lw_tbl := lw_at lw_m7 54 rfl
theorem q1663 : (Jvm.Cond.instanceMethod ({ cls := "ToldTracks", name := "isQuiet", desc := "(II)Z" } : Jvm.MethodName)) ∈ lw_all := lw_g (lw_at lw_m7 55 rfl) rfl
theorem q1664 : (Jvm.Cond.code ({ cls := "ToldTracks", name := "isQuiet", desc := "(II)Z" } : Jvm.MethodName) prog_1_method_15_code (3 : Nat) (Option.some Jvm.ClassFile.FieldType.boolean)) ∈ lw_all := lw_g (lw_at lw_m7 56 rfl) rfl
theorem q1665 : (Jvm.Cond.methodLink "ToldTracks" (139 : Nat) ({ cls := "ToldTracks$Sea", name := "isQuiet", desc := "(LToldTracks$Asking;)Z" } : Jvm.MethodName)) ∈ lw_all := lw_g (lw_at lw_m7 57 rfl) rfl
theorem q1675 : (Jvm.Cond.instanceMethod ({ cls := "ToldTracks", name := "far", desc := "(IIIII)I" } : Jvm.MethodName)) ∈ lw_all := lw_g (lw_at lw_m7 67 rfl) rfl
theorem q1676 : (Jvm.Cond.selects "ToldTracks" ({ cls := "ToldTracks", name := "far", desc := "(IIIII)I" } : Jvm.MethodName) ({ cls := "ToldTracks", name := "far", desc := "(IIIII)I" } : Jvm.MethodName)) ∈ lw_all := lw_g (lw_at lw_m7 68 rfl) rfl
theorem q1677 : (Jvm.Cond.code ({ cls := "ToldTracks", name := "far", desc := "(IIIII)I" } : Jvm.MethodName) prog_1_method_37_code (8 : Nat) (Option.some Jvm.ClassFile.FieldType.int)) ∈ lw_all := lw_g (lw_at lw_m7 69 rfl) rfl
theorem q1679 : (Jvm.Cond.instanceMethod ({ cls := "ToldTracks", name := "can", desc := "(III)I" } : Jvm.MethodName)) ∈ lw_all := lw_g (lw_at lw_m7 71 rfl) rfl
theorem q1680 : (Jvm.Cond.selects "ToldTracks" ({ cls := "ToldTracks", name := "can", desc := "(III)I" } : Jvm.MethodName) ({ cls := "ToldTracks", name := "can", desc := "(III)I" } : Jvm.MethodName)) ∈ lw_all := lw_g (lw_at lw_m7 72 rfl) rfl
theorem q1681 : (Jvm.Cond.code ({ cls := "ToldTracks", name := "can", desc := "(III)I" } : Jvm.MethodName) prog_1_method_38_code (4 : Nat) (Option.some Jvm.ClassFile.FieldType.int)) ∈ lw_all := lw_g (lw_at lw_m7 73 rfl) rfl
theorem q1683 : (Jvm.Cond.instanceMethod ({ cls := "ToldTracks", name := "reach", desc := "(III)I" } : Jvm.MethodName)) ∈ lw_all := lw_g (lw_at lw_m7 75 rfl) rfl
theorem q1684 : (Jvm.Cond.selects "ToldTracks" ({ cls := "ToldTracks", name := "reach", desc := "(III)I" } : Jvm.MethodName) ({ cls := "ToldTracks", name := "reach", desc := "(III)I" } : Jvm.MethodName)) ∈ lw_all := lw_g (lw_at lw_m7 76 rfl) rfl
theorem q1685 : (Jvm.Cond.code ({ cls := "ToldTracks", name := "reach", desc := "(III)I" } : Jvm.MethodName) prog_1_method_39_code (6 : Nat) (Option.some Jvm.ClassFile.FieldType.int)) ∈ lw_all := lw_g (lw_at lw_m7 77 rfl) rfl
theorem q1686 : (Jvm.Cond.methodLink "ToldTracks" (338 : Nat) ({ cls := "ToldTracks$Voyage", name := "may", desc := "(II)Z" } : Jvm.MethodName)) ∈ lw_all := lw_g (lw_at lw_m7 78 rfl) rfl
theorem q1697 : (Jvm.Cond.instanceMethod ({ cls := "ToldTracks", name := "may", desc := "(IIII)I" } : Jvm.MethodName)) ∈ lw_all := lw_g (lw_at lw_m7 89 rfl) rfl
theorem q1698 : (Jvm.Cond.selects "ToldTracks" ({ cls := "ToldTracks", name := "may", desc := "(IIII)I" } : Jvm.MethodName) ({ cls := "ToldTracks", name := "may", desc := "(IIII)I" } : Jvm.MethodName)) ∈ lw_all := lw_g (lw_at lw_m7 90 rfl) rfl
theorem q1699 : (Jvm.Cond.code ({ cls := "ToldTracks", name := "may", desc := "(IIII)I" } : Jvm.MethodName) prog_1_method_40_code (6 : Nat) (Option.some Jvm.ClassFile.FieldType.int)) ∈ lw_all := lw_g (lw_at lw_m7 91 rfl) rfl
theorem q1701 : (Jvm.Cond.instanceMethod ({ cls := "ToldTracks", name := "judge", desc := "(II)I" } : Jvm.MethodName)) ∈ lw_all := lw_g (lw_at lw_m7 93 rfl) rfl
theorem q1702 : (Jvm.Cond.selects "ToldTracks" ({ cls := "ToldTracks", name := "judge", desc := "(II)I" } : Jvm.MethodName) ({ cls := "ToldTracks", name := "judge", desc := "(II)I" } : Jvm.MethodName)) ∈ lw_all := lw_g (lw_at lw_m7 94 rfl) rfl
theorem q1703 : (Jvm.Cond.code ({ cls := "ToldTracks", name := "judge", desc := "(II)I" } : Jvm.MethodName) prog_1_method_46_code (3 : Nat) (Option.some Jvm.ClassFile.FieldType.int)) ∈ lw_all := lw_g (lw_at lw_m7 95 rfl) rfl
theorem q1704 : (Jvm.Cond.methodLink "ToldTracks" (372 : Nat) ({ cls := "ToldTracks", name := "isTale", desc := "(II)Z" } : Jvm.MethodName)) ∈ lw_all := lw_g (lw_at lw_m7 96 rfl) rfl
theorem q1705 : (Jvm.Cond.privateMethod ({ cls := "ToldTracks", name := "isTale", desc := "(II)Z" } : Jvm.MethodName)) ∈ lw_tbl := lw_at lw_m7 97 rfl
theorem q1706 : (Jvm.Cond.instanceMethod ({ cls := "ToldTracks", name := "isTale", desc := "(II)Z" } : Jvm.MethodName)) ∈ lw_all := lw_g (lw_at lw_m7 98 rfl) rfl
theorem q1707 : (Jvm.Cond.code ({ cls := "ToldTracks", name := "isTale", desc := "(II)Z" } : Jvm.MethodName) prog_1_method_45_code (4 : Nat) (Option.some Jvm.ClassFile.FieldType.boolean)) ∈ lw_all := lw_g (lw_at lw_m7 99 rfl) rfl
theorem q1708 : (Jvm.Cond.methodLink "ToldTracks" (354 : Nat) ({ cls := "ToldTracks$Voyage", name := "fitsAll", desc := "()Z" } : Jvm.MethodName)) ∈ lw_all := lw_g (lw_at lw_m7 100 rfl) rfl
theorem q1713 : (Jvm.Cond.methodLink "ToldTracks" (357 : Nat) ({ cls := "ToldTracks$Voyage", name := "gaps", desc := "(Z)I" } : Jvm.MethodName)) ∈ lw_all := lw_g (lw_at lw_m7 105 rfl) rfl
theorem q1734 : (Jvm.Cond.methodLink "ToldTracks" (361 : Nat) ({ cls := "ToldTracks", name := "named", desc := "(I)I" } : Jvm.MethodName)) ∈ lw_all := lw_g (lw_at lw_m7 126 rfl) rfl
theorem q1735 : (Jvm.Cond.privateMethod ({ cls := "ToldTracks", name := "named", desc := "(I)I" } : Jvm.MethodName)) ∈ lw_tbl := lw_at lw_m7 127 rfl
theorem q1736 : (Jvm.Cond.instanceMethod ({ cls := "ToldTracks", name := "named", desc := "(I)I" } : Jvm.MethodName)) ∈ lw_all := lw_g (lw_at lw_m7 128 rfl) rfl
theorem q1737 : (Jvm.Cond.code ({ cls := "ToldTracks", name := "named", desc := "(I)I" } : Jvm.MethodName) prog_1_method_44_code (4 : Nat) (Option.some Jvm.ClassFile.FieldType.int)) ∈ lw_all := lw_g (lw_at lw_m7 129 rfl) rfl
theorem q1738 : (Jvm.Cond.methodLink "ToldTracks" (351 : Nat) ({ cls := "ToldTracks", name := "isNamed", desc := "(II)Z" } : Jvm.MethodName)) ∈ lw_all := lw_g (lw_at lw_m7 130 rfl) rfl
theorem q1739 : (Jvm.Cond.privateMethod ({ cls := "ToldTracks", name := "isNamed", desc := "(II)Z" } : Jvm.MethodName)) ∈ lw_tbl := lw_at lw_m7 131 rfl
theorem q1740 : (Jvm.Cond.instanceMethod ({ cls := "ToldTracks", name := "isNamed", desc := "(II)Z" } : Jvm.MethodName)) ∈ lw_all := lw_g (lw_at lw_m7 132 rfl) rfl
theorem q1741 : (Jvm.Cond.code ({ cls := "ToldTracks", name := "isNamed", desc := "(II)Z" } : Jvm.MethodName) prog_1_method_43_code (3 : Nat) (Option.some Jvm.ClassFile.FieldType.boolean)) ∈ lw_all := lw_g (lw_at lw_m7 133 rfl) rfl
theorem q1742 : (Jvm.Cond.methodLink "ToldTracks" (348 : Nat) ({ cls := "ToldTracks", name := "fitsFor", desc := "(LToldTracks$Ship;Ljava/util/ArrayList;Ljava/util/ArrayList;)Z" } : Jvm.MethodName)) ∈ lw_all := lw_g (lw_at lw_m7 134 rfl) rfl
theorem q1743 : (Jvm.Cond.privateMethod ({ cls := "ToldTracks", name := "fitsFor", desc := "(LToldTracks$Ship;Ljava/util/ArrayList;Ljava/util/ArrayList;)Z" } : Jvm.MethodName)) ∈ lw_tbl := lw_at lw_m7 135 rfl
theorem q1744 : (Jvm.Cond.instanceMethod ({ cls := "ToldTracks", name := "fitsFor", desc := "(LToldTracks$Ship;Ljava/util/ArrayList;Ljava/util/ArrayList;)Z" } : Jvm.MethodName)) ∈ lw_all := lw_g (lw_at lw_m7 136 rfl) rfl
theorem q1745 : (Jvm.Cond.code ({ cls := "ToldTracks", name := "fitsFor", desc := "(LToldTracks$Ship;Ljava/util/ArrayList;Ljava/util/ArrayList;)Z" } : Jvm.MethodName) prog_1_method_42_code (4 : Nat) (Option.some Jvm.ClassFile.FieldType.boolean)) ∈ lw_all := lw_g (lw_at lw_m7 137 rfl) rfl
theorem q1746 : (Jvm.Cond.methodLink "ToldTracks" (341 : Nat) ({ cls := "ToldTracks", name := "fitsFor", desc := "(LToldTracks$Ship;Ljava/util/ArrayList;IILjava/util/ArrayList;)Z" } : Jvm.MethodName)) ∈ lw_all := lw_g (lw_at lw_m7 138 rfl) rfl
theorem q1747 : (Jvm.Cond.privateMethod ({ cls := "ToldTracks", name := "fitsFor", desc := "(LToldTracks$Ship;Ljava/util/ArrayList;IILjava/util/ArrayList;)Z" } : Jvm.MethodName)) ∈ lw_tbl := lw_at lw_m7 139 rfl
theorem q1748 : (Jvm.Cond.instanceMethod ({ cls := "ToldTracks", name := "fitsFor", desc := "(LToldTracks$Ship;Ljava/util/ArrayList;IILjava/util/ArrayList;)Z" } : Jvm.MethodName)) ∈ lw_all := lw_g (lw_at lw_m7 140 rfl) rfl
theorem q1749 : (Jvm.Cond.code ({ cls := "ToldTracks", name := "fitsFor", desc := "(LToldTracks$Ship;Ljava/util/ArrayList;IILjava/util/ArrayList;)Z" } : Jvm.MethodName) prog_1_method_41_code (13 : Nat) (Option.some Jvm.ClassFile.FieldType.boolean)) ∈ lw_all := lw_g (lw_at lw_m7 141 rfl) rfl
theorem q1750 : (Jvm.Cond.classLink "ToldTracks" (364 : Nat) "ToldTracks$Pair") ∈ lw_all := lw_g (lw_at lw_m7 142 rfl) rfl
theorem q1752 : (Jvm.Cond.methodLink "ToldTracks" (366 : Nat) ({ cls := "ToldTracks$Pair", name := "<init>", desc := "(LToldTracks;LToldTracks$Voyage;)V" } : Jvm.MethodName)) ∈ lw_all := lw_g (lw_at lw_m7 144 rfl) rfl
theorem q1808 : (Jvm.Cond.methodLink "ToldTracks" (369 : Nat) ({ cls := "ToldTracks$Pair", name := "isThere", desc := "()Z" } : Jvm.MethodName)) ∈ lw_all := lw_g (lw_at lw_m7 200 rfl) rfl
theorem q1813 : (Jvm.Cond.instanceMethod ({ cls := "ToldTracks", name := "tale", desc := "(II)I" } : Jvm.MethodName)) ∈ lw_all := lw_g (lw_at lw_m7 205 rfl) rfl
theorem q1814 : (Jvm.Cond.selects "ToldTracks" ({ cls := "ToldTracks", name := "tale", desc := "(II)I" } : Jvm.MethodName) ({ cls := "ToldTracks", name := "tale", desc := "(II)I" } : Jvm.MethodName)) ∈ lw_all := lw_g (lw_at lw_m7 206 rfl) rfl
theorem q1815 : (Jvm.Cond.code ({ cls := "ToldTracks", name := "tale", desc := "(II)I" } : Jvm.MethodName) prog_1_method_48_code (3 : Nat) (Option.some Jvm.ClassFile.FieldType.int)) ∈ lw_all := lw_g (lw_at lw_m7 207 rfl) rfl
theorem q1816 : (Jvm.Cond.methodLink "ToldTracks" (375 : Nat) ({ cls := "ToldTracks", name := "taleOf", desc := "(II)I" } : Jvm.MethodName)) ∈ lw_all := lw_g (lw_at lw_m7 208 rfl) rfl
theorem q1817 : (Jvm.Cond.privateMethod ({ cls := "ToldTracks", name := "taleOf", desc := "(II)I" } : Jvm.MethodName)) ∈ lw_tbl := lw_at lw_m7 209 rfl
theorem q1818 : (Jvm.Cond.instanceMethod ({ cls := "ToldTracks", name := "taleOf", desc := "(II)I" } : Jvm.MethodName)) ∈ lw_all := lw_g (lw_at lw_m7 210 rfl) rfl
theorem q1819 : (Jvm.Cond.code ({ cls := "ToldTracks", name := "taleOf", desc := "(II)I" } : Jvm.MethodName) prog_1_method_47_code (5 : Nat) (Option.some Jvm.ClassFile.FieldType.int)) ∈ lw_all := lw_g (lw_at lw_m7 211 rfl) rfl
theorem q1821 : (Jvm.Cond.instanceMethod ({ cls := "ToldTracks", name := "bars", desc := "(I)I" } : Jvm.MethodName)) ∈ lw_all := lw_g (lw_at lw_m7 213 rfl) rfl
theorem q1822 : (Jvm.Cond.selects "ToldTracks" ({ cls := "ToldTracks", name := "bars", desc := "(I)I" } : Jvm.MethodName) ({ cls := "ToldTracks", name := "bars", desc := "(I)I" } : Jvm.MethodName)) ∈ lw_all := lw_g (lw_at lw_m7 214 rfl) rfl
theorem q1823 : (Jvm.Cond.code ({ cls := "ToldTracks", name := "bars", desc := "(I)I" } : Jvm.MethodName) prog_1_method_49_code (4 : Nat) (Option.some Jvm.ClassFile.FieldType.int)) ∈ lw_all := lw_g (lw_at lw_m7 215 rfl) rfl
theorem q1825 : (Jvm.Cond.instanceMethod ({ cls := "ToldTracks", name := "clash", desc := "(II)I" } : Jvm.MethodName)) ∈ lw_all := lw_g (lw_at lw_m7 217 rfl) rfl
theorem q1826 : (Jvm.Cond.selects "ToldTracks" ({ cls := "ToldTracks", name := "clash", desc := "(II)I" } : Jvm.MethodName) ({ cls := "ToldTracks", name := "clash", desc := "(II)I" } : Jvm.MethodName)) ∈ lw_all := lw_g (lw_at lw_m7 218 rfl) rfl
theorem q1827 : (Jvm.Cond.code ({ cls := "ToldTracks", name := "clash", desc := "(II)I" } : Jvm.MethodName) prog_1_method_51_code (6 : Nat) (Option.some Jvm.ClassFile.FieldType.int)) ∈ lw_all := lw_g (lw_at lw_m7 219 rfl) rfl
theorem q1828 : (Jvm.Cond.constantLong "ToldTracks" (379 : Nat) (2 : Int64)) ∈ lw_all := lw_g (lw_at lw_m7 220 rfl) rfl
theorem q1829 : (Jvm.Cond.methodLink "ToldTracks" (381 : Nat) ({ cls := "ToldTracks", name := "isAlone", desc := "(LToldTracks$Voyage;LToldTracks$Saying;)Z" } : Jvm.MethodName)) ∈ lw_all := lw_g (lw_at lw_m7 221 rfl) rfl
theorem q1830 : (Jvm.Cond.privateMethod ({ cls := "ToldTracks", name := "isAlone", desc := "(LToldTracks$Voyage;LToldTracks$Saying;)Z" } : Jvm.MethodName)) ∈ lw_tbl := lw_at lw_m7 222 rfl
theorem q1831 : (Jvm.Cond.instanceMethod ({ cls := "ToldTracks", name := "isAlone", desc := "(LToldTracks$Voyage;LToldTracks$Saying;)Z" } : Jvm.MethodName)) ∈ lw_all := lw_g (lw_at lw_m7 223 rfl) rfl
theorem q1832 : (Jvm.Cond.code ({ cls := "ToldTracks", name := "isAlone", desc := "(LToldTracks$Voyage;LToldTracks$Saying;)Z" } : Jvm.MethodName) prog_1_method_50_code (5 : Nat) (Option.some Jvm.ClassFile.FieldType.boolean)) ∈ lw_all := lw_g (lw_at lw_m7 224 rfl) rfl
theorem q1834 : (Jvm.Cond.instanceMethod ({ cls := "ToldTracks", name := "who", desc := "(I)I" } : Jvm.MethodName)) ∈ lw_all := lw_g (lw_at lw_m7 226 rfl) rfl
theorem q1835 : (Jvm.Cond.selects "ToldTracks" ({ cls := "ToldTracks", name := "who", desc := "(I)I" } : Jvm.MethodName) ({ cls := "ToldTracks", name := "who", desc := "(I)I" } : Jvm.MethodName)) ∈ lw_all := lw_g (lw_at lw_m7 227 rfl) rfl
theorem q1836 : (Jvm.Cond.code ({ cls := "ToldTracks", name := "who", desc := "(I)I" } : Jvm.MethodName) prog_1_method_52_code (2 : Nat) (Option.some Jvm.ClassFile.FieldType.int)) ∈ lw_all := lw_g (lw_at lw_m7 228 rfl) rfl
theorem q1838 : (Jvm.Cond.instanceMethod ({ cls := "ToldTracks", name := "swap", desc := "(II)I" } : Jvm.MethodName)) ∈ lw_all := lw_g (lw_at lw_m7 230 rfl) rfl
theorem q1839 : (Jvm.Cond.selects "ToldTracks" ({ cls := "ToldTracks", name := "swap", desc := "(II)I" } : Jvm.MethodName) ({ cls := "ToldTracks", name := "swap", desc := "(II)I" } : Jvm.MethodName)) ∈ lw_all := lw_g (lw_at lw_m7 231 rfl) rfl
theorem q1840 : (Jvm.Cond.code ({ cls := "ToldTracks", name := "swap", desc := "(II)I" } : Jvm.MethodName) prog_1_method_54_code (3 : Nat) (Option.some Jvm.ClassFile.FieldType.int)) ∈ lw_all := lw_g (lw_at lw_m7 232 rfl) rfl
theorem q1841 : (Jvm.Cond.methodLink "ToldTracks" (385 : Nat) ({ cls := "ToldTracks", name := "isSwapped", desc := "(II)Z" } : Jvm.MethodName)) ∈ lw_all := lw_g (lw_at lw_m7 233 rfl) rfl
theorem q1842 : (Jvm.Cond.privateMethod ({ cls := "ToldTracks", name := "isSwapped", desc := "(II)Z" } : Jvm.MethodName)) ∈ lw_tbl := lw_at lw_m7 234 rfl
theorem q1843 : (Jvm.Cond.instanceMethod ({ cls := "ToldTracks", name := "isSwapped", desc := "(II)Z" } : Jvm.MethodName)) ∈ lw_all := lw_g (lw_at lw_m7 235 rfl) rfl
theorem q1844 : (Jvm.Cond.code ({ cls := "ToldTracks", name := "isSwapped", desc := "(II)Z" } : Jvm.MethodName) prog_1_method_53_code (3 : Nat) (Option.some Jvm.ClassFile.FieldType.boolean)) ∈ lw_all := lw_g (lw_at lw_m7 236 rfl) rfl
theorem q1846 : (Jvm.Cond.instanceMethod ({ cls := "ToldTracks", name := "kinds", desc := "(I)I" } : Jvm.MethodName)) ∈ lw_all := lw_g (lw_at lw_m7 238 rfl) rfl
theorem q1847 : (Jvm.Cond.selects "ToldTracks" ({ cls := "ToldTracks", name := "kinds", desc := "(I)I" } : Jvm.MethodName) ({ cls := "ToldTracks", name := "kinds", desc := "(I)I" } : Jvm.MethodName)) ∈ lw_all := lw_g (lw_at lw_m7 239 rfl) rfl
theorem q1848 : (Jvm.Cond.code ({ cls := "ToldTracks", name := "kinds", desc := "(I)I" } : Jvm.MethodName) prog_1_method_55_code (4 : Nat) (Option.some Jvm.ClassFile.FieldType.int)) ∈ lw_all := lw_g (lw_at lw_m8 0 rfl) rfl
theorem q1849 : (Jvm.Cond.constantLong "ToldTracks" (388 : Nat) (-1 : Int64)) ∈ lw_all := lw_g (lw_at lw_m8 1 rfl) rfl
theorem q1851 : (Jvm.Cond.instanceMethod ({ cls := "ToldTracks", name := "lies", desc := "()I" } : Jvm.MethodName)) ∈ lw_all := lw_g (lw_at lw_m8 3 rfl) rfl
theorem q1852 : (Jvm.Cond.selects "ToldTracks" ({ cls := "ToldTracks", name := "lies", desc := "()I" } : Jvm.MethodName) ({ cls := "ToldTracks", name := "lies", desc := "()I" } : Jvm.MethodName)) ∈ lw_all := lw_g (lw_at lw_m8 4 rfl) rfl
theorem q1853 : (Jvm.Cond.code ({ cls := "ToldTracks", name := "lies", desc := "()I" } : Jvm.MethodName) prog_1_method_56_code (3 : Nat) (Option.some Jvm.ClassFile.FieldType.int)) ∈ lw_all := lw_g (lw_at lw_m8 5 rfl) rfl
theorem q1855 : (Jvm.Cond.instanceMethod ({ cls := "ToldTracks", name := "met", desc := "(III)I" } : Jvm.MethodName)) ∈ lw_all := lw_g (lw_at lw_m8 7 rfl) rfl
theorem q1856 : (Jvm.Cond.selects "ToldTracks" ({ cls := "ToldTracks", name := "met", desc := "(III)I" } : Jvm.MethodName) ({ cls := "ToldTracks", name := "met", desc := "(III)I" } : Jvm.MethodName)) ∈ lw_all := lw_g (lw_at lw_m8 8 rfl) rfl
theorem q1857 : (Jvm.Cond.code ({ cls := "ToldTracks", name := "met", desc := "(III)I" } : Jvm.MethodName) prog_1_method_58_code (12 : Nat) (Option.some Jvm.ClassFile.FieldType.int)) ∈ lw_all := lw_g (lw_at lw_m8 9 rfl) rfl
theorem q1858 : (Jvm.Cond.methodLink "ToldTracks" (390 : Nat) ({ cls := "ToldTracks", name := "isChanged", desc := "(LToldTracks$Voyage;IZ)Z" } : Jvm.MethodName)) ∈ lw_all := lw_g (lw_at lw_m8 10 rfl) rfl
theorem q1859 : (Jvm.Cond.privateMethod ({ cls := "ToldTracks", name := "isChanged", desc := "(LToldTracks$Voyage;IZ)Z" } : Jvm.MethodName)) ∈ lw_tbl := lw_at lw_m8 11 rfl
theorem q1860 : (Jvm.Cond.instanceMethod ({ cls := "ToldTracks", name := "isChanged", desc := "(LToldTracks$Voyage;IZ)Z" } : Jvm.MethodName)) ∈ lw_all := lw_g (lw_at lw_m8 12 rfl) rfl
theorem q1861 : (Jvm.Cond.code ({ cls := "ToldTracks", name := "isChanged", desc := "(LToldTracks$Voyage;IZ)Z" } : Jvm.MethodName) prog_1_method_57_code (7 : Nat) (Option.some Jvm.ClassFile.FieldType.boolean)) ∈ lw_all := lw_g (lw_at lw_m8 13 rfl) rfl
theorem q1863 : (Jvm.Cond.instanceMethod ({ cls := "ToldTracks", name := "sighting", desc := "(II)I" } : Jvm.MethodName)) ∈ lw_all := lw_g (lw_at lw_m8 15 rfl) rfl
theorem q1864 : (Jvm.Cond.selects "ToldTracks" ({ cls := "ToldTracks", name := "sighting", desc := "(II)I" } : Jvm.MethodName) ({ cls := "ToldTracks", name := "sighting", desc := "(II)I" } : Jvm.MethodName)) ∈ lw_all := lw_g (lw_at lw_m8 16 rfl) rfl
theorem q1865 : (Jvm.Cond.code ({ cls := "ToldTracks", name := "sighting", desc := "(II)I" } : Jvm.MethodName) prog_1_method_60_code (4 : Nat) (Option.some Jvm.ClassFile.FieldType.int)) ∈ lw_all := lw_g (lw_at lw_m8 17 rfl) rfl
theorem q1866 : (Jvm.Cond.classLink "ToldTracks" (395 : Nat) "ToldTracks$Sighting") ∈ lw_all := lw_g (lw_at lw_m8 18 rfl) rfl
theorem q1867 : (Jvm.Cond.methodLink "ToldTracks" (399 : Nat) ({ cls := "ToldTracks", name := "explained", desc := "(LToldTracks$Sighting;)I" } : Jvm.MethodName)) ∈ lw_all := lw_g (lw_at lw_m8 19 rfl) rfl
theorem q1868 : (Jvm.Cond.privateMethod ({ cls := "ToldTracks", name := "explained", desc := "(LToldTracks$Sighting;)I" } : Jvm.MethodName)) ∈ lw_tbl := lw_at lw_m8 20 rfl
theorem q1869 : (Jvm.Cond.instanceMethod ({ cls := "ToldTracks", name := "explained", desc := "(LToldTracks$Sighting;)I" } : Jvm.MethodName)) ∈ lw_all := lw_g (lw_at lw_m8 21 rfl) rfl
theorem q1870 : (Jvm.Cond.code ({ cls := "ToldTracks", name := "explained", desc := "(LToldTracks$Sighting;)I" } : Jvm.MethodName) prog_1_method_59_code (4 : Nat) (Option.some Jvm.ClassFile.FieldType.int)) ∈ lw_all := lw_g (lw_at lw_m8 22 rfl) rfl
theorem q1872 : (Jvm.Cond.instanceMethod ({ cls := "ToldTracks", name := "strange", desc := "()I" } : Jvm.MethodName)) ∈ lw_all := lw_g (lw_at lw_m8 24 rfl) rfl
theorem q1873 : (Jvm.Cond.selects "ToldTracks" ({ cls := "ToldTracks", name := "strange", desc := "()I" } : Jvm.MethodName) ({ cls := "ToldTracks", name := "strange", desc := "()I" } : Jvm.MethodName)) ∈ lw_all := lw_g (lw_at lw_m8 25 rfl) rfl
theorem q1874 : (Jvm.Cond.code ({ cls := "ToldTracks", name := "strange", desc := "()I" } : Jvm.MethodName) prog_1_method_61_code (3 : Nat) (Option.some Jvm.ClassFile.FieldType.int)) ∈ lw_all := lw_g (lw_at lw_m8 26 rfl) rfl
theorem q1876 : (Jvm.Cond.instanceMethod ({ cls := "ToldTracks", name := "doubted", desc := "()I" } : Jvm.MethodName)) ∈ lw_all := lw_g (lw_at lw_m8 28 rfl) rfl
theorem q1877 : (Jvm.Cond.selects "ToldTracks" ({ cls := "ToldTracks", name := "doubted", desc := "()I" } : Jvm.MethodName) ({ cls := "ToldTracks", name := "doubted", desc := "()I" } : Jvm.MethodName)) ∈ lw_all := lw_g (lw_at lw_m8 29 rfl) rfl
theorem q1878 : (Jvm.Cond.code ({ cls := "ToldTracks", name := "doubted", desc := "()I" } : Jvm.MethodName) prog_1_method_62_code (4 : Nat) (Option.some Jvm.ClassFile.FieldType.int)) ∈ lw_all := lw_g (lw_at lw_m8 30 rfl) rfl
theorem q1880 : (Jvm.Cond.instanceMethod ({ cls := "ToldTracks", name := "gaps", desc := "(II)I" } : Jvm.MethodName)) ∈ lw_all := lw_g (lw_at lw_m8 32 rfl) rfl
theorem q1881 : (Jvm.Cond.selects "ToldTracks" ({ cls := "ToldTracks", name := "gaps", desc := "(II)I" } : Jvm.MethodName) ({ cls := "ToldTracks", name := "gaps", desc := "(II)I" } : Jvm.MethodName)) ∈ lw_all := lw_g (lw_at lw_m8 33 rfl) rfl
theorem q1882 : (Jvm.Cond.code ({ cls := "ToldTracks", name := "gaps", desc := "(II)I" } : Jvm.MethodName) prog_1_method_63_code (3 : Nat) (Option.some Jvm.ClassFile.FieldType.int)) ∈ lw_all := lw_g (lw_at lw_m8 34 rfl) rfl
theorem q1884 : (Jvm.Cond.instanceMethod ({ cls := "ToldTracks", name := "chance", desc := "(I)J" } : Jvm.MethodName)) ∈ lw_all := lw_g (lw_at lw_m8 36 rfl) rfl
theorem q1885 : (Jvm.Cond.selects "ToldTracks" ({ cls := "ToldTracks", name := "chance", desc := "(I)J" } : Jvm.MethodName) ({ cls := "ToldTracks", name := "chance", desc := "(I)J" } : Jvm.MethodName)) ∈ lw_all := lw_g (lw_at lw_m8 37 rfl) rfl
theorem q1886 : (Jvm.Cond.code ({ cls := "ToldTracks", name := "chance", desc := "(I)J" } : Jvm.MethodName) prog_1_method_65_code (2 : Nat) (Option.some Jvm.ClassFile.FieldType.long)) ∈ lw_all := lw_g (lw_at lw_m8 38 rfl) rfl
theorem q1887 : (Jvm.Cond.methodLink "ToldTracks" (415 : Nat) ({ cls := "ToldTracks", name := "chanceOf", desc := "(I)J" } : Jvm.MethodName)) ∈ lw_all := lw_g (lw_at lw_m8 39 rfl) rfl
theorem q1888 : (Jvm.Cond.privateMethod ({ cls := "ToldTracks", name := "chanceOf", desc := "(I)J" } : Jvm.MethodName)) ∈ lw_tbl := lw_at lw_m8 40 rfl
theorem q1889 : (Jvm.Cond.instanceMethod ({ cls := "ToldTracks", name := "chanceOf", desc := "(I)J" } : Jvm.MethodName)) ∈ lw_all := lw_g (lw_at lw_m8 41 rfl) rfl
theorem q1890 : (Jvm.Cond.code ({ cls := "ToldTracks", name := "chanceOf", desc := "(I)J" } : Jvm.MethodName) prog_1_method_64_code (9 : Nat) (Option.some Jvm.ClassFile.FieldType.long)) ∈ lw_all := lw_g (lw_at lw_m8 42 rfl) rfl
theorem q1891 : (Jvm.Cond.methodLink "ToldTracks" (403 : Nat) ({ cls := "ToldTracks$Voyage", name := "last", desc := "()I" } : Jvm.MethodName)) ∈ lw_all := lw_g (lw_at lw_m8 43 rfl) rfl
theorem q1892 : (Jvm.Cond.methodLink "ToldTracks" (406 : Nat) ({ cls := "ToldTracks$Voyage", name := "first", desc := "()I" } : Jvm.MethodName)) ∈ lw_all := lw_g (lw_at lw_m8 44 rfl) rfl
theorem q1893 : (Jvm.Cond.methodLink "ToldTracks" (409 : Nat) ({ cls := "java/lang/Math", name := "max", desc := "(II)I" } : Jvm.MethodName)) ∈ lw_all := lw_g (lw_at lw_m8 45 rfl) rfl
theorem q1894 : (Jvm.Cond.constantLong "ToldTracks" (411 : Nat) (1000000000000 : Int64)) ∈ lw_all := lw_g (lw_at lw_m8 46 rfl) rfl
theorem q1895 : (Jvm.Cond.constantLong "ToldTracks" (413 : Nat) (100 : Int64)) ∈ lw_all := lw_g (lw_at lw_m8 47 rfl) rfl
theorem q1897 : (Jvm.Cond.instanceMethod ({ cls := "ToldTracks", name := "beyond", desc := "()I" } : Jvm.MethodName)) ∈ lw_all := lw_g (lw_at lw_m8 49 rfl) rfl
theorem q1898 : (Jvm.Cond.selects "ToldTracks" ({ cls := "ToldTracks", name := "beyond", desc := "()I" } : Jvm.MethodName) ({ cls := "ToldTracks", name := "beyond", desc := "()I" } : Jvm.MethodName)) ∈ lw_all := lw_g (lw_at lw_m8 50 rfl) rfl
theorem q1899 : (Jvm.Cond.code ({ cls := "ToldTracks", name := "beyond", desc := "()I" } : Jvm.MethodName) prog_1_method_66_code (3 : Nat) (Option.some Jvm.ClassFile.FieldType.int)) ∈ lw_all := lw_g (lw_at lw_m8 51 rfl) rfl
theorem q1900 : (Jvm.Cond.constantLong "ToldTracks" (419 : Nat) (50000000000 : Int64)) ∈ lw_all := lw_g (lw_at lw_m8 52 rfl) rfl
theorem q1902 : (Jvm.Cond.instanceMethod ({ cls := "ToldTracks", name := "settles", desc := "(III)I" } : Jvm.MethodName)) ∈ lw_all := lw_g (lw_at lw_m8 54 rfl) rfl
theorem q1903 : (Jvm.Cond.selects "ToldTracks" ({ cls := "ToldTracks", name := "settles", desc := "(III)I" } : Jvm.MethodName) ({ cls := "ToldTracks", name := "settles", desc := "(III)I" } : Jvm.MethodName)) ∈ lw_all := lw_g (lw_at lw_m8 55 rfl) rfl
theorem q1904 : (Jvm.Cond.code ({ cls := "ToldTracks", name := "settles", desc := "(III)I" } : Jvm.MethodName) prog_1_method_69_code (5 : Nat) (Option.some Jvm.ClassFile.FieldType.int)) ∈ lw_all := lw_g (lw_at lw_m8 56 rfl) rfl
theorem q1905 : (Jvm.Cond.methodLink "ToldTracks" (424 : Nat) ({ cls := "ToldTracks", name := "loose", desc := "(I)I" } : Jvm.MethodName)) ∈ lw_all := lw_g (lw_at lw_m8 57 rfl) rfl
theorem q1906 : (Jvm.Cond.privateMethod ({ cls := "ToldTracks", name := "loose", desc := "(I)I" } : Jvm.MethodName)) ∈ lw_tbl := lw_at lw_m8 58 rfl
theorem q1907 : (Jvm.Cond.instanceMethod ({ cls := "ToldTracks", name := "loose", desc := "(I)I" } : Jvm.MethodName)) ∈ lw_all := lw_g (lw_at lw_m8 59 rfl) rfl
theorem q1908 : (Jvm.Cond.code ({ cls := "ToldTracks", name := "loose", desc := "(I)I" } : Jvm.MethodName) prog_1_method_67_code (4 : Nat) (Option.some Jvm.ClassFile.FieldType.int)) ∈ lw_all := lw_g (lw_at lw_m8 60 rfl) rfl
theorem q1909 : (Jvm.Cond.methodLink "ToldTracks" (421 : Nat) ({ cls := "ToldTracks$Voyage", name := "reach", desc := "(I)I" } : Jvm.MethodName)) ∈ lw_all := lw_g (lw_at lw_m8 61 rfl) rfl
theorem q1913 : (Jvm.Cond.methodLink "ToldTracks" (427 : Nat) ({ cls := "ToldTracks", name := "settled", desc := "(III)I" } : Jvm.MethodName)) ∈ lw_all := lw_g (lw_at lw_m8 65 rfl) rfl
theorem q1914 : (Jvm.Cond.privateMethod ({ cls := "ToldTracks", name := "settled", desc := "(III)I" } : Jvm.MethodName)) ∈ lw_tbl := lw_at lw_m8 66 rfl
theorem q1915 : (Jvm.Cond.instanceMethod ({ cls := "ToldTracks", name := "settled", desc := "(III)I" } : Jvm.MethodName)) ∈ lw_all := lw_g (lw_at lw_m8 67 rfl) rfl
theorem q1916 : (Jvm.Cond.code ({ cls := "ToldTracks", name := "settled", desc := "(III)I" } : Jvm.MethodName) prog_1_method_68_code (6 : Nat) (Option.some Jvm.ClassFile.FieldType.int)) ∈ lw_all := lw_g (lw_at lw_m8 68 rfl) rfl
theorem q1918 : (Jvm.Cond.instanceMethod ({ cls := "ToldTracks", name := "next", desc := "(I)I" } : Jvm.MethodName)) ∈ lw_all := lw_g (lw_at lw_m8 70 rfl) rfl
theorem q1919 : (Jvm.Cond.selects "ToldTracks" ({ cls := "ToldTracks", name := "next", desc := "(I)I" } : Jvm.MethodName) ({ cls := "ToldTracks", name := "next", desc := "(I)I" } : Jvm.MethodName)) ∈ lw_all := lw_g (lw_at lw_m8 71 rfl) rfl
theorem q1920 : (Jvm.Cond.code ({ cls := "ToldTracks", name := "next", desc := "(I)I" } : Jvm.MethodName) prog_1_method_70_code (9 : Nat) (Option.some Jvm.ClassFile.FieldType.int)) ∈ lw_all := lw_g (lw_at lw_m8 72 rfl) rfl
theorem q1922 : (Jvm.Cond.instanceMethod ({ cls := "ToldTracks", name := "off", desc := "(I)I" } : Jvm.MethodName)) ∈ lw_all := lw_g (lw_at lw_m8 74 rfl) rfl
theorem q1923 : (Jvm.Cond.selects "ToldTracks" ({ cls := "ToldTracks", name := "off", desc := "(I)I" } : Jvm.MethodName) ({ cls := "ToldTracks", name := "off", desc := "(I)I" } : Jvm.MethodName)) ∈ lw_all := lw_g (lw_at lw_m8 75 rfl) rfl
theorem q1924 : (Jvm.Cond.code ({ cls := "ToldTracks", name := "off", desc := "(I)I" } : Jvm.MethodName) prog_1_method_72_code (3 : Nat) (Option.some Jvm.ClassFile.FieldType.int)) ∈ lw_all := lw_g (lw_at lw_m8 76 rfl) rfl
theorem q1925 : (Jvm.Cond.methodLink "ToldTracks" (431 : Nat) ({ cls := "ToldTracks", name := "isOff", desc := "(LToldTracks$Voyage;I)Z" } : Jvm.MethodName)) ∈ lw_all := lw_g (lw_at lw_m8 77 rfl) rfl
theorem q1926 : (Jvm.Cond.privateMethod ({ cls := "ToldTracks", name := "isOff", desc := "(LToldTracks$Voyage;I)Z" } : Jvm.MethodName)) ∈ lw_tbl := lw_at lw_m8 78 rfl
theorem q1927 : (Jvm.Cond.instanceMethod ({ cls := "ToldTracks", name := "isOff", desc := "(LToldTracks$Voyage;I)Z" } : Jvm.MethodName)) ∈ lw_all := lw_g (lw_at lw_m8 79 rfl) rfl
theorem q1928 : (Jvm.Cond.code ({ cls := "ToldTracks", name := "isOff", desc := "(LToldTracks$Voyage;I)Z" } : Jvm.MethodName) prog_1_method_71_code (5 : Nat) (Option.some Jvm.ClassFile.FieldType.boolean)) ∈ lw_all := lw_g (lw_at lw_m8 80 rfl) rfl
theorem q1930 : (Jvm.Cond.instanceMethod ({ cls := "ToldTracks", name := "whose", desc := "()I" } : Jvm.MethodName)) ∈ lw_all := lw_g (lw_at lw_m8 82 rfl) rfl
theorem q1931 : (Jvm.Cond.selects "ToldTracks" ({ cls := "ToldTracks", name := "whose", desc := "()I" } : Jvm.MethodName) ({ cls := "ToldTracks", name := "whose", desc := "()I" } : Jvm.MethodName)) ∈ lw_all := lw_g (lw_at lw_m8 83 rfl) rfl
theorem q1932 : (Jvm.Cond.code ({ cls := "ToldTracks", name := "whose", desc := "()I" } : Jvm.MethodName) prog_1_method_73_code (3 : Nat) (Option.some Jvm.ClassFile.FieldType.int)) ∈ lw_all := lw_g (lw_at lw_m8 84 rfl) rfl
theorem q1933 : (Jvm.Cond.methodLink "ToldTracks" (435 : Nat) ({ cls := "ToldTracks", name := "off", desc := "(I)I" } : Jvm.MethodName)) ∈ lw_all := lw_g (lw_at lw_m8 85 rfl) rfl
theorem q1935 : (Jvm.Cond.instanceMethod ({ cls := "ToldTracks", name := "add", desc := "(IIIIZ)I" } : Jvm.MethodName)) ∈ lw_all := lw_g (lw_at lw_m8 87 rfl) rfl
theorem q1936 : (Jvm.Cond.selects "ToldTracks" ({ cls := "ToldTracks", name := "add", desc := "(IIIIZ)I" } : Jvm.MethodName) ({ cls := "ToldTracks", name := "add", desc := "(IIIIZ)I" } : Jvm.MethodName)) ∈ lw_all := lw_g (lw_at lw_m8 88 rfl) rfl
theorem q1937 : (Jvm.Cond.code ({ cls := "ToldTracks", name := "add", desc := "(IIIIZ)I" } : Jvm.MethodName) prog_1_method_74_code (7 : Nat) (Option.some Jvm.ClassFile.FieldType.int)) ∈ lw_all := lw_g (lw_at lw_m8 89 rfl) rfl
theorem q1938 : (Jvm.Cond.methodLink "ToldTracks" (438 : Nat) ({ cls := "ToldTracks$Told", name := "has", desc := "(II)Z" } : Jvm.MethodName)) ∈ lw_all := lw_g (lw_at lw_m8 90 rfl) rfl
theorem q1939 : (Jvm.Cond.methodLink "ToldTracks" (441 : Nat) ({ cls := "ToldTracks", name := "changed", desc := "()V" } : Jvm.MethodName)) ∈ lw_all := lw_g (lw_at lw_m8 91 rfl) rfl
theorem q1940 : (Jvm.Cond.privateMethod ({ cls := "ToldTracks", name := "changed", desc := "()V" } : Jvm.MethodName)) ∈ lw_tbl := lw_at lw_m8 92 rfl
theorem q1941 : (Jvm.Cond.instanceMethod ({ cls := "ToldTracks", name := "changed", desc := "()V" } : Jvm.MethodName)) ∈ lw_all := lw_g (lw_at lw_m8 93 rfl) rfl
theorem q1942 : (Jvm.Cond.code ({ cls := "ToldTracks", name := "changed", desc := "()V" } : Jvm.MethodName) prog_1_method_24_code (2 : Nat) (Option.none : Option Jvm.ClassFile.FieldType)) ∈ lw_all := lw_g (lw_at lw_m8 94 rfl) rfl
theorem q1943 : (Jvm.Cond.methodLink "ToldTracks" (444 : Nat) ({ cls := "ToldTracks$Saying", name := "<init>", desc := "(IIZ)V" } : Jvm.MethodName)) ∈ lw_all := lw_g (lw_at lw_m8 95 rfl) rfl
theorem q1944 : (Jvm.Cond.methodLink "ToldTracks" (447 : Nat) ({ cls := "ToldTracks$Told", name := "add", desc := "(ILToldTracks$Saying;)I" } : Jvm.MethodName)) ∈ lw_all := lw_g (lw_at lw_m8 96 rfl) rfl
theorem q1946 : (Jvm.Cond.instanceMethod ({ cls := "ToldTracks", name := "drop", desc := "(II)I" } : Jvm.MethodName)) ∈ lw_all := lw_g (lw_at lw_m8 98 rfl) rfl
theorem q1947 : (Jvm.Cond.selects "ToldTracks" ({ cls := "ToldTracks", name := "drop", desc := "(II)I" } : Jvm.MethodName) ({ cls := "ToldTracks", name := "drop", desc := "(II)I" } : Jvm.MethodName)) ∈ lw_all := lw_g (lw_at lw_m8 99 rfl) rfl
theorem q1948 : (Jvm.Cond.code ({ cls := "ToldTracks", name := "drop", desc := "(II)I" } : Jvm.MethodName) prog_1_method_75_code (3 : Nat) (Option.some Jvm.ClassFile.FieldType.int)) ∈ lw_all := lw_g (lw_at lw_m8 100 rfl) rfl
theorem q1949 : (Jvm.Cond.methodLink "ToldTracks" (450 : Nat) ({ cls := "java/util/ArrayList", name := "remove", desc := "(I)Ljava/lang/Object;" } : Jvm.MethodName)) ∈ lw_all := lw_g (lw_at lw_m8 101 rfl) rfl
theorem q1958 : (Jvm.Cond.instanceMethod ({ cls := "ToldTracks", name := "spot", desc := "(IIII)I" } : Jvm.MethodName)) ∈ lw_all := lw_g (lw_at lw_m8 110 rfl) rfl
theorem q1959 : (Jvm.Cond.selects "ToldTracks" ({ cls := "ToldTracks", name := "spot", desc := "(IIII)I" } : Jvm.MethodName) ({ cls := "ToldTracks", name := "spot", desc := "(IIII)I" } : Jvm.MethodName)) ∈ lw_all := lw_g (lw_at lw_m8 111 rfl) rfl
theorem q1960 : (Jvm.Cond.code ({ cls := "ToldTracks", name := "spot", desc := "(IIII)I" } : Jvm.MethodName) prog_1_method_77_code (6 : Nat) (Option.some Jvm.ClassFile.FieldType.int)) ∈ lw_all := lw_g (lw_at lw_m8 112 rfl) rfl
theorem q1961 : (Jvm.Cond.methodLink "ToldTracks" (455 : Nat) ({ cls := "ToldTracks", name := "isSeen", desc := "(III)Z" } : Jvm.MethodName)) ∈ lw_all := lw_g (lw_at lw_m8 113 rfl) rfl
theorem q1962 : (Jvm.Cond.privateMethod ({ cls := "ToldTracks", name := "isSeen", desc := "(III)Z" } : Jvm.MethodName)) ∈ lw_tbl := lw_at lw_m8 114 rfl
theorem q1963 : (Jvm.Cond.instanceMethod ({ cls := "ToldTracks", name := "isSeen", desc := "(III)Z" } : Jvm.MethodName)) ∈ lw_all := lw_g (lw_at lw_m8 115 rfl) rfl
theorem q1964 : (Jvm.Cond.code ({ cls := "ToldTracks", name := "isSeen", desc := "(III)Z" } : Jvm.MethodName) prog_1_method_76_code (4 : Nat) (Option.some Jvm.ClassFile.FieldType.boolean)) ∈ lw_all := lw_g (lw_at lw_m8 116 rfl) rfl
theorem q1965 : (Jvm.Cond.constantLong "ToldTracks" (453 : Nat) (3 : Int64)) ∈ lw_all := lw_g (lw_at lw_m8 117 rfl) rfl
theorem q1966 : (Jvm.Cond.methodLink "ToldTracks" (459 : Nat) ({ cls := "ToldTracks$Sighting", name := "<init>", desc := "(III)V" } : Jvm.MethodName)) ∈ lw_all := lw_g (lw_at lw_m8 118 rfl) rfl
theorem q1968 : (Jvm.Cond.instanceMethod ({ cls := "ToldTracks", name := "image", desc := "()I" } : Jvm.MethodName)) ∈ lw_all := lw_g (lw_at lw_m8 120 rfl) rfl
theorem q1969 : (Jvm.Cond.selects "ToldTracks" ({ cls := "ToldTracks", name := "image", desc := "()I" } : Jvm.MethodName) ({ cls := "ToldTracks", name := "image", desc := "()I" } : Jvm.MethodName)) ∈ lw_all := lw_g (lw_at lw_m8 121 rfl) rfl
theorem q1970 : (Jvm.Cond.code ({ cls := "ToldTracks", name := "image", desc := "()I" } : Jvm.MethodName) prog_1_method_78_code (4 : Nat) (Option.some Jvm.ClassFile.FieldType.int)) ∈ lw_all := lw_g (lw_at lw_m8 122 rfl) rfl
theorem q1971 : (Jvm.Cond.methodLink "ToldTracks" (464 : Nat) ({ cls := "ToldTracks$Octets", name := "add", desc := "(I)V" } : Jvm.MethodName)) ∈ lw_all := lw_g (lw_at lw_m8 123 rfl) rfl
theorem q1975 : (Jvm.Cond.methodLink "ToldTracks" (466 : Nat) ({ cls := "ToldTracks$Octets", name := "sum", desc := "()I" } : Jvm.MethodName)) ∈ lw_all := lw_g (lw_at lw_m8 127 rfl) rfl
theorem q1983 : (Jvm.Cond.instanceMethod ({ cls := "ToldTracks", name := "octet", desc := "(I)I" } : Jvm.MethodName)) ∈ lw_all := lw_g (lw_at lw_m8 135 rfl) rfl
theorem q1984 : (Jvm.Cond.selects "ToldTracks" ({ cls := "ToldTracks", name := "octet", desc := "(I)I" } : Jvm.MethodName) ({ cls := "ToldTracks", name := "octet", desc := "(I)I" } : Jvm.MethodName)) ∈ lw_all := lw_g (lw_at lw_m8 136 rfl) rfl
theorem q1985 : (Jvm.Cond.code ({ cls := "ToldTracks", name := "octet", desc := "(I)I" } : Jvm.MethodName) prog_1_method_79_code (2 : Nat) (Option.some Jvm.ClassFile.FieldType.int)) ∈ lw_all := lw_g (lw_at lw_m8 137 rfl) rfl
theorem q1987 : (Jvm.Cond.instanceMethod ({ cls := "ToldTracks", name := "on", desc := "()Z" } : Jvm.MethodName)) ∈ lw_all := lw_g (lw_at lw_m8 139 rfl) rfl
theorem q1988 : (Jvm.Cond.selects "ToldTracks" ({ cls := "ToldTracks", name := "on", desc := "()Z" } : Jvm.MethodName) ({ cls := "ToldTracks", name := "on", desc := "()Z" } : Jvm.MethodName)) ∈ lw_all := lw_g (lw_at lw_m8 140 rfl) rfl
theorem q1989 : (Jvm.Cond.code ({ cls := "ToldTracks", name := "on", desc := "()Z" } : Jvm.MethodName) prog_1_method_81_code (3 : Nat) (Option.some Jvm.ClassFile.FieldType.boolean)) ∈ lw_all := lw_g (lw_at lw_m8 141 rfl) rfl
theorem q1990 : (Jvm.Cond.methodLink "ToldTracks" (475 : Nat) ({ cls := "ToldTracks", name := "read", desc := "(I)LToldTracks$Told;" } : Jvm.MethodName)) ∈ lw_all := lw_g (lw_at lw_m8 142 rfl) rfl
theorem q1991 : (Jvm.Cond.privateMethod ({ cls := "ToldTracks", name := "read", desc := "(I)LToldTracks$Told;" } : Jvm.MethodName)) ∈ lw_tbl := lw_at lw_m8 143 rfl
theorem q1992 : (Jvm.Cond.instanceMethod ({ cls := "ToldTracks", name := "read", desc := "(I)LToldTracks$Told;" } : Jvm.MethodName)) ∈ lw_all := lw_g (lw_at lw_m8 144 rfl) rfl
theorem q1993 : (Jvm.Cond.code ({ cls := "ToldTracks", name := "read", desc := "(I)LToldTracks$Told;" } : Jvm.MethodName) prog_1_method_80_code (9 : Nat) (Option.some (Jvm.ClassFile.FieldType.object "ToldTracks$Told"))) ∈ lw_all := lw_g (lw_at lw_m8 145 rfl) rfl
theorem q1994 : (Jvm.Cond.methodLinkNest "ToldTracks" (472 : Nat) ({ cls := "ToldTracks$Octets", name := "sum", desc := "(II)I" } : Jvm.MethodName) "ToldTracks") ∈ lw_tbl := lw_at lw_m8 146 rfl
theorem q1995 : (Jvm.Cond.classLink "ToldTracks" (250 : Nat) "ToldTracks$Told") ∈ lw_all := lw_g (lw_at lw_m8 147 rfl) rfl
theorem q1996 : (Jvm.Cond.methodLinkNest "ToldTracks" (474 : Nat) ({ cls := "ToldTracks$Told", name := "<init>", desc := "()V" } : Jvm.MethodName) "ToldTracks") ∈ lw_tbl := lw_at lw_m8 148 rfl
theorem q2834 : (Jvm.Cond.castable "ToldTracks" "java/lang/Object") ∈ lw_tbl := lw_at lw_m12 26 rfl
theorem q2879 : (Jvm.Cond.stringRef "ToldTracks" (479 : Nat) "size") ∈ lw_tbl := lw_at lw_m12 71 rfl
theorem q2880 : (Jvm.Cond.stringRef "ToldTracks" (480 : Nat) "depth") ∈ lw_tbl := lw_at lw_m12 72 rfl
theorem q2881 : (Jvm.Cond.stringRef "ToldTracks" (481 : Nat) "cost") ∈ lw_tbl := lw_at lw_m12 73 rfl
theorem q2882 : (Jvm.Cond.stringRef "ToldTracks" (482 : Nat) "quiet") ∈ lw_tbl := lw_at lw_m12 74 rfl
theorem q2883 : (Jvm.Cond.stringRef "ToldTracks" (484 : Nat) "ship") ∈ lw_tbl := lw_at lw_m12 75 rfl
theorem q2884 : (Jvm.Cond.stringRef "ToldTracks" (485 : Nat) "look") ∈ lw_tbl := lw_at lw_m12 76 rfl
theorem q2885 : (Jvm.Cond.stringRef "ToldTracks" (486 : Nat) "speed") ∈ lw_tbl := lw_at lw_m12 77 rfl
theorem q2886 : (Jvm.Cond.stringRef "ToldTracks" (487 : Nat) "draft") ∈ lw_tbl := lw_at lw_m12 78 rfl
theorem q2887 : (Jvm.Cond.stringRef "ToldTracks" (488 : Nat) "load") ∈ lw_tbl := lw_at lw_m12 79 rfl
theorem q2888 : (Jvm.Cond.stringRef "ToldTracks" (489 : Nat) "says") ∈ lw_tbl := lw_at lw_m12 80 rfl
theorem q2889 : (Jvm.Cond.stringRef "ToldTracks" (490 : Nat) "at") ∈ lw_tbl := lw_at lw_m12 81 rfl
theorem q2890 : (Jvm.Cond.stringRef "ToldTracks" (491 : Nat) "laden") ∈ lw_tbl := lw_at lw_m12 82 rfl
theorem q2891 : (Jvm.Cond.stringRef "ToldTracks" (492 : Nat) "book") ∈ lw_tbl := lw_at lw_m12 83 rfl
theorem q2892 : (Jvm.Cond.stringRef "ToldTracks" (494 : Nat) "from") ∈ lw_tbl := lw_at lw_m12 84 rfl
theorem q2893 : (Jvm.Cond.stringRef "ToldTracks" (496 : Nat) "to") ∈ lw_tbl := lw_at lw_m12 85 rfl
theorem q2894 : (Jvm.Cond.stringRef "ToldTracks" (498 : Nat) "seen") ∈ lw_tbl := lw_at lw_m12 86 rfl
theorem q2895 : (Jvm.Cond.stringRef "ToldTracks" (499 : Nat) "hour") ∈ lw_tbl := lw_at lw_m12 87 rfl
theorem q2896 : (Jvm.Cond.stringRef "ToldTracks" (500 : Nat) "luck") ∈ lw_tbl := lw_at lw_m12 88 rfl
theorem q2897 : (Jvm.Cond.stringRef "ToldTracks" (501 : Nat) "when") ∈ lw_tbl := lw_at lw_m12 89 rfl
theorem q2898 : (Jvm.Cond.stringRef "ToldTracks" (503 : Nat) "or") ∈ lw_tbl := lw_at lw_m12 90 rfl
theorem q2899 : (Jvm.Cond.stringRef "ToldTracks" (505 : Nat) "and") ∈ lw_tbl := lw_at lw_m12 91 rfl
theorem q2900 : (Jvm.Cond.stringRef "ToldTracks" (507 : Nat) "not") ∈ lw_tbl := lw_at lw_m12 92 rfl
theorem q2901 : (Jvm.Cond.stringRef "ToldTracks" (509 : Nat) "all") ∈ lw_tbl := lw_at lw_m12 93 rfl
theorem q2902 : (Jvm.Cond.stringRef "ToldTracks" (510 : Nat) "column") ∈ lw_tbl := lw_at lw_m12 94 rfl
theorem q2903 : (Jvm.Cond.stringRef "ToldTracks" (512 : Nat) "row") ∈ lw_tbl := lw_at lw_m12 95 rfl
theorem q2904 : (Jvm.Cond.stringRef "ToldTracks" (514 : Nat) "min") ∈ lw_tbl := lw_at lw_m12 96 rfl
theorem q2905 : (Jvm.Cond.stringRef "ToldTracks" (515 : Nat) "max") ∈ lw_tbl := lw_at lw_m12 97 rfl
theorem in_X0 : ∀ w ∈ wsX00, w ∈ lw_all := lw_in wsX00 [398, 400, 402, 404, 406, 408, 410, 412, 414, 416, 418] (by decide +kernel) (by decide +kernel)
/-! ToldTracks$Sea -/
def RX1 : String := "ToldTracks$Sea"
def TX1 : u_T := fun k => match k with
  | 0 => ("ToldTracks$Sea", "columns", "I", false)
  | 1 => ("ToldTracks$Sea", "rows", "I", false)
  | 2 => ("ToldTracks$Sea", "statements", "I", false)
  | 3 => ("ToldTracks$Sea", "luck", "I", false)
  | 4 => ("ToldTracks$Sea", "depth", "LToldTracks$Rates;", true)
  | 5 => ("ToldTracks$Sea", "cost", "LToldTracks$Rates;", true)
  | 6 => ("ToldTracks$Sea", "quiets", "Ljava/util/ArrayList;", true)
  | 7 => ("ToldTracks$Sea", "ships", "Ljava/util/ArrayList;", true)
  | 8 => ("ToldTracks$Sea", "books", "Ljava/util/ArrayList;", true)
  | 9 => ("ToldTracks$Sea", "told", "LToldTracks$Told;", true)
  | 10 => ("ToldTracks$Sea", "depths", "[I", true)
  | _ => ("ToldTracks$Sea", "costs", "[I", true)
def tyX1 : Nat → FieldType := fun k => match k with
  | 0 => .int
  | 1 => .int
  | 2 => .int
  | 3 => .int
  | 4 => .object "ToldTracks$Rates"
  | 5 => .object "ToldTracks$Rates"
  | 6 => .object "java/util/ArrayList"
  | 7 => .object "java/util/ArrayList"
  | 8 => .object "java/util/ArrayList"
  | 9 => .object "ToldTracks$Told"
  | 10 => .array .int
  | _ => .array .int
abbrev wsX10 : List Cond := u_ws RX1 TX1 12
theorem nmX1 : ∀ a, a < 12 → ∀ b, b < 12 → a ≠ b → (TX1 a).2.1 ≠ (TX1 b).2.1 := by decide +kernel
theorem tyX1_ok : ∀ k, k < 12 → parseFieldDescriptor (TX1 k).2.2.1 = some (tyX1 k) := by decide +kernel
abbrev cX1_init : ByteArray := prog_19_method_1_code
def yX1_init : MethodName := ⟨RX1, "<init>", "()V"⟩
def dkwX1_init_4 : List UInt8 := [188, 10, 181, 0, 49, 177]
abbrev dktX1_init_4 : List UInt8 := dkwX1_init_4 ++ []
def dkwX1_init_3 : List UInt8 := [187, 0, 38, 89, 183, 0, 40, 181, 0, 41, 42, 17, 1, 0, 188, 10, 181, 0, 45, 42, 17, 1, 0]
abbrev dktX1_init_3 : List UInt8 := dkwX1_init_3 ++ dktX1_init_4
def dkwX1_init_2 : List UInt8 := [187, 0, 25, 89, 183, 0, 27, 181, 0, 32, 42, 187, 0, 25, 89, 183, 0, 27, 181, 0, 35, 42]
abbrev dktX1_init_2 : List UInt8 := dkwX1_init_2 ++ dktX1_init_3
def dkwX1_init_1 : List UInt8 := [187, 0, 15, 89, 183, 0, 17, 181, 0, 22, 42, 187, 0, 25, 89, 183, 0, 27, 181, 0, 28, 42]
abbrev dktX1_init_1 : List UInt8 := dkwX1_init_1 ++ dktX1_init_2
def dkwX1_init_0 : List UInt8 := [42, 183, 0, 3, 42, 16, 10, 181, 0, 9, 42, 187, 0, 15, 89, 183, 0, 17, 181, 0, 18, 42]
abbrev dktX1_init_0 : List UInt8 := dkwX1_init_0 ++ dktX1_init_1
theorem dksX1_init_0 : cX1_init.data.toList.drop 0 = dktX1_init_0 := by decide +kernel
theorem dksX1_init_1 : cX1_init.data.toList.drop 22 = dktX1_init_1 := dk_seg dksX1_init_0 22 rfl rfl
theorem dksX1_init_2 : cX1_init.data.toList.drop 44 = dktX1_init_2 := dk_seg dksX1_init_1 22 rfl rfl
theorem dksX1_init_3 : cX1_init.data.toList.drop 66 = dktX1_init_3 := dk_seg dksX1_init_2 22 rfl rfl
theorem dksX1_init_4 : cX1_init.data.toList.drop 89 = dktX1_init_4 := dk_seg dksX1_init_3 23 rfl rfl
theorem dX1_init_0 : decode cX1_init 0 = .ok (.aload_n 0, 1) := dk_42 (dk_at dksX1_init_0 0 rfl rfl)
theorem dX1_init_1 : decode cX1_init 1 = .ok (.invokespecial 3, 3) := dk_183 0 3 (dk_at dksX1_init_0 1 rfl rfl)
theorem dX1_init_4 : decode cX1_init 4 = .ok (.aload_n 0, 1) := dk_42 (dk_at dksX1_init_0 4 rfl rfl)
theorem dX1_init_5 : decode cX1_init 5 = .ok (.bipush 10, 2) := dk_16 10 (dk_at dksX1_init_0 5 rfl rfl)
theorem dX1_init_7 : decode cX1_init 7 = .ok (.putfield 9, 3) := dk_181 0 9 (dk_at dksX1_init_0 7 rfl rfl)
theorem dX1_init_10 : decode cX1_init 10 = .ok (.aload_n 0, 1) := dk_42 (dk_at dksX1_init_0 10 rfl rfl)
theorem dX1_init_11 : decode cX1_init 11 = .ok (.new 15, 3) := dk_187 0 15 (dk_at dksX1_init_0 11 rfl rfl)
theorem dX1_init_14 : decode cX1_init 14 = .ok (.dup, 1) := dk_89 (dk_at dksX1_init_0 14 rfl rfl)
theorem dX1_init_15 : decode cX1_init 15 = .ok (.invokespecial 17, 3) := dk_183 0 17 (dk_at dksX1_init_0 15 rfl rfl)
theorem dX1_init_18 : decode cX1_init 18 = .ok (.putfield 18, 3) := dk_181 0 18 (dk_at dksX1_init_0 18 rfl rfl)
theorem dX1_init_21 : decode cX1_init 21 = .ok (.aload_n 0, 1) := dk_42 (dk_at dksX1_init_0 21 rfl rfl)
theorem dX1_init_22 : decode cX1_init 22 = .ok (.new 15, 3) := dk_187 0 15 (dk_at dksX1_init_1 0 rfl rfl)
theorem dX1_init_25 : decode cX1_init 25 = .ok (.dup, 1) := dk_89 (dk_at dksX1_init_1 3 rfl rfl)
theorem dX1_init_26 : decode cX1_init 26 = .ok (.invokespecial 17, 3) := dk_183 0 17 (dk_at dksX1_init_1 4 rfl rfl)
theorem dX1_init_29 : decode cX1_init 29 = .ok (.putfield 22, 3) := dk_181 0 22 (dk_at dksX1_init_1 7 rfl rfl)
theorem dX1_init_32 : decode cX1_init 32 = .ok (.aload_n 0, 1) := dk_42 (dk_at dksX1_init_1 10 rfl rfl)
theorem dX1_init_33 : decode cX1_init 33 = .ok (.new 25, 3) := dk_187 0 25 (dk_at dksX1_init_1 11 rfl rfl)
theorem dX1_init_36 : decode cX1_init 36 = .ok (.dup, 1) := dk_89 (dk_at dksX1_init_1 14 rfl rfl)
theorem dX1_init_37 : decode cX1_init 37 = .ok (.invokespecial 27, 3) := dk_183 0 27 (dk_at dksX1_init_1 15 rfl rfl)
theorem dX1_init_40 : decode cX1_init 40 = .ok (.putfield 28, 3) := dk_181 0 28 (dk_at dksX1_init_1 18 rfl rfl)
theorem dX1_init_43 : decode cX1_init 43 = .ok (.aload_n 0, 1) := dk_42 (dk_at dksX1_init_1 21 rfl rfl)
theorem dX1_init_44 : decode cX1_init 44 = .ok (.new 25, 3) := dk_187 0 25 (dk_at dksX1_init_2 0 rfl rfl)
theorem dX1_init_47 : decode cX1_init 47 = .ok (.dup, 1) := dk_89 (dk_at dksX1_init_2 3 rfl rfl)
theorem dX1_init_48 : decode cX1_init 48 = .ok (.invokespecial 27, 3) := dk_183 0 27 (dk_at dksX1_init_2 4 rfl rfl)
theorem dX1_init_51 : decode cX1_init 51 = .ok (.putfield 32, 3) := dk_181 0 32 (dk_at dksX1_init_2 7 rfl rfl)
theorem dX1_init_54 : decode cX1_init 54 = .ok (.aload_n 0, 1) := dk_42 (dk_at dksX1_init_2 10 rfl rfl)
theorem dX1_init_55 : decode cX1_init 55 = .ok (.new 25, 3) := dk_187 0 25 (dk_at dksX1_init_2 11 rfl rfl)
theorem dX1_init_58 : decode cX1_init 58 = .ok (.dup, 1) := dk_89 (dk_at dksX1_init_2 14 rfl rfl)
theorem dX1_init_59 : decode cX1_init 59 = .ok (.invokespecial 27, 3) := dk_183 0 27 (dk_at dksX1_init_2 15 rfl rfl)
theorem dX1_init_62 : decode cX1_init 62 = .ok (.putfield 35, 3) := dk_181 0 35 (dk_at dksX1_init_2 18 rfl rfl)
theorem dX1_init_65 : decode cX1_init 65 = .ok (.aload_n 0, 1) := dk_42 (dk_at dksX1_init_2 21 rfl rfl)
theorem dX1_init_66 : decode cX1_init 66 = .ok (.new 38, 3) := dk_187 0 38 (dk_at dksX1_init_3 0 rfl rfl)
theorem dX1_init_69 : decode cX1_init 69 = .ok (.dup, 1) := dk_89 (dk_at dksX1_init_3 3 rfl rfl)
theorem dX1_init_70 : decode cX1_init 70 = .ok (.invokespecial 40, 3) := dk_183 0 40 (dk_at dksX1_init_3 4 rfl rfl)
theorem dX1_init_73 : decode cX1_init 73 = .ok (.putfield 41, 3) := dk_181 0 41 (dk_at dksX1_init_3 7 rfl rfl)
theorem dX1_init_76 : decode cX1_init 76 = .ok (.aload_n 0, 1) := dk_42 (dk_at dksX1_init_3 10 rfl rfl)
theorem dX1_init_77 : decode cX1_init 77 = .ok (.sipush 256, 3) := dk_17 1 0 (dk_at dksX1_init_3 11 rfl rfl)
theorem dX1_init_80 : decode cX1_init 80 = .ok (.newarray .int, 2) := dk_188_10 (dk_at dksX1_init_3 14 rfl rfl)
theorem dX1_init_82 : decode cX1_init 82 = .ok (.putfield 45, 3) := dk_181 0 45 (dk_at dksX1_init_3 16 rfl rfl)
theorem dX1_init_85 : decode cX1_init 85 = .ok (.aload_n 0, 1) := dk_42 (dk_at dksX1_init_3 19 rfl rfl)
theorem dX1_init_86 : decode cX1_init 86 = .ok (.sipush 256, 3) := dk_17 1 0 (dk_at dksX1_init_3 20 rfl rfl)
theorem dX1_init_89 : decode cX1_init 89 = .ok (.newarray .int, 2) := dk_188_10 (dk_at dksX1_init_4 0 rfl rfl)
theorem dX1_init_91 : decode cX1_init 91 = .ok (.putfield 49, 3) := dk_181 0 49 (dk_at dksX1_init_4 2 rfl rfl)
theorem dX1_init_94 : decode cX1_init 94 = .ok (.return_, 1) := dk_177 (dk_at dksX1_init_4 5 rfl rfl)
abbrev cX1_knows : ByteArray := prog_19_method_2_code
def yX1_knows : MethodName := ⟨RX1, "knows", "(Ljava/lang/String;)Z"⟩
def dkwX1_knows_0 : List UInt8 := [42, 180, 0, 32, 43, 184, 0, 52, 198, 0, 7, 4, 167, 0, 4, 3, 172]
abbrev dktX1_knows_0 : List UInt8 := dkwX1_knows_0 ++ []
theorem dksX1_knows_0 : cX1_knows.data.toList.drop 0 = dktX1_knows_0 := by decide +kernel
theorem dX1_knows_0 : decode cX1_knows 0 = .ok (.aload_n 0, 1) := dk_42 (dk_at dksX1_knows_0 0 rfl rfl)
theorem dX1_knows_1 : decode cX1_knows 1 = .ok (.getfield 32, 3) := dk_180 0 32 (dk_at dksX1_knows_0 1 rfl rfl)
theorem dX1_knows_4 : decode cX1_knows 4 = .ok (.aload_n 1, 1) := dk_43 (dk_at dksX1_knows_0 4 rfl rfl)
theorem dX1_knows_5 : decode cX1_knows 5 = .ok (.invokestatic 52, 3) := dk_184 0 52 (dk_at dksX1_knows_0 5 rfl rfl)
theorem dX1_knows_8 : decode cX1_knows 8 = .ok (.ifnull 7, 3) := dk_198 0 7 (dk_at dksX1_knows_0 8 rfl rfl)
theorem dX1_knows_11 : decode cX1_knows 11 = .ok (.iconst 1, 1) := dk_4 (dk_at dksX1_knows_0 11 rfl rfl)
theorem dX1_knows_12 : decode cX1_knows 12 = .ok (.goto 4, 3) := dk_167 0 4 (dk_at dksX1_knows_0 12 rfl rfl)
theorem dX1_knows_15 : decode cX1_knows 15 = .ok (.iconst 0, 1) := dk_3 (dk_at dksX1_knows_0 15 rfl rfl)
theorem dX1_knows_16 : decode cX1_knows 16 = .ok (.ireturn, 1) := dk_172 (dk_at dksX1_knows_0 16 rfl rfl)
abbrev cX1_at : ByteArray := prog_19_method_4_code
def yX1_at : MethodName := ⟨RX1, "at", "(II)I"⟩
def dkwX1_at_1 : List UInt8 := [100, 133, 184, 0, 62, 153, 0, 14, 28, 42, 180, 0, 56, 104, 27, 96, 167, 0, 4, 2, 172]
abbrev dktX1_at_1 : List UInt8 := dkwX1_at_1 ++ []
def dkwX1_at_0 : List UInt8 := [27, 133, 9, 42, 180, 0, 56, 4, 100, 133, 184, 0, 62, 153, 0, 30, 28, 133, 9, 42, 180, 0, 59, 4]
abbrev dktX1_at_0 : List UInt8 := dkwX1_at_0 ++ dktX1_at_1
theorem dksX1_at_0 : cX1_at.data.toList.drop 0 = dktX1_at_0 := by decide +kernel
theorem dksX1_at_1 : cX1_at.data.toList.drop 24 = dktX1_at_1 := dk_seg dksX1_at_0 24 rfl rfl
theorem dX1_at_0 : decode cX1_at 0 = .ok (.iload_n 1, 1) := dk_27 (dk_at dksX1_at_0 0 rfl rfl)
theorem dX1_at_1 : decode cX1_at 1 = .ok (.i2l, 1) := dk_133 (dk_at dksX1_at_0 1 rfl rfl)
theorem dX1_at_2 : decode cX1_at 2 = .ok (.lconst 0, 1) := dk_9 (dk_at dksX1_at_0 2 rfl rfl)
theorem dX1_at_3 : decode cX1_at 3 = .ok (.aload_n 0, 1) := dk_42 (dk_at dksX1_at_0 3 rfl rfl)
theorem dX1_at_4 : decode cX1_at 4 = .ok (.getfield 56, 3) := dk_180 0 56 (dk_at dksX1_at_0 4 rfl rfl)
theorem dX1_at_7 : decode cX1_at 7 = .ok (.iconst 1, 1) := dk_4 (dk_at dksX1_at_0 7 rfl rfl)
theorem dX1_at_8 : decode cX1_at 8 = .ok (.isub, 1) := dk_100 (dk_at dksX1_at_0 8 rfl rfl)
theorem dX1_at_9 : decode cX1_at 9 = .ok (.i2l, 1) := dk_133 (dk_at dksX1_at_0 9 rfl rfl)
theorem dX1_at_10 : decode cX1_at 10 = .ok (.invokestatic 62, 3) := dk_184 0 62 (dk_at dksX1_at_0 10 rfl rfl)
theorem dX1_at_13 : decode cX1_at 13 = .ok (.ifCond .eq 30, 3) := dk_153 0 30 (dk_at dksX1_at_0 13 rfl rfl)
theorem dX1_at_16 : decode cX1_at 16 = .ok (.iload_n 2, 1) := dk_28 (dk_at dksX1_at_0 16 rfl rfl)
theorem dX1_at_17 : decode cX1_at 17 = .ok (.i2l, 1) := dk_133 (dk_at dksX1_at_0 17 rfl rfl)
theorem dX1_at_18 : decode cX1_at 18 = .ok (.lconst 0, 1) := dk_9 (dk_at dksX1_at_0 18 rfl rfl)
theorem dX1_at_19 : decode cX1_at 19 = .ok (.aload_n 0, 1) := dk_42 (dk_at dksX1_at_0 19 rfl rfl)
theorem dX1_at_20 : decode cX1_at 20 = .ok (.getfield 59, 3) := dk_180 0 59 (dk_at dksX1_at_0 20 rfl rfl)
theorem dX1_at_23 : decode cX1_at 23 = .ok (.iconst 1, 1) := dk_4 (dk_at dksX1_at_0 23 rfl rfl)
theorem dX1_at_24 : decode cX1_at 24 = .ok (.isub, 1) := dk_100 (dk_at dksX1_at_1 0 rfl rfl)
theorem dX1_at_25 : decode cX1_at 25 = .ok (.i2l, 1) := dk_133 (dk_at dksX1_at_1 1 rfl rfl)
theorem dX1_at_26 : decode cX1_at 26 = .ok (.invokestatic 62, 3) := dk_184 0 62 (dk_at dksX1_at_1 2 rfl rfl)
theorem dX1_at_29 : decode cX1_at 29 = .ok (.ifCond .eq 14, 3) := dk_153 0 14 (dk_at dksX1_at_1 5 rfl rfl)
theorem dX1_at_32 : decode cX1_at 32 = .ok (.iload_n 2, 1) := dk_28 (dk_at dksX1_at_1 8 rfl rfl)
theorem dX1_at_33 : decode cX1_at 33 = .ok (.aload_n 0, 1) := dk_42 (dk_at dksX1_at_1 9 rfl rfl)
theorem dX1_at_34 : decode cX1_at 34 = .ok (.getfield 56, 3) := dk_180 0 56 (dk_at dksX1_at_1 10 rfl rfl)
theorem dX1_at_37 : decode cX1_at 37 = .ok (.imul, 1) := dk_104 (dk_at dksX1_at_1 13 rfl rfl)
theorem dX1_at_38 : decode cX1_at 38 = .ok (.iload_n 1, 1) := dk_27 (dk_at dksX1_at_1 14 rfl rfl)
theorem dX1_at_39 : decode cX1_at 39 = .ok (.iadd, 1) := dk_96 (dk_at dksX1_at_1 15 rfl rfl)
theorem dX1_at_40 : decode cX1_at 40 = .ok (.goto 4, 3) := dk_167 0 4 (dk_at dksX1_at_1 16 rfl rfl)
theorem dX1_at_43 : decode cX1_at 43 = .ok (.iconst (-1), 1) := dk_2 (dk_at dksX1_at_1 19 rfl rfl)
theorem dX1_at_44 : decode cX1_at 44 = .ok (.ireturn, 1) := dk_172 (dk_at dksX1_at_1 20 rfl rfl)
abbrev cX1_size : ByteArray := prog_19_method_3_code
def yX1_size : MethodName := ⟨RX1, "size", "()I"⟩
def dkwX1_size_0 : List UInt8 := [42, 180, 0, 56, 42, 180, 0, 59, 104, 172]
abbrev dktX1_size_0 : List UInt8 := dkwX1_size_0 ++ []
theorem dksX1_size_0 : cX1_size.data.toList.drop 0 = dktX1_size_0 := by decide +kernel
theorem dX1_size_0 : decode cX1_size 0 = .ok (.aload_n 0, 1) := dk_42 (dk_at dksX1_size_0 0 rfl rfl)
theorem dX1_size_1 : decode cX1_size 1 = .ok (.getfield 56, 3) := dk_180 0 56 (dk_at dksX1_size_0 1 rfl rfl)
theorem dX1_size_4 : decode cX1_size 4 = .ok (.aload_n 0, 1) := dk_42 (dk_at dksX1_size_0 4 rfl rfl)
theorem dX1_size_5 : decode cX1_size 5 = .ok (.getfield 59, 3) := dk_180 0 59 (dk_at dksX1_size_0 5 rfl rfl)
theorem dX1_size_8 : decode cX1_size 8 = .ok (.imul, 1) := dk_104 (dk_at dksX1_size_0 8 rfl rfl)
theorem dX1_size_9 : decode cX1_size 9 = .ok (.ireturn, 1) := dk_172 (dk_at dksX1_size_0 9 rfl rfl)
abbrev cX1_beside : ByteArray := prog_19_method_5_code
def yX1_beside : MethodName := ⟨RX1, "beside", "(II)I"⟩
def dkwX1_beside_2 : List UInt8 := [167, 0, 4, 3, 96, 182, 0, 66, 172]
abbrev dktX1_beside_2 : List UInt8 := dkwX1_beside_2 ++ []
def dkwX1_beside_1 : List UInt8 := [3, 96, 27, 42, 180, 0, 56, 108, 28, 5, 160, 0, 7, 4, 167, 0, 13, 28, 6, 160, 0, 7, 2]
abbrev dktX1_beside_1 : List UInt8 := dkwX1_beside_1 ++ dktX1_beside_2
def dkwX1_beside_0 : List UInt8 := [42, 27, 42, 180, 0, 56, 112, 28, 154, 0, 7, 4, 167, 0, 13, 28, 4, 160, 0, 7, 2, 167, 0, 4]
abbrev dktX1_beside_0 : List UInt8 := dkwX1_beside_0 ++ dktX1_beside_1
theorem dksX1_beside_0 : cX1_beside.data.toList.drop 0 = dktX1_beside_0 := by decide +kernel
theorem dksX1_beside_1 : cX1_beside.data.toList.drop 24 = dktX1_beside_1 := dk_seg dksX1_beside_0 24 rfl rfl
theorem dksX1_beside_2 : cX1_beside.data.toList.drop 47 = dktX1_beside_2 := dk_seg dksX1_beside_1 23 rfl rfl
theorem dX1_beside_0 : decode cX1_beside 0 = .ok (.aload_n 0, 1) := dk_42 (dk_at dksX1_beside_0 0 rfl rfl)
theorem dX1_beside_1 : decode cX1_beside 1 = .ok (.iload_n 1, 1) := dk_27 (dk_at dksX1_beside_0 1 rfl rfl)
theorem dX1_beside_2 : decode cX1_beside 2 = .ok (.aload_n 0, 1) := dk_42 (dk_at dksX1_beside_0 2 rfl rfl)
theorem dX1_beside_3 : decode cX1_beside 3 = .ok (.getfield 56, 3) := dk_180 0 56 (dk_at dksX1_beside_0 3 rfl rfl)
theorem dX1_beside_6 : decode cX1_beside 6 = .ok (.irem, 1) := dk_112 (dk_at dksX1_beside_0 6 rfl rfl)
theorem dX1_beside_7 : decode cX1_beside 7 = .ok (.iload_n 2, 1) := dk_28 (dk_at dksX1_beside_0 7 rfl rfl)
theorem dX1_beside_8 : decode cX1_beside 8 = .ok (.ifCond .ne 7, 3) := dk_154 0 7 (dk_at dksX1_beside_0 8 rfl rfl)
theorem dX1_beside_11 : decode cX1_beside 11 = .ok (.iconst 1, 1) := dk_4 (dk_at dksX1_beside_0 11 rfl rfl)
theorem dX1_beside_12 : decode cX1_beside 12 = .ok (.goto 13, 3) := dk_167 0 13 (dk_at dksX1_beside_0 12 rfl rfl)
theorem dX1_beside_15 : decode cX1_beside 15 = .ok (.iload_n 2, 1) := dk_28 (dk_at dksX1_beside_0 15 rfl rfl)
theorem dX1_beside_16 : decode cX1_beside 16 = .ok (.iconst 1, 1) := dk_4 (dk_at dksX1_beside_0 16 rfl rfl)
theorem dX1_beside_17 : decode cX1_beside 17 = .ok (.if_icmp .ne 7, 3) := dk_160 0 7 (dk_at dksX1_beside_0 17 rfl rfl)
theorem dX1_beside_20 : decode cX1_beside 20 = .ok (.iconst (-1), 1) := dk_2 (dk_at dksX1_beside_0 20 rfl rfl)
theorem dX1_beside_21 : decode cX1_beside 21 = .ok (.goto 4, 3) := dk_167 0 4 (dk_at dksX1_beside_0 21 rfl rfl)
theorem dX1_beside_24 : decode cX1_beside 24 = .ok (.iconst 0, 1) := dk_3 (dk_at dksX1_beside_1 0 rfl rfl)
theorem dX1_beside_25 : decode cX1_beside 25 = .ok (.iadd, 1) := dk_96 (dk_at dksX1_beside_1 1 rfl rfl)
theorem dX1_beside_26 : decode cX1_beside 26 = .ok (.iload_n 1, 1) := dk_27 (dk_at dksX1_beside_1 2 rfl rfl)
theorem dX1_beside_27 : decode cX1_beside 27 = .ok (.aload_n 0, 1) := dk_42 (dk_at dksX1_beside_1 3 rfl rfl)
theorem dX1_beside_28 : decode cX1_beside 28 = .ok (.getfield 56, 3) := dk_180 0 56 (dk_at dksX1_beside_1 4 rfl rfl)
theorem dX1_beside_31 : decode cX1_beside 31 = .ok (.idiv, 1) := dk_108 (dk_at dksX1_beside_1 7 rfl rfl)
theorem dX1_beside_32 : decode cX1_beside 32 = .ok (.iload_n 2, 1) := dk_28 (dk_at dksX1_beside_1 8 rfl rfl)
theorem dX1_beside_33 : decode cX1_beside 33 = .ok (.iconst 2, 1) := dk_5 (dk_at dksX1_beside_1 9 rfl rfl)
theorem dX1_beside_34 : decode cX1_beside 34 = .ok (.if_icmp .ne 7, 3) := dk_160 0 7 (dk_at dksX1_beside_1 10 rfl rfl)
theorem dX1_beside_37 : decode cX1_beside 37 = .ok (.iconst 1, 1) := dk_4 (dk_at dksX1_beside_1 13 rfl rfl)
theorem dX1_beside_38 : decode cX1_beside 38 = .ok (.goto 13, 3) := dk_167 0 13 (dk_at dksX1_beside_1 14 rfl rfl)
theorem dX1_beside_41 : decode cX1_beside 41 = .ok (.iload_n 2, 1) := dk_28 (dk_at dksX1_beside_1 17 rfl rfl)
theorem dX1_beside_42 : decode cX1_beside 42 = .ok (.iconst 3, 1) := dk_6 (dk_at dksX1_beside_1 18 rfl rfl)
theorem dX1_beside_43 : decode cX1_beside 43 = .ok (.if_icmp .ne 7, 3) := dk_160 0 7 (dk_at dksX1_beside_1 19 rfl rfl)
theorem dX1_beside_46 : decode cX1_beside 46 = .ok (.iconst (-1), 1) := dk_2 (dk_at dksX1_beside_1 22 rfl rfl)
theorem dX1_beside_47 : decode cX1_beside 47 = .ok (.goto 4, 3) := dk_167 0 4 (dk_at dksX1_beside_2 0 rfl rfl)
theorem dX1_beside_50 : decode cX1_beside 50 = .ok (.iconst 0, 1) := dk_3 (dk_at dksX1_beside_2 3 rfl rfl)
theorem dX1_beside_51 : decode cX1_beside 51 = .ok (.iadd, 1) := dk_96 (dk_at dksX1_beside_2 4 rfl rfl)
theorem dX1_beside_52 : decode cX1_beside 52 = .ok (.invokevirtual 66, 3) := dk_182 0 66 (dk_at dksX1_beside_2 5 rfl rfl)
theorem dX1_beside_55 : decode cX1_beside 55 = .ok (.ireturn, 1) := dk_172 (dk_at dksX1_beside_2 8 rfl rfl)
abbrev cX1_isQuiet : ByteArray := prog_19_method_6_code
def yX1_isQuiet : MethodName := ⟨RX1, "isQuiet", "(LToldTracks$Asking;)Z"⟩
def dkwX1_isQuiet_1 : List UInt8 := [43, 185, 0, 80, 2, 0, 153, 0, 5, 4, 172, 132, 2, 1, 167, 255, 220, 3, 172]
abbrev dktX1_isQuiet_1 : List UInt8 := dkwX1_isQuiet_1 ++ []
def dkwX1_isQuiet_0 : List UInt8 := [3, 61, 28, 42, 180, 0, 28, 182, 0, 70, 162, 0, 31, 42, 180, 0, 28, 28, 182, 0, 74, 192, 0, 78]
abbrev dktX1_isQuiet_0 : List UInt8 := dkwX1_isQuiet_0 ++ dktX1_isQuiet_1
theorem dksX1_isQuiet_0 : cX1_isQuiet.data.toList.drop 0 = dktX1_isQuiet_0 := by decide +kernel
theorem dksX1_isQuiet_1 : cX1_isQuiet.data.toList.drop 24 = dktX1_isQuiet_1 := dk_seg dksX1_isQuiet_0 24 rfl rfl
theorem dX1_isQuiet_0 : decode cX1_isQuiet 0 = .ok (.iconst 0, 1) := dk_3 (dk_at dksX1_isQuiet_0 0 rfl rfl)
theorem dX1_isQuiet_1 : decode cX1_isQuiet 1 = .ok (.istore_n 2, 1) := dk_61 (dk_at dksX1_isQuiet_0 1 rfl rfl)
theorem dX1_isQuiet_2 : decode cX1_isQuiet 2 = .ok (.iload_n 2, 1) := dk_28 (dk_at dksX1_isQuiet_0 2 rfl rfl)
theorem dX1_isQuiet_3 : decode cX1_isQuiet 3 = .ok (.aload_n 0, 1) := dk_42 (dk_at dksX1_isQuiet_0 3 rfl rfl)
theorem dX1_isQuiet_4 : decode cX1_isQuiet 4 = .ok (.getfield 28, 3) := dk_180 0 28 (dk_at dksX1_isQuiet_0 4 rfl rfl)
theorem dX1_isQuiet_7 : decode cX1_isQuiet 7 = .ok (.invokevirtual 70, 3) := dk_182 0 70 (dk_at dksX1_isQuiet_0 7 rfl rfl)
theorem dX1_isQuiet_10 : decode cX1_isQuiet 10 = .ok (.if_icmp .ge 31, 3) := dk_162 0 31 (dk_at dksX1_isQuiet_0 10 rfl rfl)
theorem dX1_isQuiet_13 : decode cX1_isQuiet 13 = .ok (.aload_n 0, 1) := dk_42 (dk_at dksX1_isQuiet_0 13 rfl rfl)
theorem dX1_isQuiet_14 : decode cX1_isQuiet 14 = .ok (.getfield 28, 3) := dk_180 0 28 (dk_at dksX1_isQuiet_0 14 rfl rfl)
theorem dX1_isQuiet_17 : decode cX1_isQuiet 17 = .ok (.iload_n 2, 1) := dk_28 (dk_at dksX1_isQuiet_0 17 rfl rfl)
theorem dX1_isQuiet_18 : decode cX1_isQuiet 18 = .ok (.invokevirtual 74, 3) := dk_182 0 74 (dk_at dksX1_isQuiet_0 18 rfl rfl)
theorem dX1_isQuiet_21 : decode cX1_isQuiet 21 = .ok (.checkcast 78, 3) := dk_192 0 78 (dk_at dksX1_isQuiet_0 21 rfl rfl)
theorem dX1_isQuiet_24 : decode cX1_isQuiet 24 = .ok (.aload_n 1, 1) := dk_43 (dk_at dksX1_isQuiet_1 0 rfl rfl)
theorem dX1_isQuiet_25 : decode cX1_isQuiet 25 = .ok (.invokeinterface 80 2, 5) := by decide +kernel
theorem dX1_isQuiet_30 : decode cX1_isQuiet 30 = .ok (.ifCond .eq 5, 3) := dk_153 0 5 (dk_at dksX1_isQuiet_1 6 rfl rfl)
theorem dX1_isQuiet_33 : decode cX1_isQuiet 33 = .ok (.iconst 1, 1) := dk_4 (dk_at dksX1_isQuiet_1 9 rfl rfl)
theorem dX1_isQuiet_34 : decode cX1_isQuiet 34 = .ok (.ireturn, 1) := dk_172 (dk_at dksX1_isQuiet_1 10 rfl rfl)
theorem dX1_isQuiet_35 : decode cX1_isQuiet 35 = .ok (.iinc 2 1, 3) := dk_132 2 1 (dk_at dksX1_isQuiet_1 11 rfl rfl)
theorem dX1_isQuiet_38 : decode cX1_isQuiet 38 = .ok (.goto (-36), 3) := dk_167 255 220 (dk_at dksX1_isQuiet_1 14 rfl rfl)
theorem dX1_isQuiet_41 : decode cX1_isQuiet 41 = .ok (.iconst 0, 1) := dk_3 (dk_at dksX1_isQuiet_1 17 rfl rfl)
theorem dX1_isQuiet_42 : decode cX1_isQuiet 42 = .ok (.ireturn, 1) := dk_172 (dk_at dksX1_isQuiet_1 18 rfl rfl)
theorem q170 : (Jvm.Cond.initialized "ToldTracks$Sea") ∈ lw_all := lw_g (lw_at lw_m1 2 rfl) rfl
theorem q223 : (Jvm.Cond.instantiable "ToldTracks$Sea" (12 : Nat)) ∈ lw_all := lw_g (lw_at lw_m1 55 rfl) rfl
theorem q225 : (Jvm.Cond.instanceMethod ({ cls := "ToldTracks$Sea", name := "<init>", desc := "()V" } : Jvm.MethodName)) ∈ lw_all := lw_g (lw_at lw_m1 57 rfl) rfl
theorem q226 : (Jvm.Cond.code ({ cls := "ToldTracks$Sea", name := "<init>", desc := "()V" } : Jvm.MethodName) prog_19_method_1_code (1 : Nat) (Option.none : Option Jvm.ClassFile.FieldType)) ∈ lw_all := lw_g (lw_at lw_m1 58 rfl) rfl
theorem q227 : (Jvm.Cond.methodLink "ToldTracks$Sea" (3 : Nat) ({ cls := "java/lang/Object", name := "<init>", desc := "()V" } : Jvm.MethodName)) ∈ lw_all := lw_g (lw_at lw_m1 59 rfl) rfl
theorem q228 : (Jvm.Cond.classLink "ToldTracks$Sea" (15 : Nat) "ToldTracks$Rates") ∈ lw_all := lw_g (lw_at lw_m1 60 rfl) rfl
theorem q230 : (Jvm.Cond.methodLinkNest "ToldTracks$Sea" (17 : Nat) ({ cls := "ToldTracks$Rates", name := "<init>", desc := "()V" } : Jvm.MethodName) "ToldTracks") ∈ lw_tbl := lw_at lw_m1 62 rfl
theorem q269 : (Jvm.Cond.classLink "ToldTracks$Sea" (25 : Nat) "java/util/ArrayList") ∈ lw_all := lw_g (lw_at lw_m1 101 rfl) rfl
theorem q270 : (Jvm.Cond.methodLink "ToldTracks$Sea" (27 : Nat) ({ cls := "java/util/ArrayList", name := "<init>", desc := "()V" } : Jvm.MethodName)) ∈ lw_all := lw_g (lw_at lw_m1 102 rfl) rfl
theorem q271 : (Jvm.Cond.classLink "ToldTracks$Sea" (38 : Nat) "ToldTracks$Told") ∈ lw_all := lw_g (lw_at lw_m1 103 rfl) rfl
theorem q273 : (Jvm.Cond.methodLinkNest "ToldTracks$Sea" (40 : Nat) ({ cls := "ToldTracks$Told", name := "<init>", desc := "()V" } : Jvm.MethodName) "ToldTracks") ∈ lw_tbl := lw_at lw_m1 105 rfl
theorem q291 : (Jvm.Cond.fieldLink "ToldTracks$Sea" (56 : Nat) "ToldTracks$Sea" "columns" "I") ∈ lw_all := lw_g (lw_at lw_m1 123 rfl) rfl
theorem q294 : (Jvm.Cond.fieldLink "ToldTracks$Sea" (59 : Nat) "ToldTracks$Sea" "rows" "I") ∈ lw_all := lw_g (lw_at lw_m1 126 rfl) rfl
theorem q299 : (Jvm.Cond.fieldLink "ToldTracks$Sea" (9 : Nat) "ToldTracks$Sea" "luck" "I") ∈ lw_all := lw_g (lw_at lw_m1 131 rfl) rfl
theorem q302 : (Jvm.Cond.fieldLink "ToldTracks$Sea" (18 : Nat) "ToldTracks$Sea" "depth" "LToldTracks$Rates;") ∈ lw_all := lw_g (lw_at lw_m1 134 rfl) rfl
theorem q305 : (Jvm.Cond.fieldLink "ToldTracks$Sea" (22 : Nat) "ToldTracks$Sea" "cost" "LToldTracks$Rates;") ∈ lw_all := lw_g (lw_at lw_m1 137 rfl) rfl
theorem q308 : (Jvm.Cond.fieldLink "ToldTracks$Sea" (28 : Nat) "ToldTracks$Sea" "quiets" "Ljava/util/ArrayList;") ∈ lw_all := lw_g (lw_at lw_m1 140 rfl) rfl
theorem q310 : (Jvm.Cond.fieldLink "ToldTracks$Sea" (32 : Nat) "ToldTracks$Sea" "ships" "Ljava/util/ArrayList;") ∈ lw_all := lw_g (lw_at lw_m1 142 rfl) rfl
theorem q313 : (Jvm.Cond.fieldLink "ToldTracks$Sea" (35 : Nat) "ToldTracks$Sea" "books" "Ljava/util/ArrayList;") ∈ lw_all := lw_g (lw_at lw_m1 145 rfl) rfl
theorem q318 : (Jvm.Cond.fieldLink "ToldTracks$Sea" (41 : Nat) "ToldTracks$Sea" "told" "LToldTracks$Told;") ∈ lw_all := lw_g (lw_at lw_m1 150 rfl) rfl
theorem q320 : (Jvm.Cond.fieldLink "ToldTracks$Sea" (45 : Nat) "ToldTracks$Sea" "depths" "[I") ∈ lw_all := lw_g (lw_at lw_m1 152 rfl) rfl
theorem q325 : (Jvm.Cond.fieldLink "ToldTracks$Sea" (49 : Nat) "ToldTracks$Sea" "costs" "[I") ∈ lw_all := lw_g (lw_at lw_m1 157 rfl) rfl
theorem q327 : (Jvm.Cond.lays "ToldTracks$Sea" "ToldTracks$Sea" "columns" "I") ∈ lw_all := lw_g (lw_at lw_m1 159 rfl) rfl
theorem q328 : (Jvm.Cond.soleField "ToldTracks$Sea" "columns") ∈ lw_all := lw_g (lw_at lw_m1 160 rfl) rfl
theorem q329 : (Jvm.Cond.lays "ToldTracks$Sea" "ToldTracks$Sea" "rows" "I") ∈ lw_all := lw_g (lw_at lw_m1 161 rfl) rfl
theorem q330 : (Jvm.Cond.soleField "ToldTracks$Sea" "rows") ∈ lw_all := lw_g (lw_at lw_m1 162 rfl) rfl
theorem q331 : (Jvm.Cond.lays "ToldTracks$Sea" "ToldTracks$Sea" "statements" "I") ∈ lw_all := lw_g (lw_at lw_m1 163 rfl) rfl
theorem q332 : (Jvm.Cond.soleField "ToldTracks$Sea" "statements") ∈ lw_all := lw_g (lw_at lw_m1 164 rfl) rfl
theorem q333 : (Jvm.Cond.lays "ToldTracks$Sea" "ToldTracks$Sea" "luck" "I") ∈ lw_all := lw_g (lw_at lw_m1 165 rfl) rfl
theorem q334 : (Jvm.Cond.soleField "ToldTracks$Sea" "luck") ∈ lw_all := lw_g (lw_at lw_m1 166 rfl) rfl
theorem q335 : (Jvm.Cond.laysFinal "ToldTracks$Sea" "ToldTracks$Sea" "depth" "LToldTracks$Rates;") ∈ lw_all := lw_g (lw_at lw_m1 167 rfl) rfl
theorem q336 : (Jvm.Cond.soleField "ToldTracks$Sea" "depth") ∈ lw_all := lw_g (lw_at lw_m1 168 rfl) rfl
theorem q337 : (Jvm.Cond.laysFinal "ToldTracks$Sea" "ToldTracks$Sea" "cost" "LToldTracks$Rates;") ∈ lw_all := lw_g (lw_at lw_m1 169 rfl) rfl
theorem q338 : (Jvm.Cond.soleField "ToldTracks$Sea" "cost") ∈ lw_all := lw_g (lw_at lw_m1 170 rfl) rfl
theorem q339 : (Jvm.Cond.laysFinal "ToldTracks$Sea" "ToldTracks$Sea" "quiets" "Ljava/util/ArrayList;") ∈ lw_all := lw_g (lw_at lw_m1 171 rfl) rfl
theorem q340 : (Jvm.Cond.soleField "ToldTracks$Sea" "quiets") ∈ lw_all := lw_g (lw_at lw_m1 172 rfl) rfl
theorem q341 : (Jvm.Cond.laysFinal "ToldTracks$Sea" "ToldTracks$Sea" "ships" "Ljava/util/ArrayList;") ∈ lw_all := lw_g (lw_at lw_m1 173 rfl) rfl
theorem q342 : (Jvm.Cond.soleField "ToldTracks$Sea" "ships") ∈ lw_all := lw_g (lw_at lw_m1 174 rfl) rfl
theorem q343 : (Jvm.Cond.laysFinal "ToldTracks$Sea" "ToldTracks$Sea" "books" "Ljava/util/ArrayList;") ∈ lw_all := lw_g (lw_at lw_m1 175 rfl) rfl
theorem q344 : (Jvm.Cond.soleField "ToldTracks$Sea" "books") ∈ lw_all := lw_g (lw_at lw_m1 176 rfl) rfl
theorem q345 : (Jvm.Cond.laysFinal "ToldTracks$Sea" "ToldTracks$Sea" "told" "LToldTracks$Told;") ∈ lw_all := lw_g (lw_at lw_m1 177 rfl) rfl
theorem q346 : (Jvm.Cond.soleField "ToldTracks$Sea" "told") ∈ lw_all := lw_g (lw_at lw_m1 178 rfl) rfl
theorem q347 : (Jvm.Cond.laysFinal "ToldTracks$Sea" "ToldTracks$Sea" "depths" "[I") ∈ lw_all := lw_g (lw_at lw_m1 179 rfl) rfl
theorem q348 : (Jvm.Cond.soleField "ToldTracks$Sea" "depths") ∈ lw_all := lw_g (lw_at lw_m1 180 rfl) rfl
theorem q349 : (Jvm.Cond.laysFinal "ToldTracks$Sea" "ToldTracks$Sea" "costs" "[I") ∈ lw_all := lw_g (lw_at lw_m1 181 rfl) rfl
theorem q350 : (Jvm.Cond.soleField "ToldTracks$Sea" "costs") ∈ lw_all := lw_g (lw_at lw_m1 182 rfl) rfl
theorem q351 : (Jvm.Cond.superclass "ToldTracks$Sea" "java/lang/Object") ∈ lw_all := lw_g (lw_at lw_m1 183 rfl) rfl
theorem q966 : (Jvm.Cond.selects "ToldTracks$Sea" ({ cls := "java/lang/Object", name := "getClass", desc := "()Ljava/lang/Class;" } : Jvm.MethodName) ({ cls := "java/lang/Object", name := "getClass", desc := "()Ljava/lang/Class;" } : Jvm.MethodName)) ∈ lw_all := lw_g (lw_at lw_m4 78 rfl) rfl
theorem q1120 : (Jvm.Cond.instanceMethod ({ cls := "ToldTracks$Sea", name := "knows", desc := "(Ljava/lang/String;)Z" } : Jvm.MethodName)) ∈ lw_all := lw_g (lw_at lw_m4 232 rfl) rfl
theorem q1121 : (Jvm.Cond.selects "ToldTracks$Sea" ({ cls := "ToldTracks$Sea", name := "knows", desc := "(Ljava/lang/String;)Z" } : Jvm.MethodName) ({ cls := "ToldTracks$Sea", name := "knows", desc := "(Ljava/lang/String;)Z" } : Jvm.MethodName)) ∈ lw_all := lw_g (lw_at lw_m4 233 rfl) rfl
theorem q1122 : (Jvm.Cond.code ({ cls := "ToldTracks$Sea", name := "knows", desc := "(Ljava/lang/String;)Z" } : Jvm.MethodName) prog_19_method_2_code (2 : Nat) (Option.some Jvm.ClassFile.FieldType.boolean)) ∈ lw_all := lw_g (lw_at lw_m4 234 rfl) rfl
theorem q1123 : (Jvm.Cond.methodLinkNest "ToldTracks$Sea" (52 : Nat) ({ cls := "ToldTracks", name := "named", desc := "(Ljava/util/ArrayList;Ljava/lang/String;)LToldTracks$Named;" } : Jvm.MethodName) "ToldTracks") ∈ lw_tbl := lw_at lw_m4 235 rfl
theorem q1221 : (Jvm.Cond.instanceMethod ({ cls := "ToldTracks$Sea", name := "at", desc := "(II)I" } : Jvm.MethodName)) ∈ lw_all := lw_g (lw_at lw_m5 93 rfl) rfl
theorem q1222 : (Jvm.Cond.selects "ToldTracks$Sea" ({ cls := "ToldTracks$Sea", name := "at", desc := "(II)I" } : Jvm.MethodName) ({ cls := "ToldTracks$Sea", name := "at", desc := "(II)I" } : Jvm.MethodName)) ∈ lw_all := lw_g (lw_at lw_m5 94 rfl) rfl
theorem q1223 : (Jvm.Cond.code ({ cls := "ToldTracks$Sea", name := "at", desc := "(II)I" } : Jvm.MethodName) prog_19_method_4_code (3 : Nat) (Option.some Jvm.ClassFile.FieldType.int)) ∈ lw_all := lw_g (lw_at lw_m5 95 rfl) rfl
theorem q1224 : (Jvm.Cond.methodLinkNest "ToldTracks$Sea" (62 : Nat) ({ cls := "ToldTracks", name := "isIn", desc := "(JJJ)Z" } : Jvm.MethodName) "ToldTracks") ∈ lw_tbl := lw_at lw_m5 96 rfl
theorem q1334 : (Jvm.Cond.instanceMethod ({ cls := "ToldTracks$Sea", name := "size", desc := "()I" } : Jvm.MethodName)) ∈ lw_all := lw_g (lw_at lw_m5 206 rfl) rfl
theorem q1335 : (Jvm.Cond.selects "ToldTracks$Sea" ({ cls := "ToldTracks$Sea", name := "size", desc := "()I" } : Jvm.MethodName) ({ cls := "ToldTracks$Sea", name := "size", desc := "()I" } : Jvm.MethodName)) ∈ lw_all := lw_g (lw_at lw_m5 207 rfl) rfl
theorem q1336 : (Jvm.Cond.code ({ cls := "ToldTracks$Sea", name := "size", desc := "()I" } : Jvm.MethodName) prog_19_method_3_code (1 : Nat) (Option.some Jvm.ClassFile.FieldType.int)) ∈ lw_all := lw_g (lw_at lw_m5 208 rfl) rfl
theorem q1574 : (Jvm.Cond.instanceMethod ({ cls := "ToldTracks$Sea", name := "beside", desc := "(II)I" } : Jvm.MethodName)) ∈ lw_all := lw_g (lw_at lw_m6 206 rfl) rfl
theorem q1575 : (Jvm.Cond.selects "ToldTracks$Sea" ({ cls := "ToldTracks$Sea", name := "beside", desc := "(II)I" } : Jvm.MethodName) ({ cls := "ToldTracks$Sea", name := "beside", desc := "(II)I" } : Jvm.MethodName)) ∈ lw_all := lw_g (lw_at lw_m6 207 rfl) rfl
theorem q1576 : (Jvm.Cond.code ({ cls := "ToldTracks$Sea", name := "beside", desc := "(II)I" } : Jvm.MethodName) prog_19_method_5_code (3 : Nat) (Option.some Jvm.ClassFile.FieldType.int)) ∈ lw_all := lw_g (lw_at lw_m6 208 rfl) rfl
theorem q1577 : (Jvm.Cond.methodLink "ToldTracks$Sea" (66 : Nat) ({ cls := "ToldTracks$Sea", name := "at", desc := "(II)I" } : Jvm.MethodName)) ∈ lw_all := lw_g (lw_at lw_m6 209 rfl) rfl
theorem q1666 : (Jvm.Cond.instanceMethod ({ cls := "ToldTracks$Sea", name := "isQuiet", desc := "(LToldTracks$Asking;)Z" } : Jvm.MethodName)) ∈ lw_all := lw_g (lw_at lw_m7 58 rfl) rfl
theorem q1667 : (Jvm.Cond.selects "ToldTracks$Sea" ({ cls := "ToldTracks$Sea", name := "isQuiet", desc := "(LToldTracks$Asking;)Z" } : Jvm.MethodName) ({ cls := "ToldTracks$Sea", name := "isQuiet", desc := "(LToldTracks$Asking;)Z" } : Jvm.MethodName)) ∈ lw_all := lw_g (lw_at lw_m7 59 rfl) rfl
theorem q1668 : (Jvm.Cond.code ({ cls := "ToldTracks$Sea", name := "isQuiet", desc := "(LToldTracks$Asking;)Z" } : Jvm.MethodName) prog_19_method_6_code (3 : Nat) (Option.some Jvm.ClassFile.FieldType.boolean)) ∈ lw_all := lw_g (lw_at lw_m7 60 rfl) rfl
theorem q1669 : (Jvm.Cond.methodLink "ToldTracks$Sea" (70 : Nat) ({ cls := "java/util/ArrayList", name := "size", desc := "()I" } : Jvm.MethodName)) ∈ lw_all := lw_g (lw_at lw_m7 61 rfl) rfl
theorem q1670 : (Jvm.Cond.methodLink "ToldTracks$Sea" (74 : Nat) ({ cls := "java/util/ArrayList", name := "get", desc := "(I)Ljava/lang/Object;" } : Jvm.MethodName)) ∈ lw_all := lw_g (lw_at lw_m7 62 rfl) rfl
theorem q1671 : (Jvm.Cond.classLink "ToldTracks$Sea" (78 : Nat) "ToldTracks$Test") ∈ lw_all := lw_g (lw_at lw_m7 63 rfl) rfl
theorem q1672 : (Jvm.Cond.interfaceEntry "ToldTracks$Sea" (80 : Nat)) ∈ lw_tbl := lw_at lw_m7 64 rfl
theorem q1673 : (Jvm.Cond.methodLink "ToldTracks$Sea" (80 : Nat) ({ cls := "ToldTracks$Test", name := "holds", desc := "(LToldTracks$Asking;)Z" } : Jvm.MethodName)) ∈ lw_all := lw_g (lw_at lw_m7 65 rfl) rfl
theorem q2835 : (Jvm.Cond.castable "ToldTracks$Sea" "java/lang/Object") ∈ lw_tbl := lw_at lw_m12 27 rfl
theorem in_X1 : ∀ w ∈ wsX10, w ∈ lw_all := lw_in wsX10 [327, 329, 331, 333, 335, 337, 339, 341, 343, 345, 347, 349] (by decide +kernel) (by decide +kernel)
/-! ToldTracks$Rates -/
def RX2 : String := "ToldTracks$Rates"
def TX2 : u_T := fun k => match k with
  | 0 => ("ToldTracks$Rates", "sums", "Ljava/util/ArrayList;", true)
  | _ => ("ToldTracks$Rates", "tests", "Ljava/util/ArrayList;", true)
def tyX2 : Nat → FieldType := fun k => match k with
  | 0 => .object "java/util/ArrayList"
  | _ => .object "java/util/ArrayList"
abbrev wsX20 : List Cond := u_ws RX2 TX2 2
theorem nmX2 : ∀ a, a < 2 → ∀ b, b < 2 → a ≠ b → (TX2 a).2.1 ≠ (TX2 b).2.1 := by decide +kernel
theorem tyX2_ok : ∀ k, k < 2 → parseFieldDescriptor (TX2 k).2.2.1 = some (tyX2 k) := by decide +kernel
abbrev cX2_init : ByteArray := prog_16_method_1_code
def yX2_init : MethodName := ⟨RX2, "<init>", "()V"⟩
def dkwX2_init_1 : List UInt8 := [181, 0, 16, 177]
abbrev dktX2_init_1 : List UInt8 := dkwX2_init_1 ++ []
def dkwX2_init_0 : List UInt8 := [42, 183, 0, 1, 42, 187, 0, 7, 89, 183, 0, 9, 181, 0, 10, 42, 187, 0, 7, 89, 183, 0, 9]
abbrev dktX2_init_0 : List UInt8 := dkwX2_init_0 ++ dktX2_init_1
theorem dksX2_init_0 : cX2_init.data.toList.drop 0 = dktX2_init_0 := by decide +kernel
theorem dksX2_init_1 : cX2_init.data.toList.drop 23 = dktX2_init_1 := dk_seg dksX2_init_0 23 rfl rfl
theorem dX2_init_0 : decode cX2_init 0 = .ok (.aload_n 0, 1) := dk_42 (dk_at dksX2_init_0 0 rfl rfl)
theorem dX2_init_1 : decode cX2_init 1 = .ok (.invokespecial 1, 3) := dk_183 0 1 (dk_at dksX2_init_0 1 rfl rfl)
theorem dX2_init_4 : decode cX2_init 4 = .ok (.aload_n 0, 1) := dk_42 (dk_at dksX2_init_0 4 rfl rfl)
theorem dX2_init_5 : decode cX2_init 5 = .ok (.new 7, 3) := dk_187 0 7 (dk_at dksX2_init_0 5 rfl rfl)
theorem dX2_init_8 : decode cX2_init 8 = .ok (.dup, 1) := dk_89 (dk_at dksX2_init_0 8 rfl rfl)
theorem dX2_init_9 : decode cX2_init 9 = .ok (.invokespecial 9, 3) := dk_183 0 9 (dk_at dksX2_init_0 9 rfl rfl)
theorem dX2_init_12 : decode cX2_init 12 = .ok (.putfield 10, 3) := dk_181 0 10 (dk_at dksX2_init_0 12 rfl rfl)
theorem dX2_init_15 : decode cX2_init 15 = .ok (.aload_n 0, 1) := dk_42 (dk_at dksX2_init_0 15 rfl rfl)
theorem dX2_init_16 : decode cX2_init 16 = .ok (.new 7, 3) := dk_187 0 7 (dk_at dksX2_init_0 16 rfl rfl)
theorem dX2_init_19 : decode cX2_init 19 = .ok (.dup, 1) := dk_89 (dk_at dksX2_init_0 19 rfl rfl)
theorem dX2_init_20 : decode cX2_init 20 = .ok (.invokespecial 9, 3) := dk_183 0 9 (dk_at dksX2_init_0 20 rfl rfl)
theorem dX2_init_23 : decode cX2_init 23 = .ok (.putfield 16, 3) := dk_181 0 16 (dk_at dksX2_init_1 0 rfl rfl)
theorem dX2_init_26 : decode cX2_init 26 = .ok (.return_, 1) := dk_177 (dk_at dksX2_init_1 3 rfl rfl)
abbrev cX2_size : ByteArray := prog_16_method_2_code
def yX2_size : MethodName := ⟨RX2, "size", "()I"⟩
def dkwX2_size_0 : List UInt8 := [42, 180, 0, 16, 182, 0, 19, 172]
abbrev dktX2_size_0 : List UInt8 := dkwX2_size_0 ++ []
theorem dksX2_size_0 : cX2_size.data.toList.drop 0 = dktX2_size_0 := by decide +kernel
theorem dX2_size_0 : decode cX2_size 0 = .ok (.aload_n 0, 1) := dk_42 (dk_at dksX2_size_0 0 rfl rfl)
theorem dX2_size_1 : decode cX2_size 1 = .ok (.getfield 16, 3) := dk_180 0 16 (dk_at dksX2_size_0 1 rfl rfl)
theorem dX2_size_4 : decode cX2_size 4 = .ok (.invokevirtual 19, 3) := dk_182 0 19 (dk_at dksX2_size_0 4 rfl rfl)
theorem dX2_size_7 : decode cX2_size 7 = .ok (.ireturn, 1) := dk_172 (dk_at dksX2_size_0 7 rfl rfl)
abbrev cX2_add : ByteArray := prog_16_method_3_code
def yX2_add : MethodName := ⟨RX2, "add", "(LToldTracks$Sum;LToldTracks$Test;)V"⟩
def dkwX2_add_0 : List UInt8 := [42, 180, 0, 10, 43, 182, 0, 23, 87, 42, 180, 0, 16, 44, 182, 0, 23, 87, 177]
abbrev dktX2_add_0 : List UInt8 := dkwX2_add_0 ++ []
theorem dksX2_add_0 : cX2_add.data.toList.drop 0 = dktX2_add_0 := by decide +kernel
theorem dX2_add_0 : decode cX2_add 0 = .ok (.aload_n 0, 1) := dk_42 (dk_at dksX2_add_0 0 rfl rfl)
theorem dX2_add_1 : decode cX2_add 1 = .ok (.getfield 10, 3) := dk_180 0 10 (dk_at dksX2_add_0 1 rfl rfl)
theorem dX2_add_4 : decode cX2_add 4 = .ok (.aload_n 1, 1) := dk_43 (dk_at dksX2_add_0 4 rfl rfl)
theorem dX2_add_5 : decode cX2_add 5 = .ok (.invokevirtual 23, 3) := dk_182 0 23 (dk_at dksX2_add_0 5 rfl rfl)
theorem dX2_add_8 : decode cX2_add 8 = .ok (.pop, 1) := dk_87 (dk_at dksX2_add_0 8 rfl rfl)
theorem dX2_add_9 : decode cX2_add 9 = .ok (.aload_n 0, 1) := dk_42 (dk_at dksX2_add_0 9 rfl rfl)
theorem dX2_add_10 : decode cX2_add 10 = .ok (.getfield 16, 3) := dk_180 0 16 (dk_at dksX2_add_0 10 rfl rfl)
theorem dX2_add_13 : decode cX2_add 13 = .ok (.aload_n 2, 1) := dk_44 (dk_at dksX2_add_0 13 rfl rfl)
theorem dX2_add_14 : decode cX2_add 14 = .ok (.invokevirtual 23, 3) := dk_182 0 23 (dk_at dksX2_add_0 14 rfl rfl)
theorem dX2_add_17 : decode cX2_add 17 = .ok (.pop, 1) := dk_87 (dk_at dksX2_add_0 17 rfl rfl)
theorem dX2_add_18 : decode cX2_add 18 = .ok (.return_, 1) := dk_177 (dk_at dksX2_add_0 18 rfl rfl)
abbrev cX2_of : ByteArray := prog_16_method_4_code
def yX2_of : MethodName := ⟨RX2, "of", "(LToldTracks$Asking;I)I"⟩
def dkwX2_of_2 : List UInt8 := [185, 0, 39, 2, 0, 28, 184, 0, 43, 172, 132, 3, 1, 167, 255, 200, 3, 172]
abbrev dktX2_of_2 : List UInt8 := dkwX2_of_2 ++ []
def dkwX2_of_1 : List UInt8 := [43, 185, 0, 33, 2, 0, 153, 0, 25, 42, 180, 0, 10, 29, 182, 0, 27, 192, 0, 37, 43]
abbrev dktX2_of_1 : List UInt8 := dkwX2_of_1 ++ dktX2_of_2
def dkwX2_of_0 : List UInt8 := [3, 62, 29, 42, 180, 0, 10, 182, 0, 19, 162, 0, 51, 42, 180, 0, 16, 29, 182, 0, 27, 192, 0, 31]
abbrev dktX2_of_0 : List UInt8 := dkwX2_of_0 ++ dktX2_of_1
theorem dksX2_of_0 : cX2_of.data.toList.drop 0 = dktX2_of_0 := by decide +kernel
theorem dksX2_of_1 : cX2_of.data.toList.drop 24 = dktX2_of_1 := dk_seg dksX2_of_0 24 rfl rfl
theorem dksX2_of_2 : cX2_of.data.toList.drop 45 = dktX2_of_2 := dk_seg dksX2_of_1 21 rfl rfl
theorem dX2_of_0 : decode cX2_of 0 = .ok (.iconst 0, 1) := dk_3 (dk_at dksX2_of_0 0 rfl rfl)
theorem dX2_of_1 : decode cX2_of 1 = .ok (.istore_n 3, 1) := dk_62 (dk_at dksX2_of_0 1 rfl rfl)
theorem dX2_of_2 : decode cX2_of 2 = .ok (.iload_n 3, 1) := dk_29 (dk_at dksX2_of_0 2 rfl rfl)
theorem dX2_of_3 : decode cX2_of 3 = .ok (.aload_n 0, 1) := dk_42 (dk_at dksX2_of_0 3 rfl rfl)
theorem dX2_of_4 : decode cX2_of 4 = .ok (.getfield 10, 3) := dk_180 0 10 (dk_at dksX2_of_0 4 rfl rfl)
theorem dX2_of_7 : decode cX2_of 7 = .ok (.invokevirtual 19, 3) := dk_182 0 19 (dk_at dksX2_of_0 7 rfl rfl)
theorem dX2_of_10 : decode cX2_of 10 = .ok (.if_icmp .ge 51, 3) := dk_162 0 51 (dk_at dksX2_of_0 10 rfl rfl)
theorem dX2_of_13 : decode cX2_of 13 = .ok (.aload_n 0, 1) := dk_42 (dk_at dksX2_of_0 13 rfl rfl)
theorem dX2_of_14 : decode cX2_of 14 = .ok (.getfield 16, 3) := dk_180 0 16 (dk_at dksX2_of_0 14 rfl rfl)
theorem dX2_of_17 : decode cX2_of 17 = .ok (.iload_n 3, 1) := dk_29 (dk_at dksX2_of_0 17 rfl rfl)
theorem dX2_of_18 : decode cX2_of 18 = .ok (.invokevirtual 27, 3) := dk_182 0 27 (dk_at dksX2_of_0 18 rfl rfl)
theorem dX2_of_21 : decode cX2_of 21 = .ok (.checkcast 31, 3) := dk_192 0 31 (dk_at dksX2_of_0 21 rfl rfl)
theorem dX2_of_24 : decode cX2_of 24 = .ok (.aload_n 1, 1) := dk_43 (dk_at dksX2_of_1 0 rfl rfl)
theorem dX2_of_25 : decode cX2_of 25 = .ok (.invokeinterface 33 2, 5) := by decide +kernel
theorem dX2_of_30 : decode cX2_of 30 = .ok (.ifCond .eq 25, 3) := dk_153 0 25 (dk_at dksX2_of_1 6 rfl rfl)
theorem dX2_of_33 : decode cX2_of 33 = .ok (.aload_n 0, 1) := dk_42 (dk_at dksX2_of_1 9 rfl rfl)
theorem dX2_of_34 : decode cX2_of 34 = .ok (.getfield 10, 3) := dk_180 0 10 (dk_at dksX2_of_1 10 rfl rfl)
theorem dX2_of_37 : decode cX2_of 37 = .ok (.iload_n 3, 1) := dk_29 (dk_at dksX2_of_1 13 rfl rfl)
theorem dX2_of_38 : decode cX2_of 38 = .ok (.invokevirtual 27, 3) := dk_182 0 27 (dk_at dksX2_of_1 14 rfl rfl)
theorem dX2_of_41 : decode cX2_of 41 = .ok (.checkcast 37, 3) := dk_192 0 37 (dk_at dksX2_of_1 17 rfl rfl)
theorem dX2_of_44 : decode cX2_of 44 = .ok (.aload_n 1, 1) := dk_43 (dk_at dksX2_of_1 20 rfl rfl)
theorem dX2_of_45 : decode cX2_of 45 = .ok (.invokeinterface 39 2, 5) := by decide +kernel
theorem dX2_of_50 : decode cX2_of 50 = .ok (.iload_n 2, 1) := dk_28 (dk_at dksX2_of_2 5 rfl rfl)
theorem dX2_of_51 : decode cX2_of 51 = .ok (.invokestatic 43, 3) := dk_184 0 43 (dk_at dksX2_of_2 6 rfl rfl)
theorem dX2_of_54 : decode cX2_of 54 = .ok (.ireturn, 1) := dk_172 (dk_at dksX2_of_2 9 rfl rfl)
theorem dX2_of_55 : decode cX2_of 55 = .ok (.iinc 3 1, 3) := dk_132 3 1 (dk_at dksX2_of_2 10 rfl rfl)
theorem dX2_of_58 : decode cX2_of 58 = .ok (.goto (-56), 3) := dk_167 255 200 (dk_at dksX2_of_2 13 rfl rfl)
theorem dX2_of_61 : decode cX2_of 61 = .ok (.iconst 0, 1) := dk_3 (dk_at dksX2_of_2 16 rfl rfl)
theorem dX2_of_62 : decode cX2_of 62 = .ok (.ireturn, 1) := dk_172 (dk_at dksX2_of_2 17 rfl rfl)
theorem q171 : (Jvm.Cond.initialized "ToldTracks$Rates") ∈ lw_all := lw_g (lw_at lw_m1 3 rfl) rfl
theorem q229 : (Jvm.Cond.instantiable "ToldTracks$Rates" (2 : Nat)) ∈ lw_all := lw_g (lw_at lw_m1 61 rfl) rfl
theorem q231 : (Jvm.Cond.instanceMethod ({ cls := "ToldTracks$Rates", name := "<init>", desc := "()V" } : Jvm.MethodName)) ∈ lw_all := lw_g (lw_at lw_m1 63 rfl) rfl
theorem q232 : (Jvm.Cond.code ({ cls := "ToldTracks$Rates", name := "<init>", desc := "()V" } : Jvm.MethodName) prog_16_method_1_code (1 : Nat) (Option.none : Option Jvm.ClassFile.FieldType)) ∈ lw_all := lw_g (lw_at lw_m1 64 rfl) rfl
theorem q233 : (Jvm.Cond.methodLink "ToldTracks$Rates" (1 : Nat) ({ cls := "java/lang/Object", name := "<init>", desc := "()V" } : Jvm.MethodName)) ∈ lw_all := lw_g (lw_at lw_m1 65 rfl) rfl
theorem q234 : (Jvm.Cond.classLink "ToldTracks$Rates" (7 : Nat) "java/util/ArrayList") ∈ lw_all := lw_g (lw_at lw_m1 66 rfl) rfl
theorem q236 : (Jvm.Cond.methodLink "ToldTracks$Rates" (9 : Nat) ({ cls := "java/util/ArrayList", name := "<init>", desc := "()V" } : Jvm.MethodName)) ∈ lw_all := lw_g (lw_at lw_m1 68 rfl) rfl
theorem q262 : (Jvm.Cond.fieldLink "ToldTracks$Rates" (10 : Nat) "ToldTracks$Rates" "sums" "Ljava/util/ArrayList;") ∈ lw_all := lw_g (lw_at lw_m1 94 rfl) rfl
theorem q263 : (Jvm.Cond.fieldLink "ToldTracks$Rates" (16 : Nat) "ToldTracks$Rates" "tests" "Ljava/util/ArrayList;") ∈ lw_all := lw_g (lw_at lw_m1 95 rfl) rfl
theorem q264 : (Jvm.Cond.laysFinal "ToldTracks$Rates" "ToldTracks$Rates" "sums" "Ljava/util/ArrayList;") ∈ lw_all := lw_g (lw_at lw_m1 96 rfl) rfl
theorem q265 : (Jvm.Cond.soleField "ToldTracks$Rates" "sums") ∈ lw_all := lw_g (lw_at lw_m1 97 rfl) rfl
theorem q266 : (Jvm.Cond.laysFinal "ToldTracks$Rates" "ToldTracks$Rates" "tests" "Ljava/util/ArrayList;") ∈ lw_all := lw_g (lw_at lw_m1 98 rfl) rfl
theorem q267 : (Jvm.Cond.soleField "ToldTracks$Rates" "tests") ∈ lw_all := lw_g (lw_at lw_m1 99 rfl) rfl
theorem q268 : (Jvm.Cond.superclass "ToldTracks$Rates" "java/lang/Object") ∈ lw_all := lw_g (lw_at lw_m1 100 rfl) rfl
theorem q743 : (Jvm.Cond.instanceMethod ({ cls := "ToldTracks$Rates", name := "size", desc := "()I" } : Jvm.MethodName)) ∈ lw_all := lw_g (lw_at lw_m3 95 rfl) rfl
theorem q744 : (Jvm.Cond.selects "ToldTracks$Rates" ({ cls := "ToldTracks$Rates", name := "size", desc := "()I" } : Jvm.MethodName) ({ cls := "ToldTracks$Rates", name := "size", desc := "()I" } : Jvm.MethodName)) ∈ lw_all := lw_g (lw_at lw_m3 96 rfl) rfl
theorem q745 : (Jvm.Cond.code ({ cls := "ToldTracks$Rates", name := "size", desc := "()I" } : Jvm.MethodName) prog_16_method_2_code (1 : Nat) (Option.some Jvm.ClassFile.FieldType.int)) ∈ lw_all := lw_g (lw_at lw_m3 97 rfl) rfl
theorem q746 : (Jvm.Cond.methodLink "ToldTracks$Rates" (19 : Nat) ({ cls := "java/util/ArrayList", name := "size", desc := "()I" } : Jvm.MethodName)) ∈ lw_all := lw_g (lw_at lw_m3 98 rfl) rfl
theorem q963 : (Jvm.Cond.selects "ToldTracks$Rates" ({ cls := "java/lang/Object", name := "getClass", desc := "()Ljava/lang/Class;" } : Jvm.MethodName) ({ cls := "java/lang/Object", name := "getClass", desc := "()Ljava/lang/Class;" } : Jvm.MethodName)) ∈ lw_all := lw_g (lw_at lw_m4 75 rfl) rfl
theorem q1091 : (Jvm.Cond.instanceMethod ({ cls := "ToldTracks$Rates", name := "add", desc := "(LToldTracks$Sum;LToldTracks$Test;)V" } : Jvm.MethodName)) ∈ lw_all := lw_g (lw_at lw_m4 203 rfl) rfl
theorem q1092 : (Jvm.Cond.selects "ToldTracks$Rates" ({ cls := "ToldTracks$Rates", name := "add", desc := "(LToldTracks$Sum;LToldTracks$Test;)V" } : Jvm.MethodName) ({ cls := "ToldTracks$Rates", name := "add", desc := "(LToldTracks$Sum;LToldTracks$Test;)V" } : Jvm.MethodName)) ∈ lw_all := lw_g (lw_at lw_m4 204 rfl) rfl
theorem q1093 : (Jvm.Cond.code ({ cls := "ToldTracks$Rates", name := "add", desc := "(LToldTracks$Sum;LToldTracks$Test;)V" } : Jvm.MethodName) prog_16_method_3_code (3 : Nat) (Option.none : Option Jvm.ClassFile.FieldType)) ∈ lw_all := lw_g (lw_at lw_m4 205 rfl) rfl
theorem q1094 : (Jvm.Cond.methodLink "ToldTracks$Rates" (23 : Nat) ({ cls := "java/util/ArrayList", name := "add", desc := "(Ljava/lang/Object;)Z" } : Jvm.MethodName)) ∈ lw_all := lw_g (lw_at lw_m4 206 rfl) rfl
theorem q1342 : (Jvm.Cond.instanceMethod ({ cls := "ToldTracks$Rates", name := "of", desc := "(LToldTracks$Asking;I)I" } : Jvm.MethodName)) ∈ lw_all := lw_g (lw_at lw_m5 214 rfl) rfl
theorem q1343 : (Jvm.Cond.selects "ToldTracks$Rates" ({ cls := "ToldTracks$Rates", name := "of", desc := "(LToldTracks$Asking;I)I" } : Jvm.MethodName) ({ cls := "ToldTracks$Rates", name := "of", desc := "(LToldTracks$Asking;I)I" } : Jvm.MethodName)) ∈ lw_all := lw_g (lw_at lw_m5 215 rfl) rfl
theorem q1344 : (Jvm.Cond.code ({ cls := "ToldTracks$Rates", name := "of", desc := "(LToldTracks$Asking;I)I" } : Jvm.MethodName) prog_16_method_4_code (4 : Nat) (Option.some Jvm.ClassFile.FieldType.int)) ∈ lw_all := lw_g (lw_at lw_m5 216 rfl) rfl
theorem q1345 : (Jvm.Cond.methodLink "ToldTracks$Rates" (27 : Nat) ({ cls := "java/util/ArrayList", name := "get", desc := "(I)Ljava/lang/Object;" } : Jvm.MethodName)) ∈ lw_all := lw_g (lw_at lw_m5 217 rfl) rfl
theorem q1346 : (Jvm.Cond.classLink "ToldTracks$Rates" (31 : Nat) "ToldTracks$Test") ∈ lw_all := lw_g (lw_at lw_m5 218 rfl) rfl
theorem q1347 : (Jvm.Cond.interfaceEntry "ToldTracks$Rates" (33 : Nat)) ∈ lw_tbl := lw_at lw_m5 219 rfl
theorem q1348 : (Jvm.Cond.methodLink "ToldTracks$Rates" (33 : Nat) ({ cls := "ToldTracks$Test", name := "holds", desc := "(LToldTracks$Asking;)Z" } : Jvm.MethodName)) ∈ lw_all := lw_g (lw_at lw_m5 220 rfl) rfl
theorem q1445 : (Jvm.Cond.classLink "ToldTracks$Rates" (37 : Nat) "ToldTracks$Sum") ∈ lw_all := lw_g (lw_at lw_m6 77 rfl) rfl
theorem q1446 : (Jvm.Cond.interfaceEntry "ToldTracks$Rates" (39 : Nat)) ∈ lw_tbl := lw_at lw_m6 78 rfl
theorem q1447 : (Jvm.Cond.methodLink "ToldTracks$Rates" (39 : Nat) ({ cls := "ToldTracks$Sum", name := "of", desc := "(LToldTracks$Asking;)J" } : Jvm.MethodName)) ∈ lw_all := lw_g (lw_at lw_m6 79 rfl) rfl
theorem q1448 : (Jvm.Cond.methodLinkNest "ToldTracks$Rates" (43 : Nat) ({ cls := "ToldTracks", name := "clipped", desc := "(JI)I" } : Jvm.MethodName) "ToldTracks") ∈ lw_tbl := lw_at lw_m6 80 rfl
theorem q2836 : (Jvm.Cond.castable "ToldTracks$Rates" "java/lang/Object") ∈ lw_tbl := lw_at lw_m12 28 rfl
theorem in_X2 : ∀ w ∈ wsX20, w ∈ lw_all := lw_in wsX20 [264, 266] (by decide +kernel) (by decide +kernel)
/-! ToldTracks$Told -/
def RX3 : String := "ToldTracks$Told"
def TX3 : u_T := fun k => match k with
  | 0 => ("ToldTracks$Told", "says", "Ljava/util/ArrayList;", true)
  | _ => ("ToldTracks$Told", "seen", "Ljava/util/ArrayList;", true)
def tyX3 : Nat → FieldType := fun k => match k with
  | 0 => .object "java/util/ArrayList"
  | _ => .object "java/util/ArrayList"
abbrev wsX30 : List Cond := u_ws RX3 TX3 2
theorem nmX3 : ∀ a, a < 2 → ∀ b, b < 2 → a ≠ b → (TX3 a).2.1 ≠ (TX3 b).2.1 := by decide +kernel
theorem tyX3_ok : ∀ k, k < 2 → parseFieldDescriptor (TX3 k).2.2.1 = some (tyX3 k) := by decide +kernel
abbrev cX3_init : ByteArray := prog_25_method_1_code
def yX3_init : MethodName := ⟨RX3, "<init>", "()V"⟩
def dkwX3_init_1 : List UInt8 := [181, 0, 16, 177]
abbrev dktX3_init_1 : List UInt8 := dkwX3_init_1 ++ []
def dkwX3_init_0 : List UInt8 := [42, 183, 0, 1, 42, 187, 0, 7, 89, 183, 0, 9, 181, 0, 10, 42, 187, 0, 7, 89, 183, 0, 9]
abbrev dktX3_init_0 : List UInt8 := dkwX3_init_0 ++ dktX3_init_1
theorem dksX3_init_0 : cX3_init.data.toList.drop 0 = dktX3_init_0 := by decide +kernel
theorem dksX3_init_1 : cX3_init.data.toList.drop 23 = dktX3_init_1 := dk_seg dksX3_init_0 23 rfl rfl
theorem dX3_init_0 : decode cX3_init 0 = .ok (.aload_n 0, 1) := dk_42 (dk_at dksX3_init_0 0 rfl rfl)
theorem dX3_init_1 : decode cX3_init 1 = .ok (.invokespecial 1, 3) := dk_183 0 1 (dk_at dksX3_init_0 1 rfl rfl)
theorem dX3_init_4 : decode cX3_init 4 = .ok (.aload_n 0, 1) := dk_42 (dk_at dksX3_init_0 4 rfl rfl)
theorem dX3_init_5 : decode cX3_init 5 = .ok (.new 7, 3) := dk_187 0 7 (dk_at dksX3_init_0 5 rfl rfl)
theorem dX3_init_8 : decode cX3_init 8 = .ok (.dup, 1) := dk_89 (dk_at dksX3_init_0 8 rfl rfl)
theorem dX3_init_9 : decode cX3_init 9 = .ok (.invokespecial 9, 3) := dk_183 0 9 (dk_at dksX3_init_0 9 rfl rfl)
theorem dX3_init_12 : decode cX3_init 12 = .ok (.putfield 10, 3) := dk_181 0 10 (dk_at dksX3_init_0 12 rfl rfl)
theorem dX3_init_15 : decode cX3_init 15 = .ok (.aload_n 0, 1) := dk_42 (dk_at dksX3_init_0 15 rfl rfl)
theorem dX3_init_16 : decode cX3_init 16 = .ok (.new 7, 3) := dk_187 0 7 (dk_at dksX3_init_0 16 rfl rfl)
theorem dX3_init_19 : decode cX3_init 19 = .ok (.dup, 1) := dk_89 (dk_at dksX3_init_0 19 rfl rfl)
theorem dX3_init_20 : decode cX3_init 20 = .ok (.invokespecial 9, 3) := dk_183 0 9 (dk_at dksX3_init_0 20 rfl rfl)
theorem dX3_init_23 : decode cX3_init 23 = .ok (.putfield 16, 3) := dk_181 0 16 (dk_at dksX3_init_1 0 rfl rfl)
theorem dX3_init_26 : decode cX3_init 26 = .ok (.return_, 1) := dk_177 (dk_at dksX3_init_1 3 rfl rfl)
abbrev cX3_many : ByteArray := prog_25_method_2_code
def yX3_many : MethodName := ⟨RX3, "many", "()I"⟩
def dkwX3_many_1 : List UInt8 := [192, 0, 7, 182, 0, 19, 96, 60, 132, 2, 1, 167, 255, 225, 27, 172]
abbrev dktX3_many_1 : List UInt8 := dkwX3_many_1 ++ []
def dkwX3_many_0 : List UInt8 := [3, 60, 3, 61, 28, 42, 180, 0, 10, 182, 0, 19, 162, 0, 26, 27, 42, 180, 0, 10, 28, 182, 0, 23]
abbrev dktX3_many_0 : List UInt8 := dkwX3_many_0 ++ dktX3_many_1
theorem dksX3_many_0 : cX3_many.data.toList.drop 0 = dktX3_many_0 := by decide +kernel
theorem dksX3_many_1 : cX3_many.data.toList.drop 24 = dktX3_many_1 := dk_seg dksX3_many_0 24 rfl rfl
theorem dX3_many_0 : decode cX3_many 0 = .ok (.iconst 0, 1) := dk_3 (dk_at dksX3_many_0 0 rfl rfl)
theorem dX3_many_1 : decode cX3_many 1 = .ok (.istore_n 1, 1) := dk_60 (dk_at dksX3_many_0 1 rfl rfl)
theorem dX3_many_2 : decode cX3_many 2 = .ok (.iconst 0, 1) := dk_3 (dk_at dksX3_many_0 2 rfl rfl)
theorem dX3_many_3 : decode cX3_many 3 = .ok (.istore_n 2, 1) := dk_61 (dk_at dksX3_many_0 3 rfl rfl)
theorem dX3_many_4 : decode cX3_many 4 = .ok (.iload_n 2, 1) := dk_28 (dk_at dksX3_many_0 4 rfl rfl)
theorem dX3_many_5 : decode cX3_many 5 = .ok (.aload_n 0, 1) := dk_42 (dk_at dksX3_many_0 5 rfl rfl)
theorem dX3_many_6 : decode cX3_many 6 = .ok (.getfield 10, 3) := dk_180 0 10 (dk_at dksX3_many_0 6 rfl rfl)
theorem dX3_many_9 : decode cX3_many 9 = .ok (.invokevirtual 19, 3) := dk_182 0 19 (dk_at dksX3_many_0 9 rfl rfl)
theorem dX3_many_12 : decode cX3_many 12 = .ok (.if_icmp .ge 26, 3) := dk_162 0 26 (dk_at dksX3_many_0 12 rfl rfl)
theorem dX3_many_15 : decode cX3_many 15 = .ok (.iload_n 1, 1) := dk_27 (dk_at dksX3_many_0 15 rfl rfl)
theorem dX3_many_16 : decode cX3_many 16 = .ok (.aload_n 0, 1) := dk_42 (dk_at dksX3_many_0 16 rfl rfl)
theorem dX3_many_17 : decode cX3_many 17 = .ok (.getfield 10, 3) := dk_180 0 10 (dk_at dksX3_many_0 17 rfl rfl)
theorem dX3_many_20 : decode cX3_many 20 = .ok (.iload_n 2, 1) := dk_28 (dk_at dksX3_many_0 20 rfl rfl)
theorem dX3_many_21 : decode cX3_many 21 = .ok (.invokevirtual 23, 3) := dk_182 0 23 (dk_at dksX3_many_0 21 rfl rfl)
theorem dX3_many_24 : decode cX3_many 24 = .ok (.checkcast 7, 3) := dk_192 0 7 (dk_at dksX3_many_1 0 rfl rfl)
theorem dX3_many_27 : decode cX3_many 27 = .ok (.invokevirtual 19, 3) := dk_182 0 19 (dk_at dksX3_many_1 3 rfl rfl)
theorem dX3_many_30 : decode cX3_many 30 = .ok (.iadd, 1) := dk_96 (dk_at dksX3_many_1 6 rfl rfl)
theorem dX3_many_31 : decode cX3_many 31 = .ok (.istore_n 1, 1) := dk_60 (dk_at dksX3_many_1 7 rfl rfl)
theorem dX3_many_32 : decode cX3_many 32 = .ok (.iinc 2 1, 3) := dk_132 2 1 (dk_at dksX3_many_1 8 rfl rfl)
theorem dX3_many_35 : decode cX3_many 35 = .ok (.goto (-31), 3) := dk_167 255 225 (dk_at dksX3_many_1 11 rfl rfl)
theorem dX3_many_38 : decode cX3_many 38 = .ok (.iload_n 1, 1) := dk_27 (dk_at dksX3_many_1 14 rfl rfl)
theorem dX3_many_39 : decode cX3_many 39 = .ok (.ireturn, 1) := dk_172 (dk_at dksX3_many_1 15 rfl rfl)
abbrev cX3_has : ByteArray := prog_25_method_4_code
def yX3_has : MethodName := ⟨RX3, "has", "(II)Z"⟩
def dkwX3_has_2 : List UInt8 := [28, 160, 0, 7, 4, 167, 0, 4, 3, 172]
abbrev dktX3_has_2 : List UInt8 := dkwX3_has_2 ++ []
def dkwX3_has_1 : List UInt8 := [162, 0, 32, 42, 180, 0, 10, 27, 182, 0, 23, 192, 0, 7, 29, 182, 0, 23, 192, 0, 27, 180, 0, 29]
abbrev dktX3_has_1 : List UInt8 := dkwX3_has_1 ++ dktX3_has_2
def dkwX3_has_0 : List UInt8 := [42, 27, 28, 182, 0, 33, 62, 29, 42, 180, 0, 10, 27, 182, 0, 23, 192, 0, 7, 182, 0, 19]
abbrev dktX3_has_0 : List UInt8 := dkwX3_has_0 ++ dktX3_has_1
theorem dksX3_has_0 : cX3_has.data.toList.drop 0 = dktX3_has_0 := by decide +kernel
theorem dksX3_has_1 : cX3_has.data.toList.drop 22 = dktX3_has_1 := dk_seg dksX3_has_0 22 rfl rfl
theorem dksX3_has_2 : cX3_has.data.toList.drop 46 = dktX3_has_2 := dk_seg dksX3_has_1 24 rfl rfl
theorem dX3_has_0 : decode cX3_has 0 = .ok (.aload_n 0, 1) := dk_42 (dk_at dksX3_has_0 0 rfl rfl)
theorem dX3_has_1 : decode cX3_has 1 = .ok (.iload_n 1, 1) := dk_27 (dk_at dksX3_has_0 1 rfl rfl)
theorem dX3_has_2 : decode cX3_has 2 = .ok (.iload_n 2, 1) := dk_28 (dk_at dksX3_has_0 2 rfl rfl)
theorem dX3_has_3 : decode cX3_has 3 = .ok (.invokevirtual 33, 3) := dk_182 0 33 (dk_at dksX3_has_0 3 rfl rfl)
theorem dX3_has_6 : decode cX3_has 6 = .ok (.istore_n 3, 1) := dk_62 (dk_at dksX3_has_0 6 rfl rfl)
theorem dX3_has_7 : decode cX3_has 7 = .ok (.iload_n 3, 1) := dk_29 (dk_at dksX3_has_0 7 rfl rfl)
theorem dX3_has_8 : decode cX3_has 8 = .ok (.aload_n 0, 1) := dk_42 (dk_at dksX3_has_0 8 rfl rfl)
theorem dX3_has_9 : decode cX3_has 9 = .ok (.getfield 10, 3) := dk_180 0 10 (dk_at dksX3_has_0 9 rfl rfl)
theorem dX3_has_12 : decode cX3_has 12 = .ok (.iload_n 1, 1) := dk_27 (dk_at dksX3_has_0 12 rfl rfl)
theorem dX3_has_13 : decode cX3_has 13 = .ok (.invokevirtual 23, 3) := dk_182 0 23 (dk_at dksX3_has_0 13 rfl rfl)
theorem dX3_has_16 : decode cX3_has 16 = .ok (.checkcast 7, 3) := dk_192 0 7 (dk_at dksX3_has_0 16 rfl rfl)
theorem dX3_has_19 : decode cX3_has 19 = .ok (.invokevirtual 19, 3) := dk_182 0 19 (dk_at dksX3_has_0 19 rfl rfl)
theorem dX3_has_22 : decode cX3_has 22 = .ok (.if_icmp .ge 32, 3) := dk_162 0 32 (dk_at dksX3_has_1 0 rfl rfl)
theorem dX3_has_25 : decode cX3_has 25 = .ok (.aload_n 0, 1) := dk_42 (dk_at dksX3_has_1 3 rfl rfl)
theorem dX3_has_26 : decode cX3_has 26 = .ok (.getfield 10, 3) := dk_180 0 10 (dk_at dksX3_has_1 4 rfl rfl)
theorem dX3_has_29 : decode cX3_has 29 = .ok (.iload_n 1, 1) := dk_27 (dk_at dksX3_has_1 7 rfl rfl)
theorem dX3_has_30 : decode cX3_has 30 = .ok (.invokevirtual 23, 3) := dk_182 0 23 (dk_at dksX3_has_1 8 rfl rfl)
theorem dX3_has_33 : decode cX3_has 33 = .ok (.checkcast 7, 3) := dk_192 0 7 (dk_at dksX3_has_1 11 rfl rfl)
theorem dX3_has_36 : decode cX3_has 36 = .ok (.iload_n 3, 1) := dk_29 (dk_at dksX3_has_1 14 rfl rfl)
theorem dX3_has_37 : decode cX3_has 37 = .ok (.invokevirtual 23, 3) := dk_182 0 23 (dk_at dksX3_has_1 15 rfl rfl)
theorem dX3_has_40 : decode cX3_has 40 = .ok (.checkcast 27, 3) := dk_192 0 27 (dk_at dksX3_has_1 18 rfl rfl)
theorem dX3_has_43 : decode cX3_has 43 = .ok (.getfield 29, 3) := dk_180 0 29 (dk_at dksX3_has_1 21 rfl rfl)
theorem dX3_has_46 : decode cX3_has 46 = .ok (.iload_n 2, 1) := dk_28 (dk_at dksX3_has_2 0 rfl rfl)
theorem dX3_has_47 : decode cX3_has 47 = .ok (.if_icmp .ne 7, 3) := dk_160 0 7 (dk_at dksX3_has_2 1 rfl rfl)
theorem dX3_has_50 : decode cX3_has 50 = .ok (.iconst 1, 1) := dk_4 (dk_at dksX3_has_2 4 rfl rfl)
theorem dX3_has_51 : decode cX3_has 51 = .ok (.goto 4, 3) := dk_167 0 4 (dk_at dksX3_has_2 5 rfl rfl)
theorem dX3_has_54 : decode cX3_has 54 = .ok (.iconst 0, 1) := dk_3 (dk_at dksX3_has_2 8 rfl rfl)
theorem dX3_has_55 : decode cX3_has 55 = .ok (.ireturn, 1) := dk_172 (dk_at dksX3_has_2 9 rfl rfl)
abbrev cX3_place : ByteArray := prog_25_method_3_code
def yX3_place : MethodName := ⟨RX3, "place", "(II)I"⟩
def dkwX3_place_2 : List UInt8 := [167, 255, 210, 29, 172]
abbrev dktX3_place_2 : List UInt8 := dkwX3_place_2 ++ []
def dkwX3_place_1 : List UInt8 := [27, 182, 0, 23, 192, 0, 7, 29, 182, 0, 23, 192, 0, 27, 180, 0, 29, 28, 162, 0, 9, 132, 3, 1]
abbrev dktX3_place_1 : List UInt8 := dkwX3_place_1 ++ dktX3_place_2
def dkwX3_place_0 : List UInt8 := [3, 62, 29, 42, 180, 0, 10, 27, 182, 0, 23, 192, 0, 7, 182, 0, 19, 162, 0, 34, 42, 180, 0, 10]
abbrev dktX3_place_0 : List UInt8 := dkwX3_place_0 ++ dktX3_place_1
theorem dksX3_place_0 : cX3_place.data.toList.drop 0 = dktX3_place_0 := by decide +kernel
theorem dksX3_place_1 : cX3_place.data.toList.drop 24 = dktX3_place_1 := dk_seg dksX3_place_0 24 rfl rfl
theorem dksX3_place_2 : cX3_place.data.toList.drop 48 = dktX3_place_2 := dk_seg dksX3_place_1 24 rfl rfl
theorem dX3_place_0 : decode cX3_place 0 = .ok (.iconst 0, 1) := dk_3 (dk_at dksX3_place_0 0 rfl rfl)
theorem dX3_place_1 : decode cX3_place 1 = .ok (.istore_n 3, 1) := dk_62 (dk_at dksX3_place_0 1 rfl rfl)
theorem dX3_place_2 : decode cX3_place 2 = .ok (.iload_n 3, 1) := dk_29 (dk_at dksX3_place_0 2 rfl rfl)
theorem dX3_place_3 : decode cX3_place 3 = .ok (.aload_n 0, 1) := dk_42 (dk_at dksX3_place_0 3 rfl rfl)
theorem dX3_place_4 : decode cX3_place 4 = .ok (.getfield 10, 3) := dk_180 0 10 (dk_at dksX3_place_0 4 rfl rfl)
theorem dX3_place_7 : decode cX3_place 7 = .ok (.iload_n 1, 1) := dk_27 (dk_at dksX3_place_0 7 rfl rfl)
theorem dX3_place_8 : decode cX3_place 8 = .ok (.invokevirtual 23, 3) := dk_182 0 23 (dk_at dksX3_place_0 8 rfl rfl)
theorem dX3_place_11 : decode cX3_place 11 = .ok (.checkcast 7, 3) := dk_192 0 7 (dk_at dksX3_place_0 11 rfl rfl)
theorem dX3_place_14 : decode cX3_place 14 = .ok (.invokevirtual 19, 3) := dk_182 0 19 (dk_at dksX3_place_0 14 rfl rfl)
theorem dX3_place_17 : decode cX3_place 17 = .ok (.if_icmp .ge 34, 3) := dk_162 0 34 (dk_at dksX3_place_0 17 rfl rfl)
theorem dX3_place_20 : decode cX3_place 20 = .ok (.aload_n 0, 1) := dk_42 (dk_at dksX3_place_0 20 rfl rfl)
theorem dX3_place_21 : decode cX3_place 21 = .ok (.getfield 10, 3) := dk_180 0 10 (dk_at dksX3_place_0 21 rfl rfl)
theorem dX3_place_24 : decode cX3_place 24 = .ok (.iload_n 1, 1) := dk_27 (dk_at dksX3_place_1 0 rfl rfl)
theorem dX3_place_25 : decode cX3_place 25 = .ok (.invokevirtual 23, 3) := dk_182 0 23 (dk_at dksX3_place_1 1 rfl rfl)
theorem dX3_place_28 : decode cX3_place 28 = .ok (.checkcast 7, 3) := dk_192 0 7 (dk_at dksX3_place_1 4 rfl rfl)
theorem dX3_place_31 : decode cX3_place 31 = .ok (.iload_n 3, 1) := dk_29 (dk_at dksX3_place_1 7 rfl rfl)
theorem dX3_place_32 : decode cX3_place 32 = .ok (.invokevirtual 23, 3) := dk_182 0 23 (dk_at dksX3_place_1 8 rfl rfl)
theorem dX3_place_35 : decode cX3_place 35 = .ok (.checkcast 27, 3) := dk_192 0 27 (dk_at dksX3_place_1 11 rfl rfl)
theorem dX3_place_38 : decode cX3_place 38 = .ok (.getfield 29, 3) := dk_180 0 29 (dk_at dksX3_place_1 14 rfl rfl)
theorem dX3_place_41 : decode cX3_place 41 = .ok (.iload_n 2, 1) := dk_28 (dk_at dksX3_place_1 17 rfl rfl)
theorem dX3_place_42 : decode cX3_place 42 = .ok (.if_icmp .ge 9, 3) := dk_162 0 9 (dk_at dksX3_place_1 18 rfl rfl)
theorem dX3_place_45 : decode cX3_place 45 = .ok (.iinc 3 1, 3) := dk_132 3 1 (dk_at dksX3_place_1 21 rfl rfl)
theorem dX3_place_48 : decode cX3_place 48 = .ok (.goto (-46), 3) := dk_167 255 210 (dk_at dksX3_place_2 0 rfl rfl)
theorem dX3_place_51 : decode cX3_place 51 = .ok (.iload_n 3, 1) := dk_29 (dk_at dksX3_place_2 3 rfl rfl)
theorem dX3_place_52 : decode cX3_place 52 = .ok (.ireturn, 1) := dk_172 (dk_at dksX3_place_2 4 rfl rfl)
abbrev cX3_add : ByteArray := prog_25_method_5_code
def yX3_add : MethodName := ⟨RX3, "add", "(ILToldTracks$Saying;)I"⟩
def dkwX3_add_1 : List UInt8 := [182, 0, 37, 29, 172]
abbrev dktX3_add_1 : List UInt8 := dkwX3_add_1 ++ []
def dkwX3_add_0 : List UInt8 := [42, 27, 44, 180, 0, 29, 182, 0, 33, 62, 42, 180, 0, 10, 27, 182, 0, 23, 192, 0, 7, 29, 44]
abbrev dktX3_add_0 : List UInt8 := dkwX3_add_0 ++ dktX3_add_1
theorem dksX3_add_0 : cX3_add.data.toList.drop 0 = dktX3_add_0 := by decide +kernel
theorem dksX3_add_1 : cX3_add.data.toList.drop 23 = dktX3_add_1 := dk_seg dksX3_add_0 23 rfl rfl
theorem dX3_add_0 : decode cX3_add 0 = .ok (.aload_n 0, 1) := dk_42 (dk_at dksX3_add_0 0 rfl rfl)
theorem dX3_add_1 : decode cX3_add 1 = .ok (.iload_n 1, 1) := dk_27 (dk_at dksX3_add_0 1 rfl rfl)
theorem dX3_add_2 : decode cX3_add 2 = .ok (.aload_n 2, 1) := dk_44 (dk_at dksX3_add_0 2 rfl rfl)
theorem dX3_add_3 : decode cX3_add 3 = .ok (.getfield 29, 3) := dk_180 0 29 (dk_at dksX3_add_0 3 rfl rfl)
theorem dX3_add_6 : decode cX3_add 6 = .ok (.invokevirtual 33, 3) := dk_182 0 33 (dk_at dksX3_add_0 6 rfl rfl)
theorem dX3_add_9 : decode cX3_add 9 = .ok (.istore_n 3, 1) := dk_62 (dk_at dksX3_add_0 9 rfl rfl)
theorem dX3_add_10 : decode cX3_add 10 = .ok (.aload_n 0, 1) := dk_42 (dk_at dksX3_add_0 10 rfl rfl)
theorem dX3_add_11 : decode cX3_add 11 = .ok (.getfield 10, 3) := dk_180 0 10 (dk_at dksX3_add_0 11 rfl rfl)
theorem dX3_add_14 : decode cX3_add 14 = .ok (.iload_n 1, 1) := dk_27 (dk_at dksX3_add_0 14 rfl rfl)
theorem dX3_add_15 : decode cX3_add 15 = .ok (.invokevirtual 23, 3) := dk_182 0 23 (dk_at dksX3_add_0 15 rfl rfl)
theorem dX3_add_18 : decode cX3_add 18 = .ok (.checkcast 7, 3) := dk_192 0 7 (dk_at dksX3_add_0 18 rfl rfl)
theorem dX3_add_21 : decode cX3_add 21 = .ok (.iload_n 3, 1) := dk_29 (dk_at dksX3_add_0 21 rfl rfl)
theorem dX3_add_22 : decode cX3_add 22 = .ok (.aload_n 2, 1) := dk_44 (dk_at dksX3_add_0 22 rfl rfl)
theorem dX3_add_23 : decode cX3_add 23 = .ok (.invokevirtual 37, 3) := dk_182 0 37 (dk_at dksX3_add_1 0 rfl rfl)
theorem dX3_add_26 : decode cX3_add 26 = .ok (.iload_n 3, 1) := dk_29 (dk_at dksX3_add_1 3 rfl rfl)
theorem dX3_add_27 : decode cX3_add 27 = .ok (.ireturn, 1) := dk_172 (dk_at dksX3_add_1 4 rfl rfl)
theorem q175 : (Jvm.Cond.initialized "ToldTracks$Told") ∈ lw_all := lw_g (lw_at lw_m1 7 rfl) rfl
theorem q272 : (Jvm.Cond.instantiable "ToldTracks$Told" (2 : Nat)) ∈ lw_all := lw_g (lw_at lw_m1 104 rfl) rfl
theorem q274 : (Jvm.Cond.instanceMethod ({ cls := "ToldTracks$Told", name := "<init>", desc := "()V" } : Jvm.MethodName)) ∈ lw_all := lw_g (lw_at lw_m1 106 rfl) rfl
theorem q275 : (Jvm.Cond.code ({ cls := "ToldTracks$Told", name := "<init>", desc := "()V" } : Jvm.MethodName) prog_25_method_1_code (1 : Nat) (Option.none : Option Jvm.ClassFile.FieldType)) ∈ lw_all := lw_g (lw_at lw_m1 107 rfl) rfl
theorem q276 : (Jvm.Cond.methodLink "ToldTracks$Told" (1 : Nat) ({ cls := "java/lang/Object", name := "<init>", desc := "()V" } : Jvm.MethodName)) ∈ lw_all := lw_g (lw_at lw_m1 108 rfl) rfl
theorem q277 : (Jvm.Cond.classLink "ToldTracks$Told" (7 : Nat) "java/util/ArrayList") ∈ lw_all := lw_g (lw_at lw_m1 109 rfl) rfl
theorem q278 : (Jvm.Cond.methodLink "ToldTracks$Told" (9 : Nat) ({ cls := "java/util/ArrayList", name := "<init>", desc := "()V" } : Jvm.MethodName)) ∈ lw_all := lw_g (lw_at lw_m1 110 rfl) rfl
theorem q279 : (Jvm.Cond.fieldLink "ToldTracks$Told" (10 : Nat) "ToldTracks$Told" "says" "Ljava/util/ArrayList;") ∈ lw_all := lw_g (lw_at lw_m1 111 rfl) rfl
theorem q283 : (Jvm.Cond.fieldLink "ToldTracks$Told" (16 : Nat) "ToldTracks$Told" "seen" "Ljava/util/ArrayList;") ∈ lw_all := lw_g (lw_at lw_m1 115 rfl) rfl
theorem q286 : (Jvm.Cond.laysFinal "ToldTracks$Told" "ToldTracks$Told" "says" "Ljava/util/ArrayList;") ∈ lw_all := lw_g (lw_at lw_m1 118 rfl) rfl
theorem q287 : (Jvm.Cond.soleField "ToldTracks$Told" "says") ∈ lw_all := lw_g (lw_at lw_m1 119 rfl) rfl
theorem q288 : (Jvm.Cond.laysFinal "ToldTracks$Told" "ToldTracks$Told" "seen" "Ljava/util/ArrayList;") ∈ lw_all := lw_g (lw_at lw_m1 120 rfl) rfl
theorem q289 : (Jvm.Cond.soleField "ToldTracks$Told" "seen") ∈ lw_all := lw_g (lw_at lw_m1 121 rfl) rfl
theorem q290 : (Jvm.Cond.superclass "ToldTracks$Told" "java/lang/Object") ∈ lw_all := lw_g (lw_at lw_m1 122 rfl) rfl
theorem q970 : (Jvm.Cond.selects "ToldTracks$Told" ({ cls := "java/lang/Object", name := "getClass", desc := "()Ljava/lang/Class;" } : Jvm.MethodName) ({ cls := "java/lang/Object", name := "getClass", desc := "()Ljava/lang/Class;" } : Jvm.MethodName)) ∈ lw_all := lw_g (lw_at lw_m4 82 rfl) rfl
theorem q1192 : (Jvm.Cond.instanceMethod ({ cls := "ToldTracks$Told", name := "many", desc := "()I" } : Jvm.MethodName)) ∈ lw_all := lw_g (lw_at lw_m5 64 rfl) rfl
theorem q1193 : (Jvm.Cond.selects "ToldTracks$Told" ({ cls := "ToldTracks$Told", name := "many", desc := "()I" } : Jvm.MethodName) ({ cls := "ToldTracks$Told", name := "many", desc := "()I" } : Jvm.MethodName)) ∈ lw_all := lw_g (lw_at lw_m5 65 rfl) rfl
theorem q1194 : (Jvm.Cond.code ({ cls := "ToldTracks$Told", name := "many", desc := "()I" } : Jvm.MethodName) prog_25_method_2_code (3 : Nat) (Option.some Jvm.ClassFile.FieldType.int)) ∈ lw_all := lw_g (lw_at lw_m5 66 rfl) rfl
theorem q1195 : (Jvm.Cond.methodLink "ToldTracks$Told" (19 : Nat) ({ cls := "java/util/ArrayList", name := "size", desc := "()I" } : Jvm.MethodName)) ∈ lw_all := lw_g (lw_at lw_m5 67 rfl) rfl
theorem q1196 : (Jvm.Cond.methodLink "ToldTracks$Told" (23 : Nat) ({ cls := "java/util/ArrayList", name := "get", desc := "(I)Ljava/lang/Object;" } : Jvm.MethodName)) ∈ lw_all := lw_g (lw_at lw_m5 68 rfl) rfl
theorem q1207 : (Jvm.Cond.instanceMethod ({ cls := "ToldTracks$Told", name := "has", desc := "(II)Z" } : Jvm.MethodName)) ∈ lw_all := lw_g (lw_at lw_m5 79 rfl) rfl
theorem q1208 : (Jvm.Cond.selects "ToldTracks$Told" ({ cls := "ToldTracks$Told", name := "has", desc := "(II)Z" } : Jvm.MethodName) ({ cls := "ToldTracks$Told", name := "has", desc := "(II)Z" } : Jvm.MethodName)) ∈ lw_all := lw_g (lw_at lw_m5 80 rfl) rfl
theorem q1209 : (Jvm.Cond.code ({ cls := "ToldTracks$Told", name := "has", desc := "(II)Z" } : Jvm.MethodName) prog_25_method_4_code (4 : Nat) (Option.some Jvm.ClassFile.FieldType.boolean)) ∈ lw_all := lw_g (lw_at lw_m5 81 rfl) rfl
theorem q1210 : (Jvm.Cond.methodLink "ToldTracks$Told" (33 : Nat) ({ cls := "ToldTracks$Told", name := "place", desc := "(II)I" } : Jvm.MethodName)) ∈ lw_all := lw_g (lw_at lw_m5 82 rfl) rfl
theorem q1211 : (Jvm.Cond.instanceMethod ({ cls := "ToldTracks$Told", name := "place", desc := "(II)I" } : Jvm.MethodName)) ∈ lw_all := lw_g (lw_at lw_m5 83 rfl) rfl
theorem q1212 : (Jvm.Cond.selects "ToldTracks$Told" ({ cls := "ToldTracks$Told", name := "place", desc := "(II)I" } : Jvm.MethodName) ({ cls := "ToldTracks$Told", name := "place", desc := "(II)I" } : Jvm.MethodName)) ∈ lw_all := lw_g (lw_at lw_m5 84 rfl) rfl
theorem q1213 : (Jvm.Cond.code ({ cls := "ToldTracks$Told", name := "place", desc := "(II)I" } : Jvm.MethodName) prog_25_method_3_code (4 : Nat) (Option.some Jvm.ClassFile.FieldType.int)) ∈ lw_all := lw_g (lw_at lw_m5 85 rfl) rfl
theorem q1214 : (Jvm.Cond.classLink "ToldTracks$Told" (27 : Nat) "ToldTracks$Saying") ∈ lw_all := lw_g (lw_at lw_m5 86 rfl) rfl
theorem q1246 : (Jvm.Cond.fieldLink "ToldTracks$Told" (29 : Nat) "ToldTracks$Saying" "hour" "I") ∈ lw_all := lw_g (lw_at lw_m5 118 rfl) rfl
theorem q1260 : (Jvm.Cond.instanceMethod ({ cls := "ToldTracks$Told", name := "add", desc := "(ILToldTracks$Saying;)I" } : Jvm.MethodName)) ∈ lw_all := lw_g (lw_at lw_m5 132 rfl) rfl
theorem q1261 : (Jvm.Cond.selects "ToldTracks$Told" ({ cls := "ToldTracks$Told", name := "add", desc := "(ILToldTracks$Saying;)I" } : Jvm.MethodName) ({ cls := "ToldTracks$Told", name := "add", desc := "(ILToldTracks$Saying;)I" } : Jvm.MethodName)) ∈ lw_all := lw_g (lw_at lw_m5 133 rfl) rfl
theorem q1262 : (Jvm.Cond.code ({ cls := "ToldTracks$Told", name := "add", desc := "(ILToldTracks$Saying;)I" } : Jvm.MethodName) prog_25_method_5_code (4 : Nat) (Option.some Jvm.ClassFile.FieldType.int)) ∈ lw_all := lw_g (lw_at lw_m5 134 rfl) rfl
theorem q1263 : (Jvm.Cond.methodLink "ToldTracks$Told" (37 : Nat) ({ cls := "java/util/ArrayList", name := "add", desc := "(ILjava/lang/Object;)V" } : Jvm.MethodName)) ∈ lw_all := lw_g (lw_at lw_m5 135 rfl) rfl
theorem q2838 : (Jvm.Cond.castable "ToldTracks$Told" "java/lang/Object") ∈ lw_tbl := lw_at lw_m12 30 rfl
theorem in_X3 : ∀ w ∈ wsX30, w ∈ lw_all := lw_in wsX30 [286, 288] (by decide +kernel) (by decide +kernel)
/-! ToldTracks$Asking -/
def RX4 : String := "ToldTracks$Asking"
def TX4 : u_T := fun k => match k with
  | _ => ("ToldTracks$Asking", "told", "[J", true)
def tyX4 : Nat → FieldType := fun k => match k with
  | _ => .array .long
abbrev wsX40 : List Cond := u_ws RX4 TX4 1
theorem nmX4 : ∀ a, a < 1 → ∀ b, b < 1 → a ≠ b → (TX4 a).2.1 ≠ (TX4 b).2.1 := by decide +kernel
theorem tyX4_ok : ∀ k, k < 1 → parseFieldDescriptor (TX4 k).2.2.1 = some (tyX4 k) := by decide +kernel
abbrev cX4_init : ByteArray := prog_5_method_1_code
def yX4_init : MethodName := ⟨RX4, "<init>", "()V"⟩
def dkwX4_init_0 : List UInt8 := [42, 183, 0, 1, 42, 7, 188, 11, 181, 0, 7, 177]
abbrev dktX4_init_0 : List UInt8 := dkwX4_init_0 ++ []
theorem dksX4_init_0 : cX4_init.data.toList.drop 0 = dktX4_init_0 := by decide +kernel
theorem dX4_init_0 : decode cX4_init 0 = .ok (.aload_n 0, 1) := dk_42 (dk_at dksX4_init_0 0 rfl rfl)
theorem dX4_init_1 : decode cX4_init 1 = .ok (.invokespecial 1, 3) := dk_183 0 1 (dk_at dksX4_init_0 1 rfl rfl)
theorem dX4_init_4 : decode cX4_init 4 = .ok (.aload_n 0, 1) := dk_42 (dk_at dksX4_init_0 4 rfl rfl)
theorem dX4_init_5 : decode cX4_init 5 = .ok (.iconst 4, 1) := dk_7 (dk_at dksX4_init_0 5 rfl rfl)
theorem dX4_init_6 : decode cX4_init 6 = .ok (.newarray .long, 2) := dk_188_11 (dk_at dksX4_init_0 6 rfl rfl)
theorem dX4_init_8 : decode cX4_init 8 = .ok (.putfield 7, 3) := dk_181 0 7 (dk_at dksX4_init_0 8 rfl rfl)
theorem dX4_init_11 : decode cX4_init 11 = .ok (.return_, 1) := dk_177 (dk_at dksX4_init_0 11 rfl rfl)
abbrev cX4_is : ByteArray := prog_5_method_2_code
def yX4_is : MethodName := ⟨RX4, "is", "(IIII)LToldTracks$Asking;"⟩
def dkwX4_is_1 : List UInt8 := [42, 180, 0, 7, 6, 21, 4, 133, 80, 42, 176]
abbrev dktX4_is_1 : List UInt8 := dkwX4_is_1 ++ []
def dkwX4_is_0 : List UInt8 := [42, 180, 0, 7, 3, 27, 133, 80, 42, 180, 0, 7, 4, 28, 133, 80, 42, 180, 0, 7, 5, 29, 133, 80]
abbrev dktX4_is_0 : List UInt8 := dkwX4_is_0 ++ dktX4_is_1
theorem dksX4_is_0 : cX4_is.data.toList.drop 0 = dktX4_is_0 := by decide +kernel
theorem dksX4_is_1 : cX4_is.data.toList.drop 24 = dktX4_is_1 := dk_seg dksX4_is_0 24 rfl rfl
theorem dX4_is_0 : decode cX4_is 0 = .ok (.aload_n 0, 1) := dk_42 (dk_at dksX4_is_0 0 rfl rfl)
theorem dX4_is_1 : decode cX4_is 1 = .ok (.getfield 7, 3) := dk_180 0 7 (dk_at dksX4_is_0 1 rfl rfl)
theorem dX4_is_4 : decode cX4_is 4 = .ok (.iconst 0, 1) := dk_3 (dk_at dksX4_is_0 4 rfl rfl)
theorem dX4_is_5 : decode cX4_is 5 = .ok (.iload_n 1, 1) := dk_27 (dk_at dksX4_is_0 5 rfl rfl)
theorem dX4_is_6 : decode cX4_is 6 = .ok (.i2l, 1) := dk_133 (dk_at dksX4_is_0 6 rfl rfl)
theorem dX4_is_7 : decode cX4_is 7 = .ok (.lastore, 1) := dk_80 (dk_at dksX4_is_0 7 rfl rfl)
theorem dX4_is_8 : decode cX4_is 8 = .ok (.aload_n 0, 1) := dk_42 (dk_at dksX4_is_0 8 rfl rfl)
theorem dX4_is_9 : decode cX4_is 9 = .ok (.getfield 7, 3) := dk_180 0 7 (dk_at dksX4_is_0 9 rfl rfl)
theorem dX4_is_12 : decode cX4_is 12 = .ok (.iconst 1, 1) := dk_4 (dk_at dksX4_is_0 12 rfl rfl)
theorem dX4_is_13 : decode cX4_is 13 = .ok (.iload_n 2, 1) := dk_28 (dk_at dksX4_is_0 13 rfl rfl)
theorem dX4_is_14 : decode cX4_is 14 = .ok (.i2l, 1) := dk_133 (dk_at dksX4_is_0 14 rfl rfl)
theorem dX4_is_15 : decode cX4_is 15 = .ok (.lastore, 1) := dk_80 (dk_at dksX4_is_0 15 rfl rfl)
theorem dX4_is_16 : decode cX4_is 16 = .ok (.aload_n 0, 1) := dk_42 (dk_at dksX4_is_0 16 rfl rfl)
theorem dX4_is_17 : decode cX4_is 17 = .ok (.getfield 7, 3) := dk_180 0 7 (dk_at dksX4_is_0 17 rfl rfl)
theorem dX4_is_20 : decode cX4_is 20 = .ok (.iconst 2, 1) := dk_5 (dk_at dksX4_is_0 20 rfl rfl)
theorem dX4_is_21 : decode cX4_is 21 = .ok (.iload_n 3, 1) := dk_29 (dk_at dksX4_is_0 21 rfl rfl)
theorem dX4_is_22 : decode cX4_is 22 = .ok (.i2l, 1) := dk_133 (dk_at dksX4_is_0 22 rfl rfl)
theorem dX4_is_23 : decode cX4_is 23 = .ok (.lastore, 1) := dk_80 (dk_at dksX4_is_0 23 rfl rfl)
theorem dX4_is_24 : decode cX4_is 24 = .ok (.aload_n 0, 1) := dk_42 (dk_at dksX4_is_1 0 rfl rfl)
theorem dX4_is_25 : decode cX4_is 25 = .ok (.getfield 7, 3) := dk_180 0 7 (dk_at dksX4_is_1 1 rfl rfl)
theorem dX4_is_28 : decode cX4_is 28 = .ok (.iconst 3, 1) := dk_6 (dk_at dksX4_is_1 4 rfl rfl)
theorem dX4_is_29 : decode cX4_is 29 = .ok (.iload 4, 2) := dk_21 4 (dk_at dksX4_is_1 5 rfl rfl)
theorem dX4_is_31 : decode cX4_is 31 = .ok (.i2l, 1) := dk_133 (dk_at dksX4_is_1 7 rfl rfl)
theorem dX4_is_32 : decode cX4_is 32 = .ok (.lastore, 1) := dk_80 (dk_at dksX4_is_1 8 rfl rfl)
theorem dX4_is_33 : decode cX4_is 33 = .ok (.aload_n 0, 1) := dk_42 (dk_at dksX4_is_1 9 rfl rfl)
theorem dX4_is_34 : decode cX4_is 34 = .ok (.areturn, 1) := dk_176 (dk_at dksX4_is_1 10 rfl rfl)
theorem q176 : (Jvm.Cond.initialized "ToldTracks$Asking") ∈ lw_all := lw_g (lw_at lw_m1 8 rfl) rfl
theorem q353 : (Jvm.Cond.instantiable "ToldTracks$Asking" (1 : Nat)) ∈ lw_all := lw_g (lw_at lw_m1 185 rfl) rfl
theorem q355 : (Jvm.Cond.instanceMethod ({ cls := "ToldTracks$Asking", name := "<init>", desc := "()V" } : Jvm.MethodName)) ∈ lw_all := lw_g (lw_at lw_m1 187 rfl) rfl
theorem q356 : (Jvm.Cond.code ({ cls := "ToldTracks$Asking", name := "<init>", desc := "()V" } : Jvm.MethodName) prog_5_method_1_code (1 : Nat) (Option.none : Option Jvm.ClassFile.FieldType)) ∈ lw_all := lw_g (lw_at lw_m1 188 rfl) rfl
theorem q357 : (Jvm.Cond.methodLink "ToldTracks$Asking" (1 : Nat) ({ cls := "java/lang/Object", name := "<init>", desc := "()V" } : Jvm.MethodName)) ∈ lw_all := lw_g (lw_at lw_m1 189 rfl) rfl
theorem q358 : (Jvm.Cond.fieldLink "ToldTracks$Asking" (7 : Nat) "ToldTracks$Asking" "told" "[J") ∈ lw_all := lw_g (lw_at lw_m1 190 rfl) rfl
theorem q360 : (Jvm.Cond.laysFinal "ToldTracks$Asking" "ToldTracks$Asking" "told" "[J") ∈ lw_all := lw_g (lw_at lw_m1 192 rfl) rfl
theorem q361 : (Jvm.Cond.soleField "ToldTracks$Asking" "told") ∈ lw_all := lw_g (lw_at lw_m1 193 rfl) rfl
theorem q362 : (Jvm.Cond.superclass "ToldTracks$Asking" "java/lang/Object") ∈ lw_all := lw_g (lw_at lw_m1 194 rfl) rfl
theorem q954 : (Jvm.Cond.selects "ToldTracks$Asking" ({ cls := "java/lang/Object", name := "getClass", desc := "()Ljava/lang/Class;" } : Jvm.MethodName) ({ cls := "java/lang/Object", name := "getClass", desc := "()Ljava/lang/Class;" } : Jvm.MethodName)) ∈ lw_all := lw_g (lw_at lw_m4 66 rfl) rfl
theorem q1338 : (Jvm.Cond.instanceMethod ({ cls := "ToldTracks$Asking", name := "is", desc := "(IIII)LToldTracks$Asking;" } : Jvm.MethodName)) ∈ lw_all := lw_g (lw_at lw_m5 210 rfl) rfl
theorem q1339 : (Jvm.Cond.selects "ToldTracks$Asking" ({ cls := "ToldTracks$Asking", name := "is", desc := "(IIII)LToldTracks$Asking;" } : Jvm.MethodName) ({ cls := "ToldTracks$Asking", name := "is", desc := "(IIII)LToldTracks$Asking;" } : Jvm.MethodName)) ∈ lw_all := lw_g (lw_at lw_m5 211 rfl) rfl
theorem q1340 : (Jvm.Cond.code ({ cls := "ToldTracks$Asking", name := "is", desc := "(IIII)LToldTracks$Asking;" } : Jvm.MethodName) prog_5_method_2_code (5 : Nat) (Option.some (Jvm.ClassFile.FieldType.object "ToldTracks$Asking"))) ∈ lw_all := lw_g (lw_at lw_m5 212 rfl) rfl
theorem q2839 : (Jvm.Cond.castable "ToldTracks$Asking" "java/lang/Object") ∈ lw_tbl := lw_at lw_m12 31 rfl
theorem in_X4 : ∀ w ∈ wsX40, w ∈ lw_all := lw_in wsX40 [360] (by decide +kernel) (by decide +kernel)
/-! ToldTracks$Octets -/
def RX5 : String := "ToldTracks$Octets"
def TX5 : u_T := fun k => match k with
  | 0 => ("ToldTracks$Octets", "all", "[I", true)
  | _ => ("ToldTracks$Octets", "size", "I", false)
def tyX5 : Nat → FieldType := fun k => match k with
  | 0 => .array .int
  | _ => .int
abbrev wsX50 : List Cond := u_ws RX5 TX5 2
theorem nmX5 : ∀ a, a < 2 → ∀ b, b < 2 → a ≠ b → (TX5 a).2.1 ≠ (TX5 b).2.1 := by decide +kernel
theorem tyX5_ok : ∀ k, k < 2 → parseFieldDescriptor (TX5 k).2.2.1 = some (tyX5 k) := by decide +kernel
abbrev cX5_init : ByteArray := prog_13_method_1_code
def yX5_init : MethodName := ⟨RX5, "<init>", "()V"⟩
def dkwX5_init_0 : List UInt8 := [42, 183, 0, 1, 42, 17, 2, 8, 188, 10, 181, 0, 7, 177]
abbrev dktX5_init_0 : List UInt8 := dkwX5_init_0 ++ []
theorem dksX5_init_0 : cX5_init.data.toList.drop 0 = dktX5_init_0 := by decide +kernel
theorem dX5_init_0 : decode cX5_init 0 = .ok (.aload_n 0, 1) := dk_42 (dk_at dksX5_init_0 0 rfl rfl)
theorem dX5_init_1 : decode cX5_init 1 = .ok (.invokespecial 1, 3) := dk_183 0 1 (dk_at dksX5_init_0 1 rfl rfl)
theorem dX5_init_4 : decode cX5_init 4 = .ok (.aload_n 0, 1) := dk_42 (dk_at dksX5_init_0 4 rfl rfl)
theorem dX5_init_5 : decode cX5_init 5 = .ok (.sipush 520, 3) := dk_17 2 8 (dk_at dksX5_init_0 5 rfl rfl)
theorem dX5_init_8 : decode cX5_init 8 = .ok (.newarray .int, 2) := dk_188_10 (dk_at dksX5_init_0 8 rfl rfl)
theorem dX5_init_10 : decode cX5_init 10 = .ok (.putfield 7, 3) := dk_181 0 7 (dk_at dksX5_init_0 10 rfl rfl)
theorem dX5_init_13 : decode cX5_init 13 = .ok (.return_, 1) := dk_177 (dk_at dksX5_init_0 13 rfl rfl)
abbrev cX5_add : ByteArray := prog_13_method_2_code
def yX5_add : MethodName := ⟨RX5, "add", "(I)V"⟩
def dkwX5_add_1 : List UInt8 := [177]
abbrev dktX5_add_1 : List UInt8 := dkwX5_add_1 ++ []
def dkwX5_add_0 : List UInt8 := [42, 180, 0, 7, 42, 180, 0, 13, 27, 17, 0, 255, 126, 79, 42, 89, 180, 0, 13, 4, 96, 181, 0, 13]
abbrev dktX5_add_0 : List UInt8 := dkwX5_add_0 ++ dktX5_add_1
theorem dksX5_add_0 : cX5_add.data.toList.drop 0 = dktX5_add_0 := by decide +kernel
theorem dksX5_add_1 : cX5_add.data.toList.drop 24 = dktX5_add_1 := dk_seg dksX5_add_0 24 rfl rfl
theorem dX5_add_0 : decode cX5_add 0 = .ok (.aload_n 0, 1) := dk_42 (dk_at dksX5_add_0 0 rfl rfl)
theorem dX5_add_1 : decode cX5_add 1 = .ok (.getfield 7, 3) := dk_180 0 7 (dk_at dksX5_add_0 1 rfl rfl)
theorem dX5_add_4 : decode cX5_add 4 = .ok (.aload_n 0, 1) := dk_42 (dk_at dksX5_add_0 4 rfl rfl)
theorem dX5_add_5 : decode cX5_add 5 = .ok (.getfield 13, 3) := dk_180 0 13 (dk_at dksX5_add_0 5 rfl rfl)
theorem dX5_add_8 : decode cX5_add 8 = .ok (.iload_n 1, 1) := dk_27 (dk_at dksX5_add_0 8 rfl rfl)
theorem dX5_add_9 : decode cX5_add 9 = .ok (.sipush 255, 3) := dk_17 0 255 (dk_at dksX5_add_0 9 rfl rfl)
theorem dX5_add_12 : decode cX5_add 12 = .ok (.iand, 1) := dk_126 (dk_at dksX5_add_0 12 rfl rfl)
theorem dX5_add_13 : decode cX5_add 13 = .ok (.iastore, 1) := dk_79 (dk_at dksX5_add_0 13 rfl rfl)
theorem dX5_add_14 : decode cX5_add 14 = .ok (.aload_n 0, 1) := dk_42 (dk_at dksX5_add_0 14 rfl rfl)
theorem dX5_add_15 : decode cX5_add 15 = .ok (.dup, 1) := dk_89 (dk_at dksX5_add_0 15 rfl rfl)
theorem dX5_add_16 : decode cX5_add 16 = .ok (.getfield 13, 3) := dk_180 0 13 (dk_at dksX5_add_0 16 rfl rfl)
theorem dX5_add_19 : decode cX5_add 19 = .ok (.iconst 1, 1) := dk_4 (dk_at dksX5_add_0 19 rfl rfl)
theorem dX5_add_20 : decode cX5_add 20 = .ok (.iadd, 1) := dk_96 (dk_at dksX5_add_0 20 rfl rfl)
theorem dX5_add_21 : decode cX5_add 21 = .ok (.putfield 13, 3) := dk_181 0 13 (dk_at dksX5_add_0 21 rfl rfl)
theorem dX5_add_24 : decode cX5_add 24 = .ok (.return_, 1) := dk_177 (dk_at dksX5_add_1 0 rfl rfl)
abbrev cX5_sum : ByteArray := prog_13_method_4_code
def yX5_sum : MethodName := ⟨RX5, "sum", "()I"⟩
def dkwX5_sum_1 : List UInt8 := [132, 2, 1, 167, 255, 234, 27, 172]
abbrev dktX5_sum_1 : List UInt8 := dkwX5_sum_1 ++ []
def dkwX5_sum_0 : List UInt8 := [16, 29, 60, 3, 61, 28, 42, 180, 0, 13, 162, 0, 20, 27, 42, 180, 0, 7, 28, 46, 184, 0, 17, 60]
abbrev dktX5_sum_0 : List UInt8 := dkwX5_sum_0 ++ dktX5_sum_1
theorem dksX5_sum_0 : cX5_sum.data.toList.drop 0 = dktX5_sum_0 := by decide +kernel
theorem dksX5_sum_1 : cX5_sum.data.toList.drop 24 = dktX5_sum_1 := dk_seg dksX5_sum_0 24 rfl rfl
theorem dX5_sum_0 : decode cX5_sum 0 = .ok (.bipush 29, 2) := dk_16 29 (dk_at dksX5_sum_0 0 rfl rfl)
theorem dX5_sum_2 : decode cX5_sum 2 = .ok (.istore_n 1, 1) := dk_60 (dk_at dksX5_sum_0 2 rfl rfl)
theorem dX5_sum_3 : decode cX5_sum 3 = .ok (.iconst 0, 1) := dk_3 (dk_at dksX5_sum_0 3 rfl rfl)
theorem dX5_sum_4 : decode cX5_sum 4 = .ok (.istore_n 2, 1) := dk_61 (dk_at dksX5_sum_0 4 rfl rfl)
theorem dX5_sum_5 : decode cX5_sum 5 = .ok (.iload_n 2, 1) := dk_28 (dk_at dksX5_sum_0 5 rfl rfl)
theorem dX5_sum_6 : decode cX5_sum 6 = .ok (.aload_n 0, 1) := dk_42 (dk_at dksX5_sum_0 6 rfl rfl)
theorem dX5_sum_7 : decode cX5_sum 7 = .ok (.getfield 13, 3) := dk_180 0 13 (dk_at dksX5_sum_0 7 rfl rfl)
theorem dX5_sum_10 : decode cX5_sum 10 = .ok (.if_icmp .ge 20, 3) := dk_162 0 20 (dk_at dksX5_sum_0 10 rfl rfl)
theorem dX5_sum_13 : decode cX5_sum 13 = .ok (.iload_n 1, 1) := dk_27 (dk_at dksX5_sum_0 13 rfl rfl)
theorem dX5_sum_14 : decode cX5_sum 14 = .ok (.aload_n 0, 1) := dk_42 (dk_at dksX5_sum_0 14 rfl rfl)
theorem dX5_sum_15 : decode cX5_sum 15 = .ok (.getfield 7, 3) := dk_180 0 7 (dk_at dksX5_sum_0 15 rfl rfl)
theorem dX5_sum_18 : decode cX5_sum 18 = .ok (.iload_n 2, 1) := dk_28 (dk_at dksX5_sum_0 18 rfl rfl)
theorem dX5_sum_19 : decode cX5_sum 19 = .ok (.iaload, 1) := dk_46 (dk_at dksX5_sum_0 19 rfl rfl)
theorem dX5_sum_20 : decode cX5_sum 20 = .ok (.invokestatic 17, 3) := dk_184 0 17 (dk_at dksX5_sum_0 20 rfl rfl)
theorem dX5_sum_23 : decode cX5_sum 23 = .ok (.istore_n 1, 1) := dk_60 (dk_at dksX5_sum_0 23 rfl rfl)
theorem dX5_sum_24 : decode cX5_sum 24 = .ok (.iinc 2 1, 3) := dk_132 2 1 (dk_at dksX5_sum_1 0 rfl rfl)
theorem dX5_sum_27 : decode cX5_sum 27 = .ok (.goto (-22), 3) := dk_167 255 234 (dk_at dksX5_sum_1 3 rfl rfl)
theorem dX5_sum_30 : decode cX5_sum 30 = .ok (.iload_n 1, 1) := dk_27 (dk_at dksX5_sum_1 6 rfl rfl)
theorem dX5_sum_31 : decode cX5_sum 31 = .ok (.ireturn, 1) := dk_172 (dk_at dksX5_sum_1 7 rfl rfl)
abbrev cX5_sum_2 : ByteArray := prog_13_method_3_code
def yX5_sum_2 : MethodName := ⟨RX5, "sum", "(II)I"⟩
def dkwX5_sum_2_0 : List UInt8 := [6, 26, 104, 27, 96, 17, 0, 241, 112, 172]
abbrev dktX5_sum_2_0 : List UInt8 := dkwX5_sum_2_0 ++ []
theorem dksX5_sum_2_0 : cX5_sum_2.data.toList.drop 0 = dktX5_sum_2_0 := by decide +kernel
theorem dX5_sum_2_0 : decode cX5_sum_2 0 = .ok (.iconst 3, 1) := dk_6 (dk_at dksX5_sum_2_0 0 rfl rfl)
theorem dX5_sum_2_1 : decode cX5_sum_2 1 = .ok (.iload_n 0, 1) := dk_26 (dk_at dksX5_sum_2_0 1 rfl rfl)
theorem dX5_sum_2_2 : decode cX5_sum_2 2 = .ok (.imul, 1) := dk_104 (dk_at dksX5_sum_2_0 2 rfl rfl)
theorem dX5_sum_2_3 : decode cX5_sum_2 3 = .ok (.iload_n 1, 1) := dk_27 (dk_at dksX5_sum_2_0 3 rfl rfl)
theorem dX5_sum_2_4 : decode cX5_sum_2 4 = .ok (.iadd, 1) := dk_96 (dk_at dksX5_sum_2_0 4 rfl rfl)
theorem dX5_sum_2_5 : decode cX5_sum_2 5 = .ok (.sipush 241, 3) := dk_17 0 241 (dk_at dksX5_sum_2_0 5 rfl rfl)
theorem dX5_sum_2_8 : decode cX5_sum_2 8 = .ok (.irem, 1) := dk_112 (dk_at dksX5_sum_2_0 8 rfl rfl)
theorem dX5_sum_2_9 : decode cX5_sum_2 9 = .ok (.ireturn, 1) := dk_172 (dk_at dksX5_sum_2_0 9 rfl rfl)
theorem q177 : (Jvm.Cond.initialized "ToldTracks$Octets") ∈ lw_all := lw_g (lw_at lw_m1 9 rfl) rfl
theorem q369 : (Jvm.Cond.instantiable "ToldTracks$Octets" (2 : Nat)) ∈ lw_all := lw_g (lw_at lw_m1 201 rfl) rfl
theorem q371 : (Jvm.Cond.instanceMethod ({ cls := "ToldTracks$Octets", name := "<init>", desc := "()V" } : Jvm.MethodName)) ∈ lw_all := lw_g (lw_at lw_m1 203 rfl) rfl
theorem q372 : (Jvm.Cond.code ({ cls := "ToldTracks$Octets", name := "<init>", desc := "()V" } : Jvm.MethodName) prog_13_method_1_code (1 : Nat) (Option.none : Option Jvm.ClassFile.FieldType)) ∈ lw_all := lw_g (lw_at lw_m1 204 rfl) rfl
theorem q373 : (Jvm.Cond.methodLink "ToldTracks$Octets" (1 : Nat) ({ cls := "java/lang/Object", name := "<init>", desc := "()V" } : Jvm.MethodName)) ∈ lw_all := lw_g (lw_at lw_m1 205 rfl) rfl
theorem q374 : (Jvm.Cond.fieldLink "ToldTracks$Octets" (7 : Nat) "ToldTracks$Octets" "all" "[I") ∈ lw_all := lw_g (lw_at lw_m1 206 rfl) rfl
theorem q376 : (Jvm.Cond.fieldLink "ToldTracks$Octets" (13 : Nat) "ToldTracks$Octets" "size" "I") ∈ lw_all := lw_g (lw_at lw_m1 208 rfl) rfl
theorem q378 : (Jvm.Cond.laysFinal "ToldTracks$Octets" "ToldTracks$Octets" "all" "[I") ∈ lw_all := lw_g (lw_at lw_m1 210 rfl) rfl
theorem q379 : (Jvm.Cond.soleField "ToldTracks$Octets" "all") ∈ lw_all := lw_g (lw_at lw_m1 211 rfl) rfl
theorem q380 : (Jvm.Cond.lays "ToldTracks$Octets" "ToldTracks$Octets" "size" "I") ∈ lw_all := lw_g (lw_at lw_m1 212 rfl) rfl
theorem q381 : (Jvm.Cond.soleField "ToldTracks$Octets" "size") ∈ lw_all := lw_g (lw_at lw_m1 213 rfl) rfl
theorem q382 : (Jvm.Cond.superclass "ToldTracks$Octets" "java/lang/Object") ∈ lw_all := lw_g (lw_at lw_m1 214 rfl) rfl
theorem q960 : (Jvm.Cond.selects "ToldTracks$Octets" ({ cls := "java/lang/Object", name := "getClass", desc := "()Ljava/lang/Class;" } : Jvm.MethodName) ({ cls := "java/lang/Object", name := "getClass", desc := "()Ljava/lang/Class;" } : Jvm.MethodName)) ∈ lw_all := lw_g (lw_at lw_m4 72 rfl) rfl
theorem q1972 : (Jvm.Cond.instanceMethod ({ cls := "ToldTracks$Octets", name := "add", desc := "(I)V" } : Jvm.MethodName)) ∈ lw_all := lw_g (lw_at lw_m8 124 rfl) rfl
theorem q1973 : (Jvm.Cond.selects "ToldTracks$Octets" ({ cls := "ToldTracks$Octets", name := "add", desc := "(I)V" } : Jvm.MethodName) ({ cls := "ToldTracks$Octets", name := "add", desc := "(I)V" } : Jvm.MethodName)) ∈ lw_all := lw_g (lw_at lw_m8 125 rfl) rfl
theorem q1974 : (Jvm.Cond.code ({ cls := "ToldTracks$Octets", name := "add", desc := "(I)V" } : Jvm.MethodName) prog_13_method_2_code (2 : Nat) (Option.none : Option Jvm.ClassFile.FieldType)) ∈ lw_all := lw_g (lw_at lw_m8 126 rfl) rfl
theorem q1976 : (Jvm.Cond.instanceMethod ({ cls := "ToldTracks$Octets", name := "sum", desc := "()I" } : Jvm.MethodName)) ∈ lw_all := lw_g (lw_at lw_m8 128 rfl) rfl
theorem q1977 : (Jvm.Cond.selects "ToldTracks$Octets" ({ cls := "ToldTracks$Octets", name := "sum", desc := "()I" } : Jvm.MethodName) ({ cls := "ToldTracks$Octets", name := "sum", desc := "()I" } : Jvm.MethodName)) ∈ lw_all := lw_g (lw_at lw_m8 129 rfl) rfl
theorem q1978 : (Jvm.Cond.code ({ cls := "ToldTracks$Octets", name := "sum", desc := "()I" } : Jvm.MethodName) prog_13_method_4_code (3 : Nat) (Option.some Jvm.ClassFile.FieldType.int)) ∈ lw_all := lw_g (lw_at lw_m8 130 rfl) rfl
theorem q1979 : (Jvm.Cond.methodLink "ToldTracks$Octets" (17 : Nat) ({ cls := "ToldTracks$Octets", name := "sum", desc := "(II)I" } : Jvm.MethodName)) ∈ lw_all := lw_g (lw_at lw_m8 131 rfl) rfl
theorem q1980 : (Jvm.Cond.static ({ cls := "ToldTracks$Octets", name := "sum", desc := "(II)I" } : Jvm.MethodName)) ∈ lw_all := lw_g (lw_at lw_m8 132 rfl) rfl
theorem q1981 : (Jvm.Cond.code ({ cls := "ToldTracks$Octets", name := "sum", desc := "(II)I" } : Jvm.MethodName) prog_13_method_3_code (2 : Nat) (Option.some Jvm.ClassFile.FieldType.int)) ∈ lw_all := lw_g (lw_at lw_m8 133 rfl) rfl
theorem q2840 : (Jvm.Cond.castable "ToldTracks$Octets" "java/lang/Object") ∈ lw_tbl := lw_at lw_m12 32 rfl
theorem in_X5 : ∀ w ∈ wsX50, w ∈ lw_all := lw_in wsX50 [378, 380] (by decide +kernel) (by decide +kernel)
/-! ToldTracksModel -/
def RX6 : String := "ToldTracksModel"
def TX6 : u_T := fun k => match k with
  | 0 => ("ToldTracksModel", "tape", "[I", true)
  | 1 => ("ToldTracksModel", "taped", "I", false)
  | 2 => ("ToldTracksModel", "size", "I", false)
  | 3 => ("ToldTracksModel", "sign", "I", false)
  | 4 => ("ToldTracksModel", "signAt", "I", false)
  | 5 => ("ToldTracksModel", "signEnd", "I", false)
  | 6 => ("ToldTracksModel", "value", "I", false)
  | 7 => ("ToldTracksModel", "word", "J", false)
  | 8 => ("ToldTracksModel", "faultKind", "I", false)
  | 9 => ("ToldTracksModel", "faultPlace", "I", false)
  | 10 => ("ToldTracksModel", "toldKind", "I", false)
  | 11 => ("ToldTracksModel", "toldPlace", "I", false)
  | 12 => ("ToldTracksModel", "bank", "I", false)
  | 13 => ("ToldTracksModel", "columns", "[I", true)
  | 14 => ("ToldTracksModel", "rows", "[I", true)
  | 15 => ("ToldTracksModel", "many", "[I", true)
  | 16 => ("ToldTracksModel", "sumFrom", "[I", true)
  | 17 => ("ToldTracksModel", "testFrom", "[I", true)
  | 18 => ("ToldTracksModel", "testTo", "[I", true)
  | 19 => ("ToldTracksModel", "ships", "[I", true)
  | 20 => ("ToldTracksModel", "shipName", "[J", true)
  | 21 => ("ToldTracksModel", "look", "[I", true)
  | 22 => ("ToldTracksModel", "speed", "[I", true)
  | 23 => ("ToldTracksModel", "draft", "[I", true)
  | 24 => ("ToldTracksModel", "load", "[I", true)
  | 25 => ("ToldTracksModel", "sayings", "[I", true)
  | 26 => ("ToldTracksModel", "cellSaid", "[I", true)
  | 27 => ("ToldTracksModel", "isLaden", "[Z", true)
  | 28 => ("ToldTracksModel", "books", "[I", true)
  | 29 => ("ToldTracksModel", "bookShip", "[I", true)
  | 30 => ("ToldTracksModel", "bookCell", "[I", true)
  | 31 => ("ToldTracksModel", "bookFrom", "[I", true)
  | 32 => ("ToldTracksModel", "bookTo", "[I", true)
  | 33 => ("ToldTracksModel", "sights", "[I", true)
  | 34 => ("ToldTracksModel", "sightLook", "[I", true)
  | 35 => ("ToldTracksModel", "sightCell", "[I", true)
  | 36 => ("ToldTracksModel", "sightHour", "[I", true)
  | 37 => ("ToldTracksModel", "luck", "[I", true)
  | 38 => ("ToldTracksModel", "codeSort", "[I", true)
  | 39 => ("ToldTracksModel", "codeValue", "[I", true)
  | 40 => ("ToldTracksModel", "codes", "I", false)
  | 41 => ("ToldTracksModel", "in", "I", false)
  | 42 => ("ToldTracksModel", "frame", "[I", true)
  | 43 => ("ToldTracksModel", "phase", "[I", true)
  | 44 => ("ToldTracksModel", "begins", "[Z", true)
  | 45 => ("ToldTracksModel", "pair", "[I", true)
  | 46 => ("ToldTracksModel", "base", "[I", true)
  | 47 => ("ToldTracksModel", "deep", "I", false)
  | 48 => ("ToldTracksModel", "open", "I", false)
  | 49 => ("ToldTracksModel", "ops", "[I", true)
  | 50 => ("ToldTracksModel", "opMany", "I", false)
  | 51 => ("ToldTracksModel", "operand", "Z", false)
  | 52 => ("ToldTracksModel", "refused", "[I", true)
  | 53 => ("ToldTracksModel", "heap", "[J", true)
  | 54 => ("ToldTracksModel", "moment", "[I", true)
  | 55 => ("ToldTracksModel", "depths", "[I", true)
  | 56 => ("ToldTracksModel", "costs", "[I", true)
  | 57 => ("ToldTracksModel", "steps", "[I", true)
  | 58 => ("ToldTracksModel", "queue", "[I", true)
  | 59 => ("ToldTracksModel", "queued", "I", false)
  | 60 => ("ToldTracksModel", "facts", "I", false)
  | 61 => ("ToldTracksModel", "factCell", "[I", true)
  | 62 => ("ToldTracksModel", "factFrom", "[I", true)
  | 63 => ("ToldTracksModel", "factTo", "[I", true)
  | 64 => ("ToldTracksModel", "isLaid", "Z", false)
  | 65 => ("ToldTracksModel", "many48", "I", false)
  | 66 => ("ToldTracksModel", "keptMany", "I", false)
  | 67 => ("ToldTracksModel", "hours", "[I", true)
  | 68 => ("ToldTracksModel", "isGood", "[Z", true)
  | 69 => ("ToldTracksModel", "isKept", "[Z", true)
  | 70 => ("ToldTracksModel", "goesWith", "[Z", true)
  | 71 => ("ToldTracksModel", "longest", "[I", true)
  | 72 => ("ToldTracksModel", "farFrom", "[I", true)
  | 73 => ("ToldTracksModel", "silentHours", "I", false)
  | 74 => ("ToldTracksModel", "set", "[I", true)
  | 75 => ("ToldTracksModel", "oldSet", "[I", true)
  | 76 => ("ToldTracksModel", "firstMay", "[Z", true)
  | 77 => ("ToldTracksModel", "firstHour", "[Z", true)
  | 78 => ("ToldTracksModel", "explained", "[I", true)
  | 79 => ("ToldTracksModel", "missed", "[J", true)
  | 80 => ("ToldTracksModel", "settled", "[I", true)
  | 81 => ("ToldTracksModel", "out", "[I", true)
  | _ => ("ToldTracksModel", "outs", "I", false)
def tyX6 : Nat → FieldType := fun k => match k with
  | 0 => .array .int
  | 1 => .int
  | 2 => .int
  | 3 => .int
  | 4 => .int
  | 5 => .int
  | 6 => .int
  | 7 => .long
  | 8 => .int
  | 9 => .int
  | 10 => .int
  | 11 => .int
  | 12 => .int
  | 13 => .array .int
  | 14 => .array .int
  | 15 => .array .int
  | 16 => .array .int
  | 17 => .array .int
  | 18 => .array .int
  | 19 => .array .int
  | 20 => .array .long
  | 21 => .array .int
  | 22 => .array .int
  | 23 => .array .int
  | 24 => .array .int
  | 25 => .array .int
  | 26 => .array .int
  | 27 => .array .boolean
  | 28 => .array .int
  | 29 => .array .int
  | 30 => .array .int
  | 31 => .array .int
  | 32 => .array .int
  | 33 => .array .int
  | 34 => .array .int
  | 35 => .array .int
  | 36 => .array .int
  | 37 => .array .int
  | 38 => .array .int
  | 39 => .array .int
  | 40 => .int
  | 41 => .int
  | 42 => .array .int
  | 43 => .array .int
  | 44 => .array .boolean
  | 45 => .array .int
  | 46 => .array .int
  | 47 => .int
  | 48 => .int
  | 49 => .array .int
  | 50 => .int
  | 51 => .boolean
  | 52 => .array .int
  | 53 => .array .long
  | 54 => .array .int
  | 55 => .array .int
  | 56 => .array .int
  | 57 => .array .int
  | 58 => .array .int
  | 59 => .int
  | 60 => .int
  | 61 => .array .int
  | 62 => .array .int
  | 63 => .array .int
  | 64 => .boolean
  | 65 => .int
  | 66 => .int
  | 67 => .array .int
  | 68 => .array .boolean
  | 69 => .array .boolean
  | 70 => .array .boolean
  | 71 => .array .int
  | 72 => .array .int
  | 73 => .int
  | 74 => .array .int
  | 75 => .array .int
  | 76 => .array .boolean
  | 77 => .array .boolean
  | 78 => .array .int
  | 79 => .array .long
  | 80 => .array .int
  | 81 => .array .int
  | _ => .int
abbrev wsX60 : List Cond := u_ws RX6 TX6 83
theorem nmX6 : ∀ a, a < 83 → ∀ b, b < 83 → a ≠ b → (TX6 a).2.1 ≠ (TX6 b).2.1 := by decide +kernel
theorem tyX6_ok : ∀ k, k < 83 → parseFieldDescriptor (TX6 k).2.2.1 = some (tyX6 k) := by decide +kernel
abbrev cX6_init : ByteArray := prog_29_method_1_code
def yX6_init : MethodName := ⟨RX6, "<init>", "()V"⟩
def dkwX6_init_27 : List UInt8 := [132, 1, 1, 167, 255, 239, 177]
abbrev dktX6_init_27 : List UInt8 := dkwX6_init_27 ++ []
def dkwX6_init_26 : List UInt8 := [180, 0, 125, 3, 16, 10, 79, 3, 60, 27, 17, 1, 128, 162, 0, 16, 42, 180, 0, 91, 27, 2, 79]
abbrev dktX6_init_26 : List UInt8 := dkwX6_init_26 ++ dktX6_init_27
def dkwX6_init_25 : List UInt8 := [17, 48, 0, 188, 10, 181, 0, 255, 42, 17, 2, 8, 188, 10, 181, 1, 2, 42, 3, 181, 1, 5, 42]
abbrev dktX6_init_25 : List UInt8 := dkwX6_init_25 ++ dktX6_init_26
def dkwX6_init_24 : List UInt8 := [188, 4, 181, 0, 246, 42, 16, 40, 188, 10, 181, 0, 249, 42, 16, 50, 188, 11, 181, 0, 252, 42]
abbrev dktX6_init_24 : List UInt8 := dkwX6_init_24 ++ dktX6_init_25
def dkwX6_init_23 : List UInt8 := [181, 0, 237, 42, 16, 48, 188, 10, 181, 0, 240, 42, 17, 48, 0, 188, 4, 181, 0, 243, 42, 16, 48]
abbrev dktX6_init_23 : List UInt8 := dkwX6_init_23 ++ dktX6_init_24
def dkwX6_init_22 : List UInt8 := [188, 10, 181, 0, 228, 42, 17, 60, 0, 188, 10, 181, 0, 231, 42, 3, 181, 0, 234, 42, 16, 48, 188, 10]
abbrev dktX6_init_22 : List UInt8 := dkwX6_init_22 ++ dktX6_init_23
def dkwX6_init_21 : List UInt8 := [181, 0, 219, 42, 16, 48, 188, 4, 181, 0, 222, 42, 17, 9, 0, 188, 4, 181, 0, 225, 42, 16, 48]
abbrev dktX6_init_21 : List UInt8 := dkwX6_init_21 ++ dktX6_init_22
def dkwX6_init_20 : List UInt8 := [42, 3, 181, 0, 210, 42, 3, 181, 0, 213, 42, 16, 48, 188, 10, 181, 0, 216, 42, 16, 48, 188, 4]
abbrev dktX6_init_20 : List UInt8 := dkwX6_init_20 ++ dktX6_init_21
def dkwX6_init_19 : List UInt8 := [181, 0, 198, 42, 16, 120, 188, 10, 181, 0, 201, 42, 16, 120, 188, 10, 181, 0, 204, 42, 3, 181, 0, 207]
abbrev dktX6_init_19 : List UInt8 := dkwX6_init_19 ++ dktX6_init_20
def dkwX6_init_18 : List UInt8 := [17, 1, 0, 188, 10, 181, 0, 189, 42, 3, 181, 0, 192, 42, 3, 181, 0, 195, 42, 16, 120, 188, 10]
abbrev dktX6_init_18 : List UInt8 := dkwX6_init_18 ++ dktX6_init_19
def dkwX6_init_17 : List UInt8 := [188, 10, 181, 0, 180, 42, 17, 1, 0, 188, 10, 181, 0, 183, 42, 17, 1, 0, 188, 10, 181, 0, 186, 42]
abbrev dktX6_init_17 : List UInt8 := dkwX6_init_17 ++ dktX6_init_18
def dkwX6_init_16 : List UInt8 := [181, 0, 171, 42, 17, 7, 58, 188, 11, 181, 0, 174, 42, 16, 10, 188, 10, 181, 0, 177, 42, 17, 1, 0]
abbrev dktX6_init_16 : List UInt8 := dkwX6_init_16 ++ dktX6_init_17
def dkwX6_init_15 : List UInt8 := [17, 1, 244, 188, 10, 181, 0, 161, 42, 3, 181, 0, 164, 42, 3, 181, 0, 167, 42, 8, 188, 10]
abbrev dktX6_init_15 : List UInt8 := dkwX6_init_15 ++ dktX6_init_16
def dkwX6_init_14 : List UInt8 := [181, 0, 149, 42, 16, 20, 188, 10, 181, 0, 152, 42, 3, 181, 0, 155, 42, 3, 181, 0, 158, 42]
abbrev dktX6_init_14 : List UInt8 := dkwX6_init_14 ++ dktX6_init_15
def dkwX6_init_13 : List UInt8 := [181, 0, 140, 42, 16, 20, 188, 10, 181, 0, 143, 42, 16, 20, 188, 4, 181, 0, 146, 42, 16, 20, 188, 10]
abbrev dktX6_init_13 : List UInt8 := dkwX6_init_13 ++ dktX6_init_14
def dkwX6_init_12 : List UInt8 := [17, 14, 16, 188, 10, 181, 0, 131, 42, 3, 181, 0, 134, 42, 4, 181, 0, 137, 42, 16, 20, 188, 10]
abbrev dktX6_init_12 : List UInt8 := dkwX6_init_12 ++ dktX6_init_13
def dkwX6_init_11 : List UInt8 := [188, 10, 181, 0, 122, 42, 5, 188, 10, 181, 0, 125, 42, 17, 14, 16, 188, 10, 181, 0, 128, 42]
abbrev dktX6_init_11 : List UInt8 := dkwX6_init_11 ++ dktX6_init_12
def dkwX6_init_10 : List UInt8 := [188, 10, 181, 0, 113, 42, 16, 80, 188, 10, 181, 0, 116, 42, 16, 80, 188, 10, 181, 0, 119, 42, 16, 80]
abbrev dktX6_init_10 : List UInt8 := dkwX6_init_10 ++ dktX6_init_11
def dkwX6_init_9 : List UInt8 := [188, 10, 181, 0, 104, 42, 16, 24, 188, 10, 181, 0, 107, 42, 16, 24, 188, 10, 181, 0, 110, 42, 5]
abbrev dktX6_init_9 : List UInt8 := dkwX6_init_9 ++ dktX6_init_10
def dkwX6_init_8 : List UInt8 := [188, 4, 181, 0, 94, 42, 5, 188, 10, 181, 0, 98, 42, 16, 24, 188, 10, 181, 0, 101, 42, 16, 24]
abbrev dktX6_init_8 : List UInt8 := dkwX6_init_8 ++ dktX6_init_9
def dkwX6_init_7 : List UInt8 := [181, 0, 85, 42, 5, 188, 10, 181, 0, 88, 42, 17, 3, 0, 188, 10, 181, 0, 91, 42, 17, 3, 0]
abbrev dktX6_init_7 : List UInt8 := dkwX6_init_7 ++ dktX6_init_8
def dkwX6_init_6 : List UInt8 := [181, 0, 76, 42, 16, 16, 188, 10, 181, 0, 79, 42, 16, 16, 188, 10, 181, 0, 82, 42, 16, 16, 188, 10]
abbrev dktX6_init_6 : List UInt8 := dkwX6_init_6 ++ dktX6_init_7
def dkwX6_init_5 : List UInt8 := [181, 0, 66, 42, 5, 188, 10, 181, 0, 69, 42, 16, 16, 188, 11, 181, 0, 72, 42, 16, 16, 188, 10]
abbrev dktX6_init_5 : List UInt8 := dkwX6_init_5 ++ dktX6_init_6
def dkwX6_init_4 : List UInt8 := [181, 0, 57, 42, 16, 60, 188, 10, 181, 0, 60, 42, 16, 60, 188, 10, 181, 0, 63, 42, 16, 60, 188, 10]
abbrev dktX6_init_4 : List UInt8 := dkwX6_init_4 ++ dktX6_init_5
def dkwX6_init_3 : List UInt8 := [181, 0, 48, 42, 5, 188, 10, 181, 0, 51, 42, 5, 188, 10, 181, 0, 54, 42, 16, 6, 188, 10]
abbrev dktX6_init_3 : List UInt8 := dkwX6_init_3 ++ dktX6_init_4
def dkwX6_init_2 : List UInt8 := [42, 3, 181, 0, 36, 42, 2, 181, 0, 39, 42, 3, 181, 0, 42, 42, 2, 181, 0, 45, 42, 3]
abbrev dktX6_init_2 : List UInt8 := dkwX6_init_2 ++ dktX6_init_3
def dkwX6_init_1 : List UInt8 := [3, 181, 0, 20, 42, 3, 181, 0, 23, 42, 3, 181, 0, 26, 42, 3, 181, 0, 29, 42, 9, 181, 0, 32]
abbrev dktX6_init_1 : List UInt8 := dkwX6_init_1 ++ dktX6_init_2
def dkwX6_init_0 : List UInt8 := [42, 183, 0, 1, 42, 17, 7, 8, 188, 10, 181, 0, 7, 42, 3, 181, 0, 13, 42, 3, 181, 0, 17, 42]
abbrev dktX6_init_0 : List UInt8 := dkwX6_init_0 ++ dktX6_init_1
theorem dksX6_init_0 : cX6_init.data.toList.drop 0 = dktX6_init_0 := by decide +kernel
theorem dksX6_init_1 : cX6_init.data.toList.drop 24 = dktX6_init_1 := dk_seg dksX6_init_0 24 rfl rfl
theorem dksX6_init_2 : cX6_init.data.toList.drop 48 = dktX6_init_2 := dk_seg dksX6_init_1 24 rfl rfl
theorem dksX6_init_3 : cX6_init.data.toList.drop 70 = dktX6_init_3 := dk_seg dksX6_init_2 22 rfl rfl
theorem dksX6_init_4 : cX6_init.data.toList.drop 92 = dktX6_init_4 := dk_seg dksX6_init_3 22 rfl rfl
theorem dksX6_init_5 : cX6_init.data.toList.drop 116 = dktX6_init_5 := dk_seg dksX6_init_4 24 rfl rfl
theorem dksX6_init_6 : cX6_init.data.toList.drop 139 = dktX6_init_6 := dk_seg dksX6_init_5 23 rfl rfl
theorem dksX6_init_7 : cX6_init.data.toList.drop 163 = dktX6_init_7 := dk_seg dksX6_init_6 24 rfl rfl
theorem dksX6_init_8 : cX6_init.data.toList.drop 186 = dktX6_init_8 := dk_seg dksX6_init_7 23 rfl rfl
theorem dksX6_init_9 : cX6_init.data.toList.drop 209 = dktX6_init_9 := dk_seg dksX6_init_8 23 rfl rfl
theorem dksX6_init_10 : cX6_init.data.toList.drop 232 = dktX6_init_10 := dk_seg dksX6_init_9 23 rfl rfl
theorem dksX6_init_11 : cX6_init.data.toList.drop 256 = dktX6_init_11 := dk_seg dksX6_init_10 24 rfl rfl
theorem dksX6_init_12 : cX6_init.data.toList.drop 278 = dktX6_init_12 := dk_seg dksX6_init_11 22 rfl rfl
theorem dksX6_init_13 : cX6_init.data.toList.drop 301 = dktX6_init_13 := dk_seg dksX6_init_12 23 rfl rfl
theorem dksX6_init_14 : cX6_init.data.toList.drop 325 = dktX6_init_14 := dk_seg dksX6_init_13 24 rfl rfl
theorem dksX6_init_15 : cX6_init.data.toList.drop 347 = dktX6_init_15 := dk_seg dksX6_init_14 22 rfl rfl
theorem dksX6_init_16 : cX6_init.data.toList.drop 369 = dktX6_init_16 := dk_seg dksX6_init_15 22 rfl rfl
theorem dksX6_init_17 : cX6_init.data.toList.drop 393 = dktX6_init_17 := dk_seg dksX6_init_16 24 rfl rfl
theorem dksX6_init_18 : cX6_init.data.toList.drop 417 = dktX6_init_18 := dk_seg dksX6_init_17 24 rfl rfl
theorem dksX6_init_19 : cX6_init.data.toList.drop 440 = dktX6_init_19 := dk_seg dksX6_init_18 23 rfl rfl
theorem dksX6_init_20 : cX6_init.data.toList.drop 464 = dktX6_init_20 := dk_seg dksX6_init_19 24 rfl rfl
theorem dksX6_init_21 : cX6_init.data.toList.drop 487 = dktX6_init_21 := dk_seg dksX6_init_20 23 rfl rfl
theorem dksX6_init_22 : cX6_init.data.toList.drop 510 = dktX6_init_22 := dk_seg dksX6_init_21 23 rfl rfl
theorem dksX6_init_23 : cX6_init.data.toList.drop 534 = dktX6_init_23 := dk_seg dksX6_init_22 24 rfl rfl
theorem dksX6_init_24 : cX6_init.data.toList.drop 557 = dktX6_init_24 := dk_seg dksX6_init_23 23 rfl rfl
theorem dksX6_init_25 : cX6_init.data.toList.drop 579 = dktX6_init_25 := dk_seg dksX6_init_24 22 rfl rfl
theorem dksX6_init_26 : cX6_init.data.toList.drop 602 = dktX6_init_26 := dk_seg dksX6_init_25 23 rfl rfl
theorem dksX6_init_27 : cX6_init.data.toList.drop 625 = dktX6_init_27 := dk_seg dksX6_init_26 23 rfl rfl
theorem dX6_init_0 : decode cX6_init 0 = .ok (.aload_n 0, 1) := dk_42 (dk_at dksX6_init_0 0 rfl rfl)
theorem dX6_init_1 : decode cX6_init 1 = .ok (.invokespecial 1, 3) := dk_183 0 1 (dk_at dksX6_init_0 1 rfl rfl)
theorem dX6_init_4 : decode cX6_init 4 = .ok (.aload_n 0, 1) := dk_42 (dk_at dksX6_init_0 4 rfl rfl)
theorem dX6_init_5 : decode cX6_init 5 = .ok (.sipush 1800, 3) := dk_17 7 8 (dk_at dksX6_init_0 5 rfl rfl)
theorem dX6_init_8 : decode cX6_init 8 = .ok (.newarray .int, 2) := dk_188_10 (dk_at dksX6_init_0 8 rfl rfl)
theorem dX6_init_10 : decode cX6_init 10 = .ok (.putfield 7, 3) := dk_181 0 7 (dk_at dksX6_init_0 10 rfl rfl)
theorem dX6_init_13 : decode cX6_init 13 = .ok (.aload_n 0, 1) := dk_42 (dk_at dksX6_init_0 13 rfl rfl)
theorem dX6_init_14 : decode cX6_init 14 = .ok (.iconst 0, 1) := dk_3 (dk_at dksX6_init_0 14 rfl rfl)
theorem dX6_init_15 : decode cX6_init 15 = .ok (.putfield 13, 3) := dk_181 0 13 (dk_at dksX6_init_0 15 rfl rfl)
theorem dX6_init_18 : decode cX6_init 18 = .ok (.aload_n 0, 1) := dk_42 (dk_at dksX6_init_0 18 rfl rfl)
theorem dX6_init_19 : decode cX6_init 19 = .ok (.iconst 0, 1) := dk_3 (dk_at dksX6_init_0 19 rfl rfl)
theorem dX6_init_20 : decode cX6_init 20 = .ok (.putfield 17, 3) := dk_181 0 17 (dk_at dksX6_init_0 20 rfl rfl)
theorem dX6_init_23 : decode cX6_init 23 = .ok (.aload_n 0, 1) := dk_42 (dk_at dksX6_init_0 23 rfl rfl)
theorem dX6_init_24 : decode cX6_init 24 = .ok (.iconst 0, 1) := dk_3 (dk_at dksX6_init_1 0 rfl rfl)
theorem dX6_init_25 : decode cX6_init 25 = .ok (.putfield 20, 3) := dk_181 0 20 (dk_at dksX6_init_1 1 rfl rfl)
theorem dX6_init_28 : decode cX6_init 28 = .ok (.aload_n 0, 1) := dk_42 (dk_at dksX6_init_1 4 rfl rfl)
theorem dX6_init_29 : decode cX6_init 29 = .ok (.iconst 0, 1) := dk_3 (dk_at dksX6_init_1 5 rfl rfl)
theorem dX6_init_30 : decode cX6_init 30 = .ok (.putfield 23, 3) := dk_181 0 23 (dk_at dksX6_init_1 6 rfl rfl)
theorem dX6_init_33 : decode cX6_init 33 = .ok (.aload_n 0, 1) := dk_42 (dk_at dksX6_init_1 9 rfl rfl)
theorem dX6_init_34 : decode cX6_init 34 = .ok (.iconst 0, 1) := dk_3 (dk_at dksX6_init_1 10 rfl rfl)
theorem dX6_init_35 : decode cX6_init 35 = .ok (.putfield 26, 3) := dk_181 0 26 (dk_at dksX6_init_1 11 rfl rfl)
theorem dX6_init_38 : decode cX6_init 38 = .ok (.aload_n 0, 1) := dk_42 (dk_at dksX6_init_1 14 rfl rfl)
theorem dX6_init_39 : decode cX6_init 39 = .ok (.iconst 0, 1) := dk_3 (dk_at dksX6_init_1 15 rfl rfl)
theorem dX6_init_40 : decode cX6_init 40 = .ok (.putfield 29, 3) := dk_181 0 29 (dk_at dksX6_init_1 16 rfl rfl)
theorem dX6_init_43 : decode cX6_init 43 = .ok (.aload_n 0, 1) := dk_42 (dk_at dksX6_init_1 19 rfl rfl)
theorem dX6_init_44 : decode cX6_init 44 = .ok (.lconst 0, 1) := dk_9 (dk_at dksX6_init_1 20 rfl rfl)
theorem dX6_init_45 : decode cX6_init 45 = .ok (.putfield 32, 3) := dk_181 0 32 (dk_at dksX6_init_1 21 rfl rfl)
theorem dX6_init_48 : decode cX6_init 48 = .ok (.aload_n 0, 1) := dk_42 (dk_at dksX6_init_2 0 rfl rfl)
theorem dX6_init_49 : decode cX6_init 49 = .ok (.iconst 0, 1) := dk_3 (dk_at dksX6_init_2 1 rfl rfl)
theorem dX6_init_50 : decode cX6_init 50 = .ok (.putfield 36, 3) := dk_181 0 36 (dk_at dksX6_init_2 2 rfl rfl)
theorem dX6_init_53 : decode cX6_init 53 = .ok (.aload_n 0, 1) := dk_42 (dk_at dksX6_init_2 5 rfl rfl)
theorem dX6_init_54 : decode cX6_init 54 = .ok (.iconst (-1), 1) := dk_2 (dk_at dksX6_init_2 6 rfl rfl)
theorem dX6_init_55 : decode cX6_init 55 = .ok (.putfield 39, 3) := dk_181 0 39 (dk_at dksX6_init_2 7 rfl rfl)
theorem dX6_init_58 : decode cX6_init 58 = .ok (.aload_n 0, 1) := dk_42 (dk_at dksX6_init_2 10 rfl rfl)
theorem dX6_init_59 : decode cX6_init 59 = .ok (.iconst 0, 1) := dk_3 (dk_at dksX6_init_2 11 rfl rfl)
theorem dX6_init_60 : decode cX6_init 60 = .ok (.putfield 42, 3) := dk_181 0 42 (dk_at dksX6_init_2 12 rfl rfl)
theorem dX6_init_63 : decode cX6_init 63 = .ok (.aload_n 0, 1) := dk_42 (dk_at dksX6_init_2 15 rfl rfl)
theorem dX6_init_64 : decode cX6_init 64 = .ok (.iconst (-1), 1) := dk_2 (dk_at dksX6_init_2 16 rfl rfl)
theorem dX6_init_65 : decode cX6_init 65 = .ok (.putfield 45, 3) := dk_181 0 45 (dk_at dksX6_init_2 17 rfl rfl)
theorem dX6_init_68 : decode cX6_init 68 = .ok (.aload_n 0, 1) := dk_42 (dk_at dksX6_init_2 20 rfl rfl)
theorem dX6_init_69 : decode cX6_init 69 = .ok (.iconst 0, 1) := dk_3 (dk_at dksX6_init_2 21 rfl rfl)
theorem dX6_init_70 : decode cX6_init 70 = .ok (.putfield 48, 3) := dk_181 0 48 (dk_at dksX6_init_3 0 rfl rfl)
theorem dX6_init_73 : decode cX6_init 73 = .ok (.aload_n 0, 1) := dk_42 (dk_at dksX6_init_3 3 rfl rfl)
theorem dX6_init_74 : decode cX6_init 74 = .ok (.iconst 2, 1) := dk_5 (dk_at dksX6_init_3 4 rfl rfl)
theorem dX6_init_75 : decode cX6_init 75 = .ok (.newarray .int, 2) := dk_188_10 (dk_at dksX6_init_3 5 rfl rfl)
theorem dX6_init_77 : decode cX6_init 77 = .ok (.putfield 51, 3) := dk_181 0 51 (dk_at dksX6_init_3 7 rfl rfl)
theorem dX6_init_80 : decode cX6_init 80 = .ok (.aload_n 0, 1) := dk_42 (dk_at dksX6_init_3 10 rfl rfl)
theorem dX6_init_81 : decode cX6_init 81 = .ok (.iconst 2, 1) := dk_5 (dk_at dksX6_init_3 11 rfl rfl)
theorem dX6_init_82 : decode cX6_init 82 = .ok (.newarray .int, 2) := dk_188_10 (dk_at dksX6_init_3 12 rfl rfl)
theorem dX6_init_84 : decode cX6_init 84 = .ok (.putfield 54, 3) := dk_181 0 54 (dk_at dksX6_init_3 14 rfl rfl)
theorem dX6_init_87 : decode cX6_init 87 = .ok (.aload_n 0, 1) := dk_42 (dk_at dksX6_init_3 17 rfl rfl)
theorem dX6_init_88 : decode cX6_init 88 = .ok (.bipush 6, 2) := dk_16 6 (dk_at dksX6_init_3 18 rfl rfl)
theorem dX6_init_90 : decode cX6_init 90 = .ok (.newarray .int, 2) := dk_188_10 (dk_at dksX6_init_3 20 rfl rfl)
theorem dX6_init_92 : decode cX6_init 92 = .ok (.putfield 57, 3) := dk_181 0 57 (dk_at dksX6_init_4 0 rfl rfl)
theorem dX6_init_95 : decode cX6_init 95 = .ok (.aload_n 0, 1) := dk_42 (dk_at dksX6_init_4 3 rfl rfl)
theorem dX6_init_96 : decode cX6_init 96 = .ok (.bipush 60, 2) := dk_16 60 (dk_at dksX6_init_4 4 rfl rfl)
theorem dX6_init_98 : decode cX6_init 98 = .ok (.newarray .int, 2) := dk_188_10 (dk_at dksX6_init_4 6 rfl rfl)
theorem dX6_init_100 : decode cX6_init 100 = .ok (.putfield 60, 3) := dk_181 0 60 (dk_at dksX6_init_4 8 rfl rfl)
theorem dX6_init_103 : decode cX6_init 103 = .ok (.aload_n 0, 1) := dk_42 (dk_at dksX6_init_4 11 rfl rfl)
theorem dX6_init_104 : decode cX6_init 104 = .ok (.bipush 60, 2) := dk_16 60 (dk_at dksX6_init_4 12 rfl rfl)
theorem dX6_init_106 : decode cX6_init 106 = .ok (.newarray .int, 2) := dk_188_10 (dk_at dksX6_init_4 14 rfl rfl)
theorem dX6_init_108 : decode cX6_init 108 = .ok (.putfield 63, 3) := dk_181 0 63 (dk_at dksX6_init_4 16 rfl rfl)
theorem dX6_init_111 : decode cX6_init 111 = .ok (.aload_n 0, 1) := dk_42 (dk_at dksX6_init_4 19 rfl rfl)
theorem dX6_init_112 : decode cX6_init 112 = .ok (.bipush 60, 2) := dk_16 60 (dk_at dksX6_init_4 20 rfl rfl)
theorem dX6_init_114 : decode cX6_init 114 = .ok (.newarray .int, 2) := dk_188_10 (dk_at dksX6_init_4 22 rfl rfl)
theorem dX6_init_116 : decode cX6_init 116 = .ok (.putfield 66, 3) := dk_181 0 66 (dk_at dksX6_init_5 0 rfl rfl)
theorem dX6_init_119 : decode cX6_init 119 = .ok (.aload_n 0, 1) := dk_42 (dk_at dksX6_init_5 3 rfl rfl)
theorem dX6_init_120 : decode cX6_init 120 = .ok (.iconst 2, 1) := dk_5 (dk_at dksX6_init_5 4 rfl rfl)
theorem dX6_init_121 : decode cX6_init 121 = .ok (.newarray .int, 2) := dk_188_10 (dk_at dksX6_init_5 5 rfl rfl)
theorem dX6_init_123 : decode cX6_init 123 = .ok (.putfield 69, 3) := dk_181 0 69 (dk_at dksX6_init_5 7 rfl rfl)
theorem dX6_init_126 : decode cX6_init 126 = .ok (.aload_n 0, 1) := dk_42 (dk_at dksX6_init_5 10 rfl rfl)
theorem dX6_init_127 : decode cX6_init 127 = .ok (.bipush 16, 2) := dk_16 16 (dk_at dksX6_init_5 11 rfl rfl)
theorem dX6_init_129 : decode cX6_init 129 = .ok (.newarray .long, 2) := dk_188_11 (dk_at dksX6_init_5 13 rfl rfl)
theorem dX6_init_131 : decode cX6_init 131 = .ok (.putfield 72, 3) := dk_181 0 72 (dk_at dksX6_init_5 15 rfl rfl)
theorem dX6_init_134 : decode cX6_init 134 = .ok (.aload_n 0, 1) := dk_42 (dk_at dksX6_init_5 18 rfl rfl)
theorem dX6_init_135 : decode cX6_init 135 = .ok (.bipush 16, 2) := dk_16 16 (dk_at dksX6_init_5 19 rfl rfl)
theorem dX6_init_137 : decode cX6_init 137 = .ok (.newarray .int, 2) := dk_188_10 (dk_at dksX6_init_5 21 rfl rfl)
theorem dX6_init_139 : decode cX6_init 139 = .ok (.putfield 76, 3) := dk_181 0 76 (dk_at dksX6_init_6 0 rfl rfl)
theorem dX6_init_142 : decode cX6_init 142 = .ok (.aload_n 0, 1) := dk_42 (dk_at dksX6_init_6 3 rfl rfl)
theorem dX6_init_143 : decode cX6_init 143 = .ok (.bipush 16, 2) := dk_16 16 (dk_at dksX6_init_6 4 rfl rfl)
theorem dX6_init_145 : decode cX6_init 145 = .ok (.newarray .int, 2) := dk_188_10 (dk_at dksX6_init_6 6 rfl rfl)
theorem dX6_init_147 : decode cX6_init 147 = .ok (.putfield 79, 3) := dk_181 0 79 (dk_at dksX6_init_6 8 rfl rfl)
theorem dX6_init_150 : decode cX6_init 150 = .ok (.aload_n 0, 1) := dk_42 (dk_at dksX6_init_6 11 rfl rfl)
theorem dX6_init_151 : decode cX6_init 151 = .ok (.bipush 16, 2) := dk_16 16 (dk_at dksX6_init_6 12 rfl rfl)
theorem dX6_init_153 : decode cX6_init 153 = .ok (.newarray .int, 2) := dk_188_10 (dk_at dksX6_init_6 14 rfl rfl)
theorem dX6_init_155 : decode cX6_init 155 = .ok (.putfield 82, 3) := dk_181 0 82 (dk_at dksX6_init_6 16 rfl rfl)
theorem dX6_init_158 : decode cX6_init 158 = .ok (.aload_n 0, 1) := dk_42 (dk_at dksX6_init_6 19 rfl rfl)
theorem dX6_init_159 : decode cX6_init 159 = .ok (.bipush 16, 2) := dk_16 16 (dk_at dksX6_init_6 20 rfl rfl)
theorem dX6_init_161 : decode cX6_init 161 = .ok (.newarray .int, 2) := dk_188_10 (dk_at dksX6_init_6 22 rfl rfl)
theorem dX6_init_163 : decode cX6_init 163 = .ok (.putfield 85, 3) := dk_181 0 85 (dk_at dksX6_init_7 0 rfl rfl)
theorem dX6_init_166 : decode cX6_init 166 = .ok (.aload_n 0, 1) := dk_42 (dk_at dksX6_init_7 3 rfl rfl)
theorem dX6_init_167 : decode cX6_init 167 = .ok (.iconst 2, 1) := dk_5 (dk_at dksX6_init_7 4 rfl rfl)
theorem dX6_init_168 : decode cX6_init 168 = .ok (.newarray .int, 2) := dk_188_10 (dk_at dksX6_init_7 5 rfl rfl)
theorem dX6_init_170 : decode cX6_init 170 = .ok (.putfield 88, 3) := dk_181 0 88 (dk_at dksX6_init_7 7 rfl rfl)
theorem dX6_init_173 : decode cX6_init 173 = .ok (.aload_n 0, 1) := dk_42 (dk_at dksX6_init_7 10 rfl rfl)
theorem dX6_init_174 : decode cX6_init 174 = .ok (.sipush 768, 3) := dk_17 3 0 (dk_at dksX6_init_7 11 rfl rfl)
theorem dX6_init_177 : decode cX6_init 177 = .ok (.newarray .int, 2) := dk_188_10 (dk_at dksX6_init_7 14 rfl rfl)
theorem dX6_init_179 : decode cX6_init 179 = .ok (.putfield 91, 3) := dk_181 0 91 (dk_at dksX6_init_7 16 rfl rfl)
theorem dX6_init_182 : decode cX6_init 182 = .ok (.aload_n 0, 1) := dk_42 (dk_at dksX6_init_7 19 rfl rfl)
theorem dX6_init_183 : decode cX6_init 183 = .ok (.sipush 768, 3) := dk_17 3 0 (dk_at dksX6_init_7 20 rfl rfl)
theorem dX6_init_186 : decode cX6_init 186 = .ok (.newarray .boolean, 2) := dk_188_4 (dk_at dksX6_init_8 0 rfl rfl)
theorem dX6_init_188 : decode cX6_init 188 = .ok (.putfield 94, 3) := dk_181 0 94 (dk_at dksX6_init_8 2 rfl rfl)
theorem dX6_init_191 : decode cX6_init 191 = .ok (.aload_n 0, 1) := dk_42 (dk_at dksX6_init_8 5 rfl rfl)
theorem dX6_init_192 : decode cX6_init 192 = .ok (.iconst 2, 1) := dk_5 (dk_at dksX6_init_8 6 rfl rfl)
theorem dX6_init_193 : decode cX6_init 193 = .ok (.newarray .int, 2) := dk_188_10 (dk_at dksX6_init_8 7 rfl rfl)
theorem dX6_init_195 : decode cX6_init 195 = .ok (.putfield 98, 3) := dk_181 0 98 (dk_at dksX6_init_8 9 rfl rfl)
theorem dX6_init_198 : decode cX6_init 198 = .ok (.aload_n 0, 1) := dk_42 (dk_at dksX6_init_8 12 rfl rfl)
theorem dX6_init_199 : decode cX6_init 199 = .ok (.bipush 24, 2) := dk_16 24 (dk_at dksX6_init_8 13 rfl rfl)
theorem dX6_init_201 : decode cX6_init 201 = .ok (.newarray .int, 2) := dk_188_10 (dk_at dksX6_init_8 15 rfl rfl)
theorem dX6_init_203 : decode cX6_init 203 = .ok (.putfield 101, 3) := dk_181 0 101 (dk_at dksX6_init_8 17 rfl rfl)
theorem dX6_init_206 : decode cX6_init 206 = .ok (.aload_n 0, 1) := dk_42 (dk_at dksX6_init_8 20 rfl rfl)
theorem dX6_init_207 : decode cX6_init 207 = .ok (.bipush 24, 2) := dk_16 24 (dk_at dksX6_init_8 21 rfl rfl)
theorem dX6_init_209 : decode cX6_init 209 = .ok (.newarray .int, 2) := dk_188_10 (dk_at dksX6_init_9 0 rfl rfl)
theorem dX6_init_211 : decode cX6_init 211 = .ok (.putfield 104, 3) := dk_181 0 104 (dk_at dksX6_init_9 2 rfl rfl)
theorem dX6_init_214 : decode cX6_init 214 = .ok (.aload_n 0, 1) := dk_42 (dk_at dksX6_init_9 5 rfl rfl)
theorem dX6_init_215 : decode cX6_init 215 = .ok (.bipush 24, 2) := dk_16 24 (dk_at dksX6_init_9 6 rfl rfl)
theorem dX6_init_217 : decode cX6_init 217 = .ok (.newarray .int, 2) := dk_188_10 (dk_at dksX6_init_9 8 rfl rfl)
theorem dX6_init_219 : decode cX6_init 219 = .ok (.putfield 107, 3) := dk_181 0 107 (dk_at dksX6_init_9 10 rfl rfl)
theorem dX6_init_222 : decode cX6_init 222 = .ok (.aload_n 0, 1) := dk_42 (dk_at dksX6_init_9 13 rfl rfl)
theorem dX6_init_223 : decode cX6_init 223 = .ok (.bipush 24, 2) := dk_16 24 (dk_at dksX6_init_9 14 rfl rfl)
theorem dX6_init_225 : decode cX6_init 225 = .ok (.newarray .int, 2) := dk_188_10 (dk_at dksX6_init_9 16 rfl rfl)
theorem dX6_init_227 : decode cX6_init 227 = .ok (.putfield 110, 3) := dk_181 0 110 (dk_at dksX6_init_9 18 rfl rfl)
theorem dX6_init_230 : decode cX6_init 230 = .ok (.aload_n 0, 1) := dk_42 (dk_at dksX6_init_9 21 rfl rfl)
theorem dX6_init_231 : decode cX6_init 231 = .ok (.iconst 2, 1) := dk_5 (dk_at dksX6_init_9 22 rfl rfl)
theorem dX6_init_232 : decode cX6_init 232 = .ok (.newarray .int, 2) := dk_188_10 (dk_at dksX6_init_10 0 rfl rfl)
theorem dX6_init_234 : decode cX6_init 234 = .ok (.putfield 113, 3) := dk_181 0 113 (dk_at dksX6_init_10 2 rfl rfl)
theorem dX6_init_237 : decode cX6_init 237 = .ok (.aload_n 0, 1) := dk_42 (dk_at dksX6_init_10 5 rfl rfl)
theorem dX6_init_238 : decode cX6_init 238 = .ok (.bipush 80, 2) := dk_16 80 (dk_at dksX6_init_10 6 rfl rfl)
theorem dX6_init_240 : decode cX6_init 240 = .ok (.newarray .int, 2) := dk_188_10 (dk_at dksX6_init_10 8 rfl rfl)
theorem dX6_init_242 : decode cX6_init 242 = .ok (.putfield 116, 3) := dk_181 0 116 (dk_at dksX6_init_10 10 rfl rfl)
theorem dX6_init_245 : decode cX6_init 245 = .ok (.aload_n 0, 1) := dk_42 (dk_at dksX6_init_10 13 rfl rfl)
theorem dX6_init_246 : decode cX6_init 246 = .ok (.bipush 80, 2) := dk_16 80 (dk_at dksX6_init_10 14 rfl rfl)
theorem dX6_init_248 : decode cX6_init 248 = .ok (.newarray .int, 2) := dk_188_10 (dk_at dksX6_init_10 16 rfl rfl)
theorem dX6_init_250 : decode cX6_init 250 = .ok (.putfield 119, 3) := dk_181 0 119 (dk_at dksX6_init_10 18 rfl rfl)
theorem dX6_init_253 : decode cX6_init 253 = .ok (.aload_n 0, 1) := dk_42 (dk_at dksX6_init_10 21 rfl rfl)
theorem dX6_init_254 : decode cX6_init 254 = .ok (.bipush 80, 2) := dk_16 80 (dk_at dksX6_init_10 22 rfl rfl)
theorem dX6_init_256 : decode cX6_init 256 = .ok (.newarray .int, 2) := dk_188_10 (dk_at dksX6_init_11 0 rfl rfl)
theorem dX6_init_258 : decode cX6_init 258 = .ok (.putfield 122, 3) := dk_181 0 122 (dk_at dksX6_init_11 2 rfl rfl)
theorem dX6_init_261 : decode cX6_init 261 = .ok (.aload_n 0, 1) := dk_42 (dk_at dksX6_init_11 5 rfl rfl)
theorem dX6_init_262 : decode cX6_init 262 = .ok (.iconst 2, 1) := dk_5 (dk_at dksX6_init_11 6 rfl rfl)
theorem dX6_init_263 : decode cX6_init 263 = .ok (.newarray .int, 2) := dk_188_10 (dk_at dksX6_init_11 7 rfl rfl)
theorem dX6_init_265 : decode cX6_init 265 = .ok (.putfield 125, 3) := dk_181 0 125 (dk_at dksX6_init_11 9 rfl rfl)
theorem dX6_init_268 : decode cX6_init 268 = .ok (.aload_n 0, 1) := dk_42 (dk_at dksX6_init_11 12 rfl rfl)
theorem dX6_init_269 : decode cX6_init 269 = .ok (.sipush 3600, 3) := dk_17 14 16 (dk_at dksX6_init_11 13 rfl rfl)
theorem dX6_init_272 : decode cX6_init 272 = .ok (.newarray .int, 2) := dk_188_10 (dk_at dksX6_init_11 16 rfl rfl)
theorem dX6_init_274 : decode cX6_init 274 = .ok (.putfield 128, 3) := dk_181 0 128 (dk_at dksX6_init_11 18 rfl rfl)
theorem dX6_init_277 : decode cX6_init 277 = .ok (.aload_n 0, 1) := dk_42 (dk_at dksX6_init_11 21 rfl rfl)
theorem dX6_init_278 : decode cX6_init 278 = .ok (.sipush 3600, 3) := dk_17 14 16 (dk_at dksX6_init_12 0 rfl rfl)
theorem dX6_init_281 : decode cX6_init 281 = .ok (.newarray .int, 2) := dk_188_10 (dk_at dksX6_init_12 3 rfl rfl)
theorem dX6_init_283 : decode cX6_init 283 = .ok (.putfield 131, 3) := dk_181 0 131 (dk_at dksX6_init_12 5 rfl rfl)
theorem dX6_init_286 : decode cX6_init 286 = .ok (.aload_n 0, 1) := dk_42 (dk_at dksX6_init_12 8 rfl rfl)
theorem dX6_init_287 : decode cX6_init 287 = .ok (.iconst 0, 1) := dk_3 (dk_at dksX6_init_12 9 rfl rfl)
theorem dX6_init_288 : decode cX6_init 288 = .ok (.putfield 134, 3) := dk_181 0 134 (dk_at dksX6_init_12 10 rfl rfl)
theorem dX6_init_291 : decode cX6_init 291 = .ok (.aload_n 0, 1) := dk_42 (dk_at dksX6_init_12 13 rfl rfl)
theorem dX6_init_292 : decode cX6_init 292 = .ok (.iconst 1, 1) := dk_4 (dk_at dksX6_init_12 14 rfl rfl)
theorem dX6_init_293 : decode cX6_init 293 = .ok (.putfield 137, 3) := dk_181 0 137 (dk_at dksX6_init_12 15 rfl rfl)
theorem dX6_init_296 : decode cX6_init 296 = .ok (.aload_n 0, 1) := dk_42 (dk_at dksX6_init_12 18 rfl rfl)
theorem dX6_init_297 : decode cX6_init 297 = .ok (.bipush 20, 2) := dk_16 20 (dk_at dksX6_init_12 19 rfl rfl)
theorem dX6_init_299 : decode cX6_init 299 = .ok (.newarray .int, 2) := dk_188_10 (dk_at dksX6_init_12 21 rfl rfl)
theorem dX6_init_301 : decode cX6_init 301 = .ok (.putfield 140, 3) := dk_181 0 140 (dk_at dksX6_init_13 0 rfl rfl)
theorem dX6_init_304 : decode cX6_init 304 = .ok (.aload_n 0, 1) := dk_42 (dk_at dksX6_init_13 3 rfl rfl)
theorem dX6_init_305 : decode cX6_init 305 = .ok (.bipush 20, 2) := dk_16 20 (dk_at dksX6_init_13 4 rfl rfl)
theorem dX6_init_307 : decode cX6_init 307 = .ok (.newarray .int, 2) := dk_188_10 (dk_at dksX6_init_13 6 rfl rfl)
theorem dX6_init_309 : decode cX6_init 309 = .ok (.putfield 143, 3) := dk_181 0 143 (dk_at dksX6_init_13 8 rfl rfl)
theorem dX6_init_312 : decode cX6_init 312 = .ok (.aload_n 0, 1) := dk_42 (dk_at dksX6_init_13 11 rfl rfl)
theorem dX6_init_313 : decode cX6_init 313 = .ok (.bipush 20, 2) := dk_16 20 (dk_at dksX6_init_13 12 rfl rfl)
theorem dX6_init_315 : decode cX6_init 315 = .ok (.newarray .boolean, 2) := dk_188_4 (dk_at dksX6_init_13 14 rfl rfl)
theorem dX6_init_317 : decode cX6_init 317 = .ok (.putfield 146, 3) := dk_181 0 146 (dk_at dksX6_init_13 16 rfl rfl)
theorem dX6_init_320 : decode cX6_init 320 = .ok (.aload_n 0, 1) := dk_42 (dk_at dksX6_init_13 19 rfl rfl)
theorem dX6_init_321 : decode cX6_init 321 = .ok (.bipush 20, 2) := dk_16 20 (dk_at dksX6_init_13 20 rfl rfl)
theorem dX6_init_323 : decode cX6_init 323 = .ok (.newarray .int, 2) := dk_188_10 (dk_at dksX6_init_13 22 rfl rfl)
theorem dX6_init_325 : decode cX6_init 325 = .ok (.putfield 149, 3) := dk_181 0 149 (dk_at dksX6_init_14 0 rfl rfl)
theorem dX6_init_328 : decode cX6_init 328 = .ok (.aload_n 0, 1) := dk_42 (dk_at dksX6_init_14 3 rfl rfl)
theorem dX6_init_329 : decode cX6_init 329 = .ok (.bipush 20, 2) := dk_16 20 (dk_at dksX6_init_14 4 rfl rfl)
theorem dX6_init_331 : decode cX6_init 331 = .ok (.newarray .int, 2) := dk_188_10 (dk_at dksX6_init_14 6 rfl rfl)
theorem dX6_init_333 : decode cX6_init 333 = .ok (.putfield 152, 3) := dk_181 0 152 (dk_at dksX6_init_14 8 rfl rfl)
theorem dX6_init_336 : decode cX6_init 336 = .ok (.aload_n 0, 1) := dk_42 (dk_at dksX6_init_14 11 rfl rfl)
theorem dX6_init_337 : decode cX6_init 337 = .ok (.iconst 0, 1) := dk_3 (dk_at dksX6_init_14 12 rfl rfl)
theorem dX6_init_338 : decode cX6_init 338 = .ok (.putfield 155, 3) := dk_181 0 155 (dk_at dksX6_init_14 13 rfl rfl)
theorem dX6_init_341 : decode cX6_init 341 = .ok (.aload_n 0, 1) := dk_42 (dk_at dksX6_init_14 16 rfl rfl)
theorem dX6_init_342 : decode cX6_init 342 = .ok (.iconst 0, 1) := dk_3 (dk_at dksX6_init_14 17 rfl rfl)
theorem dX6_init_343 : decode cX6_init 343 = .ok (.putfield 158, 3) := dk_181 0 158 (dk_at dksX6_init_14 18 rfl rfl)
theorem dX6_init_346 : decode cX6_init 346 = .ok (.aload_n 0, 1) := dk_42 (dk_at dksX6_init_14 21 rfl rfl)
theorem dX6_init_347 : decode cX6_init 347 = .ok (.sipush 500, 3) := dk_17 1 244 (dk_at dksX6_init_15 0 rfl rfl)
theorem dX6_init_350 : decode cX6_init 350 = .ok (.newarray .int, 2) := dk_188_10 (dk_at dksX6_init_15 3 rfl rfl)
theorem dX6_init_352 : decode cX6_init 352 = .ok (.putfield 161, 3) := dk_181 0 161 (dk_at dksX6_init_15 5 rfl rfl)
theorem dX6_init_355 : decode cX6_init 355 = .ok (.aload_n 0, 1) := dk_42 (dk_at dksX6_init_15 8 rfl rfl)
theorem dX6_init_356 : decode cX6_init 356 = .ok (.iconst 0, 1) := dk_3 (dk_at dksX6_init_15 9 rfl rfl)
theorem dX6_init_357 : decode cX6_init 357 = .ok (.putfield 164, 3) := dk_181 0 164 (dk_at dksX6_init_15 10 rfl rfl)
theorem dX6_init_360 : decode cX6_init 360 = .ok (.aload_n 0, 1) := dk_42 (dk_at dksX6_init_15 13 rfl rfl)
theorem dX6_init_361 : decode cX6_init 361 = .ok (.iconst 0, 1) := dk_3 (dk_at dksX6_init_15 14 rfl rfl)
theorem dX6_init_362 : decode cX6_init 362 = .ok (.putfield 167, 3) := dk_181 0 167 (dk_at dksX6_init_15 15 rfl rfl)
theorem dX6_init_365 : decode cX6_init 365 = .ok (.aload_n 0, 1) := dk_42 (dk_at dksX6_init_15 18 rfl rfl)
theorem dX6_init_366 : decode cX6_init 366 = .ok (.iconst 5, 1) := dk_8 (dk_at dksX6_init_15 19 rfl rfl)
theorem dX6_init_367 : decode cX6_init 367 = .ok (.newarray .int, 2) := dk_188_10 (dk_at dksX6_init_15 20 rfl rfl)
theorem dX6_init_369 : decode cX6_init 369 = .ok (.putfield 171, 3) := dk_181 0 171 (dk_at dksX6_init_16 0 rfl rfl)
theorem dX6_init_372 : decode cX6_init 372 = .ok (.aload_n 0, 1) := dk_42 (dk_at dksX6_init_16 3 rfl rfl)
theorem dX6_init_373 : decode cX6_init 373 = .ok (.sipush 1850, 3) := dk_17 7 58 (dk_at dksX6_init_16 4 rfl rfl)
theorem dX6_init_376 : decode cX6_init 376 = .ok (.newarray .long, 2) := dk_188_11 (dk_at dksX6_init_16 7 rfl rfl)
theorem dX6_init_378 : decode cX6_init 378 = .ok (.putfield 174, 3) := dk_181 0 174 (dk_at dksX6_init_16 9 rfl rfl)
theorem dX6_init_381 : decode cX6_init 381 = .ok (.aload_n 0, 1) := dk_42 (dk_at dksX6_init_16 12 rfl rfl)
theorem dX6_init_382 : decode cX6_init 382 = .ok (.bipush 10, 2) := dk_16 10 (dk_at dksX6_init_16 13 rfl rfl)
theorem dX6_init_384 : decode cX6_init 384 = .ok (.newarray .int, 2) := dk_188_10 (dk_at dksX6_init_16 15 rfl rfl)
theorem dX6_init_386 : decode cX6_init 386 = .ok (.putfield 177, 3) := dk_181 0 177 (dk_at dksX6_init_16 17 rfl rfl)
theorem dX6_init_389 : decode cX6_init 389 = .ok (.aload_n 0, 1) := dk_42 (dk_at dksX6_init_16 20 rfl rfl)
theorem dX6_init_390 : decode cX6_init 390 = .ok (.sipush 256, 3) := dk_17 1 0 (dk_at dksX6_init_16 21 rfl rfl)
theorem dX6_init_393 : decode cX6_init 393 = .ok (.newarray .int, 2) := dk_188_10 (dk_at dksX6_init_17 0 rfl rfl)
theorem dX6_init_395 : decode cX6_init 395 = .ok (.putfield 180, 3) := dk_181 0 180 (dk_at dksX6_init_17 2 rfl rfl)
theorem dX6_init_398 : decode cX6_init 398 = .ok (.aload_n 0, 1) := dk_42 (dk_at dksX6_init_17 5 rfl rfl)
theorem dX6_init_399 : decode cX6_init 399 = .ok (.sipush 256, 3) := dk_17 1 0 (dk_at dksX6_init_17 6 rfl rfl)
theorem dX6_init_402 : decode cX6_init 402 = .ok (.newarray .int, 2) := dk_188_10 (dk_at dksX6_init_17 9 rfl rfl)
theorem dX6_init_404 : decode cX6_init 404 = .ok (.putfield 183, 3) := dk_181 0 183 (dk_at dksX6_init_17 11 rfl rfl)
theorem dX6_init_407 : decode cX6_init 407 = .ok (.aload_n 0, 1) := dk_42 (dk_at dksX6_init_17 14 rfl rfl)
theorem dX6_init_408 : decode cX6_init 408 = .ok (.sipush 256, 3) := dk_17 1 0 (dk_at dksX6_init_17 15 rfl rfl)
theorem dX6_init_411 : decode cX6_init 411 = .ok (.newarray .int, 2) := dk_188_10 (dk_at dksX6_init_17 18 rfl rfl)
theorem dX6_init_413 : decode cX6_init 413 = .ok (.putfield 186, 3) := dk_181 0 186 (dk_at dksX6_init_17 20 rfl rfl)
theorem dX6_init_416 : decode cX6_init 416 = .ok (.aload_n 0, 1) := dk_42 (dk_at dksX6_init_17 23 rfl rfl)
theorem dX6_init_417 : decode cX6_init 417 = .ok (.sipush 256, 3) := dk_17 1 0 (dk_at dksX6_init_18 0 rfl rfl)
theorem dX6_init_420 : decode cX6_init 420 = .ok (.newarray .int, 2) := dk_188_10 (dk_at dksX6_init_18 3 rfl rfl)
theorem dX6_init_422 : decode cX6_init 422 = .ok (.putfield 189, 3) := dk_181 0 189 (dk_at dksX6_init_18 5 rfl rfl)
theorem dX6_init_425 : decode cX6_init 425 = .ok (.aload_n 0, 1) := dk_42 (dk_at dksX6_init_18 8 rfl rfl)
theorem dX6_init_426 : decode cX6_init 426 = .ok (.iconst 0, 1) := dk_3 (dk_at dksX6_init_18 9 rfl rfl)
theorem dX6_init_427 : decode cX6_init 427 = .ok (.putfield 192, 3) := dk_181 0 192 (dk_at dksX6_init_18 10 rfl rfl)
theorem dX6_init_430 : decode cX6_init 430 = .ok (.aload_n 0, 1) := dk_42 (dk_at dksX6_init_18 13 rfl rfl)
theorem dX6_init_431 : decode cX6_init 431 = .ok (.iconst 0, 1) := dk_3 (dk_at dksX6_init_18 14 rfl rfl)
theorem dX6_init_432 : decode cX6_init 432 = .ok (.putfield 195, 3) := dk_181 0 195 (dk_at dksX6_init_18 15 rfl rfl)
theorem dX6_init_435 : decode cX6_init 435 = .ok (.aload_n 0, 1) := dk_42 (dk_at dksX6_init_18 18 rfl rfl)
theorem dX6_init_436 : decode cX6_init 436 = .ok (.bipush 120, 2) := dk_16 120 (dk_at dksX6_init_18 19 rfl rfl)
theorem dX6_init_438 : decode cX6_init 438 = .ok (.newarray .int, 2) := dk_188_10 (dk_at dksX6_init_18 21 rfl rfl)
theorem dX6_init_440 : decode cX6_init 440 = .ok (.putfield 198, 3) := dk_181 0 198 (dk_at dksX6_init_19 0 rfl rfl)
theorem dX6_init_443 : decode cX6_init 443 = .ok (.aload_n 0, 1) := dk_42 (dk_at dksX6_init_19 3 rfl rfl)
theorem dX6_init_444 : decode cX6_init 444 = .ok (.bipush 120, 2) := dk_16 120 (dk_at dksX6_init_19 4 rfl rfl)
theorem dX6_init_446 : decode cX6_init 446 = .ok (.newarray .int, 2) := dk_188_10 (dk_at dksX6_init_19 6 rfl rfl)
theorem dX6_init_448 : decode cX6_init 448 = .ok (.putfield 201, 3) := dk_181 0 201 (dk_at dksX6_init_19 8 rfl rfl)
theorem dX6_init_451 : decode cX6_init 451 = .ok (.aload_n 0, 1) := dk_42 (dk_at dksX6_init_19 11 rfl rfl)
theorem dX6_init_452 : decode cX6_init 452 = .ok (.bipush 120, 2) := dk_16 120 (dk_at dksX6_init_19 12 rfl rfl)
theorem dX6_init_454 : decode cX6_init 454 = .ok (.newarray .int, 2) := dk_188_10 (dk_at dksX6_init_19 14 rfl rfl)
theorem dX6_init_456 : decode cX6_init 456 = .ok (.putfield 204, 3) := dk_181 0 204 (dk_at dksX6_init_19 16 rfl rfl)
theorem dX6_init_459 : decode cX6_init 459 = .ok (.aload_n 0, 1) := dk_42 (dk_at dksX6_init_19 19 rfl rfl)
theorem dX6_init_460 : decode cX6_init 460 = .ok (.iconst 0, 1) := dk_3 (dk_at dksX6_init_19 20 rfl rfl)
theorem dX6_init_461 : decode cX6_init 461 = .ok (.putfield 207, 3) := dk_181 0 207 (dk_at dksX6_init_19 21 rfl rfl)
theorem dX6_init_464 : decode cX6_init 464 = .ok (.aload_n 0, 1) := dk_42 (dk_at dksX6_init_20 0 rfl rfl)
theorem dX6_init_465 : decode cX6_init 465 = .ok (.iconst 0, 1) := dk_3 (dk_at dksX6_init_20 1 rfl rfl)
theorem dX6_init_466 : decode cX6_init 466 = .ok (.putfield 210, 3) := dk_181 0 210 (dk_at dksX6_init_20 2 rfl rfl)
theorem dX6_init_469 : decode cX6_init 469 = .ok (.aload_n 0, 1) := dk_42 (dk_at dksX6_init_20 5 rfl rfl)
theorem dX6_init_470 : decode cX6_init 470 = .ok (.iconst 0, 1) := dk_3 (dk_at dksX6_init_20 6 rfl rfl)
theorem dX6_init_471 : decode cX6_init 471 = .ok (.putfield 213, 3) := dk_181 0 213 (dk_at dksX6_init_20 7 rfl rfl)
theorem dX6_init_474 : decode cX6_init 474 = .ok (.aload_n 0, 1) := dk_42 (dk_at dksX6_init_20 10 rfl rfl)
theorem dX6_init_475 : decode cX6_init 475 = .ok (.bipush 48, 2) := dk_16 48 (dk_at dksX6_init_20 11 rfl rfl)
theorem dX6_init_477 : decode cX6_init 477 = .ok (.newarray .int, 2) := dk_188_10 (dk_at dksX6_init_20 13 rfl rfl)
theorem dX6_init_479 : decode cX6_init 479 = .ok (.putfield 216, 3) := dk_181 0 216 (dk_at dksX6_init_20 15 rfl rfl)
theorem dX6_init_482 : decode cX6_init 482 = .ok (.aload_n 0, 1) := dk_42 (dk_at dksX6_init_20 18 rfl rfl)
theorem dX6_init_483 : decode cX6_init 483 = .ok (.bipush 48, 2) := dk_16 48 (dk_at dksX6_init_20 19 rfl rfl)
theorem dX6_init_485 : decode cX6_init 485 = .ok (.newarray .boolean, 2) := dk_188_4 (dk_at dksX6_init_20 21 rfl rfl)
theorem dX6_init_487 : decode cX6_init 487 = .ok (.putfield 219, 3) := dk_181 0 219 (dk_at dksX6_init_21 0 rfl rfl)
theorem dX6_init_490 : decode cX6_init 490 = .ok (.aload_n 0, 1) := dk_42 (dk_at dksX6_init_21 3 rfl rfl)
theorem dX6_init_491 : decode cX6_init 491 = .ok (.bipush 48, 2) := dk_16 48 (dk_at dksX6_init_21 4 rfl rfl)
theorem dX6_init_493 : decode cX6_init 493 = .ok (.newarray .boolean, 2) := dk_188_4 (dk_at dksX6_init_21 6 rfl rfl)
theorem dX6_init_495 : decode cX6_init 495 = .ok (.putfield 222, 3) := dk_181 0 222 (dk_at dksX6_init_21 8 rfl rfl)
theorem dX6_init_498 : decode cX6_init 498 = .ok (.aload_n 0, 1) := dk_42 (dk_at dksX6_init_21 11 rfl rfl)
theorem dX6_init_499 : decode cX6_init 499 = .ok (.sipush 2304, 3) := dk_17 9 0 (dk_at dksX6_init_21 12 rfl rfl)
theorem dX6_init_502 : decode cX6_init 502 = .ok (.newarray .boolean, 2) := dk_188_4 (dk_at dksX6_init_21 15 rfl rfl)
theorem dX6_init_504 : decode cX6_init 504 = .ok (.putfield 225, 3) := dk_181 0 225 (dk_at dksX6_init_21 17 rfl rfl)
theorem dX6_init_507 : decode cX6_init 507 = .ok (.aload_n 0, 1) := dk_42 (dk_at dksX6_init_21 20 rfl rfl)
theorem dX6_init_508 : decode cX6_init 508 = .ok (.bipush 48, 2) := dk_16 48 (dk_at dksX6_init_21 21 rfl rfl)
theorem dX6_init_510 : decode cX6_init 510 = .ok (.newarray .int, 2) := dk_188_10 (dk_at dksX6_init_22 0 rfl rfl)
theorem dX6_init_512 : decode cX6_init 512 = .ok (.putfield 228, 3) := dk_181 0 228 (dk_at dksX6_init_22 2 rfl rfl)
theorem dX6_init_515 : decode cX6_init 515 = .ok (.aload_n 0, 1) := dk_42 (dk_at dksX6_init_22 5 rfl rfl)
theorem dX6_init_516 : decode cX6_init 516 = .ok (.sipush 15360, 3) := dk_17 60 0 (dk_at dksX6_init_22 6 rfl rfl)
theorem dX6_init_519 : decode cX6_init 519 = .ok (.newarray .int, 2) := dk_188_10 (dk_at dksX6_init_22 9 rfl rfl)
theorem dX6_init_521 : decode cX6_init 521 = .ok (.putfield 231, 3) := dk_181 0 231 (dk_at dksX6_init_22 11 rfl rfl)
theorem dX6_init_524 : decode cX6_init 524 = .ok (.aload_n 0, 1) := dk_42 (dk_at dksX6_init_22 14 rfl rfl)
theorem dX6_init_525 : decode cX6_init 525 = .ok (.iconst 0, 1) := dk_3 (dk_at dksX6_init_22 15 rfl rfl)
theorem dX6_init_526 : decode cX6_init 526 = .ok (.putfield 234, 3) := dk_181 0 234 (dk_at dksX6_init_22 16 rfl rfl)
theorem dX6_init_529 : decode cX6_init 529 = .ok (.aload_n 0, 1) := dk_42 (dk_at dksX6_init_22 19 rfl rfl)
theorem dX6_init_530 : decode cX6_init 530 = .ok (.bipush 48, 2) := dk_16 48 (dk_at dksX6_init_22 20 rfl rfl)
theorem dX6_init_532 : decode cX6_init 532 = .ok (.newarray .int, 2) := dk_188_10 (dk_at dksX6_init_22 22 rfl rfl)
theorem dX6_init_534 : decode cX6_init 534 = .ok (.putfield 237, 3) := dk_181 0 237 (dk_at dksX6_init_23 0 rfl rfl)
theorem dX6_init_537 : decode cX6_init 537 = .ok (.aload_n 0, 1) := dk_42 (dk_at dksX6_init_23 3 rfl rfl)
theorem dX6_init_538 : decode cX6_init 538 = .ok (.bipush 48, 2) := dk_16 48 (dk_at dksX6_init_23 4 rfl rfl)
theorem dX6_init_540 : decode cX6_init 540 = .ok (.newarray .int, 2) := dk_188_10 (dk_at dksX6_init_23 6 rfl rfl)
theorem dX6_init_542 : decode cX6_init 542 = .ok (.putfield 240, 3) := dk_181 0 240 (dk_at dksX6_init_23 8 rfl rfl)
theorem dX6_init_545 : decode cX6_init 545 = .ok (.aload_n 0, 1) := dk_42 (dk_at dksX6_init_23 11 rfl rfl)
theorem dX6_init_546 : decode cX6_init 546 = .ok (.sipush 12288, 3) := dk_17 48 0 (dk_at dksX6_init_23 12 rfl rfl)
theorem dX6_init_549 : decode cX6_init 549 = .ok (.newarray .boolean, 2) := dk_188_4 (dk_at dksX6_init_23 15 rfl rfl)
theorem dX6_init_551 : decode cX6_init 551 = .ok (.putfield 243, 3) := dk_181 0 243 (dk_at dksX6_init_23 17 rfl rfl)
theorem dX6_init_554 : decode cX6_init 554 = .ok (.aload_n 0, 1) := dk_42 (dk_at dksX6_init_23 20 rfl rfl)
theorem dX6_init_555 : decode cX6_init 555 = .ok (.bipush 48, 2) := dk_16 48 (dk_at dksX6_init_23 21 rfl rfl)
theorem dX6_init_557 : decode cX6_init 557 = .ok (.newarray .boolean, 2) := dk_188_4 (dk_at dksX6_init_24 0 rfl rfl)
theorem dX6_init_559 : decode cX6_init 559 = .ok (.putfield 246, 3) := dk_181 0 246 (dk_at dksX6_init_24 2 rfl rfl)
theorem dX6_init_562 : decode cX6_init 562 = .ok (.aload_n 0, 1) := dk_42 (dk_at dksX6_init_24 5 rfl rfl)
theorem dX6_init_563 : decode cX6_init 563 = .ok (.bipush 40, 2) := dk_16 40 (dk_at dksX6_init_24 6 rfl rfl)
theorem dX6_init_565 : decode cX6_init 565 = .ok (.newarray .int, 2) := dk_188_10 (dk_at dksX6_init_24 8 rfl rfl)
theorem dX6_init_567 : decode cX6_init 567 = .ok (.putfield 249, 3) := dk_181 0 249 (dk_at dksX6_init_24 10 rfl rfl)
theorem dX6_init_570 : decode cX6_init 570 = .ok (.aload_n 0, 1) := dk_42 (dk_at dksX6_init_24 13 rfl rfl)
theorem dX6_init_571 : decode cX6_init 571 = .ok (.bipush 50, 2) := dk_16 50 (dk_at dksX6_init_24 14 rfl rfl)
theorem dX6_init_573 : decode cX6_init 573 = .ok (.newarray .long, 2) := dk_188_11 (dk_at dksX6_init_24 16 rfl rfl)
theorem dX6_init_575 : decode cX6_init 575 = .ok (.putfield 252, 3) := dk_181 0 252 (dk_at dksX6_init_24 18 rfl rfl)
theorem dX6_init_578 : decode cX6_init 578 = .ok (.aload_n 0, 1) := dk_42 (dk_at dksX6_init_24 21 rfl rfl)
theorem dX6_init_579 : decode cX6_init 579 = .ok (.sipush 12288, 3) := dk_17 48 0 (dk_at dksX6_init_25 0 rfl rfl)
theorem dX6_init_582 : decode cX6_init 582 = .ok (.newarray .int, 2) := dk_188_10 (dk_at dksX6_init_25 3 rfl rfl)
theorem dX6_init_584 : decode cX6_init 584 = .ok (.putfield 255, 3) := dk_181 0 255 (dk_at dksX6_init_25 5 rfl rfl)
theorem dX6_init_587 : decode cX6_init 587 = .ok (.aload_n 0, 1) := dk_42 (dk_at dksX6_init_25 8 rfl rfl)
theorem dX6_init_588 : decode cX6_init 588 = .ok (.sipush 520, 3) := dk_17 2 8 (dk_at dksX6_init_25 9 rfl rfl)
theorem dX6_init_591 : decode cX6_init 591 = .ok (.newarray .int, 2) := dk_188_10 (dk_at dksX6_init_25 12 rfl rfl)
theorem dX6_init_593 : decode cX6_init 593 = .ok (.putfield 258, 3) := dk_181 1 2 (dk_at dksX6_init_25 14 rfl rfl)
theorem dX6_init_596 : decode cX6_init 596 = .ok (.aload_n 0, 1) := dk_42 (dk_at dksX6_init_25 17 rfl rfl)
theorem dX6_init_597 : decode cX6_init 597 = .ok (.iconst 0, 1) := dk_3 (dk_at dksX6_init_25 18 rfl rfl)
theorem dX6_init_598 : decode cX6_init 598 = .ok (.putfield 261, 3) := dk_181 1 5 (dk_at dksX6_init_25 19 rfl rfl)
theorem dX6_init_601 : decode cX6_init 601 = .ok (.aload_n 0, 1) := dk_42 (dk_at dksX6_init_25 22 rfl rfl)
theorem dX6_init_602 : decode cX6_init 602 = .ok (.getfield 125, 3) := dk_180 0 125 (dk_at dksX6_init_26 0 rfl rfl)
theorem dX6_init_605 : decode cX6_init 605 = .ok (.iconst 0, 1) := dk_3 (dk_at dksX6_init_26 3 rfl rfl)
theorem dX6_init_606 : decode cX6_init 606 = .ok (.bipush 10, 2) := dk_16 10 (dk_at dksX6_init_26 4 rfl rfl)
theorem dX6_init_608 : decode cX6_init 608 = .ok (.iastore, 1) := dk_79 (dk_at dksX6_init_26 6 rfl rfl)
theorem dX6_init_609 : decode cX6_init 609 = .ok (.iconst 0, 1) := dk_3 (dk_at dksX6_init_26 7 rfl rfl)
theorem dX6_init_610 : decode cX6_init 610 = .ok (.istore_n 1, 1) := dk_60 (dk_at dksX6_init_26 8 rfl rfl)
theorem dX6_init_611 : decode cX6_init 611 = .ok (.iload_n 1, 1) := dk_27 (dk_at dksX6_init_26 9 rfl rfl)
theorem dX6_init_612 : decode cX6_init 612 = .ok (.sipush 384, 3) := dk_17 1 128 (dk_at dksX6_init_26 10 rfl rfl)
theorem dX6_init_615 : decode cX6_init 615 = .ok (.if_icmp .ge 16, 3) := dk_162 0 16 (dk_at dksX6_init_26 13 rfl rfl)
theorem dX6_init_618 : decode cX6_init 618 = .ok (.aload_n 0, 1) := dk_42 (dk_at dksX6_init_26 16 rfl rfl)
theorem dX6_init_619 : decode cX6_init 619 = .ok (.getfield 91, 3) := dk_180 0 91 (dk_at dksX6_init_26 17 rfl rfl)
theorem dX6_init_622 : decode cX6_init 622 = .ok (.iload_n 1, 1) := dk_27 (dk_at dksX6_init_26 20 rfl rfl)
theorem dX6_init_623 : decode cX6_init 623 = .ok (.iconst (-1), 1) := dk_2 (dk_at dksX6_init_26 21 rfl rfl)
theorem dX6_init_624 : decode cX6_init 624 = .ok (.iastore, 1) := dk_79 (dk_at dksX6_init_26 22 rfl rfl)
theorem dX6_init_625 : decode cX6_init 625 = .ok (.iinc 1 1, 3) := dk_132 1 1 (dk_at dksX6_init_27 0 rfl rfl)
theorem dX6_init_628 : decode cX6_init 628 = .ok (.goto (-17), 3) := dk_167 255 239 (dk_at dksX6_init_27 3 rfl rfl)
theorem dX6_init_631 : decode cX6_init 631 = .ok (.return_, 1) := dk_177 (dk_at dksX6_init_27 6 rfl rfl)
abbrev cX6_feed : ByteArray := prog_29_method_4_code
def yX6_feed : MethodName := ⟨RX6, "feed", "(IIIII)I"⟩
def dkwX6_feed_2 : List UInt8 := [180, 0, 13, 172]
abbrev dktX6_feed_2 : List UInt8 := dkwX6_feed_2 ++ []
def dkwX6_feed_1 : List UInt8 := [42, 28, 182, 1, 12, 42, 29, 182, 1, 12, 42, 21, 4, 182, 1, 12, 42, 21, 5, 182, 1, 12, 42]
abbrev dktX6_feed_1 : List UInt8 := dkwX6_feed_1 ++ dktX6_feed_2
def dkwX6_feed_0 : List UInt8 := [42, 180, 0, 13, 16, 20, 96, 17, 7, 8, 164, 0, 9, 42, 3, 182, 1, 8, 172, 42, 27, 182, 1, 12]
abbrev dktX6_feed_0 : List UInt8 := dkwX6_feed_0 ++ dktX6_feed_1
theorem dksX6_feed_0 : cX6_feed.data.toList.drop 0 = dktX6_feed_0 := by decide +kernel
theorem dksX6_feed_1 : cX6_feed.data.toList.drop 24 = dktX6_feed_1 := dk_seg dksX6_feed_0 24 rfl rfl
theorem dksX6_feed_2 : cX6_feed.data.toList.drop 47 = dktX6_feed_2 := dk_seg dksX6_feed_1 23 rfl rfl
theorem dX6_feed_0 : decode cX6_feed 0 = .ok (.aload_n 0, 1) := dk_42 (dk_at dksX6_feed_0 0 rfl rfl)
theorem dX6_feed_1 : decode cX6_feed 1 = .ok (.getfield 13, 3) := dk_180 0 13 (dk_at dksX6_feed_0 1 rfl rfl)
theorem dX6_feed_4 : decode cX6_feed 4 = .ok (.bipush 20, 2) := dk_16 20 (dk_at dksX6_feed_0 4 rfl rfl)
theorem dX6_feed_6 : decode cX6_feed 6 = .ok (.iadd, 1) := dk_96 (dk_at dksX6_feed_0 6 rfl rfl)
theorem dX6_feed_7 : decode cX6_feed 7 = .ok (.sipush 1800, 3) := dk_17 7 8 (dk_at dksX6_feed_0 7 rfl rfl)
theorem dX6_feed_10 : decode cX6_feed 10 = .ok (.if_icmp .le 9, 3) := dk_164 0 9 (dk_at dksX6_feed_0 10 rfl rfl)
theorem dX6_feed_13 : decode cX6_feed 13 = .ok (.aload_n 0, 1) := dk_42 (dk_at dksX6_feed_0 13 rfl rfl)
theorem dX6_feed_14 : decode cX6_feed 14 = .ok (.iconst 0, 1) := dk_3 (dk_at dksX6_feed_0 14 rfl rfl)
theorem dX6_feed_15 : decode cX6_feed 15 = .ok (.invokevirtual 264, 3) := dk_182 1 8 (dk_at dksX6_feed_0 15 rfl rfl)
theorem dX6_feed_18 : decode cX6_feed 18 = .ok (.ireturn, 1) := dk_172 (dk_at dksX6_feed_0 18 rfl rfl)
theorem dX6_feed_19 : decode cX6_feed 19 = .ok (.aload_n 0, 1) := dk_42 (dk_at dksX6_feed_0 19 rfl rfl)
theorem dX6_feed_20 : decode cX6_feed 20 = .ok (.iload_n 1, 1) := dk_27 (dk_at dksX6_feed_0 20 rfl rfl)
theorem dX6_feed_21 : decode cX6_feed 21 = .ok (.invokevirtual 268, 3) := dk_182 1 12 (dk_at dksX6_feed_0 21 rfl rfl)
theorem dX6_feed_24 : decode cX6_feed 24 = .ok (.aload_n 0, 1) := dk_42 (dk_at dksX6_feed_1 0 rfl rfl)
theorem dX6_feed_25 : decode cX6_feed 25 = .ok (.iload_n 2, 1) := dk_28 (dk_at dksX6_feed_1 1 rfl rfl)
theorem dX6_feed_26 : decode cX6_feed 26 = .ok (.invokevirtual 268, 3) := dk_182 1 12 (dk_at dksX6_feed_1 2 rfl rfl)
theorem dX6_feed_29 : decode cX6_feed 29 = .ok (.aload_n 0, 1) := dk_42 (dk_at dksX6_feed_1 5 rfl rfl)
theorem dX6_feed_30 : decode cX6_feed 30 = .ok (.iload_n 3, 1) := dk_29 (dk_at dksX6_feed_1 6 rfl rfl)
theorem dX6_feed_31 : decode cX6_feed 31 = .ok (.invokevirtual 268, 3) := dk_182 1 12 (dk_at dksX6_feed_1 7 rfl rfl)
theorem dX6_feed_34 : decode cX6_feed 34 = .ok (.aload_n 0, 1) := dk_42 (dk_at dksX6_feed_1 10 rfl rfl)
theorem dX6_feed_35 : decode cX6_feed 35 = .ok (.iload 4, 2) := dk_21 4 (dk_at dksX6_feed_1 11 rfl rfl)
theorem dX6_feed_37 : decode cX6_feed 37 = .ok (.invokevirtual 268, 3) := dk_182 1 12 (dk_at dksX6_feed_1 13 rfl rfl)
theorem dX6_feed_40 : decode cX6_feed 40 = .ok (.aload_n 0, 1) := dk_42 (dk_at dksX6_feed_1 16 rfl rfl)
theorem dX6_feed_41 : decode cX6_feed 41 = .ok (.iload 5, 2) := dk_21 5 (dk_at dksX6_feed_1 17 rfl rfl)
theorem dX6_feed_43 : decode cX6_feed 43 = .ok (.invokevirtual 268, 3) := dk_182 1 12 (dk_at dksX6_feed_1 19 rfl rfl)
theorem dX6_feed_46 : decode cX6_feed 46 = .ok (.aload_n 0, 1) := dk_42 (dk_at dksX6_feed_1 22 rfl rfl)
theorem dX6_feed_47 : decode cX6_feed 47 = .ok (.getfield 13, 3) := dk_180 0 13 (dk_at dksX6_feed_2 0 rfl rfl)
theorem dX6_feed_50 : decode cX6_feed 50 = .ok (.ireturn, 1) := dk_172 (dk_at dksX6_feed_2 3 rfl rfl)
abbrev cX6_refuses : ByteArray := prog_29_method_43_code
def yX6_refuses : MethodName := ⟨RX6, "refuses", "(I)I"⟩
def dkwX6_refuses_0 : List UInt8 := [42, 180, 0, 171, 27, 92, 46, 4, 96, 79, 2, 172]
abbrev dktX6_refuses_0 : List UInt8 := dkwX6_refuses_0 ++ []
theorem dksX6_refuses_0 : cX6_refuses.data.toList.drop 0 = dktX6_refuses_0 := by decide +kernel
theorem dX6_refuses_0 : decode cX6_refuses 0 = .ok (.aload_n 0, 1) := dk_42 (dk_at dksX6_refuses_0 0 rfl rfl)
theorem dX6_refuses_1 : decode cX6_refuses 1 = .ok (.getfield 171, 3) := dk_180 0 171 (dk_at dksX6_refuses_0 1 rfl rfl)
theorem dX6_refuses_4 : decode cX6_refuses 4 = .ok (.iload_n 1, 1) := dk_27 (dk_at dksX6_refuses_0 4 rfl rfl)
theorem dX6_refuses_5 : decode cX6_refuses 5 = .ok (.dup2, 1) := dk_92 (dk_at dksX6_refuses_0 5 rfl rfl)
theorem dX6_refuses_6 : decode cX6_refuses 6 = .ok (.iaload, 1) := dk_46 (dk_at dksX6_refuses_0 6 rfl rfl)
theorem dX6_refuses_7 : decode cX6_refuses 7 = .ok (.iconst 1, 1) := dk_4 (dk_at dksX6_refuses_0 7 rfl rfl)
theorem dX6_refuses_8 : decode cX6_refuses 8 = .ok (.iadd, 1) := dk_96 (dk_at dksX6_refuses_0 8 rfl rfl)
theorem dX6_refuses_9 : decode cX6_refuses 9 = .ok (.iastore, 1) := dk_79 (dk_at dksX6_refuses_0 9 rfl rfl)
theorem dX6_refuses_10 : decode cX6_refuses 10 = .ok (.iconst (-1), 1) := dk_2 (dk_at dksX6_refuses_0 10 rfl rfl)
theorem dX6_refuses_11 : decode cX6_refuses 11 = .ok (.ireturn, 1) := dk_172 (dk_at dksX6_refuses_0 11 rfl rfl)
abbrev cX6_put : ByteArray := prog_29_method_3_code
def yX6_put : MethodName := ⟨RX6, "put", "(I)V"⟩
def dkwX6_put_1 : List UInt8 := [89, 180, 0, 13, 4, 96, 181, 0, 13, 132, 2, 248, 167, 255, 223, 177]
abbrev dktX6_put_1 : List UInt8 := dkwX6_put_1 ++ []
def dkwX6_put_0 : List UInt8 := [16, 24, 61, 28, 155, 0, 35, 42, 180, 0, 7, 42, 180, 0, 13, 27, 28, 122, 17, 0, 255, 126, 79, 42]
abbrev dktX6_put_0 : List UInt8 := dkwX6_put_0 ++ dktX6_put_1
theorem dksX6_put_0 : cX6_put.data.toList.drop 0 = dktX6_put_0 := by decide +kernel
theorem dksX6_put_1 : cX6_put.data.toList.drop 24 = dktX6_put_1 := dk_seg dksX6_put_0 24 rfl rfl
theorem dX6_put_0 : decode cX6_put 0 = .ok (.bipush 24, 2) := dk_16 24 (dk_at dksX6_put_0 0 rfl rfl)
theorem dX6_put_2 : decode cX6_put 2 = .ok (.istore_n 2, 1) := dk_61 (dk_at dksX6_put_0 2 rfl rfl)
theorem dX6_put_3 : decode cX6_put 3 = .ok (.iload_n 2, 1) := dk_28 (dk_at dksX6_put_0 3 rfl rfl)
theorem dX6_put_4 : decode cX6_put 4 = .ok (.ifCond .lt 35, 3) := dk_155 0 35 (dk_at dksX6_put_0 4 rfl rfl)
theorem dX6_put_7 : decode cX6_put 7 = .ok (.aload_n 0, 1) := dk_42 (dk_at dksX6_put_0 7 rfl rfl)
theorem dX6_put_8 : decode cX6_put 8 = .ok (.getfield 7, 3) := dk_180 0 7 (dk_at dksX6_put_0 8 rfl rfl)
theorem dX6_put_11 : decode cX6_put 11 = .ok (.aload_n 0, 1) := dk_42 (dk_at dksX6_put_0 11 rfl rfl)
theorem dX6_put_12 : decode cX6_put 12 = .ok (.getfield 13, 3) := dk_180 0 13 (dk_at dksX6_put_0 12 rfl rfl)
theorem dX6_put_15 : decode cX6_put 15 = .ok (.iload_n 1, 1) := dk_27 (dk_at dksX6_put_0 15 rfl rfl)
theorem dX6_put_16 : decode cX6_put 16 = .ok (.iload_n 2, 1) := dk_28 (dk_at dksX6_put_0 16 rfl rfl)
theorem dX6_put_17 : decode cX6_put 17 = .ok (.ishr, 1) := dk_122 (dk_at dksX6_put_0 17 rfl rfl)
theorem dX6_put_18 : decode cX6_put 18 = .ok (.sipush 255, 3) := dk_17 0 255 (dk_at dksX6_put_0 18 rfl rfl)
theorem dX6_put_21 : decode cX6_put 21 = .ok (.iand, 1) := dk_126 (dk_at dksX6_put_0 21 rfl rfl)
theorem dX6_put_22 : decode cX6_put 22 = .ok (.iastore, 1) := dk_79 (dk_at dksX6_put_0 22 rfl rfl)
theorem dX6_put_23 : decode cX6_put 23 = .ok (.aload_n 0, 1) := dk_42 (dk_at dksX6_put_0 23 rfl rfl)
theorem dX6_put_24 : decode cX6_put 24 = .ok (.dup, 1) := dk_89 (dk_at dksX6_put_1 0 rfl rfl)
theorem dX6_put_25 : decode cX6_put 25 = .ok (.getfield 13, 3) := dk_180 0 13 (dk_at dksX6_put_1 1 rfl rfl)
theorem dX6_put_28 : decode cX6_put 28 = .ok (.iconst 1, 1) := dk_4 (dk_at dksX6_put_1 4 rfl rfl)
theorem dX6_put_29 : decode cX6_put 29 = .ok (.iadd, 1) := dk_96 (dk_at dksX6_put_1 5 rfl rfl)
theorem dX6_put_30 : decode cX6_put 30 = .ok (.putfield 13, 3) := dk_181 0 13 (dk_at dksX6_put_1 6 rfl rfl)
theorem dX6_put_33 : decode cX6_put 33 = .ok (.iinc 2 (-8), 3) := dk_132 2 248 (dk_at dksX6_put_1 9 rfl rfl)
theorem dX6_put_36 : decode cX6_put 36 = .ok (.goto (-33), 3) := dk_167 255 223 (dk_at dksX6_put_1 12 rfl rfl)
theorem dX6_put_39 : decode cX6_put 39 = .ok (.return_, 1) := dk_177 (dk_at dksX6_put_1 15 rfl rfl)
abbrev cX6_end : ByteArray := prog_29_method_5_code
def yX6_end : MethodName := ⟨RX6, "end", "(I)Z"⟩
def dkwX6_end_1 : List UInt8 := [3, 172, 42, 27, 181, 0, 13, 4, 172]
abbrev dktX6_end_1 : List UInt8 := dkwX6_end_1 ++ []
def dkwX6_end_0 : List UInt8 := [27, 155, 0, 11, 27, 42, 180, 0, 13, 164, 0, 17, 42, 3, 182, 1, 8, 155, 0, 7, 4, 167, 0, 4]
abbrev dktX6_end_0 : List UInt8 := dkwX6_end_0 ++ dktX6_end_1
theorem dksX6_end_0 : cX6_end.data.toList.drop 0 = dktX6_end_0 := by decide +kernel
theorem dksX6_end_1 : cX6_end.data.toList.drop 24 = dktX6_end_1 := dk_seg dksX6_end_0 24 rfl rfl
theorem dX6_end_0 : decode cX6_end 0 = .ok (.iload_n 1, 1) := dk_27 (dk_at dksX6_end_0 0 rfl rfl)
theorem dX6_end_1 : decode cX6_end 1 = .ok (.ifCond .lt 11, 3) := dk_155 0 11 (dk_at dksX6_end_0 1 rfl rfl)
theorem dX6_end_4 : decode cX6_end 4 = .ok (.iload_n 1, 1) := dk_27 (dk_at dksX6_end_0 4 rfl rfl)
theorem dX6_end_5 : decode cX6_end 5 = .ok (.aload_n 0, 1) := dk_42 (dk_at dksX6_end_0 5 rfl rfl)
theorem dX6_end_6 : decode cX6_end 6 = .ok (.getfield 13, 3) := dk_180 0 13 (dk_at dksX6_end_0 6 rfl rfl)
theorem dX6_end_9 : decode cX6_end 9 = .ok (.if_icmp .le 17, 3) := dk_164 0 17 (dk_at dksX6_end_0 9 rfl rfl)
theorem dX6_end_12 : decode cX6_end 12 = .ok (.aload_n 0, 1) := dk_42 (dk_at dksX6_end_0 12 rfl rfl)
theorem dX6_end_13 : decode cX6_end 13 = .ok (.iconst 0, 1) := dk_3 (dk_at dksX6_end_0 13 rfl rfl)
theorem dX6_end_14 : decode cX6_end 14 = .ok (.invokevirtual 264, 3) := dk_182 1 8 (dk_at dksX6_end_0 14 rfl rfl)
theorem dX6_end_17 : decode cX6_end 17 = .ok (.ifCond .lt 7, 3) := dk_155 0 7 (dk_at dksX6_end_0 17 rfl rfl)
theorem dX6_end_20 : decode cX6_end 20 = .ok (.iconst 1, 1) := dk_4 (dk_at dksX6_end_0 20 rfl rfl)
theorem dX6_end_21 : decode cX6_end 21 = .ok (.goto 4, 3) := dk_167 0 4 (dk_at dksX6_end_0 21 rfl rfl)
theorem dX6_end_24 : decode cX6_end 24 = .ok (.iconst 0, 1) := dk_3 (dk_at dksX6_end_1 0 rfl rfl)
theorem dX6_end_25 : decode cX6_end 25 = .ok (.ireturn, 1) := dk_172 (dk_at dksX6_end_1 1 rfl rfl)
theorem dX6_end_26 : decode cX6_end 26 = .ok (.aload_n 0, 1) := dk_42 (dk_at dksX6_end_1 2 rfl rfl)
theorem dX6_end_27 : decode cX6_end 27 = .ok (.iload_n 1, 1) := dk_27 (dk_at dksX6_end_1 3 rfl rfl)
theorem dX6_end_28 : decode cX6_end 28 = .ok (.putfield 13, 3) := dk_181 0 13 (dk_at dksX6_end_1 4 rfl rfl)
theorem dX6_end_31 : decode cX6_end 31 = .ok (.iconst 1, 1) := dk_4 (dk_at dksX6_end_1 7 rfl rfl)
theorem dX6_end_32 : decode cX6_end 32 = .ok (.ireturn, 1) := dk_172 (dk_at dksX6_end_1 8 rfl rfl)
abbrev cX6_sea : ByteArray := prog_29_method_41_code
def yX6_sea : MethodName := ⟨RX6, "sea", "()I"⟩
def dkwX6_sea_9 : List UInt8 := [158, 0, 9, 42, 4, 182, 1, 8, 172, 42, 42, 180, 0, 137, 181, 0, 48, 42, 182, 1, 188, 27, 172]
abbrev dktX6_sea_9 : List UInt8 := dkwX6_sea_9 ++ []
def dkwX6_sea_8 : List UInt8 := [167, 255, 235, 42, 42, 180, 0, 36, 181, 0, 42, 42, 42, 180, 0, 39, 181, 0, 45, 42, 180, 0, 36]
abbrev dktX6_sea_8 : List UInt8 := dkwX6_sea_8 ++ dktX6_sea_9
def dkwX6_sea_7 : List UInt8 := [182, 1, 182, 42, 180, 0, 36, 154, 0, 20, 42, 180, 0, 20, 153, 0, 13, 42, 182, 1, 185, 132, 1, 1]
abbrev dktX6_sea_7 : List UInt8 := dkwX6_sea_7 ++ dktX6_sea_8
def dkwX6_sea_6 : List UInt8 := [180, 0, 125, 42, 180, 0, 137, 16, 10, 79, 42, 3, 181, 0, 134, 4, 60, 42, 182, 1, 30, 42]
abbrev dktX6_sea_6 : List UInt8 := dkwX6_sea_6 ++ dktX6_sea_7
def dkwX6_sea_5 : List UInt8 := [3, 79, 42, 180, 0, 98, 42, 180, 0, 137, 3, 79, 42, 180, 0, 113, 42, 180, 0, 137, 3, 79, 42]
abbrev dktX6_sea_5 : List UInt8 := dkwX6_sea_5 ++ dktX6_sea_6
def dkwX6_sea_4 : List UInt8 := [132, 1, 1, 167, 255, 230, 42, 180, 0, 69, 42, 180, 0, 137, 3, 79, 42, 180, 0, 88, 42, 180, 0, 137]
abbrev dktX6_sea_4 : List UInt8 := dkwX6_sea_4 ++ dktX6_sea_5
def dkwX6_sea_3 : List UInt8 := [17, 1, 128, 162, 0, 25, 42, 180, 0, 91, 17, 1, 128, 42, 180, 0, 137, 104, 27, 96, 2, 79]
abbrev dktX6_sea_3 : List UInt8 := dkwX6_sea_3 ++ dktX6_sea_4
def dkwX6_sea_2 : List UInt8 := [180, 0, 57, 6, 42, 180, 0, 137, 104, 27, 96, 3, 79, 132, 1, 1, 167, 255, 234, 3, 60, 27]
abbrev dktX6_sea_2 : List UInt8 := dkwX6_sea_2 ++ dktX6_sea_3
def dkwX6_sea_1 : List UInt8 := [2, 181, 0, 39, 42, 4, 42, 180, 0, 48, 100, 181, 0, 137, 3, 60, 27, 6, 162, 0, 23, 42]
abbrev dktX6_sea_1 : List UInt8 := dkwX6_sea_1 ++ dktX6_sea_2
def dkwX6_sea_0 : List UInt8 := [42, 42, 180, 0, 13, 181, 0, 17, 42, 3, 181, 0, 13, 42, 3, 181, 0, 26, 42, 3, 181, 0, 36, 42]
abbrev dktX6_sea_0 : List UInt8 := dkwX6_sea_0 ++ dktX6_sea_1
theorem dksX6_sea_0 : cX6_sea.data.toList.drop 0 = dktX6_sea_0 := by decide +kernel
theorem dksX6_sea_1 : cX6_sea.data.toList.drop 24 = dktX6_sea_1 := dk_seg dksX6_sea_0 24 rfl rfl
theorem dksX6_sea_2 : cX6_sea.data.toList.drop 46 = dktX6_sea_2 := dk_seg dksX6_sea_1 22 rfl rfl
theorem dksX6_sea_3 : cX6_sea.data.toList.drop 68 = dktX6_sea_3 := dk_seg dksX6_sea_2 22 rfl rfl
theorem dksX6_sea_4 : cX6_sea.data.toList.drop 90 = dktX6_sea_4 := dk_seg dksX6_sea_3 22 rfl rfl
theorem dksX6_sea_5 : cX6_sea.data.toList.drop 114 = dktX6_sea_5 := dk_seg dksX6_sea_4 24 rfl rfl
theorem dksX6_sea_6 : cX6_sea.data.toList.drop 137 = dktX6_sea_6 := dk_seg dksX6_sea_5 23 rfl rfl
theorem dksX6_sea_7 : cX6_sea.data.toList.drop 159 = dktX6_sea_7 := dk_seg dksX6_sea_6 22 rfl rfl
theorem dksX6_sea_8 : cX6_sea.data.toList.drop 183 = dktX6_sea_8 := dk_seg dksX6_sea_7 24 rfl rfl
theorem dksX6_sea_9 : cX6_sea.data.toList.drop 206 = dktX6_sea_9 := dk_seg dksX6_sea_8 23 rfl rfl
theorem dX6_sea_0 : decode cX6_sea 0 = .ok (.aload_n 0, 1) := dk_42 (dk_at dksX6_sea_0 0 rfl rfl)
theorem dX6_sea_1 : decode cX6_sea 1 = .ok (.aload_n 0, 1) := dk_42 (dk_at dksX6_sea_0 1 rfl rfl)
theorem dX6_sea_2 : decode cX6_sea 2 = .ok (.getfield 13, 3) := dk_180 0 13 (dk_at dksX6_sea_0 2 rfl rfl)
theorem dX6_sea_5 : decode cX6_sea 5 = .ok (.putfield 17, 3) := dk_181 0 17 (dk_at dksX6_sea_0 5 rfl rfl)
theorem dX6_sea_8 : decode cX6_sea 8 = .ok (.aload_n 0, 1) := dk_42 (dk_at dksX6_sea_0 8 rfl rfl)
theorem dX6_sea_9 : decode cX6_sea 9 = .ok (.iconst 0, 1) := dk_3 (dk_at dksX6_sea_0 9 rfl rfl)
theorem dX6_sea_10 : decode cX6_sea 10 = .ok (.putfield 13, 3) := dk_181 0 13 (dk_at dksX6_sea_0 10 rfl rfl)
theorem dX6_sea_13 : decode cX6_sea 13 = .ok (.aload_n 0, 1) := dk_42 (dk_at dksX6_sea_0 13 rfl rfl)
theorem dX6_sea_14 : decode cX6_sea 14 = .ok (.iconst 0, 1) := dk_3 (dk_at dksX6_sea_0 14 rfl rfl)
theorem dX6_sea_15 : decode cX6_sea 15 = .ok (.putfield 26, 3) := dk_181 0 26 (dk_at dksX6_sea_0 15 rfl rfl)
theorem dX6_sea_18 : decode cX6_sea 18 = .ok (.aload_n 0, 1) := dk_42 (dk_at dksX6_sea_0 18 rfl rfl)
theorem dX6_sea_19 : decode cX6_sea 19 = .ok (.iconst 0, 1) := dk_3 (dk_at dksX6_sea_0 19 rfl rfl)
theorem dX6_sea_20 : decode cX6_sea 20 = .ok (.putfield 36, 3) := dk_181 0 36 (dk_at dksX6_sea_0 20 rfl rfl)
theorem dX6_sea_23 : decode cX6_sea 23 = .ok (.aload_n 0, 1) := dk_42 (dk_at dksX6_sea_0 23 rfl rfl)
theorem dX6_sea_24 : decode cX6_sea 24 = .ok (.iconst (-1), 1) := dk_2 (dk_at dksX6_sea_1 0 rfl rfl)
theorem dX6_sea_25 : decode cX6_sea 25 = .ok (.putfield 39, 3) := dk_181 0 39 (dk_at dksX6_sea_1 1 rfl rfl)
theorem dX6_sea_28 : decode cX6_sea 28 = .ok (.aload_n 0, 1) := dk_42 (dk_at dksX6_sea_1 4 rfl rfl)
theorem dX6_sea_29 : decode cX6_sea 29 = .ok (.iconst 1, 1) := dk_4 (dk_at dksX6_sea_1 5 rfl rfl)
theorem dX6_sea_30 : decode cX6_sea 30 = .ok (.aload_n 0, 1) := dk_42 (dk_at dksX6_sea_1 6 rfl rfl)
theorem dX6_sea_31 : decode cX6_sea 31 = .ok (.getfield 48, 3) := dk_180 0 48 (dk_at dksX6_sea_1 7 rfl rfl)
theorem dX6_sea_34 : decode cX6_sea 34 = .ok (.isub, 1) := dk_100 (dk_at dksX6_sea_1 10 rfl rfl)
theorem dX6_sea_35 : decode cX6_sea 35 = .ok (.putfield 137, 3) := dk_181 0 137 (dk_at dksX6_sea_1 11 rfl rfl)
theorem dX6_sea_38 : decode cX6_sea 38 = .ok (.iconst 0, 1) := dk_3 (dk_at dksX6_sea_1 14 rfl rfl)
theorem dX6_sea_39 : decode cX6_sea 39 = .ok (.istore_n 1, 1) := dk_60 (dk_at dksX6_sea_1 15 rfl rfl)
theorem dX6_sea_40 : decode cX6_sea 40 = .ok (.iload_n 1, 1) := dk_27 (dk_at dksX6_sea_1 16 rfl rfl)
theorem dX6_sea_41 : decode cX6_sea 41 = .ok (.iconst 3, 1) := dk_6 (dk_at dksX6_sea_1 17 rfl rfl)
theorem dX6_sea_42 : decode cX6_sea 42 = .ok (.if_icmp .ge 23, 3) := dk_162 0 23 (dk_at dksX6_sea_1 18 rfl rfl)
theorem dX6_sea_45 : decode cX6_sea 45 = .ok (.aload_n 0, 1) := dk_42 (dk_at dksX6_sea_1 21 rfl rfl)
theorem dX6_sea_46 : decode cX6_sea 46 = .ok (.getfield 57, 3) := dk_180 0 57 (dk_at dksX6_sea_2 0 rfl rfl)
theorem dX6_sea_49 : decode cX6_sea 49 = .ok (.iconst 3, 1) := dk_6 (dk_at dksX6_sea_2 3 rfl rfl)
theorem dX6_sea_50 : decode cX6_sea 50 = .ok (.aload_n 0, 1) := dk_42 (dk_at dksX6_sea_2 4 rfl rfl)
theorem dX6_sea_51 : decode cX6_sea 51 = .ok (.getfield 137, 3) := dk_180 0 137 (dk_at dksX6_sea_2 5 rfl rfl)
theorem dX6_sea_54 : decode cX6_sea 54 = .ok (.imul, 1) := dk_104 (dk_at dksX6_sea_2 8 rfl rfl)
theorem dX6_sea_55 : decode cX6_sea 55 = .ok (.iload_n 1, 1) := dk_27 (dk_at dksX6_sea_2 9 rfl rfl)
theorem dX6_sea_56 : decode cX6_sea 56 = .ok (.iadd, 1) := dk_96 (dk_at dksX6_sea_2 10 rfl rfl)
theorem dX6_sea_57 : decode cX6_sea 57 = .ok (.iconst 0, 1) := dk_3 (dk_at dksX6_sea_2 11 rfl rfl)
theorem dX6_sea_58 : decode cX6_sea 58 = .ok (.iastore, 1) := dk_79 (dk_at dksX6_sea_2 12 rfl rfl)
theorem dX6_sea_59 : decode cX6_sea 59 = .ok (.iinc 1 1, 3) := dk_132 1 1 (dk_at dksX6_sea_2 13 rfl rfl)
theorem dX6_sea_62 : decode cX6_sea 62 = .ok (.goto (-22), 3) := dk_167 255 234 (dk_at dksX6_sea_2 16 rfl rfl)
theorem dX6_sea_65 : decode cX6_sea 65 = .ok (.iconst 0, 1) := dk_3 (dk_at dksX6_sea_2 19 rfl rfl)
theorem dX6_sea_66 : decode cX6_sea 66 = .ok (.istore_n 1, 1) := dk_60 (dk_at dksX6_sea_2 20 rfl rfl)
theorem dX6_sea_67 : decode cX6_sea 67 = .ok (.iload_n 1, 1) := dk_27 (dk_at dksX6_sea_2 21 rfl rfl)
theorem dX6_sea_68 : decode cX6_sea 68 = .ok (.sipush 384, 3) := dk_17 1 128 (dk_at dksX6_sea_3 0 rfl rfl)
theorem dX6_sea_71 : decode cX6_sea 71 = .ok (.if_icmp .ge 25, 3) := dk_162 0 25 (dk_at dksX6_sea_3 3 rfl rfl)
theorem dX6_sea_74 : decode cX6_sea 74 = .ok (.aload_n 0, 1) := dk_42 (dk_at dksX6_sea_3 6 rfl rfl)
theorem dX6_sea_75 : decode cX6_sea 75 = .ok (.getfield 91, 3) := dk_180 0 91 (dk_at dksX6_sea_3 7 rfl rfl)
theorem dX6_sea_78 : decode cX6_sea 78 = .ok (.sipush 384, 3) := dk_17 1 128 (dk_at dksX6_sea_3 10 rfl rfl)
theorem dX6_sea_81 : decode cX6_sea 81 = .ok (.aload_n 0, 1) := dk_42 (dk_at dksX6_sea_3 13 rfl rfl)
theorem dX6_sea_82 : decode cX6_sea 82 = .ok (.getfield 137, 3) := dk_180 0 137 (dk_at dksX6_sea_3 14 rfl rfl)
theorem dX6_sea_85 : decode cX6_sea 85 = .ok (.imul, 1) := dk_104 (dk_at dksX6_sea_3 17 rfl rfl)
theorem dX6_sea_86 : decode cX6_sea 86 = .ok (.iload_n 1, 1) := dk_27 (dk_at dksX6_sea_3 18 rfl rfl)
theorem dX6_sea_87 : decode cX6_sea 87 = .ok (.iadd, 1) := dk_96 (dk_at dksX6_sea_3 19 rfl rfl)
theorem dX6_sea_88 : decode cX6_sea 88 = .ok (.iconst (-1), 1) := dk_2 (dk_at dksX6_sea_3 20 rfl rfl)
theorem dX6_sea_89 : decode cX6_sea 89 = .ok (.iastore, 1) := dk_79 (dk_at dksX6_sea_3 21 rfl rfl)
theorem dX6_sea_90 : decode cX6_sea 90 = .ok (.iinc 1 1, 3) := dk_132 1 1 (dk_at dksX6_sea_4 0 rfl rfl)
theorem dX6_sea_93 : decode cX6_sea 93 = .ok (.goto (-26), 3) := dk_167 255 230 (dk_at dksX6_sea_4 3 rfl rfl)
theorem dX6_sea_96 : decode cX6_sea 96 = .ok (.aload_n 0, 1) := dk_42 (dk_at dksX6_sea_4 6 rfl rfl)
theorem dX6_sea_97 : decode cX6_sea 97 = .ok (.getfield 69, 3) := dk_180 0 69 (dk_at dksX6_sea_4 7 rfl rfl)
theorem dX6_sea_100 : decode cX6_sea 100 = .ok (.aload_n 0, 1) := dk_42 (dk_at dksX6_sea_4 10 rfl rfl)
theorem dX6_sea_101 : decode cX6_sea 101 = .ok (.getfield 137, 3) := dk_180 0 137 (dk_at dksX6_sea_4 11 rfl rfl)
theorem dX6_sea_104 : decode cX6_sea 104 = .ok (.iconst 0, 1) := dk_3 (dk_at dksX6_sea_4 14 rfl rfl)
theorem dX6_sea_105 : decode cX6_sea 105 = .ok (.iastore, 1) := dk_79 (dk_at dksX6_sea_4 15 rfl rfl)
theorem dX6_sea_106 : decode cX6_sea 106 = .ok (.aload_n 0, 1) := dk_42 (dk_at dksX6_sea_4 16 rfl rfl)
theorem dX6_sea_107 : decode cX6_sea 107 = .ok (.getfield 88, 3) := dk_180 0 88 (dk_at dksX6_sea_4 17 rfl rfl)
theorem dX6_sea_110 : decode cX6_sea 110 = .ok (.aload_n 0, 1) := dk_42 (dk_at dksX6_sea_4 20 rfl rfl)
theorem dX6_sea_111 : decode cX6_sea 111 = .ok (.getfield 137, 3) := dk_180 0 137 (dk_at dksX6_sea_4 21 rfl rfl)
theorem dX6_sea_114 : decode cX6_sea 114 = .ok (.iconst 0, 1) := dk_3 (dk_at dksX6_sea_5 0 rfl rfl)
theorem dX6_sea_115 : decode cX6_sea 115 = .ok (.iastore, 1) := dk_79 (dk_at dksX6_sea_5 1 rfl rfl)
theorem dX6_sea_116 : decode cX6_sea 116 = .ok (.aload_n 0, 1) := dk_42 (dk_at dksX6_sea_5 2 rfl rfl)
theorem dX6_sea_117 : decode cX6_sea 117 = .ok (.getfield 98, 3) := dk_180 0 98 (dk_at dksX6_sea_5 3 rfl rfl)
theorem dX6_sea_120 : decode cX6_sea 120 = .ok (.aload_n 0, 1) := dk_42 (dk_at dksX6_sea_5 6 rfl rfl)
theorem dX6_sea_121 : decode cX6_sea 121 = .ok (.getfield 137, 3) := dk_180 0 137 (dk_at dksX6_sea_5 7 rfl rfl)
theorem dX6_sea_124 : decode cX6_sea 124 = .ok (.iconst 0, 1) := dk_3 (dk_at dksX6_sea_5 10 rfl rfl)
theorem dX6_sea_125 : decode cX6_sea 125 = .ok (.iastore, 1) := dk_79 (dk_at dksX6_sea_5 11 rfl rfl)
theorem dX6_sea_126 : decode cX6_sea 126 = .ok (.aload_n 0, 1) := dk_42 (dk_at dksX6_sea_5 12 rfl rfl)
theorem dX6_sea_127 : decode cX6_sea 127 = .ok (.getfield 113, 3) := dk_180 0 113 (dk_at dksX6_sea_5 13 rfl rfl)
theorem dX6_sea_130 : decode cX6_sea 130 = .ok (.aload_n 0, 1) := dk_42 (dk_at dksX6_sea_5 16 rfl rfl)
theorem dX6_sea_131 : decode cX6_sea 131 = .ok (.getfield 137, 3) := dk_180 0 137 (dk_at dksX6_sea_5 17 rfl rfl)
theorem dX6_sea_134 : decode cX6_sea 134 = .ok (.iconst 0, 1) := dk_3 (dk_at dksX6_sea_5 20 rfl rfl)
theorem dX6_sea_135 : decode cX6_sea 135 = .ok (.iastore, 1) := dk_79 (dk_at dksX6_sea_5 21 rfl rfl)
theorem dX6_sea_136 : decode cX6_sea 136 = .ok (.aload_n 0, 1) := dk_42 (dk_at dksX6_sea_5 22 rfl rfl)
theorem dX6_sea_137 : decode cX6_sea 137 = .ok (.getfield 125, 3) := dk_180 0 125 (dk_at dksX6_sea_6 0 rfl rfl)
theorem dX6_sea_140 : decode cX6_sea 140 = .ok (.aload_n 0, 1) := dk_42 (dk_at dksX6_sea_6 3 rfl rfl)
theorem dX6_sea_141 : decode cX6_sea 141 = .ok (.getfield 137, 3) := dk_180 0 137 (dk_at dksX6_sea_6 4 rfl rfl)
theorem dX6_sea_144 : decode cX6_sea 144 = .ok (.bipush 10, 2) := dk_16 10 (dk_at dksX6_sea_6 7 rfl rfl)
theorem dX6_sea_146 : decode cX6_sea 146 = .ok (.iastore, 1) := dk_79 (dk_at dksX6_sea_6 9 rfl rfl)
theorem dX6_sea_147 : decode cX6_sea 147 = .ok (.aload_n 0, 1) := dk_42 (dk_at dksX6_sea_6 10 rfl rfl)
theorem dX6_sea_148 : decode cX6_sea 148 = .ok (.iconst 0, 1) := dk_3 (dk_at dksX6_sea_6 11 rfl rfl)
theorem dX6_sea_149 : decode cX6_sea 149 = .ok (.putfield 134, 3) := dk_181 0 134 (dk_at dksX6_sea_6 12 rfl rfl)
theorem dX6_sea_152 : decode cX6_sea 152 = .ok (.iconst 1, 1) := dk_4 (dk_at dksX6_sea_6 15 rfl rfl)
theorem dX6_sea_153 : decode cX6_sea 153 = .ok (.istore_n 1, 1) := dk_60 (dk_at dksX6_sea_6 16 rfl rfl)
theorem dX6_sea_154 : decode cX6_sea 154 = .ok (.aload_n 0, 1) := dk_42 (dk_at dksX6_sea_6 17 rfl rfl)
theorem dX6_sea_155 : decode cX6_sea 155 = .ok (.invokevirtual 286, 3) := dk_182 1 30 (dk_at dksX6_sea_6 18 rfl rfl)
theorem dX6_sea_158 : decode cX6_sea 158 = .ok (.aload_n 0, 1) := dk_42 (dk_at dksX6_sea_6 21 rfl rfl)
theorem dX6_sea_159 : decode cX6_sea 159 = .ok (.invokevirtual 438, 3) := dk_182 1 182 (dk_at dksX6_sea_7 0 rfl rfl)
theorem dX6_sea_162 : decode cX6_sea 162 = .ok (.aload_n 0, 1) := dk_42 (dk_at dksX6_sea_7 3 rfl rfl)
theorem dX6_sea_163 : decode cX6_sea 163 = .ok (.getfield 36, 3) := dk_180 0 36 (dk_at dksX6_sea_7 4 rfl rfl)
theorem dX6_sea_166 : decode cX6_sea 166 = .ok (.ifCond .ne 20, 3) := dk_154 0 20 (dk_at dksX6_sea_7 7 rfl rfl)
theorem dX6_sea_169 : decode cX6_sea 169 = .ok (.aload_n 0, 1) := dk_42 (dk_at dksX6_sea_7 10 rfl rfl)
theorem dX6_sea_170 : decode cX6_sea 170 = .ok (.getfield 20, 3) := dk_180 0 20 (dk_at dksX6_sea_7 11 rfl rfl)
theorem dX6_sea_173 : decode cX6_sea 173 = .ok (.ifCond .eq 13, 3) := dk_153 0 13 (dk_at dksX6_sea_7 14 rfl rfl)
theorem dX6_sea_176 : decode cX6_sea 176 = .ok (.aload_n 0, 1) := dk_42 (dk_at dksX6_sea_7 17 rfl rfl)
theorem dX6_sea_177 : decode cX6_sea 177 = .ok (.invokevirtual 441, 3) := dk_182 1 185 (dk_at dksX6_sea_7 18 rfl rfl)
theorem dX6_sea_180 : decode cX6_sea 180 = .ok (.iinc 1 1, 3) := dk_132 1 1 (dk_at dksX6_sea_7 21 rfl rfl)
theorem dX6_sea_183 : decode cX6_sea 183 = .ok (.goto (-21), 3) := dk_167 255 235 (dk_at dksX6_sea_8 0 rfl rfl)
theorem dX6_sea_186 : decode cX6_sea 186 = .ok (.aload_n 0, 1) := dk_42 (dk_at dksX6_sea_8 3 rfl rfl)
theorem dX6_sea_187 : decode cX6_sea 187 = .ok (.aload_n 0, 1) := dk_42 (dk_at dksX6_sea_8 4 rfl rfl)
theorem dX6_sea_188 : decode cX6_sea 188 = .ok (.getfield 36, 3) := dk_180 0 36 (dk_at dksX6_sea_8 5 rfl rfl)
theorem dX6_sea_191 : decode cX6_sea 191 = .ok (.putfield 42, 3) := dk_181 0 42 (dk_at dksX6_sea_8 8 rfl rfl)
theorem dX6_sea_194 : decode cX6_sea 194 = .ok (.aload_n 0, 1) := dk_42 (dk_at dksX6_sea_8 11 rfl rfl)
theorem dX6_sea_195 : decode cX6_sea 195 = .ok (.aload_n 0, 1) := dk_42 (dk_at dksX6_sea_8 12 rfl rfl)
theorem dX6_sea_196 : decode cX6_sea 196 = .ok (.getfield 39, 3) := dk_180 0 39 (dk_at dksX6_sea_8 13 rfl rfl)
theorem dX6_sea_199 : decode cX6_sea 199 = .ok (.putfield 45, 3) := dk_181 0 45 (dk_at dksX6_sea_8 16 rfl rfl)
theorem dX6_sea_202 : decode cX6_sea 202 = .ok (.aload_n 0, 1) := dk_42 (dk_at dksX6_sea_8 19 rfl rfl)
theorem dX6_sea_203 : decode cX6_sea 203 = .ok (.getfield 36, 3) := dk_180 0 36 (dk_at dksX6_sea_8 20 rfl rfl)
theorem dX6_sea_206 : decode cX6_sea 206 = .ok (.ifCond .le 9, 3) := dk_158 0 9 (dk_at dksX6_sea_9 0 rfl rfl)
theorem dX6_sea_209 : decode cX6_sea 209 = .ok (.aload_n 0, 1) := dk_42 (dk_at dksX6_sea_9 3 rfl rfl)
theorem dX6_sea_210 : decode cX6_sea 210 = .ok (.iconst 1, 1) := dk_4 (dk_at dksX6_sea_9 4 rfl rfl)
theorem dX6_sea_211 : decode cX6_sea 211 = .ok (.invokevirtual 264, 3) := dk_182 1 8 (dk_at dksX6_sea_9 5 rfl rfl)
theorem dX6_sea_214 : decode cX6_sea 214 = .ok (.ireturn, 1) := dk_172 (dk_at dksX6_sea_9 8 rfl rfl)
theorem dX6_sea_215 : decode cX6_sea 215 = .ok (.aload_n 0, 1) := dk_42 (dk_at dksX6_sea_9 9 rfl rfl)
theorem dX6_sea_216 : decode cX6_sea 216 = .ok (.aload_n 0, 1) := dk_42 (dk_at dksX6_sea_9 10 rfl rfl)
theorem dX6_sea_217 : decode cX6_sea 217 = .ok (.getfield 137, 3) := dk_180 0 137 (dk_at dksX6_sea_9 11 rfl rfl)
theorem dX6_sea_220 : decode cX6_sea 220 = .ok (.putfield 48, 3) := dk_181 0 48 (dk_at dksX6_sea_9 14 rfl rfl)
theorem dX6_sea_223 : decode cX6_sea 223 = .ok (.aload_n 0, 1) := dk_42 (dk_at dksX6_sea_9 17 rfl rfl)
theorem dX6_sea_224 : decode cX6_sea 224 = .ok (.invokevirtual 444, 3) := dk_182 1 188 (dk_at dksX6_sea_9 18 rfl rfl)
theorem dX6_sea_227 : decode cX6_sea 227 = .ok (.iload_n 1, 1) := dk_27 (dk_at dksX6_sea_9 21 rfl rfl)
theorem dX6_sea_228 : decode cX6_sea 228 = .ok (.ireturn, 1) := dk_172 (dk_at dksX6_sea_9 22 rfl rfl)
