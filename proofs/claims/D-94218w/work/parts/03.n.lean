set_option maxRecDepth 100000
/-! ToldTracks -/
def RX0 : String := "ToldTracks"
def TX0 : u_T := fun k => match k with
  | 0 => ("ToldTracks", "tape", "[C", true)
  | 1 => ("ToldTracks", "taped", "I", false)
  | 2 => ("ToldTracks", "refusals", "[I", true)
  | 3 => ("ToldTracks", "sea", "LToldTracks$Sea;", false)
  | 4 => ("ToldTracks", "told", "LToldTracks$Told;", false)
  | 5 => ("ToldTracks", "asking", "LToldTracks$Asking;", true)
  | 6 => ("ToldTracks", "steps", "[[S", false)
  | 7 => ("ToldTracks", "voyages", "Ljava/util/ArrayList;", true)
  | 8 => ("ToldTracks", "fault", "I", false)
  | 9 => ("ToldTracks", "faultPlace", "I", false)
  | _ => ("ToldTracks", "octets", "LToldTracks$Octets;", true)
def tyX0 : Nat → FieldType := fun k => match k with
  | 0 => .array .char
  | 1 => .int
  | 2 => .array .int
  | 3 => .object "ToldTracks$Sea"
  | 4 => .object "ToldTracks$Told"
  | 5 => .object "ToldTracks$Asking"
  | 6 => .array (.array .short)
  | 7 => .object "java/util/ArrayList"
  | 8 => .int
  | 9 => .int
  | _ => .object "ToldTracks$Octets"
abbrev wsX00 : List Cond := u_ws RX0 TX0 11
theorem nmX0 : ∀ a, a < 11 → ∀ b, b < 11 → a ≠ b → (TX0 a).2.1 ≠ (TX0 b).2.1 := by decide +kernel
theorem tyX0_ok : ∀ k, k < 11 → parseFieldDescriptor (TX0 k).2.2.1 = some (tyX0 k) := by decide +kernel
abbrev cX0_init : ByteArray := prog_1_method_1_code
def yX0_init : MethodName := ⟨RX0, "<init>", "()V"⟩
def dkwX0_init_3 : List UInt8 := [181, 0, 45, 42, 2, 181, 0, 49, 42, 187, 0, 53, 89, 183, 0, 55, 181, 0, 56, 177]
abbrev dktX0_init_3 : List UInt8 := dkwX0_init_3 ++ []
def dkwX0_init_2 : List UInt8 := [183, 0, 31, 181, 0, 32, 42, 3, 189, 0, 36, 181, 0, 38, 42, 187, 0, 42, 89, 183, 0, 44]
abbrev dktX0_init_2 : List UInt8 := dkwX0_init_2 ++ dktX0_init_3
def dkwX0_init_1 : List UInt8 := [89, 183, 0, 19, 181, 0, 20, 42, 42, 180, 0, 20, 180, 0, 24, 181, 0, 28, 42, 187, 0, 29, 89]
abbrev dktX0_init_1 : List UInt8 := dkwX0_init_1 ++ dktX0_init_2
def dkwX0_init_0 : List UInt8 := [42, 183, 0, 1, 42, 17, 7, 8, 188, 5, 181, 0, 9, 42, 8, 188, 10, 181, 0, 13, 42, 187, 0, 17]
abbrev dktX0_init_0 : List UInt8 := dkwX0_init_0 ++ dktX0_init_1
theorem dksX0_init_0 : cX0_init.data.toList.drop 0 = dktX0_init_0 := by decide +kernel
theorem dksX0_init_1 : cX0_init.data.toList.drop 24 = dktX0_init_1 := dk_seg dksX0_init_0 24 rfl rfl
theorem dksX0_init_2 : cX0_init.data.toList.drop 47 = dktX0_init_2 := dk_seg dksX0_init_1 23 rfl rfl
theorem dksX0_init_3 : cX0_init.data.toList.drop 69 = dktX0_init_3 := dk_seg dksX0_init_2 22 rfl rfl
theorem dX0_init_0 : decode cX0_init 0 = .ok (.aload_n 0, 1) := dk_42 (dk_at dksX0_init_0 0 rfl rfl)
theorem dX0_init_1 : decode cX0_init 1 = .ok (.invokespecial 1, 3) := dk_183 0 1 (dk_at dksX0_init_0 1 rfl rfl)
theorem dX0_init_4 : decode cX0_init 4 = .ok (.aload_n 0, 1) := dk_42 (dk_at dksX0_init_0 4 rfl rfl)
theorem dX0_init_5 : decode cX0_init 5 = .ok (.sipush 1800, 3) := dk_17 7 8 (dk_at dksX0_init_0 5 rfl rfl)
theorem dX0_init_8 : decode cX0_init 8 = .ok (.newarray .char, 2) := dk_188_5 (dk_at dksX0_init_0 8 rfl rfl)
theorem dX0_init_10 : decode cX0_init 10 = .ok (.putfield 9, 3) := dk_181 0 9 (dk_at dksX0_init_0 10 rfl rfl)
theorem dX0_init_13 : decode cX0_init 13 = .ok (.aload_n 0, 1) := dk_42 (dk_at dksX0_init_0 13 rfl rfl)
theorem dX0_init_14 : decode cX0_init 14 = .ok (.iconst 5, 1) := dk_8 (dk_at dksX0_init_0 14 rfl rfl)
theorem dX0_init_15 : decode cX0_init 15 = .ok (.newarray .int, 2) := dk_188_10 (dk_at dksX0_init_0 15 rfl rfl)
theorem dX0_init_17 : decode cX0_init 17 = .ok (.putfield 13, 3) := dk_181 0 13 (dk_at dksX0_init_0 17 rfl rfl)
theorem dX0_init_20 : decode cX0_init 20 = .ok (.aload_n 0, 1) := dk_42 (dk_at dksX0_init_0 20 rfl rfl)
theorem dX0_init_21 : decode cX0_init 21 = .ok (.new 17, 3) := dk_187 0 17 (dk_at dksX0_init_0 21 rfl rfl)
theorem dX0_init_24 : decode cX0_init 24 = .ok (.dup, 1) := dk_89 (dk_at dksX0_init_1 0 rfl rfl)
theorem dX0_init_25 : decode cX0_init 25 = .ok (.invokespecial 19, 3) := dk_183 0 19 (dk_at dksX0_init_1 1 rfl rfl)
theorem dX0_init_28 : decode cX0_init 28 = .ok (.putfield 20, 3) := dk_181 0 20 (dk_at dksX0_init_1 4 rfl rfl)
theorem dX0_init_31 : decode cX0_init 31 = .ok (.aload_n 0, 1) := dk_42 (dk_at dksX0_init_1 7 rfl rfl)
theorem dX0_init_32 : decode cX0_init 32 = .ok (.aload_n 0, 1) := dk_42 (dk_at dksX0_init_1 8 rfl rfl)
theorem dX0_init_33 : decode cX0_init 33 = .ok (.getfield 20, 3) := dk_180 0 20 (dk_at dksX0_init_1 9 rfl rfl)
theorem dX0_init_36 : decode cX0_init 36 = .ok (.getfield 24, 3) := dk_180 0 24 (dk_at dksX0_init_1 12 rfl rfl)
theorem dX0_init_39 : decode cX0_init 39 = .ok (.putfield 28, 3) := dk_181 0 28 (dk_at dksX0_init_1 15 rfl rfl)
theorem dX0_init_42 : decode cX0_init 42 = .ok (.aload_n 0, 1) := dk_42 (dk_at dksX0_init_1 18 rfl rfl)
theorem dX0_init_43 : decode cX0_init 43 = .ok (.new 29, 3) := dk_187 0 29 (dk_at dksX0_init_1 19 rfl rfl)
theorem dX0_init_46 : decode cX0_init 46 = .ok (.dup, 1) := dk_89 (dk_at dksX0_init_1 22 rfl rfl)
theorem dX0_init_47 : decode cX0_init 47 = .ok (.invokespecial 31, 3) := dk_183 0 31 (dk_at dksX0_init_2 0 rfl rfl)
theorem dX0_init_50 : decode cX0_init 50 = .ok (.putfield 32, 3) := dk_181 0 32 (dk_at dksX0_init_2 3 rfl rfl)
theorem dX0_init_53 : decode cX0_init 53 = .ok (.aload_n 0, 1) := dk_42 (dk_at dksX0_init_2 6 rfl rfl)
theorem dX0_init_54 : decode cX0_init 54 = .ok (.iconst 0, 1) := dk_3 (dk_at dksX0_init_2 7 rfl rfl)
theorem dX0_init_55 : decode cX0_init 55 = .ok (.anewarray 36, 3) := dk_189 0 36 (dk_at dksX0_init_2 8 rfl rfl)
theorem dX0_init_58 : decode cX0_init 58 = .ok (.putfield 38, 3) := dk_181 0 38 (dk_at dksX0_init_2 11 rfl rfl)
theorem dX0_init_61 : decode cX0_init 61 = .ok (.aload_n 0, 1) := dk_42 (dk_at dksX0_init_2 14 rfl rfl)
theorem dX0_init_62 : decode cX0_init 62 = .ok (.new 42, 3) := dk_187 0 42 (dk_at dksX0_init_2 15 rfl rfl)
theorem dX0_init_65 : decode cX0_init 65 = .ok (.dup, 1) := dk_89 (dk_at dksX0_init_2 18 rfl rfl)
theorem dX0_init_66 : decode cX0_init 66 = .ok (.invokespecial 44, 3) := dk_183 0 44 (dk_at dksX0_init_2 19 rfl rfl)
theorem dX0_init_69 : decode cX0_init 69 = .ok (.putfield 45, 3) := dk_181 0 45 (dk_at dksX0_init_3 0 rfl rfl)
theorem dX0_init_72 : decode cX0_init 72 = .ok (.aload_n 0, 1) := dk_42 (dk_at dksX0_init_3 3 rfl rfl)
theorem dX0_init_73 : decode cX0_init 73 = .ok (.iconst (-1), 1) := dk_2 (dk_at dksX0_init_3 4 rfl rfl)
theorem dX0_init_74 : decode cX0_init 74 = .ok (.putfield 49, 3) := dk_181 0 49 (dk_at dksX0_init_3 5 rfl rfl)
theorem dX0_init_77 : decode cX0_init 77 = .ok (.aload_n 0, 1) := dk_42 (dk_at dksX0_init_3 8 rfl rfl)
theorem dX0_init_78 : decode cX0_init 78 = .ok (.new 53, 3) := dk_187 0 53 (dk_at dksX0_init_3 9 rfl rfl)
theorem dX0_init_81 : decode cX0_init 81 = .ok (.dup, 1) := dk_89 (dk_at dksX0_init_3 12 rfl rfl)
theorem dX0_init_82 : decode cX0_init 82 = .ok (.invokespecial 55, 3) := dk_183 0 55 (dk_at dksX0_init_3 13 rfl rfl)
theorem dX0_init_85 : decode cX0_init 85 = .ok (.putfield 56, 3) := dk_181 0 56 (dk_at dksX0_init_3 16 rfl rfl)
theorem dX0_init_88 : decode cX0_init 88 = .ok (.return_, 1) := dk_177 (dk_at dksX0_init_3 19 rfl rfl)
abbrev cX0_feed : ByteArray := prog_1_method_7_code
def yX0_feed : MethodName := ⟨RX0, "feed", "(IIIII)I"⟩
def dkwX0_feed_2 : List UInt8 := [180, 0, 83, 172]
abbrev dktX0_feed_2 : List UInt8 := dkwX0_feed_2 ++ []
def dkwX0_feed_1 : List UInt8 := [42, 28, 182, 0, 86, 42, 29, 182, 0, 86, 42, 21, 4, 182, 0, 86, 42, 21, 5, 182, 0, 86, 42]
abbrev dktX0_feed_1 : List UInt8 := dkwX0_feed_1 ++ dktX0_feed_2
def dkwX0_feed_0 : List UInt8 := [42, 180, 0, 83, 16, 20, 96, 17, 7, 8, 164, 0, 9, 42, 3, 182, 0, 79, 172, 42, 27, 182, 0, 86]
abbrev dktX0_feed_0 : List UInt8 := dkwX0_feed_0 ++ dktX0_feed_1
theorem dksX0_feed_0 : cX0_feed.data.toList.drop 0 = dktX0_feed_0 := by decide +kernel
theorem dksX0_feed_1 : cX0_feed.data.toList.drop 24 = dktX0_feed_1 := dk_seg dksX0_feed_0 24 rfl rfl
theorem dksX0_feed_2 : cX0_feed.data.toList.drop 47 = dktX0_feed_2 := dk_seg dksX0_feed_1 23 rfl rfl
theorem dX0_feed_0 : decode cX0_feed 0 = .ok (.aload_n 0, 1) := dk_42 (dk_at dksX0_feed_0 0 rfl rfl)
theorem dX0_feed_1 : decode cX0_feed 1 = .ok (.getfield 83, 3) := dk_180 0 83 (dk_at dksX0_feed_0 1 rfl rfl)
theorem dX0_feed_4 : decode cX0_feed 4 = .ok (.bipush 20, 2) := dk_16 20 (dk_at dksX0_feed_0 4 rfl rfl)
theorem dX0_feed_6 : decode cX0_feed 6 = .ok (.iadd, 1) := dk_96 (dk_at dksX0_feed_0 6 rfl rfl)
theorem dX0_feed_7 : decode cX0_feed 7 = .ok (.sipush 1800, 3) := dk_17 7 8 (dk_at dksX0_feed_0 7 rfl rfl)
theorem dX0_feed_10 : decode cX0_feed 10 = .ok (.if_icmp .le 9, 3) := dk_164 0 9 (dk_at dksX0_feed_0 10 rfl rfl)
theorem dX0_feed_13 : decode cX0_feed 13 = .ok (.aload_n 0, 1) := dk_42 (dk_at dksX0_feed_0 13 rfl rfl)
theorem dX0_feed_14 : decode cX0_feed 14 = .ok (.iconst 0, 1) := dk_3 (dk_at dksX0_feed_0 14 rfl rfl)
theorem dX0_feed_15 : decode cX0_feed 15 = .ok (.invokevirtual 79, 3) := dk_182 0 79 (dk_at dksX0_feed_0 15 rfl rfl)
theorem dX0_feed_18 : decode cX0_feed 18 = .ok (.ireturn, 1) := dk_172 (dk_at dksX0_feed_0 18 rfl rfl)
theorem dX0_feed_19 : decode cX0_feed 19 = .ok (.aload_n 0, 1) := dk_42 (dk_at dksX0_feed_0 19 rfl rfl)
theorem dX0_feed_20 : decode cX0_feed 20 = .ok (.iload_n 1, 1) := dk_27 (dk_at dksX0_feed_0 20 rfl rfl)
theorem dX0_feed_21 : decode cX0_feed 21 = .ok (.invokevirtual 86, 3) := dk_182 0 86 (dk_at dksX0_feed_0 21 rfl rfl)
theorem dX0_feed_24 : decode cX0_feed 24 = .ok (.aload_n 0, 1) := dk_42 (dk_at dksX0_feed_1 0 rfl rfl)
theorem dX0_feed_25 : decode cX0_feed 25 = .ok (.iload_n 2, 1) := dk_28 (dk_at dksX0_feed_1 1 rfl rfl)
theorem dX0_feed_26 : decode cX0_feed 26 = .ok (.invokevirtual 86, 3) := dk_182 0 86 (dk_at dksX0_feed_1 2 rfl rfl)
theorem dX0_feed_29 : decode cX0_feed 29 = .ok (.aload_n 0, 1) := dk_42 (dk_at dksX0_feed_1 5 rfl rfl)
theorem dX0_feed_30 : decode cX0_feed 30 = .ok (.iload_n 3, 1) := dk_29 (dk_at dksX0_feed_1 6 rfl rfl)
theorem dX0_feed_31 : decode cX0_feed 31 = .ok (.invokevirtual 86, 3) := dk_182 0 86 (dk_at dksX0_feed_1 7 rfl rfl)
theorem dX0_feed_34 : decode cX0_feed 34 = .ok (.aload_n 0, 1) := dk_42 (dk_at dksX0_feed_1 10 rfl rfl)
theorem dX0_feed_35 : decode cX0_feed 35 = .ok (.iload 4, 2) := dk_21 4 (dk_at dksX0_feed_1 11 rfl rfl)
theorem dX0_feed_37 : decode cX0_feed 37 = .ok (.invokevirtual 86, 3) := dk_182 0 86 (dk_at dksX0_feed_1 13 rfl rfl)
theorem dX0_feed_40 : decode cX0_feed 40 = .ok (.aload_n 0, 1) := dk_42 (dk_at dksX0_feed_1 16 rfl rfl)
theorem dX0_feed_41 : decode cX0_feed 41 = .ok (.iload 5, 2) := dk_21 5 (dk_at dksX0_feed_1 17 rfl rfl)
theorem dX0_feed_43 : decode cX0_feed 43 = .ok (.invokevirtual 86, 3) := dk_182 0 86 (dk_at dksX0_feed_1 19 rfl rfl)
theorem dX0_feed_46 : decode cX0_feed 46 = .ok (.aload_n 0, 1) := dk_42 (dk_at dksX0_feed_1 22 rfl rfl)
theorem dX0_feed_47 : decode cX0_feed 47 = .ok (.getfield 83, 3) := dk_180 0 83 (dk_at dksX0_feed_2 0 rfl rfl)
theorem dX0_feed_50 : decode cX0_feed 50 = .ok (.ireturn, 1) := dk_172 (dk_at dksX0_feed_2 3 rfl rfl)
abbrev cX0_refused : ByteArray := prog_1_method_5_code
def yX0_refused : MethodName := ⟨RX0, "refused", "(I)I"⟩
def dkwX0_refused_0 : List UInt8 := [42, 180, 0, 13, 27, 92, 46, 4, 96, 79, 2, 172]
abbrev dktX0_refused_0 : List UInt8 := dkwX0_refused_0 ++ []
theorem dksX0_refused_0 : cX0_refused.data.toList.drop 0 = dktX0_refused_0 := by decide +kernel
theorem dX0_refused_0 : decode cX0_refused 0 = .ok (.aload_n 0, 1) := dk_42 (dk_at dksX0_refused_0 0 rfl rfl)
theorem dX0_refused_1 : decode cX0_refused 1 = .ok (.getfield 13, 3) := dk_180 0 13 (dk_at dksX0_refused_0 1 rfl rfl)
theorem dX0_refused_4 : decode cX0_refused 4 = .ok (.iload_n 1, 1) := dk_27 (dk_at dksX0_refused_0 4 rfl rfl)
theorem dX0_refused_5 : decode cX0_refused 5 = .ok (.dup2, 1) := dk_92 (dk_at dksX0_refused_0 5 rfl rfl)
theorem dX0_refused_6 : decode cX0_refused 6 = .ok (.iaload, 1) := dk_46 (dk_at dksX0_refused_0 6 rfl rfl)
theorem dX0_refused_7 : decode cX0_refused 7 = .ok (.iconst 1, 1) := dk_4 (dk_at dksX0_refused_0 7 rfl rfl)
theorem dX0_refused_8 : decode cX0_refused 8 = .ok (.iadd, 1) := dk_96 (dk_at dksX0_refused_0 8 rfl rfl)
theorem dX0_refused_9 : decode cX0_refused 9 = .ok (.iastore, 1) := dk_79 (dk_at dksX0_refused_0 9 rfl rfl)
theorem dX0_refused_10 : decode cX0_refused 10 = .ok (.iconst (-1), 1) := dk_2 (dk_at dksX0_refused_0 10 rfl rfl)
theorem dX0_refused_11 : decode cX0_refused 11 = .ok (.ireturn, 1) := dk_172 (dk_at dksX0_refused_0 11 rfl rfl)
abbrev cX0_lays : ByteArray := prog_1_method_8_code
def yX0_lays : MethodName := ⟨RX0, "lays", "(I)V"⟩
def dkwX0_lays_1 : List UInt8 := [42, 89, 180, 0, 83, 4, 96, 181, 0, 83, 132, 2, 248, 167, 255, 222, 177]
abbrev dktX0_lays_1 : List UInt8 := dkwX0_lays_1 ++ []
def dkwX0_lays_0 : List UInt8 := [16, 24, 61, 28, 155, 0, 36, 42, 180, 0, 9, 42, 180, 0, 83, 27, 28, 122, 17, 0, 255, 126, 146, 85]
abbrev dktX0_lays_0 : List UInt8 := dkwX0_lays_0 ++ dktX0_lays_1
theorem dksX0_lays_0 : cX0_lays.data.toList.drop 0 = dktX0_lays_0 := by decide +kernel
theorem dksX0_lays_1 : cX0_lays.data.toList.drop 24 = dktX0_lays_1 := dk_seg dksX0_lays_0 24 rfl rfl
theorem dX0_lays_0 : decode cX0_lays 0 = .ok (.bipush 24, 2) := dk_16 24 (dk_at dksX0_lays_0 0 rfl rfl)
theorem dX0_lays_2 : decode cX0_lays 2 = .ok (.istore_n 2, 1) := dk_61 (dk_at dksX0_lays_0 2 rfl rfl)
theorem dX0_lays_3 : decode cX0_lays 3 = .ok (.iload_n 2, 1) := dk_28 (dk_at dksX0_lays_0 3 rfl rfl)
theorem dX0_lays_4 : decode cX0_lays 4 = .ok (.ifCond .lt 36, 3) := dk_155 0 36 (dk_at dksX0_lays_0 4 rfl rfl)
theorem dX0_lays_7 : decode cX0_lays 7 = .ok (.aload_n 0, 1) := dk_42 (dk_at dksX0_lays_0 7 rfl rfl)
theorem dX0_lays_8 : decode cX0_lays 8 = .ok (.getfield 9, 3) := dk_180 0 9 (dk_at dksX0_lays_0 8 rfl rfl)
theorem dX0_lays_11 : decode cX0_lays 11 = .ok (.aload_n 0, 1) := dk_42 (dk_at dksX0_lays_0 11 rfl rfl)
theorem dX0_lays_12 : decode cX0_lays 12 = .ok (.getfield 83, 3) := dk_180 0 83 (dk_at dksX0_lays_0 12 rfl rfl)
theorem dX0_lays_15 : decode cX0_lays 15 = .ok (.iload_n 1, 1) := dk_27 (dk_at dksX0_lays_0 15 rfl rfl)
theorem dX0_lays_16 : decode cX0_lays 16 = .ok (.iload_n 2, 1) := dk_28 (dk_at dksX0_lays_0 16 rfl rfl)
theorem dX0_lays_17 : decode cX0_lays 17 = .ok (.ishr, 1) := dk_122 (dk_at dksX0_lays_0 17 rfl rfl)
theorem dX0_lays_18 : decode cX0_lays 18 = .ok (.sipush 255, 3) := dk_17 0 255 (dk_at dksX0_lays_0 18 rfl rfl)
theorem dX0_lays_21 : decode cX0_lays 21 = .ok (.iand, 1) := dk_126 (dk_at dksX0_lays_0 21 rfl rfl)
theorem dX0_lays_22 : decode cX0_lays 22 = .ok (.i2c, 1) := dk_146 (dk_at dksX0_lays_0 22 rfl rfl)
theorem dX0_lays_23 : decode cX0_lays 23 = .ok (.castore, 1) := dk_85 (dk_at dksX0_lays_0 23 rfl rfl)
theorem dX0_lays_24 : decode cX0_lays 24 = .ok (.aload_n 0, 1) := dk_42 (dk_at dksX0_lays_1 0 rfl rfl)
theorem dX0_lays_25 : decode cX0_lays 25 = .ok (.dup, 1) := dk_89 (dk_at dksX0_lays_1 1 rfl rfl)
theorem dX0_lays_26 : decode cX0_lays 26 = .ok (.getfield 83, 3) := dk_180 0 83 (dk_at dksX0_lays_1 2 rfl rfl)
theorem dX0_lays_29 : decode cX0_lays 29 = .ok (.iconst 1, 1) := dk_4 (dk_at dksX0_lays_1 5 rfl rfl)
theorem dX0_lays_30 : decode cX0_lays 30 = .ok (.iadd, 1) := dk_96 (dk_at dksX0_lays_1 6 rfl rfl)
theorem dX0_lays_31 : decode cX0_lays 31 = .ok (.putfield 83, 3) := dk_181 0 83 (dk_at dksX0_lays_1 7 rfl rfl)
theorem dX0_lays_34 : decode cX0_lays 34 = .ok (.iinc 2 (-8), 3) := dk_132 2 248 (dk_at dksX0_lays_1 10 rfl rfl)
theorem dX0_lays_37 : decode cX0_lays 37 = .ok (.goto (-34), 3) := dk_167 255 222 (dk_at dksX0_lays_1 13 rfl rfl)
theorem dX0_lays_40 : decode cX0_lays 40 = .ok (.return_, 1) := dk_177 (dk_at dksX0_lays_1 16 rfl rfl)
abbrev cX0_end : ByteArray := prog_1_method_9_code
def yX0_end : MethodName := ⟨RX0, "end", "(I)Z"⟩
def dkwX0_end_1 : List UInt8 := [172]
abbrev dktX0_end_1 : List UInt8 := dkwX0_end_1 ++ []
def dkwX0_end_0 : List UInt8 := [27, 155, 0, 11, 27, 42, 180, 0, 83, 164, 0, 9, 42, 3, 182, 0, 90, 172, 42, 27, 181, 0, 83, 4]
abbrev dktX0_end_0 : List UInt8 := dkwX0_end_0 ++ dktX0_end_1
theorem dksX0_end_0 : cX0_end.data.toList.drop 0 = dktX0_end_0 := by decide +kernel
theorem dksX0_end_1 : cX0_end.data.toList.drop 24 = dktX0_end_1 := dk_seg dksX0_end_0 24 rfl rfl
theorem dX0_end_0 : decode cX0_end 0 = .ok (.iload_n 1, 1) := dk_27 (dk_at dksX0_end_0 0 rfl rfl)
theorem dX0_end_1 : decode cX0_end 1 = .ok (.ifCond .lt 11, 3) := dk_155 0 11 (dk_at dksX0_end_0 1 rfl rfl)
theorem dX0_end_4 : decode cX0_end 4 = .ok (.iload_n 1, 1) := dk_27 (dk_at dksX0_end_0 4 rfl rfl)
theorem dX0_end_5 : decode cX0_end 5 = .ok (.aload_n 0, 1) := dk_42 (dk_at dksX0_end_0 5 rfl rfl)
theorem dX0_end_6 : decode cX0_end 6 = .ok (.getfield 83, 3) := dk_180 0 83 (dk_at dksX0_end_0 6 rfl rfl)
theorem dX0_end_9 : decode cX0_end 9 = .ok (.if_icmp .le 9, 3) := dk_164 0 9 (dk_at dksX0_end_0 9 rfl rfl)
theorem dX0_end_12 : decode cX0_end 12 = .ok (.aload_n 0, 1) := dk_42 (dk_at dksX0_end_0 12 rfl rfl)
theorem dX0_end_13 : decode cX0_end 13 = .ok (.iconst 0, 1) := dk_3 (dk_at dksX0_end_0 13 rfl rfl)
theorem dX0_end_14 : decode cX0_end 14 = .ok (.invokevirtual 90, 3) := dk_182 0 90 (dk_at dksX0_end_0 14 rfl rfl)
theorem dX0_end_17 : decode cX0_end 17 = .ok (.ireturn, 1) := dk_172 (dk_at dksX0_end_0 17 rfl rfl)
theorem dX0_end_18 : decode cX0_end 18 = .ok (.aload_n 0, 1) := dk_42 (dk_at dksX0_end_0 18 rfl rfl)
theorem dX0_end_19 : decode cX0_end 19 = .ok (.iload_n 1, 1) := dk_27 (dk_at dksX0_end_0 19 rfl rfl)
theorem dX0_end_20 : decode cX0_end 20 = .ok (.putfield 83, 3) := dk_181 0 83 (dk_at dksX0_end_0 20 rfl rfl)
theorem dX0_end_23 : decode cX0_end 23 = .ok (.iconst 1, 1) := dk_4 (dk_at dksX0_end_0 23 rfl rfl)
theorem dX0_end_24 : decode cX0_end 24 = .ok (.ireturn, 1) := dk_172 (dk_at dksX0_end_1 0 rfl rfl)
abbrev cX0_refuses : ByteArray := prog_1_method_6_code
def yX0_refuses : MethodName := ⟨RX0, "refuses", "(I)Z"⟩
def dkwX0_refuses_0 : List UInt8 := [42, 27, 182, 0, 79, 2, 159, 0, 7, 4, 167, 0, 4, 3, 172]
abbrev dktX0_refuses_0 : List UInt8 := dkwX0_refuses_0 ++ []
theorem dksX0_refuses_0 : cX0_refuses.data.toList.drop 0 = dktX0_refuses_0 := by decide +kernel
theorem dX0_refuses_0 : decode cX0_refuses 0 = .ok (.aload_n 0, 1) := dk_42 (dk_at dksX0_refuses_0 0 rfl rfl)
theorem dX0_refuses_1 : decode cX0_refuses 1 = .ok (.iload_n 1, 1) := dk_27 (dk_at dksX0_refuses_0 1 rfl rfl)
theorem dX0_refuses_2 : decode cX0_refuses 2 = .ok (.invokevirtual 79, 3) := dk_182 0 79 (dk_at dksX0_refuses_0 2 rfl rfl)
theorem dX0_refuses_5 : decode cX0_refuses 5 = .ok (.iconst (-1), 1) := dk_2 (dk_at dksX0_refuses_0 5 rfl rfl)
theorem dX0_refuses_6 : decode cX0_refuses 6 = .ok (.if_icmp .eq 7, 3) := dk_159 0 7 (dk_at dksX0_refuses_0 6 rfl rfl)
theorem dX0_refuses_9 : decode cX0_refuses 9 = .ok (.iconst 1, 1) := dk_4 (dk_at dksX0_refuses_0 9 rfl rfl)
theorem dX0_refuses_10 : decode cX0_refuses 10 = .ok (.goto 4, 3) := dk_167 0 4 (dk_at dksX0_refuses_0 10 rfl rfl)
theorem dX0_refuses_13 : decode cX0_refuses 13 = .ok (.iconst 0, 1) := dk_3 (dk_at dksX0_refuses_0 13 rfl rfl)
theorem dX0_refuses_14 : decode cX0_refuses 14 = .ok (.ireturn, 1) := dk_172 (dk_at dksX0_refuses_0 14 rfl rfl)
abbrev cX0_status : ByteArray := prog_1_method_10_code
def yX0_status : MethodName := ⟨RX0, "status", "(I)I"⟩
def dkwX0_status_0 : List UInt8 := [27, 133, 9, 20, 0, 94, 184, 0, 96, 153, 0, 12, 42, 180, 0, 13, 27, 46, 167, 0, 4, 2, 172]
abbrev dktX0_status_0 : List UInt8 := dkwX0_status_0 ++ []
theorem dksX0_status_0 : cX0_status.data.toList.drop 0 = dktX0_status_0 := by decide +kernel
theorem dX0_status_0 : decode cX0_status 0 = .ok (.iload_n 1, 1) := dk_27 (dk_at dksX0_status_0 0 rfl rfl)
theorem dX0_status_1 : decode cX0_status 1 = .ok (.i2l, 1) := dk_133 (dk_at dksX0_status_0 1 rfl rfl)
theorem dX0_status_2 : decode cX0_status 2 = .ok (.lconst 0, 1) := dk_9 (dk_at dksX0_status_0 2 rfl rfl)
theorem dX0_status_3 : decode cX0_status 3 = .ok (.ldc2_w 94, 3) := dk_20 0 94 (dk_at dksX0_status_0 3 rfl rfl)
theorem dX0_status_6 : decode cX0_status 6 = .ok (.invokestatic 96, 3) := dk_184 0 96 (dk_at dksX0_status_0 6 rfl rfl)
theorem dX0_status_9 : decode cX0_status 9 = .ok (.ifCond .eq 12, 3) := dk_153 0 12 (dk_at dksX0_status_0 9 rfl rfl)
theorem dX0_status_12 : decode cX0_status 12 = .ok (.aload_n 0, 1) := dk_42 (dk_at dksX0_status_0 12 rfl rfl)
theorem dX0_status_13 : decode cX0_status 13 = .ok (.getfield 13, 3) := dk_180 0 13 (dk_at dksX0_status_0 13 rfl rfl)
theorem dX0_status_16 : decode cX0_status 16 = .ok (.iload_n 1, 1) := dk_27 (dk_at dksX0_status_0 16 rfl rfl)
theorem dX0_status_17 : decode cX0_status 17 = .ok (.iaload, 1) := dk_46 (dk_at dksX0_status_0 17 rfl rfl)
theorem dX0_status_18 : decode cX0_status 18 = .ok (.goto 4, 3) := dk_167 0 4 (dk_at dksX0_status_0 18 rfl rfl)
theorem dX0_status_21 : decode cX0_status 21 = .ok (.iconst (-1), 1) := dk_2 (dk_at dksX0_status_0 21 rfl rfl)
theorem dX0_status_22 : decode cX0_status 22 = .ok (.ireturn, 1) := dk_172 (dk_at dksX0_status_0 22 rfl rfl)
abbrev cX0_isIn : ByteArray := prog_1_method_2_code
def yX0_isIn : MethodName := ⟨RX0, "isIn", "(JJJ)Z"⟩
def dkwX0_isIn_0 : List UInt8 := [30, 32, 148, 155, 0, 14, 30, 22, 4, 148, 157, 0, 7, 4, 167, 0, 4, 3, 172]
abbrev dktX0_isIn_0 : List UInt8 := dkwX0_isIn_0 ++ []
theorem dksX0_isIn_0 : cX0_isIn.data.toList.drop 0 = dktX0_isIn_0 := by decide +kernel
theorem dX0_isIn_0 : decode cX0_isIn 0 = .ok (.lload_n 0, 1) := dk_30 (dk_at dksX0_isIn_0 0 rfl rfl)
theorem dX0_isIn_1 : decode cX0_isIn 1 = .ok (.lload_n 2, 1) := dk_32 (dk_at dksX0_isIn_0 1 rfl rfl)
theorem dX0_isIn_2 : decode cX0_isIn 2 = .ok (.lcmp, 1) := dk_148 (dk_at dksX0_isIn_0 2 rfl rfl)
theorem dX0_isIn_3 : decode cX0_isIn 3 = .ok (.ifCond .lt 14, 3) := dk_155 0 14 (dk_at dksX0_isIn_0 3 rfl rfl)
theorem dX0_isIn_6 : decode cX0_isIn 6 = .ok (.lload_n 0, 1) := dk_30 (dk_at dksX0_isIn_0 6 rfl rfl)
theorem dX0_isIn_7 : decode cX0_isIn 7 = .ok (.lload 4, 2) := dk_22 4 (dk_at dksX0_isIn_0 7 rfl rfl)
theorem dX0_isIn_9 : decode cX0_isIn 9 = .ok (.lcmp, 1) := dk_148 (dk_at dksX0_isIn_0 9 rfl rfl)
theorem dX0_isIn_10 : decode cX0_isIn 10 = .ok (.ifCond .gt 7, 3) := dk_157 0 7 (dk_at dksX0_isIn_0 10 rfl rfl)
theorem dX0_isIn_13 : decode cX0_isIn 13 = .ok (.iconst 1, 1) := dk_4 (dk_at dksX0_isIn_0 13 rfl rfl)
theorem dX0_isIn_14 : decode cX0_isIn 14 = .ok (.goto 4, 3) := dk_167 0 4 (dk_at dksX0_isIn_0 14 rfl rfl)
theorem dX0_isIn_17 : decode cX0_isIn 17 = .ok (.iconst 0, 1) := dk_3 (dk_at dksX0_isIn_0 17 rfl rfl)
theorem dX0_isIn_18 : decode cX0_isIn 18 = .ok (.ireturn, 1) := dk_172 (dk_at dksX0_isIn_0 18 rfl rfl)
abbrev cX0_sea : ByteArray := prog_1_method_25_code
def yX0_sea : MethodName := ⟨RX0, "sea", "()I"⟩
def dkwX0_sea_3 : List UInt8 := [181, 0, 28, 42, 182, 0, 243, 42, 180, 0, 20, 180, 0, 246, 172]
abbrev dktX0_sea_3 : List UInt8 := dkwX0_sea_3 ++ []
def dkwX0_sea_2 : List UInt8 := [4, 182, 0, 79, 172, 42, 3, 181, 0, 237, 42, 2, 181, 0, 49, 42, 42, 180, 0, 20, 180, 0, 24]
abbrev dktX0_sea_2 : List UInt8 := dkwX0_sea_2 ++ dktX0_sea_3
def dkwX0_sea_1 : List UInt8 := [181, 0, 20, 167, 0, 26, 77, 42, 44, 180, 0, 234, 181, 0, 237, 42, 44, 180, 0, 240, 181, 0, 49, 42]
abbrev dktX0_sea_1 : List UInt8 := dkwX0_sea_1 ++ dktX0_sea_2
def dkwX0_sea_0 : List UInt8 := [42, 180, 0, 83, 60, 42, 3, 181, 0, 83, 42, 187, 0, 223, 89, 42, 27, 183, 0, 225, 182, 0, 228]
abbrev dktX0_sea_0 : List UInt8 := dkwX0_sea_0 ++ dktX0_sea_1
theorem dksX0_sea_0 : cX0_sea.data.toList.drop 0 = dktX0_sea_0 := by decide +kernel
theorem dksX0_sea_1 : cX0_sea.data.toList.drop 23 = dktX0_sea_1 := dk_seg dksX0_sea_0 23 rfl rfl
theorem dksX0_sea_2 : cX0_sea.data.toList.drop 47 = dktX0_sea_2 := dk_seg dksX0_sea_1 24 rfl rfl
theorem dksX0_sea_3 : cX0_sea.data.toList.drop 70 = dktX0_sea_3 := dk_seg dksX0_sea_2 23 rfl rfl
theorem dX0_sea_0 : decode cX0_sea 0 = .ok (.aload_n 0, 1) := dk_42 (dk_at dksX0_sea_0 0 rfl rfl)
theorem dX0_sea_1 : decode cX0_sea 1 = .ok (.getfield 83, 3) := dk_180 0 83 (dk_at dksX0_sea_0 1 rfl rfl)
theorem dX0_sea_4 : decode cX0_sea 4 = .ok (.istore_n 1, 1) := dk_60 (dk_at dksX0_sea_0 4 rfl rfl)
theorem dX0_sea_5 : decode cX0_sea 5 = .ok (.aload_n 0, 1) := dk_42 (dk_at dksX0_sea_0 5 rfl rfl)
theorem dX0_sea_6 : decode cX0_sea 6 = .ok (.iconst 0, 1) := dk_3 (dk_at dksX0_sea_0 6 rfl rfl)
theorem dX0_sea_7 : decode cX0_sea 7 = .ok (.putfield 83, 3) := dk_181 0 83 (dk_at dksX0_sea_0 7 rfl rfl)
theorem dX0_sea_10 : decode cX0_sea 10 = .ok (.aload_n 0, 1) := dk_42 (dk_at dksX0_sea_0 10 rfl rfl)
theorem dX0_sea_11 : decode cX0_sea 11 = .ok (.new 223, 3) := dk_187 0 223 (dk_at dksX0_sea_0 11 rfl rfl)
theorem dX0_sea_14 : decode cX0_sea 14 = .ok (.dup, 1) := dk_89 (dk_at dksX0_sea_0 14 rfl rfl)
theorem dX0_sea_15 : decode cX0_sea 15 = .ok (.aload_n 0, 1) := dk_42 (dk_at dksX0_sea_0 15 rfl rfl)
theorem dX0_sea_16 : decode cX0_sea 16 = .ok (.iload_n 1, 1) := dk_27 (dk_at dksX0_sea_0 16 rfl rfl)
theorem dX0_sea_17 : decode cX0_sea 17 = .ok (.invokespecial 225, 3) := dk_183 0 225 (dk_at dksX0_sea_0 17 rfl rfl)
theorem dX0_sea_20 : decode cX0_sea 20 = .ok (.invokevirtual 228, 3) := dk_182 0 228 (dk_at dksX0_sea_0 20 rfl rfl)
theorem dX0_sea_23 : decode cX0_sea 23 = .ok (.putfield 20, 3) := dk_181 0 20 (dk_at dksX0_sea_1 0 rfl rfl)
theorem dX0_sea_26 : decode cX0_sea 26 = .ok (.goto 26, 3) := dk_167 0 26 (dk_at dksX0_sea_1 3 rfl rfl)
theorem dX0_sea_29 : decode cX0_sea 29 = .ok (.astore_n 2, 1) := dk_77 (dk_at dksX0_sea_1 6 rfl rfl)
theorem dX0_sea_30 : decode cX0_sea 30 = .ok (.aload_n 0, 1) := dk_42 (dk_at dksX0_sea_1 7 rfl rfl)
theorem dX0_sea_31 : decode cX0_sea 31 = .ok (.aload_n 2, 1) := dk_44 (dk_at dksX0_sea_1 8 rfl rfl)
theorem dX0_sea_32 : decode cX0_sea 32 = .ok (.getfield 234, 3) := dk_180 0 234 (dk_at dksX0_sea_1 9 rfl rfl)
theorem dX0_sea_35 : decode cX0_sea 35 = .ok (.putfield 237, 3) := dk_181 0 237 (dk_at dksX0_sea_1 12 rfl rfl)
theorem dX0_sea_38 : decode cX0_sea 38 = .ok (.aload_n 0, 1) := dk_42 (dk_at dksX0_sea_1 15 rfl rfl)
theorem dX0_sea_39 : decode cX0_sea 39 = .ok (.aload_n 2, 1) := dk_44 (dk_at dksX0_sea_1 16 rfl rfl)
theorem dX0_sea_40 : decode cX0_sea 40 = .ok (.getfield 240, 3) := dk_180 0 240 (dk_at dksX0_sea_1 17 rfl rfl)
theorem dX0_sea_43 : decode cX0_sea 43 = .ok (.putfield 49, 3) := dk_181 0 49 (dk_at dksX0_sea_1 20 rfl rfl)
theorem dX0_sea_46 : decode cX0_sea 46 = .ok (.aload_n 0, 1) := dk_42 (dk_at dksX0_sea_1 23 rfl rfl)
theorem dX0_sea_47 : decode cX0_sea 47 = .ok (.iconst 1, 1) := dk_4 (dk_at dksX0_sea_2 0 rfl rfl)
theorem dX0_sea_48 : decode cX0_sea 48 = .ok (.invokevirtual 79, 3) := dk_182 0 79 (dk_at dksX0_sea_2 1 rfl rfl)
theorem dX0_sea_51 : decode cX0_sea 51 = .ok (.ireturn, 1) := dk_172 (dk_at dksX0_sea_2 4 rfl rfl)
theorem dX0_sea_52 : decode cX0_sea 52 = .ok (.aload_n 0, 1) := dk_42 (dk_at dksX0_sea_2 5 rfl rfl)
theorem dX0_sea_53 : decode cX0_sea 53 = .ok (.iconst 0, 1) := dk_3 (dk_at dksX0_sea_2 6 rfl rfl)
theorem dX0_sea_54 : decode cX0_sea 54 = .ok (.putfield 237, 3) := dk_181 0 237 (dk_at dksX0_sea_2 7 rfl rfl)
theorem dX0_sea_57 : decode cX0_sea 57 = .ok (.aload_n 0, 1) := dk_42 (dk_at dksX0_sea_2 10 rfl rfl)
theorem dX0_sea_58 : decode cX0_sea 58 = .ok (.iconst (-1), 1) := dk_2 (dk_at dksX0_sea_2 11 rfl rfl)
theorem dX0_sea_59 : decode cX0_sea 59 = .ok (.putfield 49, 3) := dk_181 0 49 (dk_at dksX0_sea_2 12 rfl rfl)
theorem dX0_sea_62 : decode cX0_sea 62 = .ok (.aload_n 0, 1) := dk_42 (dk_at dksX0_sea_2 15 rfl rfl)
theorem dX0_sea_63 : decode cX0_sea 63 = .ok (.aload_n 0, 1) := dk_42 (dk_at dksX0_sea_2 16 rfl rfl)
theorem dX0_sea_64 : decode cX0_sea 64 = .ok (.getfield 20, 3) := dk_180 0 20 (dk_at dksX0_sea_2 17 rfl rfl)
theorem dX0_sea_67 : decode cX0_sea 67 = .ok (.getfield 24, 3) := dk_180 0 24 (dk_at dksX0_sea_2 20 rfl rfl)
theorem dX0_sea_70 : decode cX0_sea 70 = .ok (.putfield 28, 3) := dk_181 0 28 (dk_at dksX0_sea_3 0 rfl rfl)
theorem dX0_sea_73 : decode cX0_sea 73 = .ok (.aload_n 0, 1) := dk_42 (dk_at dksX0_sea_3 3 rfl rfl)
theorem dX0_sea_74 : decode cX0_sea 74 = .ok (.invokevirtual 243, 3) := dk_182 0 243 (dk_at dksX0_sea_3 4 rfl rfl)
theorem dX0_sea_77 : decode cX0_sea 77 = .ok (.aload_n 0, 1) := dk_42 (dk_at dksX0_sea_3 7 rfl rfl)
theorem dX0_sea_78 : decode cX0_sea 78 = .ok (.getfield 20, 3) := dk_180 0 20 (dk_at dksX0_sea_3 8 rfl rfl)
theorem dX0_sea_81 : decode cX0_sea 81 = .ok (.getfield 246, 3) := dk_180 0 246 (dk_at dksX0_sea_3 11 rfl rfl)
theorem dX0_sea_84 : decode cX0_sea 84 = .ok (.ireturn, 1) := dk_172 (dk_at dksX0_sea_3 14 rfl rfl)
abbrev cX0_digitsOf : ByteArray := prog_1_method_13_code
def yX0_digitsOf : MethodName := ⟨RX0, "digitsOf", "(Ljava/lang/String;)I"⟩
def dkwX0_digitsOf_1 : List UInt8 := [100, 60, 132, 2, 1, 167, 255, 231, 27, 172]
abbrev dktX0_digitsOf_1 : List UInt8 := dkwX0_digitsOf_1 ++ []
def dkwX0_digitsOf_0 : List UInt8 := [3, 60, 3, 61, 28, 42, 182, 0, 118, 162, 0, 23, 16, 10, 27, 104, 42, 28, 182, 0, 121, 96, 16, 48]
abbrev dktX0_digitsOf_0 : List UInt8 := dkwX0_digitsOf_0 ++ dktX0_digitsOf_1
theorem dksX0_digitsOf_0 : cX0_digitsOf.data.toList.drop 0 = dktX0_digitsOf_0 := by decide +kernel
theorem dksX0_digitsOf_1 : cX0_digitsOf.data.toList.drop 24 = dktX0_digitsOf_1 := dk_seg dksX0_digitsOf_0 24 rfl rfl
theorem dX0_digitsOf_0 : decode cX0_digitsOf 0 = .ok (.iconst 0, 1) := dk_3 (dk_at dksX0_digitsOf_0 0 rfl rfl)
theorem dX0_digitsOf_1 : decode cX0_digitsOf 1 = .ok (.istore_n 1, 1) := dk_60 (dk_at dksX0_digitsOf_0 1 rfl rfl)
theorem dX0_digitsOf_2 : decode cX0_digitsOf 2 = .ok (.iconst 0, 1) := dk_3 (dk_at dksX0_digitsOf_0 2 rfl rfl)
theorem dX0_digitsOf_3 : decode cX0_digitsOf 3 = .ok (.istore_n 2, 1) := dk_61 (dk_at dksX0_digitsOf_0 3 rfl rfl)
theorem dX0_digitsOf_4 : decode cX0_digitsOf 4 = .ok (.iload_n 2, 1) := dk_28 (dk_at dksX0_digitsOf_0 4 rfl rfl)
theorem dX0_digitsOf_5 : decode cX0_digitsOf 5 = .ok (.aload_n 0, 1) := dk_42 (dk_at dksX0_digitsOf_0 5 rfl rfl)
theorem dX0_digitsOf_6 : decode cX0_digitsOf 6 = .ok (.invokevirtual 118, 3) := dk_182 0 118 (dk_at dksX0_digitsOf_0 6 rfl rfl)
theorem dX0_digitsOf_9 : decode cX0_digitsOf 9 = .ok (.if_icmp .ge 23, 3) := dk_162 0 23 (dk_at dksX0_digitsOf_0 9 rfl rfl)
theorem dX0_digitsOf_12 : decode cX0_digitsOf 12 = .ok (.bipush 10, 2) := dk_16 10 (dk_at dksX0_digitsOf_0 12 rfl rfl)
theorem dX0_digitsOf_14 : decode cX0_digitsOf 14 = .ok (.iload_n 1, 1) := dk_27 (dk_at dksX0_digitsOf_0 14 rfl rfl)
theorem dX0_digitsOf_15 : decode cX0_digitsOf 15 = .ok (.imul, 1) := dk_104 (dk_at dksX0_digitsOf_0 15 rfl rfl)
theorem dX0_digitsOf_16 : decode cX0_digitsOf 16 = .ok (.aload_n 0, 1) := dk_42 (dk_at dksX0_digitsOf_0 16 rfl rfl)
theorem dX0_digitsOf_17 : decode cX0_digitsOf 17 = .ok (.iload_n 2, 1) := dk_28 (dk_at dksX0_digitsOf_0 17 rfl rfl)
theorem dX0_digitsOf_18 : decode cX0_digitsOf 18 = .ok (.invokevirtual 121, 3) := dk_182 0 121 (dk_at dksX0_digitsOf_0 18 rfl rfl)
theorem dX0_digitsOf_21 : decode cX0_digitsOf 21 = .ok (.iadd, 1) := dk_96 (dk_at dksX0_digitsOf_0 21 rfl rfl)
theorem dX0_digitsOf_22 : decode cX0_digitsOf 22 = .ok (.bipush 48, 2) := dk_16 48 (dk_at dksX0_digitsOf_0 22 rfl rfl)
theorem dX0_digitsOf_24 : decode cX0_digitsOf 24 = .ok (.isub, 1) := dk_100 (dk_at dksX0_digitsOf_1 0 rfl rfl)
theorem dX0_digitsOf_25 : decode cX0_digitsOf 25 = .ok (.istore_n 1, 1) := dk_60 (dk_at dksX0_digitsOf_1 1 rfl rfl)
theorem dX0_digitsOf_26 : decode cX0_digitsOf 26 = .ok (.iinc 2 1, 3) := dk_132 2 1 (dk_at dksX0_digitsOf_1 2 rfl rfl)
theorem dX0_digitsOf_29 : decode cX0_digitsOf 29 = .ok (.goto (-25), 3) := dk_167 255 231 (dk_at dksX0_digitsOf_1 5 rfl rfl)
theorem dX0_digitsOf_32 : decode cX0_digitsOf 32 = .ok (.iload_n 1, 1) := dk_27 (dk_at dksX0_digitsOf_1 8 rfl rfl)
theorem dX0_digitsOf_33 : decode cX0_digitsOf 33 = .ok (.ireturn, 1) := dk_172 (dk_at dksX0_digitsOf_1 9 rfl rfl)
abbrev cX0_isOwn : ByteArray := prog_1_method_3_code
def yX0_isOwn : MethodName := ⟨RX0, "isOwn", "(Ljava/lang/String;)Z"⟩
def dkwX0_isOwn_1 : List UInt8 := [132, 1, 1, 167, 255, 231, 3, 172]
abbrev dktX0_isOwn_1 : List UInt8 := dkwX0_isOwn_1 ++ []
def dkwX0_isOwn_0 : List UInt8 := [3, 60, 27, 178, 0, 60, 190, 162, 0, 23, 178, 0, 60, 27, 50, 42, 182, 0, 64, 153, 0, 5, 4, 172]
abbrev dktX0_isOwn_0 : List UInt8 := dkwX0_isOwn_0 ++ dktX0_isOwn_1
theorem dksX0_isOwn_0 : cX0_isOwn.data.toList.drop 0 = dktX0_isOwn_0 := by decide +kernel
theorem dksX0_isOwn_1 : cX0_isOwn.data.toList.drop 24 = dktX0_isOwn_1 := dk_seg dksX0_isOwn_0 24 rfl rfl
theorem dX0_isOwn_0 : decode cX0_isOwn 0 = .ok (.iconst 0, 1) := dk_3 (dk_at dksX0_isOwn_0 0 rfl rfl)
theorem dX0_isOwn_1 : decode cX0_isOwn 1 = .ok (.istore_n 1, 1) := dk_60 (dk_at dksX0_isOwn_0 1 rfl rfl)
theorem dX0_isOwn_2 : decode cX0_isOwn 2 = .ok (.iload_n 1, 1) := dk_27 (dk_at dksX0_isOwn_0 2 rfl rfl)
theorem dX0_isOwn_3 : decode cX0_isOwn 3 = .ok (.getstatic 60, 3) := dk_178 0 60 (dk_at dksX0_isOwn_0 3 rfl rfl)
theorem dX0_isOwn_6 : decode cX0_isOwn 6 = .ok (.arraylength, 1) := dk_190 (dk_at dksX0_isOwn_0 6 rfl rfl)
theorem dX0_isOwn_7 : decode cX0_isOwn 7 = .ok (.if_icmp .ge 23, 3) := dk_162 0 23 (dk_at dksX0_isOwn_0 7 rfl rfl)
theorem dX0_isOwn_10 : decode cX0_isOwn 10 = .ok (.getstatic 60, 3) := dk_178 0 60 (dk_at dksX0_isOwn_0 10 rfl rfl)
theorem dX0_isOwn_13 : decode cX0_isOwn 13 = .ok (.iload_n 1, 1) := dk_27 (dk_at dksX0_isOwn_0 13 rfl rfl)
theorem dX0_isOwn_14 : decode cX0_isOwn 14 = .ok (.aaload, 1) := dk_50 (dk_at dksX0_isOwn_0 14 rfl rfl)
theorem dX0_isOwn_15 : decode cX0_isOwn 15 = .ok (.aload_n 0, 1) := dk_42 (dk_at dksX0_isOwn_0 15 rfl rfl)
theorem dX0_isOwn_16 : decode cX0_isOwn 16 = .ok (.invokevirtual 64, 3) := dk_182 0 64 (dk_at dksX0_isOwn_0 16 rfl rfl)
theorem dX0_isOwn_19 : decode cX0_isOwn 19 = .ok (.ifCond .eq 5, 3) := dk_153 0 5 (dk_at dksX0_isOwn_0 19 rfl rfl)
theorem dX0_isOwn_22 : decode cX0_isOwn 22 = .ok (.iconst 1, 1) := dk_4 (dk_at dksX0_isOwn_0 22 rfl rfl)
theorem dX0_isOwn_23 : decode cX0_isOwn 23 = .ok (.ireturn, 1) := dk_172 (dk_at dksX0_isOwn_0 23 rfl rfl)
theorem dX0_isOwn_24 : decode cX0_isOwn 24 = .ok (.iinc 1 1, 3) := dk_132 1 1 (dk_at dksX0_isOwn_1 0 rfl rfl)
theorem dX0_isOwn_27 : decode cX0_isOwn 27 = .ok (.goto (-25), 3) := dk_167 255 231 (dk_at dksX0_isOwn_1 3 rfl rfl)
theorem dX0_isOwn_30 : decode cX0_isOwn 30 = .ok (.iconst 0, 1) := dk_3 (dk_at dksX0_isOwn_1 6 rfl rfl)
theorem dX0_isOwn_31 : decode cX0_isOwn 31 = .ok (.ireturn, 1) := dk_172 (dk_at dksX0_isOwn_1 7 rfl rfl)
abbrev cX0_named : ByteArray := prog_1_method_11_code
def yX0_named : MethodName := ⟨RX0, "named", "(Ljava/util/ArrayList;Ljava/lang/String;)LToldTracks$Named;"⟩
def dkwX0_named_1 : List UInt8 := [182, 0, 64, 153, 0, 12, 42, 28, 182, 0, 104, 192, 0, 108, 176, 132, 2, 1, 167, 255, 218, 1, 176]
abbrev dktX0_named_1 : List UInt8 := dkwX0_named_1 ++ []
def dkwX0_named_0 : List UInt8 := [3, 61, 28, 42, 182, 0, 100, 162, 0, 36, 42, 28, 182, 0, 104, 192, 0, 108, 180, 0, 110, 43]
abbrev dktX0_named_0 : List UInt8 := dkwX0_named_0 ++ dktX0_named_1
theorem dksX0_named_0 : cX0_named.data.toList.drop 0 = dktX0_named_0 := by decide +kernel
theorem dksX0_named_1 : cX0_named.data.toList.drop 22 = dktX0_named_1 := dk_seg dksX0_named_0 22 rfl rfl
theorem dX0_named_0 : decode cX0_named 0 = .ok (.iconst 0, 1) := dk_3 (dk_at dksX0_named_0 0 rfl rfl)
theorem dX0_named_1 : decode cX0_named 1 = .ok (.istore_n 2, 1) := dk_61 (dk_at dksX0_named_0 1 rfl rfl)
theorem dX0_named_2 : decode cX0_named 2 = .ok (.iload_n 2, 1) := dk_28 (dk_at dksX0_named_0 2 rfl rfl)
theorem dX0_named_3 : decode cX0_named 3 = .ok (.aload_n 0, 1) := dk_42 (dk_at dksX0_named_0 3 rfl rfl)
theorem dX0_named_4 : decode cX0_named 4 = .ok (.invokevirtual 100, 3) := dk_182 0 100 (dk_at dksX0_named_0 4 rfl rfl)
theorem dX0_named_7 : decode cX0_named 7 = .ok (.if_icmp .ge 36, 3) := dk_162 0 36 (dk_at dksX0_named_0 7 rfl rfl)
theorem dX0_named_10 : decode cX0_named 10 = .ok (.aload_n 0, 1) := dk_42 (dk_at dksX0_named_0 10 rfl rfl)
theorem dX0_named_11 : decode cX0_named 11 = .ok (.iload_n 2, 1) := dk_28 (dk_at dksX0_named_0 11 rfl rfl)
theorem dX0_named_12 : decode cX0_named 12 = .ok (.invokevirtual 104, 3) := dk_182 0 104 (dk_at dksX0_named_0 12 rfl rfl)
theorem dX0_named_15 : decode cX0_named 15 = .ok (.checkcast 108, 3) := dk_192 0 108 (dk_at dksX0_named_0 15 rfl rfl)
theorem dX0_named_18 : decode cX0_named 18 = .ok (.getfield 110, 3) := dk_180 0 110 (dk_at dksX0_named_0 18 rfl rfl)
theorem dX0_named_21 : decode cX0_named 21 = .ok (.aload_n 1, 1) := dk_43 (dk_at dksX0_named_0 21 rfl rfl)
theorem dX0_named_22 : decode cX0_named 22 = .ok (.invokevirtual 64, 3) := dk_182 0 64 (dk_at dksX0_named_1 0 rfl rfl)
theorem dX0_named_25 : decode cX0_named 25 = .ok (.ifCond .eq 12, 3) := dk_153 0 12 (dk_at dksX0_named_1 3 rfl rfl)
theorem dX0_named_28 : decode cX0_named 28 = .ok (.aload_n 0, 1) := dk_42 (dk_at dksX0_named_1 6 rfl rfl)
theorem dX0_named_29 : decode cX0_named 29 = .ok (.iload_n 2, 1) := dk_28 (dk_at dksX0_named_1 7 rfl rfl)
theorem dX0_named_30 : decode cX0_named 30 = .ok (.invokevirtual 104, 3) := dk_182 0 104 (dk_at dksX0_named_1 8 rfl rfl)
theorem dX0_named_33 : decode cX0_named 33 = .ok (.checkcast 108, 3) := dk_192 0 108 (dk_at dksX0_named_1 11 rfl rfl)
theorem dX0_named_36 : decode cX0_named 36 = .ok (.areturn, 1) := dk_176 (dk_at dksX0_named_1 14 rfl rfl)
theorem dX0_named_37 : decode cX0_named 37 = .ok (.iinc 2 1, 3) := dk_132 2 1 (dk_at dksX0_named_1 15 rfl rfl)
theorem dX0_named_40 : decode cX0_named 40 = .ok (.goto (-38), 3) := dk_167 255 218 (dk_at dksX0_named_1 18 rfl rfl)
theorem dX0_named_43 : decode cX0_named 43 = .ok (.aconst_null, 1) := dk_1 (dk_at dksX0_named_1 21 rfl rfl)
theorem dX0_named_44 : decode cX0_named 44 = .ok (.areturn, 1) := dk_176 (dk_at dksX0_named_1 22 rfl rfl)
abbrev cX0_begins : ByteArray := prog_1_method_16_code
def yX0_begins : MethodName := ⟨RX0, "begins", "()V"⟩
def dkwX0_begins_7 : List UInt8 := [132, 1, 1, 167, 255, 230, 177]
abbrev dktX0_begins_7 : List UInt8 := dkwX0_begins_7 ++ []
def dkwX0_begins_6 : List UInt8 := [42, 180, 0, 20, 180, 0, 163, 182, 0, 100, 162, 0, 18, 42, 180, 0, 45, 1, 182, 0, 166, 87]
abbrev dktX0_begins_6 : List UInt8 := dkwX0_begins_6 ++ dktX0_begins_7
def dkwX0_begins_5 : List UInt8 := [42, 180, 0, 20, 182, 0, 143, 104, 189, 0, 36, 181, 0, 38, 42, 180, 0, 45, 182, 0, 160, 3, 60, 27]
abbrev dktX0_begins_5 : List UInt8 := dkwX0_begins_5 ++ dktX0_begins_6
def dkwX0_begins_4 : List UInt8 := [180, 0, 157, 42, 27, 3, 182, 0, 135, 16, 99, 182, 0, 148, 79, 132, 1, 1, 167, 255, 215, 42, 16, 41]
abbrev dktX0_begins_4 : List UInt8 := dkwX0_begins_4 ++ dktX0_begins_5
def dkwX0_begins_3 : List UInt8 := [42, 180, 0, 20, 182, 0, 143, 162, 0, 36, 42, 180, 0, 20, 180, 0, 154, 27, 42, 180, 0, 20]
abbrev dktX0_begins_3 : List UInt8 := dkwX0_begins_3 ++ dktX0_begins_4
def dkwX0_begins_2 : List UInt8 := [180, 0, 125, 108, 3, 3, 182, 0, 131, 16, 99, 182, 0, 148, 79, 132, 1, 1, 167, 255, 194, 3, 60, 27]
abbrev dktX0_begins_2 : List UInt8 := dkwX0_begins_2 ++ dktX0_begins_3
def dkwX0_begins_1 : List UInt8 := [180, 0, 20, 180, 0, 144, 42, 180, 0, 32, 27, 42, 180, 0, 20, 180, 0, 125, 112, 27, 42, 180, 0, 20]
abbrev dktX0_begins_1 : List UInt8 := dkwX0_begins_1 ++ dktX0_begins_2
def dkwX0_begins_0 : List UInt8 := [3, 60, 27, 42, 180, 0, 20, 182, 0, 143, 162, 0, 57, 42, 180, 0, 20, 180, 0, 128, 27, 42]
abbrev dktX0_begins_0 : List UInt8 := dkwX0_begins_0 ++ dktX0_begins_1
theorem dksX0_begins_0 : cX0_begins.data.toList.drop 0 = dktX0_begins_0 := by decide +kernel
theorem dksX0_begins_1 : cX0_begins.data.toList.drop 22 = dktX0_begins_1 := dk_seg dksX0_begins_0 22 rfl rfl
theorem dksX0_begins_2 : cX0_begins.data.toList.drop 46 = dktX0_begins_2 := dk_seg dksX0_begins_1 24 rfl rfl
theorem dksX0_begins_3 : cX0_begins.data.toList.drop 70 = dktX0_begins_3 := dk_seg dksX0_begins_2 24 rfl rfl
theorem dksX0_begins_4 : cX0_begins.data.toList.drop 92 = dktX0_begins_4 := dk_seg dksX0_begins_3 22 rfl rfl
theorem dksX0_begins_5 : cX0_begins.data.toList.drop 116 = dktX0_begins_5 := dk_seg dksX0_begins_4 24 rfl rfl
theorem dksX0_begins_6 : cX0_begins.data.toList.drop 140 = dktX0_begins_6 := dk_seg dksX0_begins_5 24 rfl rfl
theorem dksX0_begins_7 : cX0_begins.data.toList.drop 162 = dktX0_begins_7 := dk_seg dksX0_begins_6 22 rfl rfl
theorem dX0_begins_0 : decode cX0_begins 0 = .ok (.iconst 0, 1) := dk_3 (dk_at dksX0_begins_0 0 rfl rfl)
theorem dX0_begins_1 : decode cX0_begins 1 = .ok (.istore_n 1, 1) := dk_60 (dk_at dksX0_begins_0 1 rfl rfl)
theorem dX0_begins_2 : decode cX0_begins 2 = .ok (.iload_n 1, 1) := dk_27 (dk_at dksX0_begins_0 2 rfl rfl)
theorem dX0_begins_3 : decode cX0_begins 3 = .ok (.aload_n 0, 1) := dk_42 (dk_at dksX0_begins_0 3 rfl rfl)
theorem dX0_begins_4 : decode cX0_begins 4 = .ok (.getfield 20, 3) := dk_180 0 20 (dk_at dksX0_begins_0 4 rfl rfl)
theorem dX0_begins_7 : decode cX0_begins 7 = .ok (.invokevirtual 143, 3) := dk_182 0 143 (dk_at dksX0_begins_0 7 rfl rfl)
theorem dX0_begins_10 : decode cX0_begins 10 = .ok (.if_icmp .ge 57, 3) := dk_162 0 57 (dk_at dksX0_begins_0 10 rfl rfl)
theorem dX0_begins_13 : decode cX0_begins 13 = .ok (.aload_n 0, 1) := dk_42 (dk_at dksX0_begins_0 13 rfl rfl)
theorem dX0_begins_14 : decode cX0_begins 14 = .ok (.getfield 20, 3) := dk_180 0 20 (dk_at dksX0_begins_0 14 rfl rfl)
theorem dX0_begins_17 : decode cX0_begins 17 = .ok (.getfield 128, 3) := dk_180 0 128 (dk_at dksX0_begins_0 17 rfl rfl)
theorem dX0_begins_20 : decode cX0_begins 20 = .ok (.iload_n 1, 1) := dk_27 (dk_at dksX0_begins_0 20 rfl rfl)
theorem dX0_begins_21 : decode cX0_begins 21 = .ok (.aload_n 0, 1) := dk_42 (dk_at dksX0_begins_0 21 rfl rfl)
theorem dX0_begins_22 : decode cX0_begins 22 = .ok (.getfield 20, 3) := dk_180 0 20 (dk_at dksX0_begins_1 0 rfl rfl)
theorem dX0_begins_25 : decode cX0_begins 25 = .ok (.getfield 144, 3) := dk_180 0 144 (dk_at dksX0_begins_1 3 rfl rfl)
theorem dX0_begins_28 : decode cX0_begins 28 = .ok (.aload_n 0, 1) := dk_42 (dk_at dksX0_begins_1 6 rfl rfl)
theorem dX0_begins_29 : decode cX0_begins 29 = .ok (.getfield 32, 3) := dk_180 0 32 (dk_at dksX0_begins_1 7 rfl rfl)
theorem dX0_begins_32 : decode cX0_begins 32 = .ok (.iload_n 1, 1) := dk_27 (dk_at dksX0_begins_1 10 rfl rfl)
theorem dX0_begins_33 : decode cX0_begins 33 = .ok (.aload_n 0, 1) := dk_42 (dk_at dksX0_begins_1 11 rfl rfl)
theorem dX0_begins_34 : decode cX0_begins 34 = .ok (.getfield 20, 3) := dk_180 0 20 (dk_at dksX0_begins_1 12 rfl rfl)
theorem dX0_begins_37 : decode cX0_begins 37 = .ok (.getfield 125, 3) := dk_180 0 125 (dk_at dksX0_begins_1 15 rfl rfl)
theorem dX0_begins_40 : decode cX0_begins 40 = .ok (.irem, 1) := dk_112 (dk_at dksX0_begins_1 18 rfl rfl)
theorem dX0_begins_41 : decode cX0_begins 41 = .ok (.iload_n 1, 1) := dk_27 (dk_at dksX0_begins_1 19 rfl rfl)
theorem dX0_begins_42 : decode cX0_begins 42 = .ok (.aload_n 0, 1) := dk_42 (dk_at dksX0_begins_1 20 rfl rfl)
theorem dX0_begins_43 : decode cX0_begins 43 = .ok (.getfield 20, 3) := dk_180 0 20 (dk_at dksX0_begins_1 21 rfl rfl)
theorem dX0_begins_46 : decode cX0_begins 46 = .ok (.getfield 125, 3) := dk_180 0 125 (dk_at dksX0_begins_2 0 rfl rfl)
theorem dX0_begins_49 : decode cX0_begins 49 = .ok (.idiv, 1) := dk_108 (dk_at dksX0_begins_2 3 rfl rfl)
theorem dX0_begins_50 : decode cX0_begins 50 = .ok (.iconst 0, 1) := dk_3 (dk_at dksX0_begins_2 4 rfl rfl)
theorem dX0_begins_51 : decode cX0_begins 51 = .ok (.iconst 0, 1) := dk_3 (dk_at dksX0_begins_2 5 rfl rfl)
theorem dX0_begins_52 : decode cX0_begins 52 = .ok (.invokevirtual 131, 3) := dk_182 0 131 (dk_at dksX0_begins_2 6 rfl rfl)
theorem dX0_begins_55 : decode cX0_begins 55 = .ok (.bipush 99, 2) := dk_16 99 (dk_at dksX0_begins_2 9 rfl rfl)
theorem dX0_begins_57 : decode cX0_begins 57 = .ok (.invokevirtual 148, 3) := dk_182 0 148 (dk_at dksX0_begins_2 11 rfl rfl)
theorem dX0_begins_60 : decode cX0_begins 60 = .ok (.iastore, 1) := dk_79 (dk_at dksX0_begins_2 14 rfl rfl)
theorem dX0_begins_61 : decode cX0_begins 61 = .ok (.iinc 1 1, 3) := dk_132 1 1 (dk_at dksX0_begins_2 15 rfl rfl)
theorem dX0_begins_64 : decode cX0_begins 64 = .ok (.goto (-62), 3) := dk_167 255 194 (dk_at dksX0_begins_2 18 rfl rfl)
theorem dX0_begins_67 : decode cX0_begins 67 = .ok (.iconst 0, 1) := dk_3 (dk_at dksX0_begins_2 21 rfl rfl)
theorem dX0_begins_68 : decode cX0_begins 68 = .ok (.istore_n 1, 1) := dk_60 (dk_at dksX0_begins_2 22 rfl rfl)
theorem dX0_begins_69 : decode cX0_begins 69 = .ok (.iload_n 1, 1) := dk_27 (dk_at dksX0_begins_2 23 rfl rfl)
theorem dX0_begins_70 : decode cX0_begins 70 = .ok (.aload_n 0, 1) := dk_42 (dk_at dksX0_begins_3 0 rfl rfl)
theorem dX0_begins_71 : decode cX0_begins 71 = .ok (.getfield 20, 3) := dk_180 0 20 (dk_at dksX0_begins_3 1 rfl rfl)
theorem dX0_begins_74 : decode cX0_begins 74 = .ok (.invokevirtual 143, 3) := dk_182 0 143 (dk_at dksX0_begins_3 4 rfl rfl)
theorem dX0_begins_77 : decode cX0_begins 77 = .ok (.if_icmp .ge 36, 3) := dk_162 0 36 (dk_at dksX0_begins_3 7 rfl rfl)
theorem dX0_begins_80 : decode cX0_begins 80 = .ok (.aload_n 0, 1) := dk_42 (dk_at dksX0_begins_3 10 rfl rfl)
theorem dX0_begins_81 : decode cX0_begins 81 = .ok (.getfield 20, 3) := dk_180 0 20 (dk_at dksX0_begins_3 11 rfl rfl)
theorem dX0_begins_84 : decode cX0_begins 84 = .ok (.getfield 154, 3) := dk_180 0 154 (dk_at dksX0_begins_3 14 rfl rfl)
theorem dX0_begins_87 : decode cX0_begins 87 = .ok (.iload_n 1, 1) := dk_27 (dk_at dksX0_begins_3 17 rfl rfl)
theorem dX0_begins_88 : decode cX0_begins 88 = .ok (.aload_n 0, 1) := dk_42 (dk_at dksX0_begins_3 18 rfl rfl)
theorem dX0_begins_89 : decode cX0_begins 89 = .ok (.getfield 20, 3) := dk_180 0 20 (dk_at dksX0_begins_3 19 rfl rfl)
theorem dX0_begins_92 : decode cX0_begins 92 = .ok (.getfield 157, 3) := dk_180 0 157 (dk_at dksX0_begins_4 0 rfl rfl)
theorem dX0_begins_95 : decode cX0_begins 95 = .ok (.aload_n 0, 1) := dk_42 (dk_at dksX0_begins_4 3 rfl rfl)
theorem dX0_begins_96 : decode cX0_begins 96 = .ok (.iload_n 1, 1) := dk_27 (dk_at dksX0_begins_4 4 rfl rfl)
theorem dX0_begins_97 : decode cX0_begins 97 = .ok (.iconst 0, 1) := dk_3 (dk_at dksX0_begins_4 5 rfl rfl)
theorem dX0_begins_98 : decode cX0_begins 98 = .ok (.invokevirtual 135, 3) := dk_182 0 135 (dk_at dksX0_begins_4 6 rfl rfl)
theorem dX0_begins_101 : decode cX0_begins 101 = .ok (.bipush 99, 2) := dk_16 99 (dk_at dksX0_begins_4 9 rfl rfl)
theorem dX0_begins_103 : decode cX0_begins 103 = .ok (.invokevirtual 148, 3) := dk_182 0 148 (dk_at dksX0_begins_4 11 rfl rfl)
theorem dX0_begins_106 : decode cX0_begins 106 = .ok (.iastore, 1) := dk_79 (dk_at dksX0_begins_4 14 rfl rfl)
theorem dX0_begins_107 : decode cX0_begins 107 = .ok (.iinc 1 1, 3) := dk_132 1 1 (dk_at dksX0_begins_4 15 rfl rfl)
theorem dX0_begins_110 : decode cX0_begins 110 = .ok (.goto (-41), 3) := dk_167 255 215 (dk_at dksX0_begins_4 18 rfl rfl)
theorem dX0_begins_113 : decode cX0_begins 113 = .ok (.aload_n 0, 1) := dk_42 (dk_at dksX0_begins_4 21 rfl rfl)
theorem dX0_begins_114 : decode cX0_begins 114 = .ok (.bipush 41, 2) := dk_16 41 (dk_at dksX0_begins_4 22 rfl rfl)
theorem dX0_begins_116 : decode cX0_begins 116 = .ok (.aload_n 0, 1) := dk_42 (dk_at dksX0_begins_5 0 rfl rfl)
theorem dX0_begins_117 : decode cX0_begins 117 = .ok (.getfield 20, 3) := dk_180 0 20 (dk_at dksX0_begins_5 1 rfl rfl)
theorem dX0_begins_120 : decode cX0_begins 120 = .ok (.invokevirtual 143, 3) := dk_182 0 143 (dk_at dksX0_begins_5 4 rfl rfl)
theorem dX0_begins_123 : decode cX0_begins 123 = .ok (.imul, 1) := dk_104 (dk_at dksX0_begins_5 7 rfl rfl)
theorem dX0_begins_124 : decode cX0_begins 124 = .ok (.anewarray 36, 3) := dk_189 0 36 (dk_at dksX0_begins_5 8 rfl rfl)
theorem dX0_begins_127 : decode cX0_begins 127 = .ok (.putfield 38, 3) := dk_181 0 38 (dk_at dksX0_begins_5 11 rfl rfl)
theorem dX0_begins_130 : decode cX0_begins 130 = .ok (.aload_n 0, 1) := dk_42 (dk_at dksX0_begins_5 14 rfl rfl)
theorem dX0_begins_131 : decode cX0_begins 131 = .ok (.getfield 45, 3) := dk_180 0 45 (dk_at dksX0_begins_5 15 rfl rfl)
theorem dX0_begins_134 : decode cX0_begins 134 = .ok (.invokevirtual 160, 3) := dk_182 0 160 (dk_at dksX0_begins_5 18 rfl rfl)
theorem dX0_begins_137 : decode cX0_begins 137 = .ok (.iconst 0, 1) := dk_3 (dk_at dksX0_begins_5 21 rfl rfl)
theorem dX0_begins_138 : decode cX0_begins 138 = .ok (.istore_n 1, 1) := dk_60 (dk_at dksX0_begins_5 22 rfl rfl)
theorem dX0_begins_139 : decode cX0_begins 139 = .ok (.iload_n 1, 1) := dk_27 (dk_at dksX0_begins_5 23 rfl rfl)
theorem dX0_begins_140 : decode cX0_begins 140 = .ok (.aload_n 0, 1) := dk_42 (dk_at dksX0_begins_6 0 rfl rfl)
theorem dX0_begins_141 : decode cX0_begins 141 = .ok (.getfield 20, 3) := dk_180 0 20 (dk_at dksX0_begins_6 1 rfl rfl)
theorem dX0_begins_144 : decode cX0_begins 144 = .ok (.getfield 163, 3) := dk_180 0 163 (dk_at dksX0_begins_6 4 rfl rfl)
theorem dX0_begins_147 : decode cX0_begins 147 = .ok (.invokevirtual 100, 3) := dk_182 0 100 (dk_at dksX0_begins_6 7 rfl rfl)
theorem dX0_begins_150 : decode cX0_begins 150 = .ok (.if_icmp .ge 18, 3) := dk_162 0 18 (dk_at dksX0_begins_6 10 rfl rfl)
theorem dX0_begins_153 : decode cX0_begins 153 = .ok (.aload_n 0, 1) := dk_42 (dk_at dksX0_begins_6 13 rfl rfl)
theorem dX0_begins_154 : decode cX0_begins 154 = .ok (.getfield 45, 3) := dk_180 0 45 (dk_at dksX0_begins_6 14 rfl rfl)
theorem dX0_begins_157 : decode cX0_begins 157 = .ok (.aconst_null, 1) := dk_1 (dk_at dksX0_begins_6 17 rfl rfl)
theorem dX0_begins_158 : decode cX0_begins 158 = .ok (.invokevirtual 166, 3) := dk_182 0 166 (dk_at dksX0_begins_6 18 rfl rfl)
theorem dX0_begins_161 : decode cX0_begins 161 = .ok (.pop, 1) := dk_87 (dk_at dksX0_begins_6 21 rfl rfl)
theorem dX0_begins_162 : decode cX0_begins 162 = .ok (.iinc 1 1, 3) := dk_132 1 1 (dk_at dksX0_begins_7 0 rfl rfl)
theorem dX0_begins_165 : decode cX0_begins 165 = .ok (.goto (-26), 3) := dk_167 255 230 (dk_at dksX0_begins_7 3 rfl rfl)
theorem dX0_begins_168 : decode cX0_begins 168 = .ok (.return_, 1) := dk_177 (dk_at dksX0_begins_7 6 rfl rfl)
abbrev cX0_clip : ByteArray := prog_1_method_12_code
def yX0_clip : MethodName := ⟨RX0, "clip", "(J)J"⟩
def dkwX0_clip_0 : List UInt8 := [20, 0, 114, 20, 0, 116, 30, 184, 0, 70, 184, 0, 76, 173]
abbrev dktX0_clip_0 : List UInt8 := dkwX0_clip_0 ++ []
theorem dksX0_clip_0 : cX0_clip.data.toList.drop 0 = dktX0_clip_0 := by decide +kernel
theorem dX0_clip_0 : decode cX0_clip 0 = .ok (.ldc2_w 114, 3) := dk_20 0 114 (dk_at dksX0_clip_0 0 rfl rfl)
theorem dX0_clip_3 : decode cX0_clip 3 = .ok (.ldc2_w 116, 3) := dk_20 0 116 (dk_at dksX0_clip_0 3 rfl rfl)
theorem dX0_clip_6 : decode cX0_clip 6 = .ok (.lload_n 0, 1) := dk_30 (dk_at dksX0_clip_0 6 rfl rfl)
theorem dX0_clip_7 : decode cX0_clip 7 = .ok (.invokestatic 70, 3) := dk_184 0 70 (dk_at dksX0_clip_0 7 rfl rfl)
theorem dX0_clip_10 : decode cX0_clip 10 = .ok (.invokestatic 76, 3) := dk_184 0 76 (dk_at dksX0_clip_0 10 rfl rfl)
theorem dX0_clip_13 : decode cX0_clip 13 = .ok (.lreturn, 1) := dk_173 (dk_at dksX0_clip_0 13 rfl rfl)
abbrev cX0_clipped : ByteArray := prog_1_method_4_code
def yX0_clipped : MethodName := ⟨RX0, "clipped", "(JI)I"⟩
def dkwX0_clipped_0 : List UInt8 := [9, 28, 133, 30, 184, 0, 70, 184, 0, 76, 136, 172]
abbrev dktX0_clipped_0 : List UInt8 := dkwX0_clipped_0 ++ []
theorem dksX0_clipped_0 : cX0_clipped.data.toList.drop 0 = dktX0_clipped_0 := by decide +kernel
theorem dX0_clipped_0 : decode cX0_clipped 0 = .ok (.lconst 0, 1) := dk_9 (dk_at dksX0_clipped_0 0 rfl rfl)
theorem dX0_clipped_1 : decode cX0_clipped 1 = .ok (.iload_n 2, 1) := dk_28 (dk_at dksX0_clipped_0 1 rfl rfl)
theorem dX0_clipped_2 : decode cX0_clipped 2 = .ok (.i2l, 1) := dk_133 (dk_at dksX0_clipped_0 2 rfl rfl)
theorem dX0_clipped_3 : decode cX0_clipped 3 = .ok (.lload_n 0, 1) := dk_30 (dk_at dksX0_clipped_0 3 rfl rfl)
theorem dX0_clipped_4 : decode cX0_clipped 4 = .ok (.invokestatic 70, 3) := dk_184 0 70 (dk_at dksX0_clipped_0 4 rfl rfl)
theorem dX0_clipped_7 : decode cX0_clipped 7 = .ok (.invokestatic 76, 3) := dk_184 0 76 (dk_at dksX0_clipped_0 7 rfl rfl)
theorem dX0_clipped_10 : decode cX0_clipped 10 = .ok (.l2i, 1) := dk_136 (dk_at dksX0_clipped_0 10 rfl rfl)
theorem dX0_clipped_11 : decode cX0_clipped 11 = .ok (.ireturn, 1) := dk_172 (dk_at dksX0_clipped_0 11 rfl rfl)
abbrev cX0_ask : ByteArray := prog_1_method_14_code
def yX0_ask : MethodName := ⟨RX0, "ask", "(II)LToldTracks$Asking;"⟩
def dkwX0_ask_1 : List UInt8 := [180, 0, 20, 180, 0, 128, 27, 46, 182, 0, 131, 176]
abbrev dktX0_ask_1 : List UInt8 := dkwX0_ask_1 ++ []
def dkwX0_ask_0 : List UInt8 := [42, 180, 0, 32, 27, 42, 180, 0, 20, 180, 0, 125, 112, 27, 42, 180, 0, 20, 180, 0, 125, 108, 28, 42]
abbrev dktX0_ask_0 : List UInt8 := dkwX0_ask_0 ++ dktX0_ask_1
theorem dksX0_ask_0 : cX0_ask.data.toList.drop 0 = dktX0_ask_0 := by decide +kernel
theorem dksX0_ask_1 : cX0_ask.data.toList.drop 24 = dktX0_ask_1 := dk_seg dksX0_ask_0 24 rfl rfl
theorem dX0_ask_0 : decode cX0_ask 0 = .ok (.aload_n 0, 1) := dk_42 (dk_at dksX0_ask_0 0 rfl rfl)
theorem dX0_ask_1 : decode cX0_ask 1 = .ok (.getfield 32, 3) := dk_180 0 32 (dk_at dksX0_ask_0 1 rfl rfl)
theorem dX0_ask_4 : decode cX0_ask 4 = .ok (.iload_n 1, 1) := dk_27 (dk_at dksX0_ask_0 4 rfl rfl)
theorem dX0_ask_5 : decode cX0_ask 5 = .ok (.aload_n 0, 1) := dk_42 (dk_at dksX0_ask_0 5 rfl rfl)
theorem dX0_ask_6 : decode cX0_ask 6 = .ok (.getfield 20, 3) := dk_180 0 20 (dk_at dksX0_ask_0 6 rfl rfl)
theorem dX0_ask_9 : decode cX0_ask 9 = .ok (.getfield 125, 3) := dk_180 0 125 (dk_at dksX0_ask_0 9 rfl rfl)
theorem dX0_ask_12 : decode cX0_ask 12 = .ok (.irem, 1) := dk_112 (dk_at dksX0_ask_0 12 rfl rfl)
theorem dX0_ask_13 : decode cX0_ask 13 = .ok (.iload_n 1, 1) := dk_27 (dk_at dksX0_ask_0 13 rfl rfl)
theorem dX0_ask_14 : decode cX0_ask 14 = .ok (.aload_n 0, 1) := dk_42 (dk_at dksX0_ask_0 14 rfl rfl)
theorem dX0_ask_15 : decode cX0_ask 15 = .ok (.getfield 20, 3) := dk_180 0 20 (dk_at dksX0_ask_0 15 rfl rfl)
theorem dX0_ask_18 : decode cX0_ask 18 = .ok (.getfield 125, 3) := dk_180 0 125 (dk_at dksX0_ask_0 18 rfl rfl)
theorem dX0_ask_21 : decode cX0_ask 21 = .ok (.idiv, 1) := dk_108 (dk_at dksX0_ask_0 21 rfl rfl)
theorem dX0_ask_22 : decode cX0_ask 22 = .ok (.iload_n 2, 1) := dk_28 (dk_at dksX0_ask_0 22 rfl rfl)
theorem dX0_ask_23 : decode cX0_ask 23 = .ok (.aload_n 0, 1) := dk_42 (dk_at dksX0_ask_0 23 rfl rfl)
theorem dX0_ask_24 : decode cX0_ask 24 = .ok (.getfield 20, 3) := dk_180 0 20 (dk_at dksX0_ask_1 0 rfl rfl)
theorem dX0_ask_27 : decode cX0_ask 27 = .ok (.getfield 128, 3) := dk_180 0 128 (dk_at dksX0_ask_1 3 rfl rfl)
theorem dX0_ask_30 : decode cX0_ask 30 = .ok (.iload_n 1, 1) := dk_27 (dk_at dksX0_ask_1 6 rfl rfl)
theorem dX0_ask_31 : decode cX0_ask 31 = .ok (.iaload, 1) := dk_46 (dk_at dksX0_ask_1 7 rfl rfl)
theorem dX0_ask_32 : decode cX0_ask 32 = .ok (.invokevirtual 131, 3) := dk_182 0 131 (dk_at dksX0_ask_1 8 rfl rfl)
theorem dX0_ask_35 : decode cX0_ask 35 = .ok (.areturn, 1) := dk_176 (dk_at dksX0_ask_1 11 rfl rfl)
abbrev cX0_fault : ByteArray := prog_1_method_26_code
def yX0_fault : MethodName := ⟨RX0, "fault", "(I)I"⟩
def dkwX0_fault_1 : List UInt8 := [172]
abbrev dktX0_fault_1 : List UInt8 := dkwX0_fault_1 ++ []
def dkwX0_fault_0 : List UInt8 := [27, 154, 0, 10, 42, 180, 0, 237, 167, 0, 16, 27, 4, 160, 0, 10, 42, 180, 0, 49, 167, 0, 4, 2]
abbrev dktX0_fault_0 : List UInt8 := dkwX0_fault_0 ++ dktX0_fault_1
theorem dksX0_fault_0 : cX0_fault.data.toList.drop 0 = dktX0_fault_0 := by decide +kernel
theorem dksX0_fault_1 : cX0_fault.data.toList.drop 24 = dktX0_fault_1 := dk_seg dksX0_fault_0 24 rfl rfl
theorem dX0_fault_0 : decode cX0_fault 0 = .ok (.iload_n 1, 1) := dk_27 (dk_at dksX0_fault_0 0 rfl rfl)
theorem dX0_fault_1 : decode cX0_fault 1 = .ok (.ifCond .ne 10, 3) := dk_154 0 10 (dk_at dksX0_fault_0 1 rfl rfl)
theorem dX0_fault_4 : decode cX0_fault 4 = .ok (.aload_n 0, 1) := dk_42 (dk_at dksX0_fault_0 4 rfl rfl)
theorem dX0_fault_5 : decode cX0_fault 5 = .ok (.getfield 237, 3) := dk_180 0 237 (dk_at dksX0_fault_0 5 rfl rfl)
theorem dX0_fault_8 : decode cX0_fault 8 = .ok (.goto 16, 3) := dk_167 0 16 (dk_at dksX0_fault_0 8 rfl rfl)
theorem dX0_fault_11 : decode cX0_fault 11 = .ok (.iload_n 1, 1) := dk_27 (dk_at dksX0_fault_0 11 rfl rfl)
theorem dX0_fault_12 : decode cX0_fault 12 = .ok (.iconst 1, 1) := dk_4 (dk_at dksX0_fault_0 12 rfl rfl)
theorem dX0_fault_13 : decode cX0_fault 13 = .ok (.if_icmp .ne 10, 3) := dk_160 0 10 (dk_at dksX0_fault_0 13 rfl rfl)
theorem dX0_fault_16 : decode cX0_fault 16 = .ok (.aload_n 0, 1) := dk_42 (dk_at dksX0_fault_0 16 rfl rfl)
theorem dX0_fault_17 : decode cX0_fault 17 = .ok (.getfield 49, 3) := dk_180 0 49 (dk_at dksX0_fault_0 17 rfl rfl)
theorem dX0_fault_20 : decode cX0_fault 20 = .ok (.goto 4, 3) := dk_167 0 4 (dk_at dksX0_fault_0 20 rfl rfl)
theorem dX0_fault_23 : decode cX0_fault 23 = .ok (.iconst (-1), 1) := dk_2 (dk_at dksX0_fault_0 23 rfl rfl)
theorem dX0_fault_24 : decode cX0_fault 24 = .ok (.ireturn, 1) := dk_172 (dk_at dksX0_fault_1 0 rfl rfl)
abbrev cX0_has : ByteArray := prog_1_method_28_code
def yX0_has : MethodName := ⟨RX0, "has", "(I)I"⟩
def dkwX0_has_5 : List UInt8 := [172]
abbrev dktX0_has_5 : List UInt8 := dkwX0_has_5 ++ []
def dkwX0_has_4 : List UInt8 := [180, 0, 28, 180, 1, 11, 182, 0, 100, 172, 42, 180, 0, 20, 180, 1, 14, 172, 42, 182, 1, 17, 172, 2]
abbrev dktX0_has_4 : List UInt8 := dkwX0_has_4 ++ dktX0_has_5
def dkwX0_has_3 : List UInt8 := [182, 0, 100, 172, 42, 180, 0, 28, 182, 1, 5, 172, 42, 180, 0, 20, 180, 1, 8, 182, 0, 100, 172, 42]
abbrev dktX0_has_3 : List UInt8 := dkwX0_has_3 ++ dktX0_has_4
def dkwX0_has_2 : List UInt8 := [42, 180, 0, 20, 180, 0, 125, 172, 42, 180, 0, 20, 180, 1, 2, 172, 42, 180, 0, 20, 180, 0, 163]
abbrev dktX0_has_2 : List UInt8 := dkwX0_has_2 ++ dktX0_has_3
def dkwX0_has_1 : List UInt8 := [170, 0, 0, 0, 0, 0, 117, 0, 0, 0, 0, 0, 0, 0, 7, 0, 0, 0, 47, 0, 0, 0, 55, 0, 0, 0, 63, 0, 0, 0, 74, 0, 0, 0, 82, 0, 0, 0, 93, 0, 0, 0, 104, 0, 0, 0, 112]
abbrev dktX0_has_1 : List UInt8 := dkwX0_has_1 ++ dktX0_has_2
def dkwX0_has_0 : List UInt8 := [27]
abbrev dktX0_has_0 : List UInt8 := dkwX0_has_0 ++ dktX0_has_1
theorem dksX0_has_0 : cX0_has.data.toList.drop 0 = dktX0_has_0 := by decide +kernel
theorem dksX0_has_1 : cX0_has.data.toList.drop 1 = dktX0_has_1 := dk_seg dksX0_has_0 1 rfl rfl
theorem dksX0_has_2 : cX0_has.data.toList.drop 48 = dktX0_has_2 := dk_seg dksX0_has_1 47 rfl rfl
theorem dksX0_has_3 : cX0_has.data.toList.drop 71 = dktX0_has_3 := dk_seg dksX0_has_2 23 rfl rfl
theorem dksX0_has_4 : cX0_has.data.toList.drop 95 = dktX0_has_4 := dk_seg dksX0_has_3 24 rfl rfl
theorem dksX0_has_5 : cX0_has.data.toList.drop 119 = dktX0_has_5 := dk_seg dksX0_has_4 24 rfl rfl
theorem dX0_has_0 : decode cX0_has 0 = .ok (.iload_n 1, 1) := dk_27 (dk_at dksX0_has_0 0 rfl rfl)
theorem dX0_has_1 : decode cX0_has 1 = .ok (.tableswitch 117 0 7 #[47, 55, 63, 74, 82, 93, 104, 112], 47) := by decide +kernel
theorem dX0_has_48 : decode cX0_has 48 = .ok (.aload_n 0, 1) := dk_42 (dk_at dksX0_has_2 0 rfl rfl)
theorem dX0_has_49 : decode cX0_has 49 = .ok (.getfield 20, 3) := dk_180 0 20 (dk_at dksX0_has_2 1 rfl rfl)
theorem dX0_has_52 : decode cX0_has 52 = .ok (.getfield 125, 3) := dk_180 0 125 (dk_at dksX0_has_2 4 rfl rfl)
theorem dX0_has_55 : decode cX0_has 55 = .ok (.ireturn, 1) := dk_172 (dk_at dksX0_has_2 7 rfl rfl)
theorem dX0_has_56 : decode cX0_has 56 = .ok (.aload_n 0, 1) := dk_42 (dk_at dksX0_has_2 8 rfl rfl)
theorem dX0_has_57 : decode cX0_has 57 = .ok (.getfield 20, 3) := dk_180 0 20 (dk_at dksX0_has_2 9 rfl rfl)
theorem dX0_has_60 : decode cX0_has 60 = .ok (.getfield 258, 3) := dk_180 1 2 (dk_at dksX0_has_2 12 rfl rfl)
theorem dX0_has_63 : decode cX0_has 63 = .ok (.ireturn, 1) := dk_172 (dk_at dksX0_has_2 15 rfl rfl)
theorem dX0_has_64 : decode cX0_has 64 = .ok (.aload_n 0, 1) := dk_42 (dk_at dksX0_has_2 16 rfl rfl)
theorem dX0_has_65 : decode cX0_has 65 = .ok (.getfield 20, 3) := dk_180 0 20 (dk_at dksX0_has_2 17 rfl rfl)
theorem dX0_has_68 : decode cX0_has 68 = .ok (.getfield 163, 3) := dk_180 0 163 (dk_at dksX0_has_2 20 rfl rfl)
theorem dX0_has_71 : decode cX0_has 71 = .ok (.invokevirtual 100, 3) := dk_182 0 100 (dk_at dksX0_has_3 0 rfl rfl)
theorem dX0_has_74 : decode cX0_has 74 = .ok (.ireturn, 1) := dk_172 (dk_at dksX0_has_3 3 rfl rfl)
theorem dX0_has_75 : decode cX0_has 75 = .ok (.aload_n 0, 1) := dk_42 (dk_at dksX0_has_3 4 rfl rfl)
theorem dX0_has_76 : decode cX0_has 76 = .ok (.getfield 28, 3) := dk_180 0 28 (dk_at dksX0_has_3 5 rfl rfl)
theorem dX0_has_79 : decode cX0_has 79 = .ok (.invokevirtual 261, 3) := dk_182 1 5 (dk_at dksX0_has_3 8 rfl rfl)
theorem dX0_has_82 : decode cX0_has 82 = .ok (.ireturn, 1) := dk_172 (dk_at dksX0_has_3 11 rfl rfl)
theorem dX0_has_83 : decode cX0_has 83 = .ok (.aload_n 0, 1) := dk_42 (dk_at dksX0_has_3 12 rfl rfl)
theorem dX0_has_84 : decode cX0_has 84 = .ok (.getfield 20, 3) := dk_180 0 20 (dk_at dksX0_has_3 13 rfl rfl)
theorem dX0_has_87 : decode cX0_has 87 = .ok (.getfield 264, 3) := dk_180 1 8 (dk_at dksX0_has_3 16 rfl rfl)
theorem dX0_has_90 : decode cX0_has 90 = .ok (.invokevirtual 100, 3) := dk_182 0 100 (dk_at dksX0_has_3 19 rfl rfl)
theorem dX0_has_93 : decode cX0_has 93 = .ok (.ireturn, 1) := dk_172 (dk_at dksX0_has_3 22 rfl rfl)
theorem dX0_has_94 : decode cX0_has 94 = .ok (.aload_n 0, 1) := dk_42 (dk_at dksX0_has_3 23 rfl rfl)
theorem dX0_has_95 : decode cX0_has 95 = .ok (.getfield 28, 3) := dk_180 0 28 (dk_at dksX0_has_4 0 rfl rfl)
theorem dX0_has_98 : decode cX0_has 98 = .ok (.getfield 267, 3) := dk_180 1 11 (dk_at dksX0_has_4 3 rfl rfl)
theorem dX0_has_101 : decode cX0_has 101 = .ok (.invokevirtual 100, 3) := dk_182 0 100 (dk_at dksX0_has_4 6 rfl rfl)
theorem dX0_has_104 : decode cX0_has 104 = .ok (.ireturn, 1) := dk_172 (dk_at dksX0_has_4 9 rfl rfl)
theorem dX0_has_105 : decode cX0_has 105 = .ok (.aload_n 0, 1) := dk_42 (dk_at dksX0_has_4 10 rfl rfl)
theorem dX0_has_106 : decode cX0_has 106 = .ok (.getfield 20, 3) := dk_180 0 20 (dk_at dksX0_has_4 11 rfl rfl)
theorem dX0_has_109 : decode cX0_has 109 = .ok (.getfield 270, 3) := dk_180 1 14 (dk_at dksX0_has_4 14 rfl rfl)
theorem dX0_has_112 : decode cX0_has 112 = .ok (.ireturn, 1) := dk_172 (dk_at dksX0_has_4 17 rfl rfl)
theorem dX0_has_113 : decode cX0_has 113 = .ok (.aload_n 0, 1) := dk_42 (dk_at dksX0_has_4 18 rfl rfl)
theorem dX0_has_114 : decode cX0_has 114 = .ok (.invokevirtual 273, 3) := dk_182 1 17 (dk_at dksX0_has_4 19 rfl rfl)
theorem dX0_has_117 : decode cX0_has 117 = .ok (.ireturn, 1) := dk_172 (dk_at dksX0_has_4 22 rfl rfl)
theorem dX0_has_118 : decode cX0_has 118 = .ok (.iconst (-1), 1) := dk_2 (dk_at dksX0_has_4 23 rfl rfl)
theorem dX0_has_119 : decode cX0_has 119 = .ok (.ireturn, 1) := dk_172 (dk_at dksX0_has_5 0 rfl rfl)
abbrev cX0_sayers : ByteArray := prog_1_method_27_code
def yX0_sayers : MethodName := ⟨RX0, "sayers", "()I"⟩
def dkwX0_sayers_2 : List UInt8 := [167, 255, 216, 27, 172]
abbrev dktX0_sayers_2 : List UInt8 := dkwX0_sayers_2 ++ []
def dkwX0_sayers_1 : List UInt8 := [180, 0, 249, 28, 182, 0, 104, 192, 0, 42, 182, 0, 254, 154, 0, 6, 132, 1, 1, 132, 2, 1]
abbrev dktX0_sayers_1 : List UInt8 := dkwX0_sayers_1 ++ dktX0_sayers_2
def dkwX0_sayers_0 : List UInt8 := [3, 60, 3, 61, 28, 42, 180, 0, 28, 180, 0, 249, 182, 0, 100, 162, 0, 32, 42, 180, 0, 28]
abbrev dktX0_sayers_0 : List UInt8 := dkwX0_sayers_0 ++ dktX0_sayers_1
theorem dksX0_sayers_0 : cX0_sayers.data.toList.drop 0 = dktX0_sayers_0 := by decide +kernel
theorem dksX0_sayers_1 : cX0_sayers.data.toList.drop 22 = dktX0_sayers_1 := dk_seg dksX0_sayers_0 22 rfl rfl
theorem dksX0_sayers_2 : cX0_sayers.data.toList.drop 44 = dktX0_sayers_2 := dk_seg dksX0_sayers_1 22 rfl rfl
theorem dX0_sayers_0 : decode cX0_sayers 0 = .ok (.iconst 0, 1) := dk_3 (dk_at dksX0_sayers_0 0 rfl rfl)
theorem dX0_sayers_1 : decode cX0_sayers 1 = .ok (.istore_n 1, 1) := dk_60 (dk_at dksX0_sayers_0 1 rfl rfl)
theorem dX0_sayers_2 : decode cX0_sayers 2 = .ok (.iconst 0, 1) := dk_3 (dk_at dksX0_sayers_0 2 rfl rfl)
theorem dX0_sayers_3 : decode cX0_sayers 3 = .ok (.istore_n 2, 1) := dk_61 (dk_at dksX0_sayers_0 3 rfl rfl)
theorem dX0_sayers_4 : decode cX0_sayers 4 = .ok (.iload_n 2, 1) := dk_28 (dk_at dksX0_sayers_0 4 rfl rfl)
theorem dX0_sayers_5 : decode cX0_sayers 5 = .ok (.aload_n 0, 1) := dk_42 (dk_at dksX0_sayers_0 5 rfl rfl)
theorem dX0_sayers_6 : decode cX0_sayers 6 = .ok (.getfield 28, 3) := dk_180 0 28 (dk_at dksX0_sayers_0 6 rfl rfl)
theorem dX0_sayers_9 : decode cX0_sayers 9 = .ok (.getfield 249, 3) := dk_180 0 249 (dk_at dksX0_sayers_0 9 rfl rfl)
theorem dX0_sayers_12 : decode cX0_sayers 12 = .ok (.invokevirtual 100, 3) := dk_182 0 100 (dk_at dksX0_sayers_0 12 rfl rfl)
theorem dX0_sayers_15 : decode cX0_sayers 15 = .ok (.if_icmp .ge 32, 3) := dk_162 0 32 (dk_at dksX0_sayers_0 15 rfl rfl)
theorem dX0_sayers_18 : decode cX0_sayers 18 = .ok (.aload_n 0, 1) := dk_42 (dk_at dksX0_sayers_0 18 rfl rfl)
theorem dX0_sayers_19 : decode cX0_sayers 19 = .ok (.getfield 28, 3) := dk_180 0 28 (dk_at dksX0_sayers_0 19 rfl rfl)
theorem dX0_sayers_22 : decode cX0_sayers 22 = .ok (.getfield 249, 3) := dk_180 0 249 (dk_at dksX0_sayers_1 0 rfl rfl)
theorem dX0_sayers_25 : decode cX0_sayers 25 = .ok (.iload_n 2, 1) := dk_28 (dk_at dksX0_sayers_1 3 rfl rfl)
theorem dX0_sayers_26 : decode cX0_sayers 26 = .ok (.invokevirtual 104, 3) := dk_182 0 104 (dk_at dksX0_sayers_1 4 rfl rfl)
theorem dX0_sayers_29 : decode cX0_sayers 29 = .ok (.checkcast 42, 3) := dk_192 0 42 (dk_at dksX0_sayers_1 7 rfl rfl)
theorem dX0_sayers_32 : decode cX0_sayers 32 = .ok (.invokevirtual 254, 3) := dk_182 0 254 (dk_at dksX0_sayers_1 10 rfl rfl)
theorem dX0_sayers_35 : decode cX0_sayers 35 = .ok (.ifCond .ne 6, 3) := dk_154 0 6 (dk_at dksX0_sayers_1 13 rfl rfl)
theorem dX0_sayers_38 : decode cX0_sayers 38 = .ok (.iinc 1 1, 3) := dk_132 1 1 (dk_at dksX0_sayers_1 16 rfl rfl)
theorem dX0_sayers_41 : decode cX0_sayers 41 = .ok (.iinc 2 1, 3) := dk_132 2 1 (dk_at dksX0_sayers_1 19 rfl rfl)
theorem dX0_sayers_44 : decode cX0_sayers 44 = .ok (.goto (-40), 3) := dk_167 255 216 (dk_at dksX0_sayers_2 0 rfl rfl)
theorem dX0_sayers_47 : decode cX0_sayers 47 = .ok (.iload_n 1, 1) := dk_27 (dk_at dksX0_sayers_2 3 rfl rfl)
theorem dX0_sayers_48 : decode cX0_sayers 48 = .ok (.ireturn, 1) := dk_172 (dk_at dksX0_sayers_2 4 rfl rfl)
abbrev cX0_letter : ByteArray := prog_1_method_31_code
def yX0_letter : MethodName := ⟨RX0, "letter", "(II)I"⟩
def dkwX0_letter_2 : List UInt8 := [180, 0, 163, 27, 182, 0, 104, 192, 0, 178, 180, 1, 25, 28, 182, 0, 121, 167, 0, 4, 2, 172]
abbrev dktX0_letter_2 : List UInt8 := dkwX0_letter_2 ++ []
def dkwX0_letter_1 : List UInt8 := [192, 0, 178, 180, 1, 25, 182, 0, 118, 4, 100, 133, 184, 0, 96, 153, 0, 27, 42, 180, 0, 20]
abbrev dktX0_letter_1 : List UInt8 := dkwX0_letter_1 ++ dktX0_letter_2
def dkwX0_letter_0 : List UInt8 := [42, 27, 182, 1, 22, 153, 0, 59, 28, 133, 9, 42, 180, 0, 20, 180, 0, 163, 27, 182, 0, 104]
abbrev dktX0_letter_0 : List UInt8 := dkwX0_letter_0 ++ dktX0_letter_1
theorem dksX0_letter_0 : cX0_letter.data.toList.drop 0 = dktX0_letter_0 := by decide +kernel
theorem dksX0_letter_1 : cX0_letter.data.toList.drop 22 = dktX0_letter_1 := dk_seg dksX0_letter_0 22 rfl rfl
theorem dksX0_letter_2 : cX0_letter.data.toList.drop 44 = dktX0_letter_2 := dk_seg dksX0_letter_1 22 rfl rfl
theorem dX0_letter_0 : decode cX0_letter 0 = .ok (.aload_n 0, 1) := dk_42 (dk_at dksX0_letter_0 0 rfl rfl)
theorem dX0_letter_1 : decode cX0_letter 1 = .ok (.iload_n 1, 1) := dk_27 (dk_at dksX0_letter_0 1 rfl rfl)
theorem dX0_letter_2 : decode cX0_letter 2 = .ok (.invokevirtual 278, 3) := dk_182 1 22 (dk_at dksX0_letter_0 2 rfl rfl)
theorem dX0_letter_5 : decode cX0_letter 5 = .ok (.ifCond .eq 59, 3) := dk_153 0 59 (dk_at dksX0_letter_0 5 rfl rfl)
theorem dX0_letter_8 : decode cX0_letter 8 = .ok (.iload_n 2, 1) := dk_28 (dk_at dksX0_letter_0 8 rfl rfl)
theorem dX0_letter_9 : decode cX0_letter 9 = .ok (.i2l, 1) := dk_133 (dk_at dksX0_letter_0 9 rfl rfl)
theorem dX0_letter_10 : decode cX0_letter 10 = .ok (.lconst 0, 1) := dk_9 (dk_at dksX0_letter_0 10 rfl rfl)
theorem dX0_letter_11 : decode cX0_letter 11 = .ok (.aload_n 0, 1) := dk_42 (dk_at dksX0_letter_0 11 rfl rfl)
theorem dX0_letter_12 : decode cX0_letter 12 = .ok (.getfield 20, 3) := dk_180 0 20 (dk_at dksX0_letter_0 12 rfl rfl)
theorem dX0_letter_15 : decode cX0_letter 15 = .ok (.getfield 163, 3) := dk_180 0 163 (dk_at dksX0_letter_0 15 rfl rfl)
theorem dX0_letter_18 : decode cX0_letter 18 = .ok (.iload_n 1, 1) := dk_27 (dk_at dksX0_letter_0 18 rfl rfl)
theorem dX0_letter_19 : decode cX0_letter 19 = .ok (.invokevirtual 104, 3) := dk_182 0 104 (dk_at dksX0_letter_0 19 rfl rfl)
theorem dX0_letter_22 : decode cX0_letter 22 = .ok (.checkcast 178, 3) := dk_192 0 178 (dk_at dksX0_letter_1 0 rfl rfl)
theorem dX0_letter_25 : decode cX0_letter 25 = .ok (.getfield 281, 3) := dk_180 1 25 (dk_at dksX0_letter_1 3 rfl rfl)
theorem dX0_letter_28 : decode cX0_letter 28 = .ok (.invokevirtual 118, 3) := dk_182 0 118 (dk_at dksX0_letter_1 6 rfl rfl)
theorem dX0_letter_31 : decode cX0_letter 31 = .ok (.iconst 1, 1) := dk_4 (dk_at dksX0_letter_1 9 rfl rfl)
theorem dX0_letter_32 : decode cX0_letter 32 = .ok (.isub, 1) := dk_100 (dk_at dksX0_letter_1 10 rfl rfl)
theorem dX0_letter_33 : decode cX0_letter 33 = .ok (.i2l, 1) := dk_133 (dk_at dksX0_letter_1 11 rfl rfl)
theorem dX0_letter_34 : decode cX0_letter 34 = .ok (.invokestatic 96, 3) := dk_184 0 96 (dk_at dksX0_letter_1 12 rfl rfl)
theorem dX0_letter_37 : decode cX0_letter 37 = .ok (.ifCond .eq 27, 3) := dk_153 0 27 (dk_at dksX0_letter_1 15 rfl rfl)
theorem dX0_letter_40 : decode cX0_letter 40 = .ok (.aload_n 0, 1) := dk_42 (dk_at dksX0_letter_1 18 rfl rfl)
theorem dX0_letter_41 : decode cX0_letter 41 = .ok (.getfield 20, 3) := dk_180 0 20 (dk_at dksX0_letter_1 19 rfl rfl)
theorem dX0_letter_44 : decode cX0_letter 44 = .ok (.getfield 163, 3) := dk_180 0 163 (dk_at dksX0_letter_2 0 rfl rfl)
theorem dX0_letter_47 : decode cX0_letter 47 = .ok (.iload_n 1, 1) := dk_27 (dk_at dksX0_letter_2 3 rfl rfl)
theorem dX0_letter_48 : decode cX0_letter 48 = .ok (.invokevirtual 104, 3) := dk_182 0 104 (dk_at dksX0_letter_2 4 rfl rfl)
theorem dX0_letter_51 : decode cX0_letter 51 = .ok (.checkcast 178, 3) := dk_192 0 178 (dk_at dksX0_letter_2 7 rfl rfl)
theorem dX0_letter_54 : decode cX0_letter 54 = .ok (.getfield 281, 3) := dk_180 1 25 (dk_at dksX0_letter_2 10 rfl rfl)
theorem dX0_letter_57 : decode cX0_letter 57 = .ok (.iload_n 2, 1) := dk_28 (dk_at dksX0_letter_2 13 rfl rfl)
theorem dX0_letter_58 : decode cX0_letter 58 = .ok (.invokevirtual 121, 3) := dk_182 0 121 (dk_at dksX0_letter_2 14 rfl rfl)
theorem dX0_letter_61 : decode cX0_letter 61 = .ok (.goto 4, 3) := dk_167 0 4 (dk_at dksX0_letter_2 17 rfl rfl)
theorem dX0_letter_64 : decode cX0_letter 64 = .ok (.iconst (-1), 1) := dk_2 (dk_at dksX0_letter_2 20 rfl rfl)
theorem dX0_letter_65 : decode cX0_letter 65 = .ok (.ireturn, 1) := dk_172 (dk_at dksX0_letter_2 21 rfl rfl)
abbrev cX0_isShip : ByteArray := prog_1_method_29_code
def yX0_isShip : MethodName := ⟨RX0, "isShip", "(I)Z"⟩
def dkwX0_isShip_0 : List UInt8 := [27, 133, 9, 42, 180, 0, 20, 180, 0, 163, 182, 0, 100, 4, 100, 133, 184, 0, 96, 172]
abbrev dktX0_isShip_0 : List UInt8 := dkwX0_isShip_0 ++ []
theorem dksX0_isShip_0 : cX0_isShip.data.toList.drop 0 = dktX0_isShip_0 := by decide +kernel
theorem dX0_isShip_0 : decode cX0_isShip 0 = .ok (.iload_n 1, 1) := dk_27 (dk_at dksX0_isShip_0 0 rfl rfl)
theorem dX0_isShip_1 : decode cX0_isShip 1 = .ok (.i2l, 1) := dk_133 (dk_at dksX0_isShip_0 1 rfl rfl)
theorem dX0_isShip_2 : decode cX0_isShip 2 = .ok (.lconst 0, 1) := dk_9 (dk_at dksX0_isShip_0 2 rfl rfl)
theorem dX0_isShip_3 : decode cX0_isShip 3 = .ok (.aload_n 0, 1) := dk_42 (dk_at dksX0_isShip_0 3 rfl rfl)
theorem dX0_isShip_4 : decode cX0_isShip 4 = .ok (.getfield 20, 3) := dk_180 0 20 (dk_at dksX0_isShip_0 4 rfl rfl)
theorem dX0_isShip_7 : decode cX0_isShip 7 = .ok (.getfield 163, 3) := dk_180 0 163 (dk_at dksX0_isShip_0 7 rfl rfl)
theorem dX0_isShip_10 : decode cX0_isShip 10 = .ok (.invokevirtual 100, 3) := dk_182 0 100 (dk_at dksX0_isShip_0 10 rfl rfl)
theorem dX0_isShip_13 : decode cX0_isShip 13 = .ok (.iconst 1, 1) := dk_4 (dk_at dksX0_isShip_0 13 rfl rfl)
theorem dX0_isShip_14 : decode cX0_isShip 14 = .ok (.isub, 1) := dk_100 (dk_at dksX0_isShip_0 14 rfl rfl)
theorem dX0_isShip_15 : decode cX0_isShip 15 = .ok (.i2l, 1) := dk_133 (dk_at dksX0_isShip_0 15 rfl rfl)
theorem dX0_isShip_16 : decode cX0_isShip 16 = .ok (.invokestatic 96, 3) := dk_184 0 96 (dk_at dksX0_isShip_0 16 rfl rfl)
theorem dX0_isShip_19 : decode cX0_isShip 19 = .ok (.ireturn, 1) := dk_172 (dk_at dksX0_isShip_0 19 rfl rfl)
abbrev cX0_ship : ByteArray := prog_1_method_33_code
def yX0_ship : MethodName := ⟨RX0, "ship", "(II)I"⟩
def dkwX0_ship_5 : List UInt8 := [172]
abbrev dktX0_ship_5 : List UInt8 := dkwX0_ship_5 ++ []
def dkwX0_ship_4 : List UInt8 := [182, 1, 48, 172, 42, 27, 182, 1, 51, 172, 45, 180, 1, 54, 153, 0, 7, 4, 167, 0, 4, 3, 172, 2]
abbrev dktX0_ship_4 : List UInt8 := dkwX0_ship_4 ++ dktX0_ship_5
def dkwX0_ship_3 : List UInt8 := [45, 180, 1, 35, 180, 1, 41, 172, 45, 180, 1, 44, 182, 0, 100, 172, 45, 180, 1, 45, 172, 45]
abbrev dktX0_ship_3 : List UInt8 := dkwX0_ship_3 ++ dktX0_ship_4
def dkwX0_ship_2 : List UInt8 := [45, 180, 1, 35, 180, 1, 38, 172, 45, 180, 1, 35, 180, 0, 185, 172, 45, 180, 1, 35, 180, 0, 177, 172]
abbrev dktX0_ship_2 : List UInt8 := dkwX0_ship_2 ++ dktX0_ship_3
def dkwX0_ship_1 : List UInt8 := [170, 0, 0, 0, 0, 0, 120, 0, 0, 0, 0, 0, 0, 0, 8, 0, 0, 0, 51, 0, 0, 0, 59, 0, 0, 0, 67, 0, 0, 0, 75, 0, 0, 0, 83, 0, 0, 0, 91, 0, 0, 0, 96, 0, 0, 0, 101, 0, 0, 0, 107]
abbrev dktX0_ship_1 : List UInt8 := dkwX0_ship_1 ++ dktX0_ship_2
def dkwX0_ship_0 : List UInt8 := [42, 27, 182, 1, 22, 154, 0, 5, 2, 172, 42, 27, 182, 1, 31, 78, 28]
abbrev dktX0_ship_0 : List UInt8 := dkwX0_ship_0 ++ dktX0_ship_1
theorem dksX0_ship_0 : cX0_ship.data.toList.drop 0 = dktX0_ship_0 := by decide +kernel
theorem dksX0_ship_1 : cX0_ship.data.toList.drop 17 = dktX0_ship_1 := dk_seg dksX0_ship_0 17 rfl rfl
theorem dksX0_ship_2 : cX0_ship.data.toList.drop 68 = dktX0_ship_2 := dk_seg dksX0_ship_1 51 rfl rfl
theorem dksX0_ship_3 : cX0_ship.data.toList.drop 92 = dktX0_ship_3 := dk_seg dksX0_ship_2 24 rfl rfl
theorem dksX0_ship_4 : cX0_ship.data.toList.drop 114 = dktX0_ship_4 := dk_seg dksX0_ship_3 22 rfl rfl
theorem dksX0_ship_5 : cX0_ship.data.toList.drop 138 = dktX0_ship_5 := dk_seg dksX0_ship_4 24 rfl rfl
theorem dX0_ship_0 : decode cX0_ship 0 = .ok (.aload_n 0, 1) := dk_42 (dk_at dksX0_ship_0 0 rfl rfl)
theorem dX0_ship_1 : decode cX0_ship 1 = .ok (.iload_n 1, 1) := dk_27 (dk_at dksX0_ship_0 1 rfl rfl)
theorem dX0_ship_2 : decode cX0_ship 2 = .ok (.invokevirtual 278, 3) := dk_182 1 22 (dk_at dksX0_ship_0 2 rfl rfl)
theorem dX0_ship_5 : decode cX0_ship 5 = .ok (.ifCond .ne 5, 3) := dk_154 0 5 (dk_at dksX0_ship_0 5 rfl rfl)
theorem dX0_ship_8 : decode cX0_ship 8 = .ok (.iconst (-1), 1) := dk_2 (dk_at dksX0_ship_0 8 rfl rfl)
theorem dX0_ship_9 : decode cX0_ship 9 = .ok (.ireturn, 1) := dk_172 (dk_at dksX0_ship_0 9 rfl rfl)
theorem dX0_ship_10 : decode cX0_ship 10 = .ok (.aload_n 0, 1) := dk_42 (dk_at dksX0_ship_0 10 rfl rfl)
theorem dX0_ship_11 : decode cX0_ship 11 = .ok (.iload_n 1, 1) := dk_27 (dk_at dksX0_ship_0 11 rfl rfl)
theorem dX0_ship_12 : decode cX0_ship 12 = .ok (.invokevirtual 287, 3) := dk_182 1 31 (dk_at dksX0_ship_0 12 rfl rfl)
theorem dX0_ship_15 : decode cX0_ship 15 = .ok (.astore_n 3, 1) := dk_78 (dk_at dksX0_ship_0 15 rfl rfl)
theorem dX0_ship_16 : decode cX0_ship 16 = .ok (.iload_n 2, 1) := dk_28 (dk_at dksX0_ship_0 16 rfl rfl)
theorem dX0_ship_17 : decode cX0_ship 17 = .ok (.tableswitch 120 0 8 #[51, 59, 67, 75, 83, 91, 96, 101, 107], 51) := by decide +kernel
theorem dX0_ship_68 : decode cX0_ship 68 = .ok (.aload_n 3, 1) := dk_45 (dk_at dksX0_ship_2 0 rfl rfl)
theorem dX0_ship_69 : decode cX0_ship 69 = .ok (.getfield 291, 3) := dk_180 1 35 (dk_at dksX0_ship_2 1 rfl rfl)
theorem dX0_ship_72 : decode cX0_ship 72 = .ok (.getfield 294, 3) := dk_180 1 38 (dk_at dksX0_ship_2 4 rfl rfl)
theorem dX0_ship_75 : decode cX0_ship 75 = .ok (.ireturn, 1) := dk_172 (dk_at dksX0_ship_2 7 rfl rfl)
theorem dX0_ship_76 : decode cX0_ship 76 = .ok (.aload_n 3, 1) := dk_45 (dk_at dksX0_ship_2 8 rfl rfl)
theorem dX0_ship_77 : decode cX0_ship 77 = .ok (.getfield 291, 3) := dk_180 1 35 (dk_at dksX0_ship_2 9 rfl rfl)
theorem dX0_ship_80 : decode cX0_ship 80 = .ok (.getfield 185, 3) := dk_180 0 185 (dk_at dksX0_ship_2 12 rfl rfl)
theorem dX0_ship_83 : decode cX0_ship 83 = .ok (.ireturn, 1) := dk_172 (dk_at dksX0_ship_2 15 rfl rfl)
theorem dX0_ship_84 : decode cX0_ship 84 = .ok (.aload_n 3, 1) := dk_45 (dk_at dksX0_ship_2 16 rfl rfl)
theorem dX0_ship_85 : decode cX0_ship 85 = .ok (.getfield 291, 3) := dk_180 1 35 (dk_at dksX0_ship_2 17 rfl rfl)
theorem dX0_ship_88 : decode cX0_ship 88 = .ok (.getfield 177, 3) := dk_180 0 177 (dk_at dksX0_ship_2 20 rfl rfl)
theorem dX0_ship_91 : decode cX0_ship 91 = .ok (.ireturn, 1) := dk_172 (dk_at dksX0_ship_2 23 rfl rfl)
theorem dX0_ship_92 : decode cX0_ship 92 = .ok (.aload_n 3, 1) := dk_45 (dk_at dksX0_ship_3 0 rfl rfl)
theorem dX0_ship_93 : decode cX0_ship 93 = .ok (.getfield 291, 3) := dk_180 1 35 (dk_at dksX0_ship_3 1 rfl rfl)
theorem dX0_ship_96 : decode cX0_ship 96 = .ok (.getfield 297, 3) := dk_180 1 41 (dk_at dksX0_ship_3 4 rfl rfl)
theorem dX0_ship_99 : decode cX0_ship 99 = .ok (.ireturn, 1) := dk_172 (dk_at dksX0_ship_3 7 rfl rfl)
theorem dX0_ship_100 : decode cX0_ship 100 = .ok (.aload_n 3, 1) := dk_45 (dk_at dksX0_ship_3 8 rfl rfl)
theorem dX0_ship_101 : decode cX0_ship 101 = .ok (.getfield 300, 3) := dk_180 1 44 (dk_at dksX0_ship_3 9 rfl rfl)
theorem dX0_ship_104 : decode cX0_ship 104 = .ok (.invokevirtual 100, 3) := dk_182 0 100 (dk_at dksX0_ship_3 12 rfl rfl)
theorem dX0_ship_107 : decode cX0_ship 107 = .ok (.ireturn, 1) := dk_172 (dk_at dksX0_ship_3 15 rfl rfl)
theorem dX0_ship_108 : decode cX0_ship 108 = .ok (.aload_n 3, 1) := dk_45 (dk_at dksX0_ship_3 16 rfl rfl)
theorem dX0_ship_109 : decode cX0_ship 109 = .ok (.getfield 301, 3) := dk_180 1 45 (dk_at dksX0_ship_3 17 rfl rfl)
theorem dX0_ship_112 : decode cX0_ship 112 = .ok (.ireturn, 1) := dk_172 (dk_at dksX0_ship_3 20 rfl rfl)
theorem dX0_ship_113 : decode cX0_ship 113 = .ok (.aload_n 3, 1) := dk_45 (dk_at dksX0_ship_3 21 rfl rfl)
theorem dX0_ship_114 : decode cX0_ship 114 = .ok (.invokevirtual 304, 3) := dk_182 1 48 (dk_at dksX0_ship_4 0 rfl rfl)
theorem dX0_ship_117 : decode cX0_ship 117 = .ok (.ireturn, 1) := dk_172 (dk_at dksX0_ship_4 3 rfl rfl)
theorem dX0_ship_118 : decode cX0_ship 118 = .ok (.aload_n 0, 1) := dk_42 (dk_at dksX0_ship_4 4 rfl rfl)
theorem dX0_ship_119 : decode cX0_ship 119 = .ok (.iload_n 1, 1) := dk_27 (dk_at dksX0_ship_4 5 rfl rfl)
theorem dX0_ship_120 : decode cX0_ship 120 = .ok (.invokevirtual 307, 3) := dk_182 1 51 (dk_at dksX0_ship_4 6 rfl rfl)
theorem dX0_ship_123 : decode cX0_ship 123 = .ok (.ireturn, 1) := dk_172 (dk_at dksX0_ship_4 9 rfl rfl)
theorem dX0_ship_124 : decode cX0_ship 124 = .ok (.aload_n 3, 1) := dk_45 (dk_at dksX0_ship_4 10 rfl rfl)
theorem dX0_ship_125 : decode cX0_ship 125 = .ok (.getfield 310, 3) := dk_180 1 54 (dk_at dksX0_ship_4 11 rfl rfl)
theorem dX0_ship_128 : decode cX0_ship 128 = .ok (.ifCond .eq 7, 3) := dk_153 0 7 (dk_at dksX0_ship_4 14 rfl rfl)
theorem dX0_ship_131 : decode cX0_ship 131 = .ok (.iconst 1, 1) := dk_4 (dk_at dksX0_ship_4 17 rfl rfl)
theorem dX0_ship_132 : decode cX0_ship 132 = .ok (.goto 4, 3) := dk_167 0 4 (dk_at dksX0_ship_4 18 rfl rfl)
theorem dX0_ship_135 : decode cX0_ship 135 = .ok (.iconst 0, 1) := dk_3 (dk_at dksX0_ship_4 21 rfl rfl)
theorem dX0_ship_136 : decode cX0_ship 136 = .ok (.ireturn, 1) := dk_172 (dk_at dksX0_ship_4 22 rfl rfl)
theorem dX0_ship_137 : decode cX0_ship 137 = .ok (.iconst (-1), 1) := dk_2 (dk_at dksX0_ship_4 23 rfl rfl)
theorem dX0_ship_138 : decode cX0_ship 138 = .ok (.ireturn, 1) := dk_172 (dk_at dksX0_ship_5 0 rfl rfl)
abbrev cX0_voyage : ByteArray := prog_1_method_23_code
def yX0_voyage : MethodName := ⟨RX0, "voyage", "(I)LToldTracks$Voyage;"⟩
def dkwX0_voyage_2 : List UInt8 := [27, 182, 0, 104, 192, 0, 214, 176]
abbrev dktX0_voyage_2 : List UInt8 := dkwX0_voyage_2 ++ []
def dkwX0_voyage_1 : List UInt8 := [180, 0, 20, 180, 0, 163, 27, 182, 0, 104, 192, 0, 178, 183, 0, 216, 182, 0, 219, 87, 42, 180, 0, 45]
abbrev dktX0_voyage_1 : List UInt8 := dkwX0_voyage_1 ++ dktX0_voyage_2
def dkwX0_voyage_0 : List UInt8 := [42, 180, 0, 45, 27, 182, 0, 104, 199, 0, 34, 42, 180, 0, 45, 27, 187, 0, 214, 89, 42, 42]
abbrev dktX0_voyage_0 : List UInt8 := dkwX0_voyage_0 ++ dktX0_voyage_1
theorem dksX0_voyage_0 : cX0_voyage.data.toList.drop 0 = dktX0_voyage_0 := by decide +kernel
theorem dksX0_voyage_1 : cX0_voyage.data.toList.drop 22 = dktX0_voyage_1 := dk_seg dksX0_voyage_0 22 rfl rfl
theorem dksX0_voyage_2 : cX0_voyage.data.toList.drop 46 = dktX0_voyage_2 := dk_seg dksX0_voyage_1 24 rfl rfl
theorem dX0_voyage_0 : decode cX0_voyage 0 = .ok (.aload_n 0, 1) := dk_42 (dk_at dksX0_voyage_0 0 rfl rfl)
theorem dX0_voyage_1 : decode cX0_voyage 1 = .ok (.getfield 45, 3) := dk_180 0 45 (dk_at dksX0_voyage_0 1 rfl rfl)
theorem dX0_voyage_4 : decode cX0_voyage 4 = .ok (.iload_n 1, 1) := dk_27 (dk_at dksX0_voyage_0 4 rfl rfl)
theorem dX0_voyage_5 : decode cX0_voyage 5 = .ok (.invokevirtual 104, 3) := dk_182 0 104 (dk_at dksX0_voyage_0 5 rfl rfl)
theorem dX0_voyage_8 : decode cX0_voyage 8 = .ok (.ifnonnull 34, 3) := dk_199 0 34 (dk_at dksX0_voyage_0 8 rfl rfl)
theorem dX0_voyage_11 : decode cX0_voyage 11 = .ok (.aload_n 0, 1) := dk_42 (dk_at dksX0_voyage_0 11 rfl rfl)
theorem dX0_voyage_12 : decode cX0_voyage 12 = .ok (.getfield 45, 3) := dk_180 0 45 (dk_at dksX0_voyage_0 12 rfl rfl)
theorem dX0_voyage_15 : decode cX0_voyage 15 = .ok (.iload_n 1, 1) := dk_27 (dk_at dksX0_voyage_0 15 rfl rfl)
theorem dX0_voyage_16 : decode cX0_voyage 16 = .ok (.new 214, 3) := dk_187 0 214 (dk_at dksX0_voyage_0 16 rfl rfl)
theorem dX0_voyage_19 : decode cX0_voyage 19 = .ok (.dup, 1) := dk_89 (dk_at dksX0_voyage_0 19 rfl rfl)
theorem dX0_voyage_20 : decode cX0_voyage 20 = .ok (.aload_n 0, 1) := dk_42 (dk_at dksX0_voyage_0 20 rfl rfl)
theorem dX0_voyage_21 : decode cX0_voyage 21 = .ok (.aload_n 0, 1) := dk_42 (dk_at dksX0_voyage_0 21 rfl rfl)
theorem dX0_voyage_22 : decode cX0_voyage 22 = .ok (.getfield 20, 3) := dk_180 0 20 (dk_at dksX0_voyage_1 0 rfl rfl)
theorem dX0_voyage_25 : decode cX0_voyage 25 = .ok (.getfield 163, 3) := dk_180 0 163 (dk_at dksX0_voyage_1 3 rfl rfl)
theorem dX0_voyage_28 : decode cX0_voyage 28 = .ok (.iload_n 1, 1) := dk_27 (dk_at dksX0_voyage_1 6 rfl rfl)
theorem dX0_voyage_29 : decode cX0_voyage 29 = .ok (.invokevirtual 104, 3) := dk_182 0 104 (dk_at dksX0_voyage_1 7 rfl rfl)
theorem dX0_voyage_32 : decode cX0_voyage 32 = .ok (.checkcast 178, 3) := dk_192 0 178 (dk_at dksX0_voyage_1 10 rfl rfl)
theorem dX0_voyage_35 : decode cX0_voyage 35 = .ok (.invokespecial 216, 3) := dk_183 0 216 (dk_at dksX0_voyage_1 13 rfl rfl)
theorem dX0_voyage_38 : decode cX0_voyage 38 = .ok (.invokevirtual 219, 3) := dk_182 0 219 (dk_at dksX0_voyage_1 16 rfl rfl)
theorem dX0_voyage_41 : decode cX0_voyage 41 = .ok (.pop, 1) := dk_87 (dk_at dksX0_voyage_1 19 rfl rfl)
theorem dX0_voyage_42 : decode cX0_voyage 42 = .ok (.aload_n 0, 1) := dk_42 (dk_at dksX0_voyage_1 20 rfl rfl)
theorem dX0_voyage_43 : decode cX0_voyage 43 = .ok (.getfield 45, 3) := dk_180 0 45 (dk_at dksX0_voyage_1 21 rfl rfl)
theorem dX0_voyage_46 : decode cX0_voyage 46 = .ok (.iload_n 1, 1) := dk_27 (dk_at dksX0_voyage_2 0 rfl rfl)
theorem dX0_voyage_47 : decode cX0_voyage 47 = .ok (.invokevirtual 104, 3) := dk_182 0 104 (dk_at dksX0_voyage_2 1 rfl rfl)
theorem dX0_voyage_50 : decode cX0_voyage 50 = .ok (.checkcast 214, 3) := dk_192 0 214 (dk_at dksX0_voyage_2 4 rfl rfl)
theorem dX0_voyage_53 : decode cX0_voyage 53 = .ok (.areturn, 1) := dk_176 (dk_at dksX0_voyage_2 7 rfl rfl)
abbrev cX0_fits : ByteArray := prog_1_method_22_code
def yX0_fits : MethodName := ⟨RX0, "fits", "(LToldTracks$Ship;Ljava/util/ArrayList;)Z"⟩
def dkwX0_fits_2 : List UInt8 := [182, 0, 104, 192, 0, 193, 182, 0, 211, 154, 0, 5, 3, 172, 132, 3, 1, 167, 255, 194, 4, 172]
abbrev dktX0_fits_2 : List UInt8 := dkwX0_fits_2 ++ []
def dkwX0_fits_1 : List UInt8 := [182, 0, 207, 153, 0, 33, 29, 158, 0, 31, 42, 43, 44, 29, 4, 100, 182, 0, 104, 192, 0, 193, 44, 29]
abbrev dktX0_fits_1 : List UInt8 := dkwX0_fits_1 ++ dktX0_fits_2
def dkwX0_fits_0 : List UInt8 := [3, 62, 29, 44, 182, 0, 100, 162, 0, 60, 44, 29, 182, 0, 104, 192, 0, 193, 42, 180, 0, 20, 43]
abbrev dktX0_fits_0 : List UInt8 := dkwX0_fits_0 ++ dktX0_fits_1
theorem dksX0_fits_0 : cX0_fits.data.toList.drop 0 = dktX0_fits_0 := by decide +kernel
theorem dksX0_fits_1 : cX0_fits.data.toList.drop 23 = dktX0_fits_1 := dk_seg dksX0_fits_0 23 rfl rfl
theorem dksX0_fits_2 : cX0_fits.data.toList.drop 47 = dktX0_fits_2 := dk_seg dksX0_fits_1 24 rfl rfl
theorem dX0_fits_0 : decode cX0_fits 0 = .ok (.iconst 0, 1) := dk_3 (dk_at dksX0_fits_0 0 rfl rfl)
theorem dX0_fits_1 : decode cX0_fits 1 = .ok (.istore_n 3, 1) := dk_62 (dk_at dksX0_fits_0 1 rfl rfl)
theorem dX0_fits_2 : decode cX0_fits 2 = .ok (.iload_n 3, 1) := dk_29 (dk_at dksX0_fits_0 2 rfl rfl)
theorem dX0_fits_3 : decode cX0_fits 3 = .ok (.aload_n 2, 1) := dk_44 (dk_at dksX0_fits_0 3 rfl rfl)
theorem dX0_fits_4 : decode cX0_fits 4 = .ok (.invokevirtual 100, 3) := dk_182 0 100 (dk_at dksX0_fits_0 4 rfl rfl)
theorem dX0_fits_7 : decode cX0_fits 7 = .ok (.if_icmp .ge 60, 3) := dk_162 0 60 (dk_at dksX0_fits_0 7 rfl rfl)
theorem dX0_fits_10 : decode cX0_fits 10 = .ok (.aload_n 2, 1) := dk_44 (dk_at dksX0_fits_0 10 rfl rfl)
theorem dX0_fits_11 : decode cX0_fits 11 = .ok (.iload_n 3, 1) := dk_29 (dk_at dksX0_fits_0 11 rfl rfl)
theorem dX0_fits_12 : decode cX0_fits 12 = .ok (.invokevirtual 104, 3) := dk_182 0 104 (dk_at dksX0_fits_0 12 rfl rfl)
theorem dX0_fits_15 : decode cX0_fits 15 = .ok (.checkcast 193, 3) := dk_192 0 193 (dk_at dksX0_fits_0 15 rfl rfl)
theorem dX0_fits_18 : decode cX0_fits 18 = .ok (.aload_n 0, 1) := dk_42 (dk_at dksX0_fits_0 18 rfl rfl)
theorem dX0_fits_19 : decode cX0_fits 19 = .ok (.getfield 20, 3) := dk_180 0 20 (dk_at dksX0_fits_0 19 rfl rfl)
theorem dX0_fits_22 : decode cX0_fits 22 = .ok (.aload_n 1, 1) := dk_43 (dk_at dksX0_fits_0 22 rfl rfl)
theorem dX0_fits_23 : decode cX0_fits 23 = .ok (.invokevirtual 207, 3) := dk_182 0 207 (dk_at dksX0_fits_1 0 rfl rfl)
theorem dX0_fits_26 : decode cX0_fits 26 = .ok (.ifCond .eq 33, 3) := dk_153 0 33 (dk_at dksX0_fits_1 3 rfl rfl)
theorem dX0_fits_29 : decode cX0_fits 29 = .ok (.iload_n 3, 1) := dk_29 (dk_at dksX0_fits_1 6 rfl rfl)
theorem dX0_fits_30 : decode cX0_fits 30 = .ok (.ifCond .le 31, 3) := dk_158 0 31 (dk_at dksX0_fits_1 7 rfl rfl)
theorem dX0_fits_33 : decode cX0_fits 33 = .ok (.aload_n 0, 1) := dk_42 (dk_at dksX0_fits_1 10 rfl rfl)
theorem dX0_fits_34 : decode cX0_fits 34 = .ok (.aload_n 1, 1) := dk_43 (dk_at dksX0_fits_1 11 rfl rfl)
theorem dX0_fits_35 : decode cX0_fits 35 = .ok (.aload_n 2, 1) := dk_44 (dk_at dksX0_fits_1 12 rfl rfl)
theorem dX0_fits_36 : decode cX0_fits 36 = .ok (.iload_n 3, 1) := dk_29 (dk_at dksX0_fits_1 13 rfl rfl)
theorem dX0_fits_37 : decode cX0_fits 37 = .ok (.iconst 1, 1) := dk_4 (dk_at dksX0_fits_1 14 rfl rfl)
theorem dX0_fits_38 : decode cX0_fits 38 = .ok (.isub, 1) := dk_100 (dk_at dksX0_fits_1 15 rfl rfl)
theorem dX0_fits_39 : decode cX0_fits 39 = .ok (.invokevirtual 104, 3) := dk_182 0 104 (dk_at dksX0_fits_1 16 rfl rfl)
theorem dX0_fits_42 : decode cX0_fits 42 = .ok (.checkcast 193, 3) := dk_192 0 193 (dk_at dksX0_fits_1 19 rfl rfl)
theorem dX0_fits_45 : decode cX0_fits 45 = .ok (.aload_n 2, 1) := dk_44 (dk_at dksX0_fits_1 22 rfl rfl)
theorem dX0_fits_46 : decode cX0_fits 46 = .ok (.iload_n 3, 1) := dk_29 (dk_at dksX0_fits_1 23 rfl rfl)
theorem dX0_fits_47 : decode cX0_fits 47 = .ok (.invokevirtual 104, 3) := dk_182 0 104 (dk_at dksX0_fits_2 0 rfl rfl)
theorem dX0_fits_50 : decode cX0_fits 50 = .ok (.checkcast 193, 3) := dk_192 0 193 (dk_at dksX0_fits_2 3 rfl rfl)
theorem dX0_fits_53 : decode cX0_fits 53 = .ok (.invokevirtual 211, 3) := dk_182 0 211 (dk_at dksX0_fits_2 6 rfl rfl)
theorem dX0_fits_56 : decode cX0_fits 56 = .ok (.ifCond .ne 5, 3) := dk_154 0 5 (dk_at dksX0_fits_2 9 rfl rfl)
theorem dX0_fits_59 : decode cX0_fits 59 = .ok (.iconst 0, 1) := dk_3 (dk_at dksX0_fits_2 12 rfl rfl)
theorem dX0_fits_60 : decode cX0_fits 60 = .ok (.ireturn, 1) := dk_172 (dk_at dksX0_fits_2 13 rfl rfl)
theorem dX0_fits_61 : decode cX0_fits 61 = .ok (.iinc 3 1, 3) := dk_132 3 1 (dk_at dksX0_fits_2 14 rfl rfl)
theorem dX0_fits_64 : decode cX0_fits 64 = .ok (.goto (-62), 3) := dk_167 255 194 (dk_at dksX0_fits_2 17 rfl rfl)
theorem dX0_fits_67 : decode cX0_fits 67 = .ok (.iconst 1, 1) := dk_4 (dk_at dksX0_fits_2 20 rfl rfl)
theorem dX0_fits_68 : decode cX0_fits 68 = .ok (.ireturn, 1) := dk_172 (dk_at dksX0_fits_2 21 rfl rfl)
abbrev cX0_isTogether : ByteArray := prog_1_method_20_code
def yX0_isTogether : MethodName := ⟨RX0, "isTogether", "(LToldTracks$Ship;LToldTracks$Fact;LToldTracks$Fact;)Z"⟩
def dkwX0_isTogether_0 : List UInt8 := [42, 43, 44, 3, 45, 3, 182, 0, 188, 172]
abbrev dktX0_isTogether_0 : List UInt8 := dkwX0_isTogether_0 ++ []
theorem dksX0_isTogether_0 : cX0_isTogether.data.toList.drop 0 = dktX0_isTogether_0 := by decide +kernel
theorem dX0_isTogether_0 : decode cX0_isTogether 0 = .ok (.aload_n 0, 1) := dk_42 (dk_at dksX0_isTogether_0 0 rfl rfl)
theorem dX0_isTogether_1 : decode cX0_isTogether 1 = .ok (.aload_n 1, 1) := dk_43 (dk_at dksX0_isTogether_0 1 rfl rfl)
theorem dX0_isTogether_2 : decode cX0_isTogether 2 = .ok (.aload_n 2, 1) := dk_44 (dk_at dksX0_isTogether_0 2 rfl rfl)
theorem dX0_isTogether_3 : decode cX0_isTogether 3 = .ok (.iconst 0, 1) := dk_3 (dk_at dksX0_isTogether_0 3 rfl rfl)
theorem dX0_isTogether_4 : decode cX0_isTogether 4 = .ok (.aload_n 3, 1) := dk_45 (dk_at dksX0_isTogether_0 4 rfl rfl)
theorem dX0_isTogether_5 : decode cX0_isTogether 5 = .ok (.iconst 0, 1) := dk_3 (dk_at dksX0_isTogether_0 5 rfl rfl)
theorem dX0_isTogether_6 : decode cX0_isTogether 6 = .ok (.invokevirtual 188, 3) := dk_182 0 188 (dk_at dksX0_isTogether_0 6 rfl rfl)
theorem dX0_isTogether_9 : decode cX0_isTogether 9 = .ok (.ireturn, 1) := dk_172 (dk_at dksX0_isTogether_0 9 rfl rfl)
abbrev cX0_isTogether_2 : ByteArray := prog_1_method_21_code
def yX0_isTogether_2 : MethodName := ⟨RX0, "isTogether", "(LToldTracks$Ship;LToldTracks$Fact;ILToldTracks$Fact;I)Z"⟩
def dkwX0_isTogether_2_3 : List UInt8 := [163, 0, 7, 4, 167, 0, 4, 3, 172]
abbrev dktX0_isTogether_2_3 : List UInt8 := dkwX0_isTogether_2_3 ++ []
def dkwX0_isTogether_2_2 : List UInt8 := [180, 0, 200, 25, 4, 180, 0, 200, 182, 0, 203, 54, 7, 21, 7, 2, 159, 0, 14, 21, 7, 21, 6]
abbrev dktX0_isTogether_2_2 : List UInt8 := dkwX0_isTogether_2_2 ++ dktX0_isTogether_2_3
def dkwX0_isTogether_2_1 : List UInt8 := [154, 0, 21, 44, 180, 0, 200, 25, 4, 180, 0, 200, 160, 0, 7, 4, 167, 0, 4, 3, 172, 42, 43, 44]
abbrev dktX0_isTogether_2_1 : List UInt8 := dkwX0_isTogether_2_1 ++ dktX0_isTogether_2_2
def dkwX0_isTogether_2_0 : List UInt8 := [25, 4, 180, 0, 192, 21, 5, 96, 44, 180, 0, 192, 100, 29, 100, 184, 0, 197, 54, 6, 21, 6]
abbrev dktX0_isTogether_2_0 : List UInt8 := dkwX0_isTogether_2_0 ++ dktX0_isTogether_2_1
theorem dksX0_isTogether_2_0 : cX0_isTogether_2.data.toList.drop 0 = dktX0_isTogether_2_0 := by decide +kernel
theorem dksX0_isTogether_2_1 : cX0_isTogether_2.data.toList.drop 22 = dktX0_isTogether_2_1 := dk_seg dksX0_isTogether_2_0 22 rfl rfl
theorem dksX0_isTogether_2_2 : cX0_isTogether_2.data.toList.drop 46 = dktX0_isTogether_2_2 := dk_seg dksX0_isTogether_2_1 24 rfl rfl
theorem dksX0_isTogether_2_3 : cX0_isTogether_2.data.toList.drop 69 = dktX0_isTogether_2_3 := dk_seg dksX0_isTogether_2_2 23 rfl rfl
theorem dX0_isTogether_2_0 : decode cX0_isTogether_2 0 = .ok (.aload 4, 2) := dk_25 4 (dk_at dksX0_isTogether_2_0 0 rfl rfl)
theorem dX0_isTogether_2_2 : decode cX0_isTogether_2 2 = .ok (.getfield 192, 3) := dk_180 0 192 (dk_at dksX0_isTogether_2_0 2 rfl rfl)
theorem dX0_isTogether_2_5 : decode cX0_isTogether_2 5 = .ok (.iload 5, 2) := dk_21 5 (dk_at dksX0_isTogether_2_0 5 rfl rfl)
theorem dX0_isTogether_2_7 : decode cX0_isTogether_2 7 = .ok (.iadd, 1) := dk_96 (dk_at dksX0_isTogether_2_0 7 rfl rfl)
theorem dX0_isTogether_2_8 : decode cX0_isTogether_2 8 = .ok (.aload_n 2, 1) := dk_44 (dk_at dksX0_isTogether_2_0 8 rfl rfl)
theorem dX0_isTogether_2_9 : decode cX0_isTogether_2 9 = .ok (.getfield 192, 3) := dk_180 0 192 (dk_at dksX0_isTogether_2_0 9 rfl rfl)
theorem dX0_isTogether_2_12 : decode cX0_isTogether_2 12 = .ok (.isub, 1) := dk_100 (dk_at dksX0_isTogether_2_0 12 rfl rfl)
theorem dX0_isTogether_2_13 : decode cX0_isTogether_2 13 = .ok (.iload_n 3, 1) := dk_29 (dk_at dksX0_isTogether_2_0 13 rfl rfl)
theorem dX0_isTogether_2_14 : decode cX0_isTogether_2 14 = .ok (.isub, 1) := dk_100 (dk_at dksX0_isTogether_2_0 14 rfl rfl)
theorem dX0_isTogether_2_15 : decode cX0_isTogether_2 15 = .ok (.invokestatic 197, 3) := dk_184 0 197 (dk_at dksX0_isTogether_2_0 15 rfl rfl)
theorem dX0_isTogether_2_18 : decode cX0_isTogether_2 18 = .ok (.istore 6, 2) := dk_54 6 (dk_at dksX0_isTogether_2_0 18 rfl rfl)
theorem dX0_isTogether_2_20 : decode cX0_isTogether_2 20 = .ok (.iload 6, 2) := dk_21 6 (dk_at dksX0_isTogether_2_0 20 rfl rfl)
theorem dX0_isTogether_2_22 : decode cX0_isTogether_2 22 = .ok (.ifCond .ne 21, 3) := dk_154 0 21 (dk_at dksX0_isTogether_2_1 0 rfl rfl)
theorem dX0_isTogether_2_25 : decode cX0_isTogether_2 25 = .ok (.aload_n 2, 1) := dk_44 (dk_at dksX0_isTogether_2_1 3 rfl rfl)
theorem dX0_isTogether_2_26 : decode cX0_isTogether_2 26 = .ok (.getfield 200, 3) := dk_180 0 200 (dk_at dksX0_isTogether_2_1 4 rfl rfl)
theorem dX0_isTogether_2_29 : decode cX0_isTogether_2 29 = .ok (.aload 4, 2) := dk_25 4 (dk_at dksX0_isTogether_2_1 7 rfl rfl)
theorem dX0_isTogether_2_31 : decode cX0_isTogether_2 31 = .ok (.getfield 200, 3) := dk_180 0 200 (dk_at dksX0_isTogether_2_1 9 rfl rfl)
theorem dX0_isTogether_2_34 : decode cX0_isTogether_2 34 = .ok (.if_icmp .ne 7, 3) := dk_160 0 7 (dk_at dksX0_isTogether_2_1 12 rfl rfl)
theorem dX0_isTogether_2_37 : decode cX0_isTogether_2 37 = .ok (.iconst 1, 1) := dk_4 (dk_at dksX0_isTogether_2_1 15 rfl rfl)
theorem dX0_isTogether_2_38 : decode cX0_isTogether_2 38 = .ok (.goto 4, 3) := dk_167 0 4 (dk_at dksX0_isTogether_2_1 16 rfl rfl)
theorem dX0_isTogether_2_41 : decode cX0_isTogether_2 41 = .ok (.iconst 0, 1) := dk_3 (dk_at dksX0_isTogether_2_1 19 rfl rfl)
theorem dX0_isTogether_2_42 : decode cX0_isTogether_2 42 = .ok (.ireturn, 1) := dk_172 (dk_at dksX0_isTogether_2_1 20 rfl rfl)
theorem dX0_isTogether_2_43 : decode cX0_isTogether_2 43 = .ok (.aload_n 0, 1) := dk_42 (dk_at dksX0_isTogether_2_1 21 rfl rfl)
theorem dX0_isTogether_2_44 : decode cX0_isTogether_2 44 = .ok (.aload_n 1, 1) := dk_43 (dk_at dksX0_isTogether_2_1 22 rfl rfl)
theorem dX0_isTogether_2_45 : decode cX0_isTogether_2 45 = .ok (.aload_n 2, 1) := dk_44 (dk_at dksX0_isTogether_2_1 23 rfl rfl)
theorem dX0_isTogether_2_46 : decode cX0_isTogether_2 46 = .ok (.getfield 200, 3) := dk_180 0 200 (dk_at dksX0_isTogether_2_2 0 rfl rfl)
theorem dX0_isTogether_2_49 : decode cX0_isTogether_2 49 = .ok (.aload 4, 2) := dk_25 4 (dk_at dksX0_isTogether_2_2 3 rfl rfl)
theorem dX0_isTogether_2_51 : decode cX0_isTogether_2 51 = .ok (.getfield 200, 3) := dk_180 0 200 (dk_at dksX0_isTogether_2_2 5 rfl rfl)
theorem dX0_isTogether_2_54 : decode cX0_isTogether_2 54 = .ok (.invokevirtual 203, 3) := dk_182 0 203 (dk_at dksX0_isTogether_2_2 8 rfl rfl)
theorem dX0_isTogether_2_57 : decode cX0_isTogether_2 57 = .ok (.istore 7, 2) := dk_54 7 (dk_at dksX0_isTogether_2_2 11 rfl rfl)
theorem dX0_isTogether_2_59 : decode cX0_isTogether_2 59 = .ok (.iload 7, 2) := dk_21 7 (dk_at dksX0_isTogether_2_2 13 rfl rfl)
theorem dX0_isTogether_2_61 : decode cX0_isTogether_2 61 = .ok (.iconst (-1), 1) := dk_2 (dk_at dksX0_isTogether_2_2 15 rfl rfl)
theorem dX0_isTogether_2_62 : decode cX0_isTogether_2 62 = .ok (.if_icmp .eq 14, 3) := dk_159 0 14 (dk_at dksX0_isTogether_2_2 16 rfl rfl)
theorem dX0_isTogether_2_65 : decode cX0_isTogether_2 65 = .ok (.iload 7, 2) := dk_21 7 (dk_at dksX0_isTogether_2_2 19 rfl rfl)
theorem dX0_isTogether_2_67 : decode cX0_isTogether_2 67 = .ok (.iload 6, 2) := dk_21 6 (dk_at dksX0_isTogether_2_2 21 rfl rfl)
theorem dX0_isTogether_2_69 : decode cX0_isTogether_2 69 = .ok (.if_icmp .gt 7, 3) := dk_163 0 7 (dk_at dksX0_isTogether_2_3 0 rfl rfl)
theorem dX0_isTogether_2_72 : decode cX0_isTogether_2 72 = .ok (.iconst 1, 1) := dk_4 (dk_at dksX0_isTogether_2_3 3 rfl rfl)
theorem dX0_isTogether_2_73 : decode cX0_isTogether_2 73 = .ok (.goto 4, 3) := dk_167 0 4 (dk_at dksX0_isTogether_2_3 4 rfl rfl)
theorem dX0_isTogether_2_76 : decode cX0_isTogether_2 76 = .ok (.iconst 0, 1) := dk_3 (dk_at dksX0_isTogether_2_3 7 rfl rfl)
theorem dX0_isTogether_2_77 : decode cX0_isTogether_2 77 = .ok (.ireturn, 1) := dk_172 (dk_at dksX0_isTogether_2_3 8 rfl rfl)
abbrev cX0_hours : ByteArray := prog_1_method_19_code
def yX0_hours : MethodName := ⟨RX0, "hours", "(LToldTracks$Ship;II)I"⟩
def dkwX0_hours_1 : List UInt8 := [21, 4, 43, 180, 0, 185, 96, 4, 100, 43, 180, 0, 185, 108, 172]
abbrev dktX0_hours_1 : List UInt8 := dkwX0_hours_1 ++ []
def dkwX0_hours_0 : List UInt8 := [42, 43, 180, 0, 177, 28, 182, 0, 182, 29, 53, 54, 4, 21, 4, 2, 160, 0, 7, 2, 167, 0, 17]
abbrev dktX0_hours_0 : List UInt8 := dkwX0_hours_0 ++ dktX0_hours_1
theorem dksX0_hours_0 : cX0_hours.data.toList.drop 0 = dktX0_hours_0 := by decide +kernel
theorem dksX0_hours_1 : cX0_hours.data.toList.drop 23 = dktX0_hours_1 := dk_seg dksX0_hours_0 23 rfl rfl
theorem dX0_hours_0 : decode cX0_hours 0 = .ok (.aload_n 0, 1) := dk_42 (dk_at dksX0_hours_0 0 rfl rfl)
theorem dX0_hours_1 : decode cX0_hours 1 = .ok (.aload_n 1, 1) := dk_43 (dk_at dksX0_hours_0 1 rfl rfl)
theorem dX0_hours_2 : decode cX0_hours 2 = .ok (.getfield 177, 3) := dk_180 0 177 (dk_at dksX0_hours_0 2 rfl rfl)
theorem dX0_hours_5 : decode cX0_hours 5 = .ok (.iload_n 2, 1) := dk_28 (dk_at dksX0_hours_0 5 rfl rfl)
theorem dX0_hours_6 : decode cX0_hours 6 = .ok (.invokevirtual 182, 3) := dk_182 0 182 (dk_at dksX0_hours_0 6 rfl rfl)
theorem dX0_hours_9 : decode cX0_hours 9 = .ok (.iload_n 3, 1) := dk_29 (dk_at dksX0_hours_0 9 rfl rfl)
theorem dX0_hours_10 : decode cX0_hours 10 = .ok (.saload, 1) := dk_53 (dk_at dksX0_hours_0 10 rfl rfl)
theorem dX0_hours_11 : decode cX0_hours 11 = .ok (.istore 4, 2) := dk_54 4 (dk_at dksX0_hours_0 11 rfl rfl)
theorem dX0_hours_13 : decode cX0_hours 13 = .ok (.iload 4, 2) := dk_21 4 (dk_at dksX0_hours_0 13 rfl rfl)
theorem dX0_hours_15 : decode cX0_hours 15 = .ok (.iconst (-1), 1) := dk_2 (dk_at dksX0_hours_0 15 rfl rfl)
theorem dX0_hours_16 : decode cX0_hours 16 = .ok (.if_icmp .ne 7, 3) := dk_160 0 7 (dk_at dksX0_hours_0 16 rfl rfl)
theorem dX0_hours_19 : decode cX0_hours 19 = .ok (.iconst (-1), 1) := dk_2 (dk_at dksX0_hours_0 19 rfl rfl)
theorem dX0_hours_20 : decode cX0_hours 20 = .ok (.goto 17, 3) := dk_167 0 17 (dk_at dksX0_hours_0 20 rfl rfl)
theorem dX0_hours_23 : decode cX0_hours 23 = .ok (.iload 4, 2) := dk_21 4 (dk_at dksX0_hours_1 0 rfl rfl)
theorem dX0_hours_25 : decode cX0_hours 25 = .ok (.aload_n 1, 1) := dk_43 (dk_at dksX0_hours_1 2 rfl rfl)
theorem dX0_hours_26 : decode cX0_hours 26 = .ok (.getfield 185, 3) := dk_180 0 185 (dk_at dksX0_hours_1 3 rfl rfl)
theorem dX0_hours_29 : decode cX0_hours 29 = .ok (.iadd, 1) := dk_96 (dk_at dksX0_hours_1 6 rfl rfl)
theorem dX0_hours_30 : decode cX0_hours 30 = .ok (.iconst 1, 1) := dk_4 (dk_at dksX0_hours_1 7 rfl rfl)
theorem dX0_hours_31 : decode cX0_hours 31 = .ok (.isub, 1) := dk_100 (dk_at dksX0_hours_1 8 rfl rfl)
theorem dX0_hours_32 : decode cX0_hours 32 = .ok (.aload_n 1, 1) := dk_43 (dk_at dksX0_hours_1 9 rfl rfl)
theorem dX0_hours_33 : decode cX0_hours 33 = .ok (.getfield 185, 3) := dk_180 0 185 (dk_at dksX0_hours_1 10 rfl rfl)
theorem dX0_hours_36 : decode cX0_hours 36 = .ok (.idiv, 1) := dk_108 (dk_at dksX0_hours_1 13 rfl rfl)
theorem dX0_hours_37 : decode cX0_hours 37 = .ok (.ireturn, 1) := dk_172 (dk_at dksX0_hours_1 14 rfl rfl)
abbrev cX0_stepsFrom : ByteArray := prog_1_method_17_code
def yX0_stepsFrom : MethodName := ⟨RX0, "stepsFrom", "(II)[S"⟩
def dkwX0_stepsFrom_1 : List UInt8 := [180, 0, 38, 29, 42, 27, 28, 182, 0, 169, 83, 42, 180, 0, 38, 29, 50, 176]
abbrev dktX0_stepsFrom_1 : List UInt8 := dkwX0_stepsFrom_1 ++ []
def dkwX0_stepsFrom_0 : List UInt8 := [27, 42, 180, 0, 20, 182, 0, 143, 104, 28, 96, 62, 42, 180, 0, 38, 29, 50, 199, 0, 15, 42]
abbrev dktX0_stepsFrom_0 : List UInt8 := dkwX0_stepsFrom_0 ++ dktX0_stepsFrom_1
theorem dksX0_stepsFrom_0 : cX0_stepsFrom.data.toList.drop 0 = dktX0_stepsFrom_0 := by decide +kernel
theorem dksX0_stepsFrom_1 : cX0_stepsFrom.data.toList.drop 22 = dktX0_stepsFrom_1 := dk_seg dksX0_stepsFrom_0 22 rfl rfl
theorem dX0_stepsFrom_0 : decode cX0_stepsFrom 0 = .ok (.iload_n 1, 1) := dk_27 (dk_at dksX0_stepsFrom_0 0 rfl rfl)
theorem dX0_stepsFrom_1 : decode cX0_stepsFrom 1 = .ok (.aload_n 0, 1) := dk_42 (dk_at dksX0_stepsFrom_0 1 rfl rfl)
theorem dX0_stepsFrom_2 : decode cX0_stepsFrom 2 = .ok (.getfield 20, 3) := dk_180 0 20 (dk_at dksX0_stepsFrom_0 2 rfl rfl)
theorem dX0_stepsFrom_5 : decode cX0_stepsFrom 5 = .ok (.invokevirtual 143, 3) := dk_182 0 143 (dk_at dksX0_stepsFrom_0 5 rfl rfl)
theorem dX0_stepsFrom_8 : decode cX0_stepsFrom 8 = .ok (.imul, 1) := dk_104 (dk_at dksX0_stepsFrom_0 8 rfl rfl)
theorem dX0_stepsFrom_9 : decode cX0_stepsFrom 9 = .ok (.iload_n 2, 1) := dk_28 (dk_at dksX0_stepsFrom_0 9 rfl rfl)
theorem dX0_stepsFrom_10 : decode cX0_stepsFrom 10 = .ok (.iadd, 1) := dk_96 (dk_at dksX0_stepsFrom_0 10 rfl rfl)
theorem dX0_stepsFrom_11 : decode cX0_stepsFrom 11 = .ok (.istore_n 3, 1) := dk_62 (dk_at dksX0_stepsFrom_0 11 rfl rfl)
theorem dX0_stepsFrom_12 : decode cX0_stepsFrom 12 = .ok (.aload_n 0, 1) := dk_42 (dk_at dksX0_stepsFrom_0 12 rfl rfl)
theorem dX0_stepsFrom_13 : decode cX0_stepsFrom 13 = .ok (.getfield 38, 3) := dk_180 0 38 (dk_at dksX0_stepsFrom_0 13 rfl rfl)
theorem dX0_stepsFrom_16 : decode cX0_stepsFrom 16 = .ok (.iload_n 3, 1) := dk_29 (dk_at dksX0_stepsFrom_0 16 rfl rfl)
theorem dX0_stepsFrom_17 : decode cX0_stepsFrom 17 = .ok (.aaload, 1) := dk_50 (dk_at dksX0_stepsFrom_0 17 rfl rfl)
theorem dX0_stepsFrom_18 : decode cX0_stepsFrom 18 = .ok (.ifnonnull 15, 3) := dk_199 0 15 (dk_at dksX0_stepsFrom_0 18 rfl rfl)
theorem dX0_stepsFrom_21 : decode cX0_stepsFrom 21 = .ok (.aload_n 0, 1) := dk_42 (dk_at dksX0_stepsFrom_0 21 rfl rfl)
theorem dX0_stepsFrom_22 : decode cX0_stepsFrom 22 = .ok (.getfield 38, 3) := dk_180 0 38 (dk_at dksX0_stepsFrom_1 0 rfl rfl)
theorem dX0_stepsFrom_25 : decode cX0_stepsFrom 25 = .ok (.iload_n 3, 1) := dk_29 (dk_at dksX0_stepsFrom_1 3 rfl rfl)
theorem dX0_stepsFrom_26 : decode cX0_stepsFrom 26 = .ok (.aload_n 0, 1) := dk_42 (dk_at dksX0_stepsFrom_1 4 rfl rfl)
theorem dX0_stepsFrom_27 : decode cX0_stepsFrom 27 = .ok (.iload_n 1, 1) := dk_27 (dk_at dksX0_stepsFrom_1 5 rfl rfl)
theorem dX0_stepsFrom_28 : decode cX0_stepsFrom 28 = .ok (.iload_n 2, 1) := dk_28 (dk_at dksX0_stepsFrom_1 6 rfl rfl)
theorem dX0_stepsFrom_29 : decode cX0_stepsFrom 29 = .ok (.invokevirtual 169, 3) := dk_182 0 169 (dk_at dksX0_stepsFrom_1 7 rfl rfl)
theorem dX0_stepsFrom_32 : decode cX0_stepsFrom 32 = .ok (.aastore, 1) := dk_83 (dk_at dksX0_stepsFrom_1 10 rfl rfl)
theorem dX0_stepsFrom_33 : decode cX0_stepsFrom 33 = .ok (.aload_n 0, 1) := dk_42 (dk_at dksX0_stepsFrom_1 11 rfl rfl)
theorem dX0_stepsFrom_34 : decode cX0_stepsFrom 34 = .ok (.getfield 38, 3) := dk_180 0 38 (dk_at dksX0_stepsFrom_1 12 rfl rfl)
theorem dX0_stepsFrom_37 : decode cX0_stepsFrom 37 = .ok (.iload_n 3, 1) := dk_29 (dk_at dksX0_stepsFrom_1 15 rfl rfl)
theorem dX0_stepsFrom_38 : decode cX0_stepsFrom 38 = .ok (.aaload, 1) := dk_50 (dk_at dksX0_stepsFrom_1 16 rfl rfl)
theorem dX0_stepsFrom_39 : decode cX0_stepsFrom 39 = .ok (.areturn, 1) := dk_176 (dk_at dksX0_stepsFrom_1 17 rfl rfl)
abbrev cX0_walks : ByteArray := prog_1_method_18_code
def yX0_walks : MethodName := ⟨RX0, "walks", "(II)[S"⟩
def dkwX0_walks_7 : List UInt8 := [132, 7, 1, 167, 255, 176, 132, 6, 1, 167, 255, 160, 45, 176]
abbrev dktX0_walks_7 : List UInt8 := dkwX0_walks_7 ++ []
def dkwX0_walks_6 : List UInt8 := [45, 21, 8, 45, 25, 4, 21, 6, 46, 53, 4, 96, 147, 86, 25, 4, 21, 5, 132, 5, 1, 21, 8, 79]
abbrev dktX0_walks_6 : List UInt8 := dkwX0_walks_6 ++ dktX0_walks_7
def dkwX0_walks_5 : List UInt8 := [180, 0, 20, 180, 0, 128, 21, 8, 46, 27, 161, 0, 38, 45, 21, 8, 53, 2, 159, 0, 6, 167, 0, 27]
abbrev dktX0_walks_5 : List UInt8 := dkwX0_walks_5 ++ dktX0_walks_6
def dkwX0_walks_4 : List UInt8 := [42, 180, 0, 20, 25, 4, 21, 6, 46, 21, 7, 182, 0, 173, 54, 8, 21, 8, 2, 159, 0, 52, 42]
abbrev dktX0_walks_4 : List UInt8 := dkwX0_walks_4 ++ dktX0_walks_5
def dkwX0_walks_3 : List UInt8 := [132, 5, 1, 28, 79, 3, 54, 6, 21, 6, 21, 5, 162, 0, 95, 3, 54, 7, 21, 7, 7, 162, 0, 80]
abbrev dktX0_walks_3 : List UInt8 := dkwX0_walks_3 ++ dktX0_walks_4
def dkwX0_walks_2 : List UInt8 := [180, 0, 20, 180, 0, 128, 28, 46, 27, 162, 0, 5, 45, 176, 45, 28, 3, 86, 25, 4, 21, 5]
abbrev dktX0_walks_2 : List UInt8 := dkwX0_walks_2 ++ dktX0_walks_3
def dkwX0_walks_1 : List UInt8 := [3, 54, 6, 21, 6, 45, 190, 162, 0, 14, 45, 21, 6, 2, 86, 132, 6, 1, 167, 255, 241, 42]
abbrev dktX0_walks_1 : List UInt8 := dkwX0_walks_1 ++ dktX0_walks_2
def dkwX0_walks_0 : List UInt8 := [42, 180, 0, 20, 182, 0, 143, 188, 9, 78, 42, 180, 0, 20, 182, 0, 143, 188, 10, 58, 4, 3, 54, 5]
abbrev dktX0_walks_0 : List UInt8 := dkwX0_walks_0 ++ dktX0_walks_1
theorem dksX0_walks_0 : cX0_walks.data.toList.drop 0 = dktX0_walks_0 := by decide +kernel
theorem dksX0_walks_1 : cX0_walks.data.toList.drop 24 = dktX0_walks_1 := dk_seg dksX0_walks_0 24 rfl rfl
theorem dksX0_walks_2 : cX0_walks.data.toList.drop 46 = dktX0_walks_2 := dk_seg dksX0_walks_1 22 rfl rfl
theorem dksX0_walks_3 : cX0_walks.data.toList.drop 68 = dktX0_walks_3 := dk_seg dksX0_walks_2 22 rfl rfl
theorem dksX0_walks_4 : cX0_walks.data.toList.drop 92 = dktX0_walks_4 := dk_seg dksX0_walks_3 24 rfl rfl
theorem dksX0_walks_5 : cX0_walks.data.toList.drop 115 = dktX0_walks_5 := dk_seg dksX0_walks_4 23 rfl rfl
theorem dksX0_walks_6 : cX0_walks.data.toList.drop 139 = dktX0_walks_6 := dk_seg dksX0_walks_5 24 rfl rfl
theorem dksX0_walks_7 : cX0_walks.data.toList.drop 163 = dktX0_walks_7 := dk_seg dksX0_walks_6 24 rfl rfl
theorem dX0_walks_0 : decode cX0_walks 0 = .ok (.aload_n 0, 1) := dk_42 (dk_at dksX0_walks_0 0 rfl rfl)
theorem dX0_walks_1 : decode cX0_walks 1 = .ok (.getfield 20, 3) := dk_180 0 20 (dk_at dksX0_walks_0 1 rfl rfl)
theorem dX0_walks_4 : decode cX0_walks 4 = .ok (.invokevirtual 143, 3) := dk_182 0 143 (dk_at dksX0_walks_0 4 rfl rfl)
theorem dX0_walks_7 : decode cX0_walks 7 = .ok (.newarray .short, 2) := dk_188_9 (dk_at dksX0_walks_0 7 rfl rfl)
theorem dX0_walks_9 : decode cX0_walks 9 = .ok (.astore_n 3, 1) := dk_78 (dk_at dksX0_walks_0 9 rfl rfl)
theorem dX0_walks_10 : decode cX0_walks 10 = .ok (.aload_n 0, 1) := dk_42 (dk_at dksX0_walks_0 10 rfl rfl)
theorem dX0_walks_11 : decode cX0_walks 11 = .ok (.getfield 20, 3) := dk_180 0 20 (dk_at dksX0_walks_0 11 rfl rfl)
theorem dX0_walks_14 : decode cX0_walks 14 = .ok (.invokevirtual 143, 3) := dk_182 0 143 (dk_at dksX0_walks_0 14 rfl rfl)
theorem dX0_walks_17 : decode cX0_walks 17 = .ok (.newarray .int, 2) := dk_188_10 (dk_at dksX0_walks_0 17 rfl rfl)
theorem dX0_walks_19 : decode cX0_walks 19 = .ok (.astore 4, 2) := dk_58 4 (dk_at dksX0_walks_0 19 rfl rfl)
theorem dX0_walks_21 : decode cX0_walks 21 = .ok (.iconst 0, 1) := dk_3 (dk_at dksX0_walks_0 21 rfl rfl)
theorem dX0_walks_22 : decode cX0_walks 22 = .ok (.istore 5, 2) := dk_54 5 (dk_at dksX0_walks_0 22 rfl rfl)
theorem dX0_walks_24 : decode cX0_walks 24 = .ok (.iconst 0, 1) := dk_3 (dk_at dksX0_walks_1 0 rfl rfl)
theorem dX0_walks_25 : decode cX0_walks 25 = .ok (.istore 6, 2) := dk_54 6 (dk_at dksX0_walks_1 1 rfl rfl)
theorem dX0_walks_27 : decode cX0_walks 27 = .ok (.iload 6, 2) := dk_21 6 (dk_at dksX0_walks_1 3 rfl rfl)
theorem dX0_walks_29 : decode cX0_walks 29 = .ok (.aload_n 3, 1) := dk_45 (dk_at dksX0_walks_1 5 rfl rfl)
theorem dX0_walks_30 : decode cX0_walks 30 = .ok (.arraylength, 1) := dk_190 (dk_at dksX0_walks_1 6 rfl rfl)
theorem dX0_walks_31 : decode cX0_walks 31 = .ok (.if_icmp .ge 14, 3) := dk_162 0 14 (dk_at dksX0_walks_1 7 rfl rfl)
theorem dX0_walks_34 : decode cX0_walks 34 = .ok (.aload_n 3, 1) := dk_45 (dk_at dksX0_walks_1 10 rfl rfl)
theorem dX0_walks_35 : decode cX0_walks 35 = .ok (.iload 6, 2) := dk_21 6 (dk_at dksX0_walks_1 11 rfl rfl)
theorem dX0_walks_37 : decode cX0_walks 37 = .ok (.iconst (-1), 1) := dk_2 (dk_at dksX0_walks_1 13 rfl rfl)
theorem dX0_walks_38 : decode cX0_walks 38 = .ok (.sastore, 1) := dk_86 (dk_at dksX0_walks_1 14 rfl rfl)
theorem dX0_walks_39 : decode cX0_walks 39 = .ok (.iinc 6 1, 3) := dk_132 6 1 (dk_at dksX0_walks_1 15 rfl rfl)
theorem dX0_walks_42 : decode cX0_walks 42 = .ok (.goto (-15), 3) := dk_167 255 241 (dk_at dksX0_walks_1 18 rfl rfl)
theorem dX0_walks_45 : decode cX0_walks 45 = .ok (.aload_n 0, 1) := dk_42 (dk_at dksX0_walks_1 21 rfl rfl)
theorem dX0_walks_46 : decode cX0_walks 46 = .ok (.getfield 20, 3) := dk_180 0 20 (dk_at dksX0_walks_2 0 rfl rfl)
theorem dX0_walks_49 : decode cX0_walks 49 = .ok (.getfield 128, 3) := dk_180 0 128 (dk_at dksX0_walks_2 3 rfl rfl)
theorem dX0_walks_52 : decode cX0_walks 52 = .ok (.iload_n 2, 1) := dk_28 (dk_at dksX0_walks_2 6 rfl rfl)
theorem dX0_walks_53 : decode cX0_walks 53 = .ok (.iaload, 1) := dk_46 (dk_at dksX0_walks_2 7 rfl rfl)
theorem dX0_walks_54 : decode cX0_walks 54 = .ok (.iload_n 1, 1) := dk_27 (dk_at dksX0_walks_2 8 rfl rfl)
theorem dX0_walks_55 : decode cX0_walks 55 = .ok (.if_icmp .ge 5, 3) := dk_162 0 5 (dk_at dksX0_walks_2 9 rfl rfl)
theorem dX0_walks_58 : decode cX0_walks 58 = .ok (.aload_n 3, 1) := dk_45 (dk_at dksX0_walks_2 12 rfl rfl)
theorem dX0_walks_59 : decode cX0_walks 59 = .ok (.areturn, 1) := dk_176 (dk_at dksX0_walks_2 13 rfl rfl)
theorem dX0_walks_60 : decode cX0_walks 60 = .ok (.aload_n 3, 1) := dk_45 (dk_at dksX0_walks_2 14 rfl rfl)
theorem dX0_walks_61 : decode cX0_walks 61 = .ok (.iload_n 2, 1) := dk_28 (dk_at dksX0_walks_2 15 rfl rfl)
theorem dX0_walks_62 : decode cX0_walks 62 = .ok (.iconst 0, 1) := dk_3 (dk_at dksX0_walks_2 16 rfl rfl)
theorem dX0_walks_63 : decode cX0_walks 63 = .ok (.sastore, 1) := dk_86 (dk_at dksX0_walks_2 17 rfl rfl)
theorem dX0_walks_64 : decode cX0_walks 64 = .ok (.aload 4, 2) := dk_25 4 (dk_at dksX0_walks_2 18 rfl rfl)
theorem dX0_walks_66 : decode cX0_walks 66 = .ok (.iload 5, 2) := dk_21 5 (dk_at dksX0_walks_2 20 rfl rfl)
theorem dX0_walks_68 : decode cX0_walks 68 = .ok (.iinc 5 1, 3) := dk_132 5 1 (dk_at dksX0_walks_3 0 rfl rfl)
theorem dX0_walks_71 : decode cX0_walks 71 = .ok (.iload_n 2, 1) := dk_28 (dk_at dksX0_walks_3 3 rfl rfl)
theorem dX0_walks_72 : decode cX0_walks 72 = .ok (.iastore, 1) := dk_79 (dk_at dksX0_walks_3 4 rfl rfl)
theorem dX0_walks_73 : decode cX0_walks 73 = .ok (.iconst 0, 1) := dk_3 (dk_at dksX0_walks_3 5 rfl rfl)
theorem dX0_walks_74 : decode cX0_walks 74 = .ok (.istore 6, 2) := dk_54 6 (dk_at dksX0_walks_3 6 rfl rfl)
theorem dX0_walks_76 : decode cX0_walks 76 = .ok (.iload 6, 2) := dk_21 6 (dk_at dksX0_walks_3 8 rfl rfl)
theorem dX0_walks_78 : decode cX0_walks 78 = .ok (.iload 5, 2) := dk_21 5 (dk_at dksX0_walks_3 10 rfl rfl)
theorem dX0_walks_80 : decode cX0_walks 80 = .ok (.if_icmp .ge 95, 3) := dk_162 0 95 (dk_at dksX0_walks_3 12 rfl rfl)
theorem dX0_walks_83 : decode cX0_walks 83 = .ok (.iconst 0, 1) := dk_3 (dk_at dksX0_walks_3 15 rfl rfl)
theorem dX0_walks_84 : decode cX0_walks 84 = .ok (.istore 7, 2) := dk_54 7 (dk_at dksX0_walks_3 16 rfl rfl)
theorem dX0_walks_86 : decode cX0_walks 86 = .ok (.iload 7, 2) := dk_21 7 (dk_at dksX0_walks_3 18 rfl rfl)
theorem dX0_walks_88 : decode cX0_walks 88 = .ok (.iconst 4, 1) := dk_7 (dk_at dksX0_walks_3 20 rfl rfl)
theorem dX0_walks_89 : decode cX0_walks 89 = .ok (.if_icmp .ge 80, 3) := dk_162 0 80 (dk_at dksX0_walks_3 21 rfl rfl)
theorem dX0_walks_92 : decode cX0_walks 92 = .ok (.aload_n 0, 1) := dk_42 (dk_at dksX0_walks_4 0 rfl rfl)
theorem dX0_walks_93 : decode cX0_walks 93 = .ok (.getfield 20, 3) := dk_180 0 20 (dk_at dksX0_walks_4 1 rfl rfl)
theorem dX0_walks_96 : decode cX0_walks 96 = .ok (.aload 4, 2) := dk_25 4 (dk_at dksX0_walks_4 4 rfl rfl)
theorem dX0_walks_98 : decode cX0_walks 98 = .ok (.iload 6, 2) := dk_21 6 (dk_at dksX0_walks_4 6 rfl rfl)
theorem dX0_walks_100 : decode cX0_walks 100 = .ok (.iaload, 1) := dk_46 (dk_at dksX0_walks_4 8 rfl rfl)
theorem dX0_walks_101 : decode cX0_walks 101 = .ok (.iload 7, 2) := dk_21 7 (dk_at dksX0_walks_4 9 rfl rfl)
theorem dX0_walks_103 : decode cX0_walks 103 = .ok (.invokevirtual 173, 3) := dk_182 0 173 (dk_at dksX0_walks_4 11 rfl rfl)
theorem dX0_walks_106 : decode cX0_walks 106 = .ok (.istore 8, 2) := dk_54 8 (dk_at dksX0_walks_4 14 rfl rfl)
theorem dX0_walks_108 : decode cX0_walks 108 = .ok (.iload 8, 2) := dk_21 8 (dk_at dksX0_walks_4 16 rfl rfl)
theorem dX0_walks_110 : decode cX0_walks 110 = .ok (.iconst (-1), 1) := dk_2 (dk_at dksX0_walks_4 18 rfl rfl)
theorem dX0_walks_111 : decode cX0_walks 111 = .ok (.if_icmp .eq 52, 3) := dk_159 0 52 (dk_at dksX0_walks_4 19 rfl rfl)
theorem dX0_walks_114 : decode cX0_walks 114 = .ok (.aload_n 0, 1) := dk_42 (dk_at dksX0_walks_4 22 rfl rfl)
theorem dX0_walks_115 : decode cX0_walks 115 = .ok (.getfield 20, 3) := dk_180 0 20 (dk_at dksX0_walks_5 0 rfl rfl)
theorem dX0_walks_118 : decode cX0_walks 118 = .ok (.getfield 128, 3) := dk_180 0 128 (dk_at dksX0_walks_5 3 rfl rfl)
theorem dX0_walks_121 : decode cX0_walks 121 = .ok (.iload 8, 2) := dk_21 8 (dk_at dksX0_walks_5 6 rfl rfl)
theorem dX0_walks_123 : decode cX0_walks 123 = .ok (.iaload, 1) := dk_46 (dk_at dksX0_walks_5 8 rfl rfl)
theorem dX0_walks_124 : decode cX0_walks 124 = .ok (.iload_n 1, 1) := dk_27 (dk_at dksX0_walks_5 9 rfl rfl)
theorem dX0_walks_125 : decode cX0_walks 125 = .ok (.if_icmp .lt 38, 3) := dk_161 0 38 (dk_at dksX0_walks_5 10 rfl rfl)
theorem dX0_walks_128 : decode cX0_walks 128 = .ok (.aload_n 3, 1) := dk_45 (dk_at dksX0_walks_5 13 rfl rfl)
theorem dX0_walks_129 : decode cX0_walks 129 = .ok (.iload 8, 2) := dk_21 8 (dk_at dksX0_walks_5 14 rfl rfl)
theorem dX0_walks_131 : decode cX0_walks 131 = .ok (.saload, 1) := dk_53 (dk_at dksX0_walks_5 16 rfl rfl)
theorem dX0_walks_132 : decode cX0_walks 132 = .ok (.iconst (-1), 1) := dk_2 (dk_at dksX0_walks_5 17 rfl rfl)
theorem dX0_walks_133 : decode cX0_walks 133 = .ok (.if_icmp .eq 6, 3) := dk_159 0 6 (dk_at dksX0_walks_5 18 rfl rfl)
theorem dX0_walks_136 : decode cX0_walks 136 = .ok (.goto 27, 3) := dk_167 0 27 (dk_at dksX0_walks_5 21 rfl rfl)
theorem dX0_walks_139 : decode cX0_walks 139 = .ok (.aload_n 3, 1) := dk_45 (dk_at dksX0_walks_6 0 rfl rfl)
theorem dX0_walks_140 : decode cX0_walks 140 = .ok (.iload 8, 2) := dk_21 8 (dk_at dksX0_walks_6 1 rfl rfl)
theorem dX0_walks_142 : decode cX0_walks 142 = .ok (.aload_n 3, 1) := dk_45 (dk_at dksX0_walks_6 3 rfl rfl)
theorem dX0_walks_143 : decode cX0_walks 143 = .ok (.aload 4, 2) := dk_25 4 (dk_at dksX0_walks_6 4 rfl rfl)
theorem dX0_walks_145 : decode cX0_walks 145 = .ok (.iload 6, 2) := dk_21 6 (dk_at dksX0_walks_6 6 rfl rfl)
theorem dX0_walks_147 : decode cX0_walks 147 = .ok (.iaload, 1) := dk_46 (dk_at dksX0_walks_6 8 rfl rfl)
theorem dX0_walks_148 : decode cX0_walks 148 = .ok (.saload, 1) := dk_53 (dk_at dksX0_walks_6 9 rfl rfl)
theorem dX0_walks_149 : decode cX0_walks 149 = .ok (.iconst 1, 1) := dk_4 (dk_at dksX0_walks_6 10 rfl rfl)
theorem dX0_walks_150 : decode cX0_walks 150 = .ok (.iadd, 1) := dk_96 (dk_at dksX0_walks_6 11 rfl rfl)
theorem dX0_walks_151 : decode cX0_walks 151 = .ok (.i2s, 1) := dk_147 (dk_at dksX0_walks_6 12 rfl rfl)
theorem dX0_walks_152 : decode cX0_walks 152 = .ok (.sastore, 1) := dk_86 (dk_at dksX0_walks_6 13 rfl rfl)
theorem dX0_walks_153 : decode cX0_walks 153 = .ok (.aload 4, 2) := dk_25 4 (dk_at dksX0_walks_6 14 rfl rfl)
theorem dX0_walks_155 : decode cX0_walks 155 = .ok (.iload 5, 2) := dk_21 5 (dk_at dksX0_walks_6 16 rfl rfl)
theorem dX0_walks_157 : decode cX0_walks 157 = .ok (.iinc 5 1, 3) := dk_132 5 1 (dk_at dksX0_walks_6 18 rfl rfl)
theorem dX0_walks_160 : decode cX0_walks 160 = .ok (.iload 8, 2) := dk_21 8 (dk_at dksX0_walks_6 21 rfl rfl)
theorem dX0_walks_162 : decode cX0_walks 162 = .ok (.iastore, 1) := dk_79 (dk_at dksX0_walks_6 23 rfl rfl)
theorem dX0_walks_163 : decode cX0_walks 163 = .ok (.iinc 7 1, 3) := dk_132 7 1 (dk_at dksX0_walks_7 0 rfl rfl)
theorem dX0_walks_166 : decode cX0_walks 166 = .ok (.goto (-80), 3) := dk_167 255 176 (dk_at dksX0_walks_7 3 rfl rfl)
theorem dX0_walks_169 : decode cX0_walks 169 = .ok (.iinc 6 1, 3) := dk_132 6 1 (dk_at dksX0_walks_7 6 rfl rfl)
theorem dX0_walks_172 : decode cX0_walks 172 = .ok (.goto (-96), 3) := dk_167 255 160 (dk_at dksX0_walks_7 9 rfl rfl)
theorem dX0_walks_175 : decode cX0_walks 175 = .ok (.aload_n 3, 1) := dk_45 (dk_at dksX0_walks_7 12 rfl rfl)
theorem dX0_walks_176 : decode cX0_walks 176 = .ok (.areturn, 1) := dk_176 (dk_at dksX0_walks_7 13 rfl rfl)
abbrev cX0_booksOf : ByteArray := prog_1_method_32_code
def yX0_booksOf : MethodName := ⟨RX0, "booksOf", "(I)I"⟩
def dkwX0_booksOf_2 : List UInt8 := [167, 255, 215, 28, 172]
abbrev dktX0_booksOf_2 : List UInt8 := dkwX0_booksOf_2 ++ []
def dkwX0_booksOf_1 : List UInt8 := [180, 1, 8, 29, 182, 0, 104, 192, 1, 26, 180, 1, 28, 27, 160, 0, 6, 132, 2, 1, 132, 3, 1]
abbrev dktX0_booksOf_1 : List UInt8 := dkwX0_booksOf_1 ++ dktX0_booksOf_2
def dkwX0_booksOf_0 : List UInt8 := [3, 61, 3, 62, 29, 42, 180, 0, 20, 180, 1, 8, 182, 0, 100, 162, 0, 33, 42, 180, 0, 20]
abbrev dktX0_booksOf_0 : List UInt8 := dkwX0_booksOf_0 ++ dktX0_booksOf_1
theorem dksX0_booksOf_0 : cX0_booksOf.data.toList.drop 0 = dktX0_booksOf_0 := by decide +kernel
theorem dksX0_booksOf_1 : cX0_booksOf.data.toList.drop 22 = dktX0_booksOf_1 := dk_seg dksX0_booksOf_0 22 rfl rfl
theorem dksX0_booksOf_2 : cX0_booksOf.data.toList.drop 45 = dktX0_booksOf_2 := dk_seg dksX0_booksOf_1 23 rfl rfl
theorem dX0_booksOf_0 : decode cX0_booksOf 0 = .ok (.iconst 0, 1) := dk_3 (dk_at dksX0_booksOf_0 0 rfl rfl)
theorem dX0_booksOf_1 : decode cX0_booksOf 1 = .ok (.istore_n 2, 1) := dk_61 (dk_at dksX0_booksOf_0 1 rfl rfl)
theorem dX0_booksOf_2 : decode cX0_booksOf 2 = .ok (.iconst 0, 1) := dk_3 (dk_at dksX0_booksOf_0 2 rfl rfl)
theorem dX0_booksOf_3 : decode cX0_booksOf 3 = .ok (.istore_n 3, 1) := dk_62 (dk_at dksX0_booksOf_0 3 rfl rfl)
theorem dX0_booksOf_4 : decode cX0_booksOf 4 = .ok (.iload_n 3, 1) := dk_29 (dk_at dksX0_booksOf_0 4 rfl rfl)
theorem dX0_booksOf_5 : decode cX0_booksOf 5 = .ok (.aload_n 0, 1) := dk_42 (dk_at dksX0_booksOf_0 5 rfl rfl)
theorem dX0_booksOf_6 : decode cX0_booksOf 6 = .ok (.getfield 20, 3) := dk_180 0 20 (dk_at dksX0_booksOf_0 6 rfl rfl)
theorem dX0_booksOf_9 : decode cX0_booksOf 9 = .ok (.getfield 264, 3) := dk_180 1 8 (dk_at dksX0_booksOf_0 9 rfl rfl)
theorem dX0_booksOf_12 : decode cX0_booksOf 12 = .ok (.invokevirtual 100, 3) := dk_182 0 100 (dk_at dksX0_booksOf_0 12 rfl rfl)
theorem dX0_booksOf_15 : decode cX0_booksOf 15 = .ok (.if_icmp .ge 33, 3) := dk_162 0 33 (dk_at dksX0_booksOf_0 15 rfl rfl)
theorem dX0_booksOf_18 : decode cX0_booksOf 18 = .ok (.aload_n 0, 1) := dk_42 (dk_at dksX0_booksOf_0 18 rfl rfl)
theorem dX0_booksOf_19 : decode cX0_booksOf 19 = .ok (.getfield 20, 3) := dk_180 0 20 (dk_at dksX0_booksOf_0 19 rfl rfl)
theorem dX0_booksOf_22 : decode cX0_booksOf 22 = .ok (.getfield 264, 3) := dk_180 1 8 (dk_at dksX0_booksOf_1 0 rfl rfl)
theorem dX0_booksOf_25 : decode cX0_booksOf 25 = .ok (.iload_n 3, 1) := dk_29 (dk_at dksX0_booksOf_1 3 rfl rfl)
theorem dX0_booksOf_26 : decode cX0_booksOf 26 = .ok (.invokevirtual 104, 3) := dk_182 0 104 (dk_at dksX0_booksOf_1 4 rfl rfl)
theorem dX0_booksOf_29 : decode cX0_booksOf 29 = .ok (.checkcast 282, 3) := dk_192 1 26 (dk_at dksX0_booksOf_1 7 rfl rfl)
theorem dX0_booksOf_32 : decode cX0_booksOf 32 = .ok (.getfield 284, 3) := dk_180 1 28 (dk_at dksX0_booksOf_1 10 rfl rfl)
theorem dX0_booksOf_35 : decode cX0_booksOf 35 = .ok (.iload_n 1, 1) := dk_27 (dk_at dksX0_booksOf_1 13 rfl rfl)
theorem dX0_booksOf_36 : decode cX0_booksOf 36 = .ok (.if_icmp .ne 6, 3) := dk_160 0 6 (dk_at dksX0_booksOf_1 14 rfl rfl)
theorem dX0_booksOf_39 : decode cX0_booksOf 39 = .ok (.iinc 2 1, 3) := dk_132 2 1 (dk_at dksX0_booksOf_1 17 rfl rfl)
theorem dX0_booksOf_42 : decode cX0_booksOf 42 = .ok (.iinc 3 1, 3) := dk_132 3 1 (dk_at dksX0_booksOf_1 20 rfl rfl)
theorem dX0_booksOf_45 : decode cX0_booksOf 45 = .ok (.goto (-41), 3) := dk_167 255 215 (dk_at dksX0_booksOf_2 0 rfl rfl)
theorem dX0_booksOf_48 : decode cX0_booksOf 48 = .ok (.iload_n 2, 1) := dk_28 (dk_at dksX0_booksOf_2 3 rfl rfl)
theorem dX0_booksOf_49 : decode cX0_booksOf 49 = .ok (.ireturn, 1) := dk_172 (dk_at dksX0_booksOf_2 4 rfl rfl)
abbrev cX0_saying : ByteArray := prog_1_method_35_code
def yX0_saying : MethodName := ⟨RX0, "saying", "(III)I"⟩
def dkwX0_saying_6 : List UInt8 := [153, 0, 7, 4, 167, 0, 4, 3, 172, 2, 172]
abbrev dktX0_saying_6 : List UInt8 := dkwX0_saying_6 ++ []
def dkwX0_saying_5 : List UInt8 := [182, 1, 69, 153, 0, 7, 4, 167, 0, 4, 3, 172, 42, 27, 182, 1, 31, 25, 4, 182, 1, 70]
abbrev dktX0_saying_5 : List UInt8 := dkwX0_saying_5 ++ dktX0_saying_6
def dkwX0_saying_4 : List UInt8 := [3, 172, 25, 4, 42, 180, 0, 20, 42, 180, 0, 20, 180, 0, 163, 27, 182, 0, 104, 192, 0, 178]
abbrev dktX0_saying_4 : List UInt8 := dkwX0_saying_4 ++ dktX0_saying_5
def dkwX0_saying_3 : List UInt8 := [25, 4, 180, 1, 64, 172, 25, 4, 180, 1, 65, 172, 25, 4, 180, 1, 66, 153, 0, 7, 4, 167, 0, 4]
abbrev dktX0_saying_3 : List UInt8 := dkwX0_saying_3 ++ dktX0_saying_4
def dkwX0_saying_2 : List UInt8 := [170, 0, 0, 0, 110, 0, 0, 0, 0, 0, 0, 0, 4, 0, 0, 0, 33, 0, 0, 0, 39, 0, 0, 0, 45, 0, 0, 0, 59, 0, 0, 0, 91]
abbrev dktX0_saying_2 : List UInt8 := dkwX0_saying_2 ++ dktX0_saying_3
def dkwX0_saying_1 : List UInt8 := [192, 0, 42, 28, 182, 0, 104, 192, 1, 62, 58, 4, 29]
abbrev dktX0_saying_1 : List UInt8 := dkwX0_saying_1 ++ dktX0_saying_2
def dkwX0_saying_0 : List UInt8 := [42, 27, 28, 182, 1, 58, 154, 0, 5, 2, 172, 42, 180, 0, 28, 180, 0, 249, 27, 182, 0, 104]
abbrev dktX0_saying_0 : List UInt8 := dkwX0_saying_0 ++ dktX0_saying_1
theorem dksX0_saying_0 : cX0_saying.data.toList.drop 0 = dktX0_saying_0 := by decide +kernel
theorem dksX0_saying_1 : cX0_saying.data.toList.drop 22 = dktX0_saying_1 := dk_seg dksX0_saying_0 22 rfl rfl
theorem dksX0_saying_2 : cX0_saying.data.toList.drop 35 = dktX0_saying_2 := dk_seg dksX0_saying_1 13 rfl rfl
theorem dksX0_saying_3 : cX0_saying.data.toList.drop 68 = dktX0_saying_3 := dk_seg dksX0_saying_2 33 rfl rfl
theorem dksX0_saying_4 : cX0_saying.data.toList.drop 92 = dktX0_saying_4 := dk_seg dksX0_saying_3 24 rfl rfl
theorem dksX0_saying_5 : cX0_saying.data.toList.drop 114 = dktX0_saying_5 := dk_seg dksX0_saying_4 22 rfl rfl
theorem dksX0_saying_6 : cX0_saying.data.toList.drop 136 = dktX0_saying_6 := dk_seg dksX0_saying_5 22 rfl rfl
theorem dX0_saying_0 : decode cX0_saying 0 = .ok (.aload_n 0, 1) := dk_42 (dk_at dksX0_saying_0 0 rfl rfl)
theorem dX0_saying_1 : decode cX0_saying 1 = .ok (.iload_n 1, 1) := dk_27 (dk_at dksX0_saying_0 1 rfl rfl)
theorem dX0_saying_2 : decode cX0_saying 2 = .ok (.iload_n 2, 1) := dk_28 (dk_at dksX0_saying_0 2 rfl rfl)
theorem dX0_saying_3 : decode cX0_saying 3 = .ok (.invokevirtual 314, 3) := dk_182 1 58 (dk_at dksX0_saying_0 3 rfl rfl)
theorem dX0_saying_6 : decode cX0_saying 6 = .ok (.ifCond .ne 5, 3) := dk_154 0 5 (dk_at dksX0_saying_0 6 rfl rfl)
theorem dX0_saying_9 : decode cX0_saying 9 = .ok (.iconst (-1), 1) := dk_2 (dk_at dksX0_saying_0 9 rfl rfl)
theorem dX0_saying_10 : decode cX0_saying 10 = .ok (.ireturn, 1) := dk_172 (dk_at dksX0_saying_0 10 rfl rfl)
theorem dX0_saying_11 : decode cX0_saying 11 = .ok (.aload_n 0, 1) := dk_42 (dk_at dksX0_saying_0 11 rfl rfl)
theorem dX0_saying_12 : decode cX0_saying 12 = .ok (.getfield 28, 3) := dk_180 0 28 (dk_at dksX0_saying_0 12 rfl rfl)
theorem dX0_saying_15 : decode cX0_saying 15 = .ok (.getfield 249, 3) := dk_180 0 249 (dk_at dksX0_saying_0 15 rfl rfl)
theorem dX0_saying_18 : decode cX0_saying 18 = .ok (.iload_n 1, 1) := dk_27 (dk_at dksX0_saying_0 18 rfl rfl)
theorem dX0_saying_19 : decode cX0_saying 19 = .ok (.invokevirtual 104, 3) := dk_182 0 104 (dk_at dksX0_saying_0 19 rfl rfl)
theorem dX0_saying_22 : decode cX0_saying 22 = .ok (.checkcast 42, 3) := dk_192 0 42 (dk_at dksX0_saying_1 0 rfl rfl)
theorem dX0_saying_25 : decode cX0_saying 25 = .ok (.iload_n 2, 1) := dk_28 (dk_at dksX0_saying_1 3 rfl rfl)
theorem dX0_saying_26 : decode cX0_saying 26 = .ok (.invokevirtual 104, 3) := dk_182 0 104 (dk_at dksX0_saying_1 4 rfl rfl)
theorem dX0_saying_29 : decode cX0_saying 29 = .ok (.checkcast 318, 3) := dk_192 1 62 (dk_at dksX0_saying_1 7 rfl rfl)
theorem dX0_saying_32 : decode cX0_saying 32 = .ok (.astore 4, 2) := dk_58 4 (dk_at dksX0_saying_1 10 rfl rfl)
theorem dX0_saying_34 : decode cX0_saying 34 = .ok (.iload_n 3, 1) := dk_29 (dk_at dksX0_saying_1 12 rfl rfl)
theorem dX0_saying_35 : decode cX0_saying 35 = .ok (.tableswitch 110 0 4 #[33, 39, 45, 59, 91], 33) := by decide +kernel
theorem dX0_saying_68 : decode cX0_saying 68 = .ok (.aload 4, 2) := dk_25 4 (dk_at dksX0_saying_3 0 rfl rfl)
theorem dX0_saying_70 : decode cX0_saying 70 = .ok (.getfield 320, 3) := dk_180 1 64 (dk_at dksX0_saying_3 2 rfl rfl)
theorem dX0_saying_73 : decode cX0_saying 73 = .ok (.ireturn, 1) := dk_172 (dk_at dksX0_saying_3 5 rfl rfl)
theorem dX0_saying_74 : decode cX0_saying 74 = .ok (.aload 4, 2) := dk_25 4 (dk_at dksX0_saying_3 6 rfl rfl)
theorem dX0_saying_76 : decode cX0_saying 76 = .ok (.getfield 321, 3) := dk_180 1 65 (dk_at dksX0_saying_3 8 rfl rfl)
theorem dX0_saying_79 : decode cX0_saying 79 = .ok (.ireturn, 1) := dk_172 (dk_at dksX0_saying_3 11 rfl rfl)
theorem dX0_saying_80 : decode cX0_saying 80 = .ok (.aload 4, 2) := dk_25 4 (dk_at dksX0_saying_3 12 rfl rfl)
theorem dX0_saying_82 : decode cX0_saying 82 = .ok (.getfield 322, 3) := dk_180 1 66 (dk_at dksX0_saying_3 14 rfl rfl)
theorem dX0_saying_85 : decode cX0_saying 85 = .ok (.ifCond .eq 7, 3) := dk_153 0 7 (dk_at dksX0_saying_3 17 rfl rfl)
theorem dX0_saying_88 : decode cX0_saying 88 = .ok (.iconst 1, 1) := dk_4 (dk_at dksX0_saying_3 20 rfl rfl)
theorem dX0_saying_89 : decode cX0_saying 89 = .ok (.goto 4, 3) := dk_167 0 4 (dk_at dksX0_saying_3 21 rfl rfl)
theorem dX0_saying_92 : decode cX0_saying 92 = .ok (.iconst 0, 1) := dk_3 (dk_at dksX0_saying_4 0 rfl rfl)
theorem dX0_saying_93 : decode cX0_saying 93 = .ok (.ireturn, 1) := dk_172 (dk_at dksX0_saying_4 1 rfl rfl)
theorem dX0_saying_94 : decode cX0_saying 94 = .ok (.aload 4, 2) := dk_25 4 (dk_at dksX0_saying_4 2 rfl rfl)
theorem dX0_saying_96 : decode cX0_saying 96 = .ok (.aload_n 0, 1) := dk_42 (dk_at dksX0_saying_4 4 rfl rfl)
theorem dX0_saying_97 : decode cX0_saying 97 = .ok (.getfield 20, 3) := dk_180 0 20 (dk_at dksX0_saying_4 5 rfl rfl)
theorem dX0_saying_100 : decode cX0_saying 100 = .ok (.aload_n 0, 1) := dk_42 (dk_at dksX0_saying_4 8 rfl rfl)
theorem dX0_saying_101 : decode cX0_saying 101 = .ok (.getfield 20, 3) := dk_180 0 20 (dk_at dksX0_saying_4 9 rfl rfl)
theorem dX0_saying_104 : decode cX0_saying 104 = .ok (.getfield 163, 3) := dk_180 0 163 (dk_at dksX0_saying_4 12 rfl rfl)
theorem dX0_saying_107 : decode cX0_saying 107 = .ok (.iload_n 1, 1) := dk_27 (dk_at dksX0_saying_4 15 rfl rfl)
theorem dX0_saying_108 : decode cX0_saying 108 = .ok (.invokevirtual 104, 3) := dk_182 0 104 (dk_at dksX0_saying_4 16 rfl rfl)
theorem dX0_saying_111 : decode cX0_saying 111 = .ok (.checkcast 178, 3) := dk_192 0 178 (dk_at dksX0_saying_4 19 rfl rfl)
theorem dX0_saying_114 : decode cX0_saying 114 = .ok (.invokevirtual 325, 3) := dk_182 1 69 (dk_at dksX0_saying_5 0 rfl rfl)
theorem dX0_saying_117 : decode cX0_saying 117 = .ok (.ifCond .eq 7, 3) := dk_153 0 7 (dk_at dksX0_saying_5 3 rfl rfl)
theorem dX0_saying_120 : decode cX0_saying 120 = .ok (.iconst 1, 1) := dk_4 (dk_at dksX0_saying_5 6 rfl rfl)
theorem dX0_saying_121 : decode cX0_saying 121 = .ok (.goto 4, 3) := dk_167 0 4 (dk_at dksX0_saying_5 7 rfl rfl)
theorem dX0_saying_124 : decode cX0_saying 124 = .ok (.iconst 0, 1) := dk_3 (dk_at dksX0_saying_5 10 rfl rfl)
theorem dX0_saying_125 : decode cX0_saying 125 = .ok (.ireturn, 1) := dk_172 (dk_at dksX0_saying_5 11 rfl rfl)
theorem dX0_saying_126 : decode cX0_saying 126 = .ok (.aload_n 0, 1) := dk_42 (dk_at dksX0_saying_5 12 rfl rfl)
theorem dX0_saying_127 : decode cX0_saying 127 = .ok (.iload_n 1, 1) := dk_27 (dk_at dksX0_saying_5 13 rfl rfl)
theorem dX0_saying_128 : decode cX0_saying 128 = .ok (.invokevirtual 287, 3) := dk_182 1 31 (dk_at dksX0_saying_5 14 rfl rfl)
theorem dX0_saying_131 : decode cX0_saying 131 = .ok (.aload 4, 2) := dk_25 4 (dk_at dksX0_saying_5 17 rfl rfl)
theorem dX0_saying_133 : decode cX0_saying 133 = .ok (.invokevirtual 326, 3) := dk_182 1 70 (dk_at dksX0_saying_5 19 rfl rfl)
theorem dX0_saying_136 : decode cX0_saying 136 = .ok (.ifCond .eq 7, 3) := dk_153 0 7 (dk_at dksX0_saying_6 0 rfl rfl)
theorem dX0_saying_139 : decode cX0_saying 139 = .ok (.iconst 1, 1) := dk_4 (dk_at dksX0_saying_6 3 rfl rfl)
theorem dX0_saying_140 : decode cX0_saying 140 = .ok (.goto 4, 3) := dk_167 0 4 (dk_at dksX0_saying_6 4 rfl rfl)
theorem dX0_saying_143 : decode cX0_saying 143 = .ok (.iconst 0, 1) := dk_3 (dk_at dksX0_saying_6 7 rfl rfl)
theorem dX0_saying_144 : decode cX0_saying 144 = .ok (.ireturn, 1) := dk_172 (dk_at dksX0_saying_6 8 rfl rfl)
theorem dX0_saying_145 : decode cX0_saying 145 = .ok (.iconst (-1), 1) := dk_2 (dk_at dksX0_saying_6 9 rfl rfl)
theorem dX0_saying_146 : decode cX0_saying 146 = .ok (.ireturn, 1) := dk_172 (dk_at dksX0_saying_6 10 rfl rfl)
abbrev cX0_isSaying : ByteArray := prog_1_method_34_code
def yX0_isSaying : MethodName := ⟨RX0, "isSaying", "(II)Z"⟩
def dkwX0_isSaying_1 : List UInt8 := [192, 0, 42, 182, 0, 100, 4, 100, 133, 184, 0, 96, 153, 0, 7, 4, 167, 0, 4, 3, 172]
abbrev dktX0_isSaying_1 : List UInt8 := dkwX0_isSaying_1 ++ []
def dkwX0_isSaying_0 : List UInt8 := [42, 27, 182, 1, 22, 153, 0, 36, 28, 133, 9, 42, 180, 0, 28, 180, 0, 249, 27, 182, 0, 104]
abbrev dktX0_isSaying_0 : List UInt8 := dkwX0_isSaying_0 ++ dktX0_isSaying_1
theorem dksX0_isSaying_0 : cX0_isSaying.data.toList.drop 0 = dktX0_isSaying_0 := by decide +kernel
theorem dksX0_isSaying_1 : cX0_isSaying.data.toList.drop 22 = dktX0_isSaying_1 := dk_seg dksX0_isSaying_0 22 rfl rfl
theorem dX0_isSaying_0 : decode cX0_isSaying 0 = .ok (.aload_n 0, 1) := dk_42 (dk_at dksX0_isSaying_0 0 rfl rfl)
theorem dX0_isSaying_1 : decode cX0_isSaying 1 = .ok (.iload_n 1, 1) := dk_27 (dk_at dksX0_isSaying_0 1 rfl rfl)
theorem dX0_isSaying_2 : decode cX0_isSaying 2 = .ok (.invokevirtual 278, 3) := dk_182 1 22 (dk_at dksX0_isSaying_0 2 rfl rfl)
theorem dX0_isSaying_5 : decode cX0_isSaying 5 = .ok (.ifCond .eq 36, 3) := dk_153 0 36 (dk_at dksX0_isSaying_0 5 rfl rfl)
theorem dX0_isSaying_8 : decode cX0_isSaying 8 = .ok (.iload_n 2, 1) := dk_28 (dk_at dksX0_isSaying_0 8 rfl rfl)
theorem dX0_isSaying_9 : decode cX0_isSaying 9 = .ok (.i2l, 1) := dk_133 (dk_at dksX0_isSaying_0 9 rfl rfl)
theorem dX0_isSaying_10 : decode cX0_isSaying 10 = .ok (.lconst 0, 1) := dk_9 (dk_at dksX0_isSaying_0 10 rfl rfl)
theorem dX0_isSaying_11 : decode cX0_isSaying 11 = .ok (.aload_n 0, 1) := dk_42 (dk_at dksX0_isSaying_0 11 rfl rfl)
theorem dX0_isSaying_12 : decode cX0_isSaying 12 = .ok (.getfield 28, 3) := dk_180 0 28 (dk_at dksX0_isSaying_0 12 rfl rfl)
theorem dX0_isSaying_15 : decode cX0_isSaying 15 = .ok (.getfield 249, 3) := dk_180 0 249 (dk_at dksX0_isSaying_0 15 rfl rfl)
theorem dX0_isSaying_18 : decode cX0_isSaying 18 = .ok (.iload_n 1, 1) := dk_27 (dk_at dksX0_isSaying_0 18 rfl rfl)
theorem dX0_isSaying_19 : decode cX0_isSaying 19 = .ok (.invokevirtual 104, 3) := dk_182 0 104 (dk_at dksX0_isSaying_0 19 rfl rfl)
theorem dX0_isSaying_22 : decode cX0_isSaying 22 = .ok (.checkcast 42, 3) := dk_192 0 42 (dk_at dksX0_isSaying_1 0 rfl rfl)
theorem dX0_isSaying_25 : decode cX0_isSaying 25 = .ok (.invokevirtual 100, 3) := dk_182 0 100 (dk_at dksX0_isSaying_1 3 rfl rfl)
theorem dX0_isSaying_28 : decode cX0_isSaying 28 = .ok (.iconst 1, 1) := dk_4 (dk_at dksX0_isSaying_1 6 rfl rfl)
theorem dX0_isSaying_29 : decode cX0_isSaying 29 = .ok (.isub, 1) := dk_100 (dk_at dksX0_isSaying_1 7 rfl rfl)
theorem dX0_isSaying_30 : decode cX0_isSaying 30 = .ok (.i2l, 1) := dk_133 (dk_at dksX0_isSaying_1 8 rfl rfl)
theorem dX0_isSaying_31 : decode cX0_isSaying 31 = .ok (.invokestatic 96, 3) := dk_184 0 96 (dk_at dksX0_isSaying_1 9 rfl rfl)
theorem dX0_isSaying_34 : decode cX0_isSaying 34 = .ok (.ifCond .eq 7, 3) := dk_153 0 7 (dk_at dksX0_isSaying_1 12 rfl rfl)
theorem dX0_isSaying_37 : decode cX0_isSaying 37 = .ok (.iconst 1, 1) := dk_4 (dk_at dksX0_isSaying_1 15 rfl rfl)
theorem dX0_isSaying_38 : decode cX0_isSaying 38 = .ok (.goto 4, 3) := dk_167 0 4 (dk_at dksX0_isSaying_1 16 rfl rfl)
theorem dX0_isSaying_41 : decode cX0_isSaying 41 = .ok (.iconst 0, 1) := dk_3 (dk_at dksX0_isSaying_1 19 rfl rfl)
theorem dX0_isSaying_42 : decode cX0_isSaying 42 = .ok (.ireturn, 1) := dk_172 (dk_at dksX0_isSaying_1 20 rfl rfl)
abbrev cX0_cell : ByteArray := prog_1_method_36_code
def yX0_cell : MethodName := ⟨RX0, "cell", "(IIII)I"⟩
def dkwX0_cell_3 : List UInt8 := [21, 5, 29, 182, 1, 80, 153, 0, 7, 4, 167, 0, 8, 3, 167, 0, 4, 2, 172]
abbrev dktX0_cell_3 : List UInt8 := dkwX0_cell_3 ++ []
def dkwX0_cell_2 : List UInt8 := [160, 0, 16, 42, 180, 0, 20, 180, 0, 154, 21, 5, 46, 167, 0, 28, 21, 4, 5, 160, 0, 21, 42]
abbrev dktX0_cell_2 : List UInt8 := dkwX0_cell_2 ++ dktX0_cell_3
def dkwX0_cell_1 : List UInt8 := [2, 172, 21, 4, 154, 0, 16, 42, 180, 0, 20, 180, 0, 128, 21, 5, 46, 167, 0, 47, 21, 4, 4]
abbrev dktX0_cell_1 : List UInt8 := dkwX0_cell_1 ++ dktX0_cell_2
def dkwX0_cell_0 : List UInt8 := [42, 180, 0, 20, 27, 28, 182, 1, 74, 54, 5, 21, 5, 2, 159, 0, 10, 29, 184, 1, 77, 154, 0, 5]
abbrev dktX0_cell_0 : List UInt8 := dkwX0_cell_0 ++ dktX0_cell_1
theorem dksX0_cell_0 : cX0_cell.data.toList.drop 0 = dktX0_cell_0 := by decide +kernel
theorem dksX0_cell_1 : cX0_cell.data.toList.drop 24 = dktX0_cell_1 := dk_seg dksX0_cell_0 24 rfl rfl
theorem dksX0_cell_2 : cX0_cell.data.toList.drop 47 = dktX0_cell_2 := dk_seg dksX0_cell_1 23 rfl rfl
theorem dksX0_cell_3 : cX0_cell.data.toList.drop 70 = dktX0_cell_3 := dk_seg dksX0_cell_2 23 rfl rfl
theorem dX0_cell_0 : decode cX0_cell 0 = .ok (.aload_n 0, 1) := dk_42 (dk_at dksX0_cell_0 0 rfl rfl)
theorem dX0_cell_1 : decode cX0_cell 1 = .ok (.getfield 20, 3) := dk_180 0 20 (dk_at dksX0_cell_0 1 rfl rfl)
theorem dX0_cell_4 : decode cX0_cell 4 = .ok (.iload_n 1, 1) := dk_27 (dk_at dksX0_cell_0 4 rfl rfl)
theorem dX0_cell_5 : decode cX0_cell 5 = .ok (.iload_n 2, 1) := dk_28 (dk_at dksX0_cell_0 5 rfl rfl)
theorem dX0_cell_6 : decode cX0_cell 6 = .ok (.invokevirtual 330, 3) := dk_182 1 74 (dk_at dksX0_cell_0 6 rfl rfl)
theorem dX0_cell_9 : decode cX0_cell 9 = .ok (.istore 5, 2) := dk_54 5 (dk_at dksX0_cell_0 9 rfl rfl)
theorem dX0_cell_11 : decode cX0_cell 11 = .ok (.iload 5, 2) := dk_21 5 (dk_at dksX0_cell_0 11 rfl rfl)
theorem dX0_cell_13 : decode cX0_cell 13 = .ok (.iconst (-1), 1) := dk_2 (dk_at dksX0_cell_0 13 rfl rfl)
theorem dX0_cell_14 : decode cX0_cell 14 = .ok (.if_icmp .eq 10, 3) := dk_159 0 10 (dk_at dksX0_cell_0 14 rfl rfl)
theorem dX0_cell_17 : decode cX0_cell 17 = .ok (.iload_n 3, 1) := dk_29 (dk_at dksX0_cell_0 17 rfl rfl)
theorem dX0_cell_18 : decode cX0_cell 18 = .ok (.invokestatic 333, 3) := dk_184 1 77 (dk_at dksX0_cell_0 18 rfl rfl)
theorem dX0_cell_21 : decode cX0_cell 21 = .ok (.ifCond .ne 5, 3) := dk_154 0 5 (dk_at dksX0_cell_0 21 rfl rfl)
theorem dX0_cell_24 : decode cX0_cell 24 = .ok (.iconst (-1), 1) := dk_2 (dk_at dksX0_cell_1 0 rfl rfl)
theorem dX0_cell_25 : decode cX0_cell 25 = .ok (.ireturn, 1) := dk_172 (dk_at dksX0_cell_1 1 rfl rfl)
theorem dX0_cell_26 : decode cX0_cell 26 = .ok (.iload 4, 2) := dk_21 4 (dk_at dksX0_cell_1 2 rfl rfl)
theorem dX0_cell_28 : decode cX0_cell 28 = .ok (.ifCond .ne 16, 3) := dk_154 0 16 (dk_at dksX0_cell_1 4 rfl rfl)
theorem dX0_cell_31 : decode cX0_cell 31 = .ok (.aload_n 0, 1) := dk_42 (dk_at dksX0_cell_1 7 rfl rfl)
theorem dX0_cell_32 : decode cX0_cell 32 = .ok (.getfield 20, 3) := dk_180 0 20 (dk_at dksX0_cell_1 8 rfl rfl)
theorem dX0_cell_35 : decode cX0_cell 35 = .ok (.getfield 128, 3) := dk_180 0 128 (dk_at dksX0_cell_1 11 rfl rfl)
theorem dX0_cell_38 : decode cX0_cell 38 = .ok (.iload 5, 2) := dk_21 5 (dk_at dksX0_cell_1 14 rfl rfl)
theorem dX0_cell_40 : decode cX0_cell 40 = .ok (.iaload, 1) := dk_46 (dk_at dksX0_cell_1 16 rfl rfl)
theorem dX0_cell_41 : decode cX0_cell 41 = .ok (.goto 47, 3) := dk_167 0 47 (dk_at dksX0_cell_1 17 rfl rfl)
theorem dX0_cell_44 : decode cX0_cell 44 = .ok (.iload 4, 2) := dk_21 4 (dk_at dksX0_cell_1 20 rfl rfl)
theorem dX0_cell_46 : decode cX0_cell 46 = .ok (.iconst 1, 1) := dk_4 (dk_at dksX0_cell_1 22 rfl rfl)
theorem dX0_cell_47 : decode cX0_cell 47 = .ok (.if_icmp .ne 16, 3) := dk_160 0 16 (dk_at dksX0_cell_2 0 rfl rfl)
theorem dX0_cell_50 : decode cX0_cell 50 = .ok (.aload_n 0, 1) := dk_42 (dk_at dksX0_cell_2 3 rfl rfl)
theorem dX0_cell_51 : decode cX0_cell 51 = .ok (.getfield 20, 3) := dk_180 0 20 (dk_at dksX0_cell_2 4 rfl rfl)
theorem dX0_cell_54 : decode cX0_cell 54 = .ok (.getfield 154, 3) := dk_180 0 154 (dk_at dksX0_cell_2 7 rfl rfl)
theorem dX0_cell_57 : decode cX0_cell 57 = .ok (.iload 5, 2) := dk_21 5 (dk_at dksX0_cell_2 10 rfl rfl)
theorem dX0_cell_59 : decode cX0_cell 59 = .ok (.iaload, 1) := dk_46 (dk_at dksX0_cell_2 12 rfl rfl)
theorem dX0_cell_60 : decode cX0_cell 60 = .ok (.goto 28, 3) := dk_167 0 28 (dk_at dksX0_cell_2 13 rfl rfl)
theorem dX0_cell_63 : decode cX0_cell 63 = .ok (.iload 4, 2) := dk_21 4 (dk_at dksX0_cell_2 16 rfl rfl)
theorem dX0_cell_65 : decode cX0_cell 65 = .ok (.iconst 2, 1) := dk_5 (dk_at dksX0_cell_2 18 rfl rfl)
theorem dX0_cell_66 : decode cX0_cell 66 = .ok (.if_icmp .ne 21, 3) := dk_160 0 21 (dk_at dksX0_cell_2 19 rfl rfl)
theorem dX0_cell_69 : decode cX0_cell 69 = .ok (.aload_n 0, 1) := dk_42 (dk_at dksX0_cell_2 22 rfl rfl)
theorem dX0_cell_70 : decode cX0_cell 70 = .ok (.iload 5, 2) := dk_21 5 (dk_at dksX0_cell_3 0 rfl rfl)
theorem dX0_cell_72 : decode cX0_cell 72 = .ok (.iload_n 3, 1) := dk_29 (dk_at dksX0_cell_3 2 rfl rfl)
theorem dX0_cell_73 : decode cX0_cell 73 = .ok (.invokevirtual 336, 3) := dk_182 1 80 (dk_at dksX0_cell_3 3 rfl rfl)
theorem dX0_cell_76 : decode cX0_cell 76 = .ok (.ifCond .eq 7, 3) := dk_153 0 7 (dk_at dksX0_cell_3 6 rfl rfl)
theorem dX0_cell_79 : decode cX0_cell 79 = .ok (.iconst 1, 1) := dk_4 (dk_at dksX0_cell_3 9 rfl rfl)
theorem dX0_cell_80 : decode cX0_cell 80 = .ok (.goto 8, 3) := dk_167 0 8 (dk_at dksX0_cell_3 10 rfl rfl)
theorem dX0_cell_83 : decode cX0_cell 83 = .ok (.iconst 0, 1) := dk_3 (dk_at dksX0_cell_3 13 rfl rfl)
theorem dX0_cell_84 : decode cX0_cell 84 = .ok (.goto 4, 3) := dk_167 0 4 (dk_at dksX0_cell_3 14 rfl rfl)
theorem dX0_cell_87 : decode cX0_cell 87 = .ok (.iconst (-1), 1) := dk_2 (dk_at dksX0_cell_3 17 rfl rfl)
theorem dX0_cell_88 : decode cX0_cell 88 = .ok (.ireturn, 1) := dk_172 (dk_at dksX0_cell_3 18 rfl rfl)
abbrev cX0_isHour : ByteArray := prog_1_method_30_code
def yX0_isHour : MethodName := ⟨RX0, "isHour", "(I)Z"⟩
def dkwX0_isHour_0 : List UInt8 := [26, 133, 9, 20, 1, 20, 184, 0, 96, 172]
abbrev dktX0_isHour_0 : List UInt8 := dkwX0_isHour_0 ++ []
theorem dksX0_isHour_0 : cX0_isHour.data.toList.drop 0 = dktX0_isHour_0 := by decide +kernel
theorem dX0_isHour_0 : decode cX0_isHour 0 = .ok (.iload_n 0, 1) := dk_26 (dk_at dksX0_isHour_0 0 rfl rfl)
theorem dX0_isHour_1 : decode cX0_isHour 1 = .ok (.i2l, 1) := dk_133 (dk_at dksX0_isHour_0 1 rfl rfl)
theorem dX0_isHour_2 : decode cX0_isHour 2 = .ok (.lconst 0, 1) := dk_9 (dk_at dksX0_isHour_0 2 rfl rfl)
theorem dX0_isHour_3 : decode cX0_isHour 3 = .ok (.ldc2_w 276, 3) := dk_20 1 20 (dk_at dksX0_isHour_0 3 rfl rfl)
theorem dX0_isHour_6 : decode cX0_isHour 6 = .ok (.invokestatic 96, 3) := dk_184 0 96 (dk_at dksX0_isHour_0 6 rfl rfl)
theorem dX0_isHour_9 : decode cX0_isHour 9 = .ok (.ireturn, 1) := dk_172 (dk_at dksX0_isHour_0 9 rfl rfl)
abbrev cX0_isQuiet : ByteArray := prog_1_method_15_code
def yX0_isQuiet : MethodName := ⟨RX0, "isQuiet", "(II)Z"⟩
def dkwX0_isQuiet_0 : List UInt8 := [42, 180, 0, 20, 42, 27, 28, 182, 0, 135, 182, 0, 139, 172]
abbrev dktX0_isQuiet_0 : List UInt8 := dkwX0_isQuiet_0 ++ []
theorem dksX0_isQuiet_0 : cX0_isQuiet.data.toList.drop 0 = dktX0_isQuiet_0 := by decide +kernel
theorem dX0_isQuiet_0 : decode cX0_isQuiet 0 = .ok (.aload_n 0, 1) := dk_42 (dk_at dksX0_isQuiet_0 0 rfl rfl)
theorem dX0_isQuiet_1 : decode cX0_isQuiet 1 = .ok (.getfield 20, 3) := dk_180 0 20 (dk_at dksX0_isQuiet_0 1 rfl rfl)
theorem dX0_isQuiet_4 : decode cX0_isQuiet 4 = .ok (.aload_n 0, 1) := dk_42 (dk_at dksX0_isQuiet_0 4 rfl rfl)
theorem dX0_isQuiet_5 : decode cX0_isQuiet 5 = .ok (.iload_n 1, 1) := dk_27 (dk_at dksX0_isQuiet_0 5 rfl rfl)
theorem dX0_isQuiet_6 : decode cX0_isQuiet 6 = .ok (.iload_n 2, 1) := dk_28 (dk_at dksX0_isQuiet_0 6 rfl rfl)
theorem dX0_isQuiet_7 : decode cX0_isQuiet 7 = .ok (.invokevirtual 135, 3) := dk_182 0 135 (dk_at dksX0_isQuiet_0 7 rfl rfl)
theorem dX0_isQuiet_10 : decode cX0_isQuiet 10 = .ok (.invokevirtual 139, 3) := dk_182 0 139 (dk_at dksX0_isQuiet_0 10 rfl rfl)
theorem dX0_isQuiet_13 : decode cX0_isQuiet 13 = .ok (.ireturn, 1) := dk_172 (dk_at dksX0_isQuiet_0 13 rfl rfl)
abbrev cX0_far : ByteArray := prog_1_method_37_code
def yX0_far : MethodName := ⟨RX0, "far", "(IIIII)I"⟩
def dkwX0_far_3 : List UInt8 := [172]
abbrev dktX0_far_3 : List UInt8 := dkwX0_far_3 ++ []
def dkwX0_far_2 : List UInt8 := [180, 0, 20, 180, 0, 163, 27, 182, 0, 104, 192, 0, 178, 21, 6, 21, 7, 182, 0, 203, 167, 0, 4, 2]
abbrev dktX0_far_2 : List UInt8 := dkwX0_far_2 ++ dktX0_far_3
def dkwX0_far_1 : List UInt8 := [42, 27, 182, 1, 22, 153, 0, 40, 21, 6, 2, 159, 0, 34, 21, 7, 2, 159, 0, 28, 42, 42]
abbrev dktX0_far_1 : List UInt8 := dkwX0_far_1 ++ dktX0_far_2
def dkwX0_far_0 : List UInt8 := [42, 180, 0, 20, 28, 29, 182, 1, 74, 54, 6, 42, 180, 0, 20, 21, 4, 21, 5, 182, 1, 74, 54, 7]
abbrev dktX0_far_0 : List UInt8 := dkwX0_far_0 ++ dktX0_far_1
theorem dksX0_far_0 : cX0_far.data.toList.drop 0 = dktX0_far_0 := by decide +kernel
theorem dksX0_far_1 : cX0_far.data.toList.drop 24 = dktX0_far_1 := dk_seg dksX0_far_0 24 rfl rfl
theorem dksX0_far_2 : cX0_far.data.toList.drop 46 = dktX0_far_2 := dk_seg dksX0_far_1 22 rfl rfl
theorem dksX0_far_3 : cX0_far.data.toList.drop 70 = dktX0_far_3 := dk_seg dksX0_far_2 24 rfl rfl
theorem dX0_far_0 : decode cX0_far 0 = .ok (.aload_n 0, 1) := dk_42 (dk_at dksX0_far_0 0 rfl rfl)
theorem dX0_far_1 : decode cX0_far 1 = .ok (.getfield 20, 3) := dk_180 0 20 (dk_at dksX0_far_0 1 rfl rfl)
theorem dX0_far_4 : decode cX0_far 4 = .ok (.iload_n 2, 1) := dk_28 (dk_at dksX0_far_0 4 rfl rfl)
theorem dX0_far_5 : decode cX0_far 5 = .ok (.iload_n 3, 1) := dk_29 (dk_at dksX0_far_0 5 rfl rfl)
theorem dX0_far_6 : decode cX0_far 6 = .ok (.invokevirtual 330, 3) := dk_182 1 74 (dk_at dksX0_far_0 6 rfl rfl)
theorem dX0_far_9 : decode cX0_far 9 = .ok (.istore 6, 2) := dk_54 6 (dk_at dksX0_far_0 9 rfl rfl)
theorem dX0_far_11 : decode cX0_far 11 = .ok (.aload_n 0, 1) := dk_42 (dk_at dksX0_far_0 11 rfl rfl)
theorem dX0_far_12 : decode cX0_far 12 = .ok (.getfield 20, 3) := dk_180 0 20 (dk_at dksX0_far_0 12 rfl rfl)
theorem dX0_far_15 : decode cX0_far 15 = .ok (.iload 4, 2) := dk_21 4 (dk_at dksX0_far_0 15 rfl rfl)
theorem dX0_far_17 : decode cX0_far 17 = .ok (.iload 5, 2) := dk_21 5 (dk_at dksX0_far_0 17 rfl rfl)
theorem dX0_far_19 : decode cX0_far 19 = .ok (.invokevirtual 330, 3) := dk_182 1 74 (dk_at dksX0_far_0 19 rfl rfl)
theorem dX0_far_22 : decode cX0_far 22 = .ok (.istore 7, 2) := dk_54 7 (dk_at dksX0_far_0 22 rfl rfl)
theorem dX0_far_24 : decode cX0_far 24 = .ok (.aload_n 0, 1) := dk_42 (dk_at dksX0_far_1 0 rfl rfl)
theorem dX0_far_25 : decode cX0_far 25 = .ok (.iload_n 1, 1) := dk_27 (dk_at dksX0_far_1 1 rfl rfl)
theorem dX0_far_26 : decode cX0_far 26 = .ok (.invokevirtual 278, 3) := dk_182 1 22 (dk_at dksX0_far_1 2 rfl rfl)
theorem dX0_far_29 : decode cX0_far 29 = .ok (.ifCond .eq 40, 3) := dk_153 0 40 (dk_at dksX0_far_1 5 rfl rfl)
theorem dX0_far_32 : decode cX0_far 32 = .ok (.iload 6, 2) := dk_21 6 (dk_at dksX0_far_1 8 rfl rfl)
theorem dX0_far_34 : decode cX0_far 34 = .ok (.iconst (-1), 1) := dk_2 (dk_at dksX0_far_1 10 rfl rfl)
theorem dX0_far_35 : decode cX0_far 35 = .ok (.if_icmp .eq 34, 3) := dk_159 0 34 (dk_at dksX0_far_1 11 rfl rfl)
theorem dX0_far_38 : decode cX0_far 38 = .ok (.iload 7, 2) := dk_21 7 (dk_at dksX0_far_1 14 rfl rfl)
theorem dX0_far_40 : decode cX0_far 40 = .ok (.iconst (-1), 1) := dk_2 (dk_at dksX0_far_1 16 rfl rfl)
theorem dX0_far_41 : decode cX0_far 41 = .ok (.if_icmp .eq 28, 3) := dk_159 0 28 (dk_at dksX0_far_1 17 rfl rfl)
theorem dX0_far_44 : decode cX0_far 44 = .ok (.aload_n 0, 1) := dk_42 (dk_at dksX0_far_1 20 rfl rfl)
theorem dX0_far_45 : decode cX0_far 45 = .ok (.aload_n 0, 1) := dk_42 (dk_at dksX0_far_1 21 rfl rfl)
theorem dX0_far_46 : decode cX0_far 46 = .ok (.getfield 20, 3) := dk_180 0 20 (dk_at dksX0_far_2 0 rfl rfl)
theorem dX0_far_49 : decode cX0_far 49 = .ok (.getfield 163, 3) := dk_180 0 163 (dk_at dksX0_far_2 3 rfl rfl)
theorem dX0_far_52 : decode cX0_far 52 = .ok (.iload_n 1, 1) := dk_27 (dk_at dksX0_far_2 6 rfl rfl)
theorem dX0_far_53 : decode cX0_far 53 = .ok (.invokevirtual 104, 3) := dk_182 0 104 (dk_at dksX0_far_2 7 rfl rfl)
theorem dX0_far_56 : decode cX0_far 56 = .ok (.checkcast 178, 3) := dk_192 0 178 (dk_at dksX0_far_2 10 rfl rfl)
theorem dX0_far_59 : decode cX0_far 59 = .ok (.iload 6, 2) := dk_21 6 (dk_at dksX0_far_2 13 rfl rfl)
theorem dX0_far_61 : decode cX0_far 61 = .ok (.iload 7, 2) := dk_21 7 (dk_at dksX0_far_2 15 rfl rfl)
theorem dX0_far_63 : decode cX0_far 63 = .ok (.invokevirtual 203, 3) := dk_182 0 203 (dk_at dksX0_far_2 17 rfl rfl)
theorem dX0_far_66 : decode cX0_far 66 = .ok (.goto 4, 3) := dk_167 0 4 (dk_at dksX0_far_2 20 rfl rfl)
theorem dX0_far_69 : decode cX0_far 69 = .ok (.iconst (-1), 1) := dk_2 (dk_at dksX0_far_2 23 rfl rfl)
theorem dX0_far_70 : decode cX0_far 70 = .ok (.ireturn, 1) := dk_172 (dk_at dksX0_far_3 0 rfl rfl)
abbrev cX0_can : ByteArray := prog_1_method_38_code
def yX0_can : MethodName := ⟨RX0, "can", "(III)I"⟩
def dkwX0_can_3 : List UInt8 := [192, 0, 42, 29, 182, 0, 104, 192, 0, 193, 182, 0, 211, 153, 0, 7, 4, 167, 0, 4, 3, 172]
abbrev dktX0_can_3 : List UInt8 := dkwX0_can_3 ++ []
def dkwX0_can_2 : List UInt8 := [182, 0, 104, 192, 0, 42, 28, 182, 0, 104, 192, 0, 193, 42, 180, 0, 28, 180, 0, 249, 27, 182, 0, 104]
abbrev dktX0_can_2 : List UInt8 := dkwX0_can_2 ++ dktX0_can_3
def dkwX0_can_1 : List UInt8 := [172, 42, 42, 180, 0, 20, 180, 0, 163, 27, 182, 0, 104, 192, 0, 178, 42, 180, 0, 28, 180, 0, 249, 27]
abbrev dktX0_can_1 : List UInt8 := dkwX0_can_1 ++ dktX0_can_2
def dkwX0_can_0 : List UInt8 := [42, 27, 28, 182, 1, 58, 153, 0, 17, 42, 27, 29, 182, 1, 58, 153, 0, 8, 28, 29, 160, 0, 5, 2]
abbrev dktX0_can_0 : List UInt8 := dkwX0_can_0 ++ dktX0_can_1
theorem dksX0_can_0 : cX0_can.data.toList.drop 0 = dktX0_can_0 := by decide +kernel
theorem dksX0_can_1 : cX0_can.data.toList.drop 24 = dktX0_can_1 := dk_seg dksX0_can_0 24 rfl rfl
theorem dksX0_can_2 : cX0_can.data.toList.drop 48 = dktX0_can_2 := dk_seg dksX0_can_1 24 rfl rfl
theorem dksX0_can_3 : cX0_can.data.toList.drop 72 = dktX0_can_3 := dk_seg dksX0_can_2 24 rfl rfl
theorem dX0_can_0 : decode cX0_can 0 = .ok (.aload_n 0, 1) := dk_42 (dk_at dksX0_can_0 0 rfl rfl)
theorem dX0_can_1 : decode cX0_can 1 = .ok (.iload_n 1, 1) := dk_27 (dk_at dksX0_can_0 1 rfl rfl)
theorem dX0_can_2 : decode cX0_can 2 = .ok (.iload_n 2, 1) := dk_28 (dk_at dksX0_can_0 2 rfl rfl)
theorem dX0_can_3 : decode cX0_can 3 = .ok (.invokevirtual 314, 3) := dk_182 1 58 (dk_at dksX0_can_0 3 rfl rfl)
theorem dX0_can_6 : decode cX0_can 6 = .ok (.ifCond .eq 17, 3) := dk_153 0 17 (dk_at dksX0_can_0 6 rfl rfl)
theorem dX0_can_9 : decode cX0_can 9 = .ok (.aload_n 0, 1) := dk_42 (dk_at dksX0_can_0 9 rfl rfl)
theorem dX0_can_10 : decode cX0_can 10 = .ok (.iload_n 1, 1) := dk_27 (dk_at dksX0_can_0 10 rfl rfl)
theorem dX0_can_11 : decode cX0_can 11 = .ok (.iload_n 3, 1) := dk_29 (dk_at dksX0_can_0 11 rfl rfl)
theorem dX0_can_12 : decode cX0_can 12 = .ok (.invokevirtual 314, 3) := dk_182 1 58 (dk_at dksX0_can_0 12 rfl rfl)
theorem dX0_can_15 : decode cX0_can 15 = .ok (.ifCond .eq 8, 3) := dk_153 0 8 (dk_at dksX0_can_0 15 rfl rfl)
theorem dX0_can_18 : decode cX0_can 18 = .ok (.iload_n 2, 1) := dk_28 (dk_at dksX0_can_0 18 rfl rfl)
theorem dX0_can_19 : decode cX0_can 19 = .ok (.iload_n 3, 1) := dk_29 (dk_at dksX0_can_0 19 rfl rfl)
theorem dX0_can_20 : decode cX0_can 20 = .ok (.if_icmp .ne 5, 3) := dk_160 0 5 (dk_at dksX0_can_0 20 rfl rfl)
theorem dX0_can_23 : decode cX0_can 23 = .ok (.iconst (-1), 1) := dk_2 (dk_at dksX0_can_0 23 rfl rfl)
theorem dX0_can_24 : decode cX0_can 24 = .ok (.ireturn, 1) := dk_172 (dk_at dksX0_can_1 0 rfl rfl)
theorem dX0_can_25 : decode cX0_can 25 = .ok (.aload_n 0, 1) := dk_42 (dk_at dksX0_can_1 1 rfl rfl)
theorem dX0_can_26 : decode cX0_can 26 = .ok (.aload_n 0, 1) := dk_42 (dk_at dksX0_can_1 2 rfl rfl)
theorem dX0_can_27 : decode cX0_can 27 = .ok (.getfield 20, 3) := dk_180 0 20 (dk_at dksX0_can_1 3 rfl rfl)
theorem dX0_can_30 : decode cX0_can 30 = .ok (.getfield 163, 3) := dk_180 0 163 (dk_at dksX0_can_1 6 rfl rfl)
theorem dX0_can_33 : decode cX0_can 33 = .ok (.iload_n 1, 1) := dk_27 (dk_at dksX0_can_1 9 rfl rfl)
theorem dX0_can_34 : decode cX0_can 34 = .ok (.invokevirtual 104, 3) := dk_182 0 104 (dk_at dksX0_can_1 10 rfl rfl)
theorem dX0_can_37 : decode cX0_can 37 = .ok (.checkcast 178, 3) := dk_192 0 178 (dk_at dksX0_can_1 13 rfl rfl)
theorem dX0_can_40 : decode cX0_can 40 = .ok (.aload_n 0, 1) := dk_42 (dk_at dksX0_can_1 16 rfl rfl)
theorem dX0_can_41 : decode cX0_can 41 = .ok (.getfield 28, 3) := dk_180 0 28 (dk_at dksX0_can_1 17 rfl rfl)
theorem dX0_can_44 : decode cX0_can 44 = .ok (.getfield 249, 3) := dk_180 0 249 (dk_at dksX0_can_1 20 rfl rfl)
theorem dX0_can_47 : decode cX0_can 47 = .ok (.iload_n 1, 1) := dk_27 (dk_at dksX0_can_1 23 rfl rfl)
theorem dX0_can_48 : decode cX0_can 48 = .ok (.invokevirtual 104, 3) := dk_182 0 104 (dk_at dksX0_can_2 0 rfl rfl)
theorem dX0_can_51 : decode cX0_can 51 = .ok (.checkcast 42, 3) := dk_192 0 42 (dk_at dksX0_can_2 3 rfl rfl)
theorem dX0_can_54 : decode cX0_can 54 = .ok (.iload_n 2, 1) := dk_28 (dk_at dksX0_can_2 6 rfl rfl)
theorem dX0_can_55 : decode cX0_can 55 = .ok (.invokevirtual 104, 3) := dk_182 0 104 (dk_at dksX0_can_2 7 rfl rfl)
theorem dX0_can_58 : decode cX0_can 58 = .ok (.checkcast 193, 3) := dk_192 0 193 (dk_at dksX0_can_2 10 rfl rfl)
theorem dX0_can_61 : decode cX0_can 61 = .ok (.aload_n 0, 1) := dk_42 (dk_at dksX0_can_2 13 rfl rfl)
theorem dX0_can_62 : decode cX0_can 62 = .ok (.getfield 28, 3) := dk_180 0 28 (dk_at dksX0_can_2 14 rfl rfl)
theorem dX0_can_65 : decode cX0_can 65 = .ok (.getfield 249, 3) := dk_180 0 249 (dk_at dksX0_can_2 17 rfl rfl)
theorem dX0_can_68 : decode cX0_can 68 = .ok (.iload_n 1, 1) := dk_27 (dk_at dksX0_can_2 20 rfl rfl)
theorem dX0_can_69 : decode cX0_can 69 = .ok (.invokevirtual 104, 3) := dk_182 0 104 (dk_at dksX0_can_2 21 rfl rfl)
theorem dX0_can_72 : decode cX0_can 72 = .ok (.checkcast 42, 3) := dk_192 0 42 (dk_at dksX0_can_3 0 rfl rfl)
theorem dX0_can_75 : decode cX0_can 75 = .ok (.iload_n 3, 1) := dk_29 (dk_at dksX0_can_3 3 rfl rfl)
theorem dX0_can_76 : decode cX0_can 76 = .ok (.invokevirtual 104, 3) := dk_182 0 104 (dk_at dksX0_can_3 4 rfl rfl)
theorem dX0_can_79 : decode cX0_can 79 = .ok (.checkcast 193, 3) := dk_192 0 193 (dk_at dksX0_can_3 7 rfl rfl)
theorem dX0_can_82 : decode cX0_can 82 = .ok (.invokevirtual 211, 3) := dk_182 0 211 (dk_at dksX0_can_3 10 rfl rfl)
theorem dX0_can_85 : decode cX0_can 85 = .ok (.ifCond .eq 7, 3) := dk_153 0 7 (dk_at dksX0_can_3 13 rfl rfl)
theorem dX0_can_88 : decode cX0_can 88 = .ok (.iconst 1, 1) := dk_4 (dk_at dksX0_can_3 16 rfl rfl)
theorem dX0_can_89 : decode cX0_can 89 = .ok (.goto 4, 3) := dk_167 0 4 (dk_at dksX0_can_3 17 rfl rfl)
theorem dX0_can_92 : decode cX0_can 92 = .ok (.iconst 0, 1) := dk_3 (dk_at dksX0_can_3 20 rfl rfl)
theorem dX0_can_93 : decode cX0_can 93 = .ok (.ireturn, 1) := dk_172 (dk_at dksX0_can_3 21 rfl rfl)
abbrev cX0_reach : ByteArray := prog_1_method_39_code
def yX0_reach : MethodName := ⟨RX0, "reach", "(III)I"⟩
def dkwX0_reach_3 : List UInt8 := [29, 2, 160, 0, 8, 21, 4, 167, 0, 4, 2, 172]
abbrev dktX0_reach_3 : List UInt8 := dkwX0_reach_3 ++ []
def dkwX0_reach_2 : List UInt8 := [154, 0, 6, 167, 0, 15, 21, 4, 29, 160, 0, 6, 21, 5, 172, 132, 4, 1, 132, 5, 1, 167, 255, 212]
abbrev dktX0_reach_2 : List UInt8 := dkwX0_reach_2 ++ dktX0_reach_3
def dkwX0_reach_1 : List UInt8 := [21, 5, 42, 180, 0, 20, 182, 0, 143, 162, 0, 38, 42, 27, 182, 1, 31, 21, 5, 28, 182, 1, 82]
abbrev dktX0_reach_1 : List UInt8 := dkwX0_reach_1 ++ dktX0_reach_2
def dkwX0_reach_0 : List UInt8 := [42, 27, 182, 1, 22, 153, 0, 10, 28, 184, 1, 77, 154, 0, 5, 2, 172, 3, 54, 4, 3, 54, 5]
abbrev dktX0_reach_0 : List UInt8 := dkwX0_reach_0 ++ dktX0_reach_1
theorem dksX0_reach_0 : cX0_reach.data.toList.drop 0 = dktX0_reach_0 := by decide +kernel
theorem dksX0_reach_1 : cX0_reach.data.toList.drop 23 = dktX0_reach_1 := dk_seg dksX0_reach_0 23 rfl rfl
theorem dksX0_reach_2 : cX0_reach.data.toList.drop 46 = dktX0_reach_2 := dk_seg dksX0_reach_1 23 rfl rfl
theorem dksX0_reach_3 : cX0_reach.data.toList.drop 70 = dktX0_reach_3 := dk_seg dksX0_reach_2 24 rfl rfl
theorem dX0_reach_0 : decode cX0_reach 0 = .ok (.aload_n 0, 1) := dk_42 (dk_at dksX0_reach_0 0 rfl rfl)
theorem dX0_reach_1 : decode cX0_reach 1 = .ok (.iload_n 1, 1) := dk_27 (dk_at dksX0_reach_0 1 rfl rfl)
theorem dX0_reach_2 : decode cX0_reach 2 = .ok (.invokevirtual 278, 3) := dk_182 1 22 (dk_at dksX0_reach_0 2 rfl rfl)
theorem dX0_reach_5 : decode cX0_reach 5 = .ok (.ifCond .eq 10, 3) := dk_153 0 10 (dk_at dksX0_reach_0 5 rfl rfl)
theorem dX0_reach_8 : decode cX0_reach 8 = .ok (.iload_n 2, 1) := dk_28 (dk_at dksX0_reach_0 8 rfl rfl)
theorem dX0_reach_9 : decode cX0_reach 9 = .ok (.invokestatic 333, 3) := dk_184 1 77 (dk_at dksX0_reach_0 9 rfl rfl)
theorem dX0_reach_12 : decode cX0_reach 12 = .ok (.ifCond .ne 5, 3) := dk_154 0 5 (dk_at dksX0_reach_0 12 rfl rfl)
theorem dX0_reach_15 : decode cX0_reach 15 = .ok (.iconst (-1), 1) := dk_2 (dk_at dksX0_reach_0 15 rfl rfl)
theorem dX0_reach_16 : decode cX0_reach 16 = .ok (.ireturn, 1) := dk_172 (dk_at dksX0_reach_0 16 rfl rfl)
theorem dX0_reach_17 : decode cX0_reach 17 = .ok (.iconst 0, 1) := dk_3 (dk_at dksX0_reach_0 17 rfl rfl)
theorem dX0_reach_18 : decode cX0_reach 18 = .ok (.istore 4, 2) := dk_54 4 (dk_at dksX0_reach_0 18 rfl rfl)
theorem dX0_reach_20 : decode cX0_reach 20 = .ok (.iconst 0, 1) := dk_3 (dk_at dksX0_reach_0 20 rfl rfl)
theorem dX0_reach_21 : decode cX0_reach 21 = .ok (.istore 5, 2) := dk_54 5 (dk_at dksX0_reach_0 21 rfl rfl)
theorem dX0_reach_23 : decode cX0_reach 23 = .ok (.iload 5, 2) := dk_21 5 (dk_at dksX0_reach_1 0 rfl rfl)
theorem dX0_reach_25 : decode cX0_reach 25 = .ok (.aload_n 0, 1) := dk_42 (dk_at dksX0_reach_1 2 rfl rfl)
theorem dX0_reach_26 : decode cX0_reach 26 = .ok (.getfield 20, 3) := dk_180 0 20 (dk_at dksX0_reach_1 3 rfl rfl)
theorem dX0_reach_29 : decode cX0_reach 29 = .ok (.invokevirtual 143, 3) := dk_182 0 143 (dk_at dksX0_reach_1 6 rfl rfl)
theorem dX0_reach_32 : decode cX0_reach 32 = .ok (.if_icmp .ge 38, 3) := dk_162 0 38 (dk_at dksX0_reach_1 9 rfl rfl)
theorem dX0_reach_35 : decode cX0_reach 35 = .ok (.aload_n 0, 1) := dk_42 (dk_at dksX0_reach_1 12 rfl rfl)
theorem dX0_reach_36 : decode cX0_reach 36 = .ok (.iload_n 1, 1) := dk_27 (dk_at dksX0_reach_1 13 rfl rfl)
theorem dX0_reach_37 : decode cX0_reach 37 = .ok (.invokevirtual 287, 3) := dk_182 1 31 (dk_at dksX0_reach_1 14 rfl rfl)
theorem dX0_reach_40 : decode cX0_reach 40 = .ok (.iload 5, 2) := dk_21 5 (dk_at dksX0_reach_1 17 rfl rfl)
theorem dX0_reach_42 : decode cX0_reach 42 = .ok (.iload_n 2, 1) := dk_28 (dk_at dksX0_reach_1 19 rfl rfl)
theorem dX0_reach_43 : decode cX0_reach 43 = .ok (.invokevirtual 338, 3) := dk_182 1 82 (dk_at dksX0_reach_1 20 rfl rfl)
theorem dX0_reach_46 : decode cX0_reach 46 = .ok (.ifCond .ne 6, 3) := dk_154 0 6 (dk_at dksX0_reach_2 0 rfl rfl)
theorem dX0_reach_49 : decode cX0_reach 49 = .ok (.goto 15, 3) := dk_167 0 15 (dk_at dksX0_reach_2 3 rfl rfl)
theorem dX0_reach_52 : decode cX0_reach 52 = .ok (.iload 4, 2) := dk_21 4 (dk_at dksX0_reach_2 6 rfl rfl)
theorem dX0_reach_54 : decode cX0_reach 54 = .ok (.iload_n 3, 1) := dk_29 (dk_at dksX0_reach_2 8 rfl rfl)
theorem dX0_reach_55 : decode cX0_reach 55 = .ok (.if_icmp .ne 6, 3) := dk_160 0 6 (dk_at dksX0_reach_2 9 rfl rfl)
theorem dX0_reach_58 : decode cX0_reach 58 = .ok (.iload 5, 2) := dk_21 5 (dk_at dksX0_reach_2 12 rfl rfl)
theorem dX0_reach_60 : decode cX0_reach 60 = .ok (.ireturn, 1) := dk_172 (dk_at dksX0_reach_2 14 rfl rfl)
theorem dX0_reach_61 : decode cX0_reach 61 = .ok (.iinc 4 1, 3) := dk_132 4 1 (dk_at dksX0_reach_2 15 rfl rfl)
theorem dX0_reach_64 : decode cX0_reach 64 = .ok (.iinc 5 1, 3) := dk_132 5 1 (dk_at dksX0_reach_2 18 rfl rfl)
theorem dX0_reach_67 : decode cX0_reach 67 = .ok (.goto (-44), 3) := dk_167 255 212 (dk_at dksX0_reach_2 21 rfl rfl)
theorem dX0_reach_70 : decode cX0_reach 70 = .ok (.iload_n 3, 1) := dk_29 (dk_at dksX0_reach_3 0 rfl rfl)
theorem dX0_reach_71 : decode cX0_reach 71 = .ok (.iconst (-1), 1) := dk_2 (dk_at dksX0_reach_3 1 rfl rfl)
theorem dX0_reach_72 : decode cX0_reach 72 = .ok (.if_icmp .ne 8, 3) := dk_160 0 8 (dk_at dksX0_reach_3 2 rfl rfl)
theorem dX0_reach_75 : decode cX0_reach 75 = .ok (.iload 4, 2) := dk_21 4 (dk_at dksX0_reach_3 5 rfl rfl)
theorem dX0_reach_77 : decode cX0_reach 77 = .ok (.goto 4, 3) := dk_167 0 4 (dk_at dksX0_reach_3 7 rfl rfl)
theorem dX0_reach_80 : decode cX0_reach 80 = .ok (.iconst (-1), 1) := dk_2 (dk_at dksX0_reach_3 10 rfl rfl)
theorem dX0_reach_81 : decode cX0_reach 81 = .ok (.ireturn, 1) := dk_172 (dk_at dksX0_reach_3 11 rfl rfl)
abbrev cX0_may : ByteArray := prog_1_method_40_code
def yX0_may : MethodName := ⟨RX0, "may", "(IIII)I"⟩
def dkwX0_may_2 : List UInt8 := [153, 0, 7, 4, 167, 0, 4, 3, 172]
abbrev dktX0_may_2 : List UInt8 := dkwX0_may_2 ++ []
def dkwX0_may_1 : List UInt8 := [153, 0, 9, 21, 5, 2, 160, 0, 7, 2, 167, 0, 22, 42, 27, 182, 1, 31, 21, 5, 28, 182, 1, 82]
abbrev dktX0_may_1 : List UInt8 := dkwX0_may_1 ++ dktX0_may_2
def dkwX0_may_0 : List UInt8 := [42, 180, 0, 20, 29, 21, 4, 182, 1, 74, 54, 5, 42, 27, 182, 1, 22, 153, 0, 16, 28, 184, 1, 77]
abbrev dktX0_may_0 : List UInt8 := dkwX0_may_0 ++ dktX0_may_1
theorem dksX0_may_0 : cX0_may.data.toList.drop 0 = dktX0_may_0 := by decide +kernel
theorem dksX0_may_1 : cX0_may.data.toList.drop 24 = dktX0_may_1 := dk_seg dksX0_may_0 24 rfl rfl
theorem dksX0_may_2 : cX0_may.data.toList.drop 48 = dktX0_may_2 := dk_seg dksX0_may_1 24 rfl rfl
theorem dX0_may_0 : decode cX0_may 0 = .ok (.aload_n 0, 1) := dk_42 (dk_at dksX0_may_0 0 rfl rfl)
theorem dX0_may_1 : decode cX0_may 1 = .ok (.getfield 20, 3) := dk_180 0 20 (dk_at dksX0_may_0 1 rfl rfl)
theorem dX0_may_4 : decode cX0_may 4 = .ok (.iload_n 3, 1) := dk_29 (dk_at dksX0_may_0 4 rfl rfl)
theorem dX0_may_5 : decode cX0_may 5 = .ok (.iload 4, 2) := dk_21 4 (dk_at dksX0_may_0 5 rfl rfl)
theorem dX0_may_7 : decode cX0_may 7 = .ok (.invokevirtual 330, 3) := dk_182 1 74 (dk_at dksX0_may_0 7 rfl rfl)
theorem dX0_may_10 : decode cX0_may 10 = .ok (.istore 5, 2) := dk_54 5 (dk_at dksX0_may_0 10 rfl rfl)
theorem dX0_may_12 : decode cX0_may 12 = .ok (.aload_n 0, 1) := dk_42 (dk_at dksX0_may_0 12 rfl rfl)
theorem dX0_may_13 : decode cX0_may 13 = .ok (.iload_n 1, 1) := dk_27 (dk_at dksX0_may_0 13 rfl rfl)
theorem dX0_may_14 : decode cX0_may 14 = .ok (.invokevirtual 278, 3) := dk_182 1 22 (dk_at dksX0_may_0 14 rfl rfl)
theorem dX0_may_17 : decode cX0_may 17 = .ok (.ifCond .eq 16, 3) := dk_153 0 16 (dk_at dksX0_may_0 17 rfl rfl)
theorem dX0_may_20 : decode cX0_may 20 = .ok (.iload_n 2, 1) := dk_28 (dk_at dksX0_may_0 20 rfl rfl)
theorem dX0_may_21 : decode cX0_may 21 = .ok (.invokestatic 333, 3) := dk_184 1 77 (dk_at dksX0_may_0 21 rfl rfl)
theorem dX0_may_24 : decode cX0_may 24 = .ok (.ifCond .eq 9, 3) := dk_153 0 9 (dk_at dksX0_may_1 0 rfl rfl)
theorem dX0_may_27 : decode cX0_may 27 = .ok (.iload 5, 2) := dk_21 5 (dk_at dksX0_may_1 3 rfl rfl)
theorem dX0_may_29 : decode cX0_may 29 = .ok (.iconst (-1), 1) := dk_2 (dk_at dksX0_may_1 5 rfl rfl)
theorem dX0_may_30 : decode cX0_may 30 = .ok (.if_icmp .ne 7, 3) := dk_160 0 7 (dk_at dksX0_may_1 6 rfl rfl)
theorem dX0_may_33 : decode cX0_may 33 = .ok (.iconst (-1), 1) := dk_2 (dk_at dksX0_may_1 9 rfl rfl)
theorem dX0_may_34 : decode cX0_may 34 = .ok (.goto 22, 3) := dk_167 0 22 (dk_at dksX0_may_1 10 rfl rfl)
theorem dX0_may_37 : decode cX0_may 37 = .ok (.aload_n 0, 1) := dk_42 (dk_at dksX0_may_1 13 rfl rfl)
theorem dX0_may_38 : decode cX0_may 38 = .ok (.iload_n 1, 1) := dk_27 (dk_at dksX0_may_1 14 rfl rfl)
theorem dX0_may_39 : decode cX0_may 39 = .ok (.invokevirtual 287, 3) := dk_182 1 31 (dk_at dksX0_may_1 15 rfl rfl)
theorem dX0_may_42 : decode cX0_may 42 = .ok (.iload 5, 2) := dk_21 5 (dk_at dksX0_may_1 18 rfl rfl)
theorem dX0_may_44 : decode cX0_may 44 = .ok (.iload_n 2, 1) := dk_28 (dk_at dksX0_may_1 20 rfl rfl)
theorem dX0_may_45 : decode cX0_may 45 = .ok (.invokevirtual 338, 3) := dk_182 1 82 (dk_at dksX0_may_1 21 rfl rfl)
theorem dX0_may_48 : decode cX0_may 48 = .ok (.ifCond .eq 7, 3) := dk_153 0 7 (dk_at dksX0_may_2 0 rfl rfl)
theorem dX0_may_51 : decode cX0_may 51 = .ok (.iconst 1, 1) := dk_4 (dk_at dksX0_may_2 3 rfl rfl)
theorem dX0_may_52 : decode cX0_may 52 = .ok (.goto 4, 3) := dk_167 0 4 (dk_at dksX0_may_2 4 rfl rfl)
theorem dX0_may_55 : decode cX0_may 55 = .ok (.iconst 0, 1) := dk_3 (dk_at dksX0_may_2 7 rfl rfl)
theorem dX0_may_56 : decode cX0_may 56 = .ok (.ireturn, 1) := dk_172 (dk_at dksX0_may_2 8 rfl rfl)
abbrev cX0_judge : ByteArray := prog_1_method_46_code
def yX0_judge : MethodName := ⟨RX0, "judge", "(II)I"⟩
def dkwX0_judge_1 : List UInt8 := [42, 27, 28, 182, 1, 116, 153, 0, 7, 4, 167, 0, 4, 3, 172]
abbrev dktX0_judge_1 : List UInt8 := dkwX0_judge_1 ++ []
def dkwX0_judge_0 : List UInt8 := [42, 27, 182, 1, 22, 153, 0, 15, 28, 133, 9, 20, 0, 94, 184, 0, 96, 154, 0, 7, 2, 167, 0, 17]
abbrev dktX0_judge_0 : List UInt8 := dkwX0_judge_0 ++ dktX0_judge_1
theorem dksX0_judge_0 : cX0_judge.data.toList.drop 0 = dktX0_judge_0 := by decide +kernel
theorem dksX0_judge_1 : cX0_judge.data.toList.drop 24 = dktX0_judge_1 := dk_seg dksX0_judge_0 24 rfl rfl
theorem dX0_judge_0 : decode cX0_judge 0 = .ok (.aload_n 0, 1) := dk_42 (dk_at dksX0_judge_0 0 rfl rfl)
theorem dX0_judge_1 : decode cX0_judge 1 = .ok (.iload_n 1, 1) := dk_27 (dk_at dksX0_judge_0 1 rfl rfl)
theorem dX0_judge_2 : decode cX0_judge 2 = .ok (.invokevirtual 278, 3) := dk_182 1 22 (dk_at dksX0_judge_0 2 rfl rfl)
theorem dX0_judge_5 : decode cX0_judge 5 = .ok (.ifCond .eq 15, 3) := dk_153 0 15 (dk_at dksX0_judge_0 5 rfl rfl)
theorem dX0_judge_8 : decode cX0_judge 8 = .ok (.iload_n 2, 1) := dk_28 (dk_at dksX0_judge_0 8 rfl rfl)
theorem dX0_judge_9 : decode cX0_judge 9 = .ok (.i2l, 1) := dk_133 (dk_at dksX0_judge_0 9 rfl rfl)
theorem dX0_judge_10 : decode cX0_judge 10 = .ok (.lconst 0, 1) := dk_9 (dk_at dksX0_judge_0 10 rfl rfl)
theorem dX0_judge_11 : decode cX0_judge 11 = .ok (.ldc2_w 94, 3) := dk_20 0 94 (dk_at dksX0_judge_0 11 rfl rfl)
theorem dX0_judge_14 : decode cX0_judge 14 = .ok (.invokestatic 96, 3) := dk_184 0 96 (dk_at dksX0_judge_0 14 rfl rfl)
theorem dX0_judge_17 : decode cX0_judge 17 = .ok (.ifCond .ne 7, 3) := dk_154 0 7 (dk_at dksX0_judge_0 17 rfl rfl)
theorem dX0_judge_20 : decode cX0_judge 20 = .ok (.iconst (-1), 1) := dk_2 (dk_at dksX0_judge_0 20 rfl rfl)
theorem dX0_judge_21 : decode cX0_judge 21 = .ok (.goto 17, 3) := dk_167 0 17 (dk_at dksX0_judge_0 21 rfl rfl)
theorem dX0_judge_24 : decode cX0_judge 24 = .ok (.aload_n 0, 1) := dk_42 (dk_at dksX0_judge_1 0 rfl rfl)
theorem dX0_judge_25 : decode cX0_judge 25 = .ok (.iload_n 1, 1) := dk_27 (dk_at dksX0_judge_1 1 rfl rfl)
theorem dX0_judge_26 : decode cX0_judge 26 = .ok (.iload_n 2, 1) := dk_28 (dk_at dksX0_judge_1 2 rfl rfl)
theorem dX0_judge_27 : decode cX0_judge 27 = .ok (.invokevirtual 372, 3) := dk_182 1 116 (dk_at dksX0_judge_1 3 rfl rfl)
theorem dX0_judge_30 : decode cX0_judge 30 = .ok (.ifCond .eq 7, 3) := dk_153 0 7 (dk_at dksX0_judge_1 6 rfl rfl)
theorem dX0_judge_33 : decode cX0_judge 33 = .ok (.iconst 1, 1) := dk_4 (dk_at dksX0_judge_1 9 rfl rfl)
theorem dX0_judge_34 : decode cX0_judge 34 = .ok (.goto 4, 3) := dk_167 0 4 (dk_at dksX0_judge_1 10 rfl rfl)
theorem dX0_judge_37 : decode cX0_judge 37 = .ok (.iconst 0, 1) := dk_3 (dk_at dksX0_judge_1 13 rfl rfl)
theorem dX0_judge_38 : decode cX0_judge 38 = .ok (.ireturn, 1) := dk_172 (dk_at dksX0_judge_1 14 rfl rfl)
abbrev cX0_isTale : ByteArray := prog_1_method_45_code
def yX0_isTale : MethodName := ⟨RX0, "isTale", "(II)Z"⟩
def dkwX0_isTale_5 : List UInt8 := [172, 45, 180, 1, 45, 158, 0, 14, 45, 182, 1, 48, 158, 0, 7, 4, 167, 0, 4, 3, 172]
abbrev dktX0_isTale_5 : List UInt8 := dkwX0_isTale_5 ++ []
def dkwX0_isTale_4 : List UInt8 := [182, 1, 105, 153, 0, 7, 4, 167, 0, 4, 3, 172, 187, 1, 108, 89, 42, 45, 183, 1, 110, 182, 1, 113]
abbrev dktX0_isTale_4 : List UInt8 := dkwX0_isTale_4 ++ dktX0_isTale_5
def dkwX0_isTale_3 : List UInt8 := [182, 1, 98, 153, 0, 15, 45, 3, 182, 1, 101, 158, 0, 7, 4, 167, 0, 4, 3, 172, 42, 27]
abbrev dktX0_isTale_3 : List UInt8 := dkwX0_isTale_3 ++ dktX0_isTale_4
def dkwX0_isTale_2 : List UInt8 := [45, 182, 1, 98, 153, 0, 15, 45, 3, 182, 1, 101, 154, 0, 7, 4, 167, 0, 4, 3, 172, 45]
abbrev dktX0_isTale_2 : List UInt8 := dkwX0_isTale_2 ++ dktX0_isTale_3
def dkwX0_isTale_1 : List UInt8 := [170, 0, 0, 0, 98, 0, 0, 0, 0, 0, 0, 0, 3, 0, 0, 0, 29, 0, 0, 0, 50, 0, 0, 0, 71, 0, 0, 0, 85]
abbrev dktX0_isTale_1 : List UInt8 := dkwX0_isTale_1 ++ dktX0_isTale_2
def dkwX0_isTale_0 : List UInt8 := [42, 27, 182, 1, 31, 78, 45, 180, 1, 44, 182, 0, 254, 153, 0, 5, 3, 172, 28]
abbrev dktX0_isTale_0 : List UInt8 := dkwX0_isTale_0 ++ dktX0_isTale_1
theorem dksX0_isTale_0 : cX0_isTale.data.toList.drop 0 = dktX0_isTale_0 := by decide +kernel
theorem dksX0_isTale_1 : cX0_isTale.data.toList.drop 19 = dktX0_isTale_1 := dk_seg dksX0_isTale_0 19 rfl rfl
theorem dksX0_isTale_2 : cX0_isTale.data.toList.drop 48 = dktX0_isTale_2 := dk_seg dksX0_isTale_1 29 rfl rfl
theorem dksX0_isTale_3 : cX0_isTale.data.toList.drop 70 = dktX0_isTale_3 := dk_seg dksX0_isTale_2 22 rfl rfl
theorem dksX0_isTale_4 : cX0_isTale.data.toList.drop 92 = dktX0_isTale_4 := dk_seg dksX0_isTale_3 22 rfl rfl
theorem dksX0_isTale_5 : cX0_isTale.data.toList.drop 116 = dktX0_isTale_5 := dk_seg dksX0_isTale_4 24 rfl rfl
theorem dX0_isTale_0 : decode cX0_isTale 0 = .ok (.aload_n 0, 1) := dk_42 (dk_at dksX0_isTale_0 0 rfl rfl)
theorem dX0_isTale_1 : decode cX0_isTale 1 = .ok (.iload_n 1, 1) := dk_27 (dk_at dksX0_isTale_0 1 rfl rfl)
theorem dX0_isTale_2 : decode cX0_isTale 2 = .ok (.invokevirtual 287, 3) := dk_182 1 31 (dk_at dksX0_isTale_0 2 rfl rfl)
theorem dX0_isTale_5 : decode cX0_isTale 5 = .ok (.astore_n 3, 1) := dk_78 (dk_at dksX0_isTale_0 5 rfl rfl)
theorem dX0_isTale_6 : decode cX0_isTale 6 = .ok (.aload_n 3, 1) := dk_45 (dk_at dksX0_isTale_0 6 rfl rfl)
theorem dX0_isTale_7 : decode cX0_isTale 7 = .ok (.getfield 300, 3) := dk_180 1 44 (dk_at dksX0_isTale_0 7 rfl rfl)
theorem dX0_isTale_10 : decode cX0_isTale 10 = .ok (.invokevirtual 254, 3) := dk_182 0 254 (dk_at dksX0_isTale_0 10 rfl rfl)
theorem dX0_isTale_13 : decode cX0_isTale 13 = .ok (.ifCond .eq 5, 3) := dk_153 0 5 (dk_at dksX0_isTale_0 13 rfl rfl)
theorem dX0_isTale_16 : decode cX0_isTale 16 = .ok (.iconst 0, 1) := dk_3 (dk_at dksX0_isTale_0 16 rfl rfl)
theorem dX0_isTale_17 : decode cX0_isTale 17 = .ok (.ireturn, 1) := dk_172 (dk_at dksX0_isTale_0 17 rfl rfl)
theorem dX0_isTale_18 : decode cX0_isTale 18 = .ok (.iload_n 2, 1) := dk_28 (dk_at dksX0_isTale_0 18 rfl rfl)
theorem dX0_isTale_19 : decode cX0_isTale 19 = .ok (.tableswitch 98 0 3 #[29, 50, 71, 85], 29) := by decide +kernel
theorem dX0_isTale_48 : decode cX0_isTale 48 = .ok (.aload_n 3, 1) := dk_45 (dk_at dksX0_isTale_2 0 rfl rfl)
theorem dX0_isTale_49 : decode cX0_isTale 49 = .ok (.invokevirtual 354, 3) := dk_182 1 98 (dk_at dksX0_isTale_2 1 rfl rfl)
theorem dX0_isTale_52 : decode cX0_isTale 52 = .ok (.ifCond .eq 15, 3) := dk_153 0 15 (dk_at dksX0_isTale_2 4 rfl rfl)
theorem dX0_isTale_55 : decode cX0_isTale 55 = .ok (.aload_n 3, 1) := dk_45 (dk_at dksX0_isTale_2 7 rfl rfl)
theorem dX0_isTale_56 : decode cX0_isTale 56 = .ok (.iconst 0, 1) := dk_3 (dk_at dksX0_isTale_2 8 rfl rfl)
theorem dX0_isTale_57 : decode cX0_isTale 57 = .ok (.invokevirtual 357, 3) := dk_182 1 101 (dk_at dksX0_isTale_2 9 rfl rfl)
theorem dX0_isTale_60 : decode cX0_isTale 60 = .ok (.ifCond .ne 7, 3) := dk_154 0 7 (dk_at dksX0_isTale_2 12 rfl rfl)
theorem dX0_isTale_63 : decode cX0_isTale 63 = .ok (.iconst 1, 1) := dk_4 (dk_at dksX0_isTale_2 15 rfl rfl)
theorem dX0_isTale_64 : decode cX0_isTale 64 = .ok (.goto 4, 3) := dk_167 0 4 (dk_at dksX0_isTale_2 16 rfl rfl)
theorem dX0_isTale_67 : decode cX0_isTale 67 = .ok (.iconst 0, 1) := dk_3 (dk_at dksX0_isTale_2 19 rfl rfl)
theorem dX0_isTale_68 : decode cX0_isTale 68 = .ok (.ireturn, 1) := dk_172 (dk_at dksX0_isTale_2 20 rfl rfl)
theorem dX0_isTale_69 : decode cX0_isTale 69 = .ok (.aload_n 3, 1) := dk_45 (dk_at dksX0_isTale_2 21 rfl rfl)
theorem dX0_isTale_70 : decode cX0_isTale 70 = .ok (.invokevirtual 354, 3) := dk_182 1 98 (dk_at dksX0_isTale_3 0 rfl rfl)
theorem dX0_isTale_73 : decode cX0_isTale 73 = .ok (.ifCond .eq 15, 3) := dk_153 0 15 (dk_at dksX0_isTale_3 3 rfl rfl)
theorem dX0_isTale_76 : decode cX0_isTale 76 = .ok (.aload_n 3, 1) := dk_45 (dk_at dksX0_isTale_3 6 rfl rfl)
theorem dX0_isTale_77 : decode cX0_isTale 77 = .ok (.iconst 0, 1) := dk_3 (dk_at dksX0_isTale_3 7 rfl rfl)
theorem dX0_isTale_78 : decode cX0_isTale 78 = .ok (.invokevirtual 357, 3) := dk_182 1 101 (dk_at dksX0_isTale_3 8 rfl rfl)
theorem dX0_isTale_81 : decode cX0_isTale 81 = .ok (.ifCond .le 7, 3) := dk_158 0 7 (dk_at dksX0_isTale_3 11 rfl rfl)
theorem dX0_isTale_84 : decode cX0_isTale 84 = .ok (.iconst 1, 1) := dk_4 (dk_at dksX0_isTale_3 14 rfl rfl)
theorem dX0_isTale_85 : decode cX0_isTale 85 = .ok (.goto 4, 3) := dk_167 0 4 (dk_at dksX0_isTale_3 15 rfl rfl)
theorem dX0_isTale_88 : decode cX0_isTale 88 = .ok (.iconst 0, 1) := dk_3 (dk_at dksX0_isTale_3 18 rfl rfl)
theorem dX0_isTale_89 : decode cX0_isTale 89 = .ok (.ireturn, 1) := dk_172 (dk_at dksX0_isTale_3 19 rfl rfl)
theorem dX0_isTale_90 : decode cX0_isTale 90 = .ok (.aload_n 0, 1) := dk_42 (dk_at dksX0_isTale_3 20 rfl rfl)
theorem dX0_isTale_91 : decode cX0_isTale 91 = .ok (.iload_n 1, 1) := dk_27 (dk_at dksX0_isTale_3 21 rfl rfl)
theorem dX0_isTale_92 : decode cX0_isTale 92 = .ok (.invokevirtual 361, 3) := dk_182 1 105 (dk_at dksX0_isTale_4 0 rfl rfl)
theorem dX0_isTale_95 : decode cX0_isTale 95 = .ok (.ifCond .eq 7, 3) := dk_153 0 7 (dk_at dksX0_isTale_4 3 rfl rfl)
theorem dX0_isTale_98 : decode cX0_isTale 98 = .ok (.iconst 1, 1) := dk_4 (dk_at dksX0_isTale_4 6 rfl rfl)
theorem dX0_isTale_99 : decode cX0_isTale 99 = .ok (.goto 4, 3) := dk_167 0 4 (dk_at dksX0_isTale_4 7 rfl rfl)
theorem dX0_isTale_102 : decode cX0_isTale 102 = .ok (.iconst 0, 1) := dk_3 (dk_at dksX0_isTale_4 10 rfl rfl)
theorem dX0_isTale_103 : decode cX0_isTale 103 = .ok (.ireturn, 1) := dk_172 (dk_at dksX0_isTale_4 11 rfl rfl)
theorem dX0_isTale_104 : decode cX0_isTale 104 = .ok (.new 364, 3) := dk_187 1 108 (dk_at dksX0_isTale_4 12 rfl rfl)
theorem dX0_isTale_107 : decode cX0_isTale 107 = .ok (.dup, 1) := dk_89 (dk_at dksX0_isTale_4 15 rfl rfl)
theorem dX0_isTale_108 : decode cX0_isTale 108 = .ok (.aload_n 0, 1) := dk_42 (dk_at dksX0_isTale_4 16 rfl rfl)
theorem dX0_isTale_109 : decode cX0_isTale 109 = .ok (.aload_n 3, 1) := dk_45 (dk_at dksX0_isTale_4 17 rfl rfl)
theorem dX0_isTale_110 : decode cX0_isTale 110 = .ok (.invokespecial 366, 3) := dk_183 1 110 (dk_at dksX0_isTale_4 18 rfl rfl)
theorem dX0_isTale_113 : decode cX0_isTale 113 = .ok (.invokevirtual 369, 3) := dk_182 1 113 (dk_at dksX0_isTale_4 21 rfl rfl)
theorem dX0_isTale_116 : decode cX0_isTale 116 = .ok (.ireturn, 1) := dk_172 (dk_at dksX0_isTale_5 0 rfl rfl)
theorem dX0_isTale_117 : decode cX0_isTale 117 = .ok (.aload_n 3, 1) := dk_45 (dk_at dksX0_isTale_5 1 rfl rfl)
theorem dX0_isTale_118 : decode cX0_isTale 118 = .ok (.getfield 301, 3) := dk_180 1 45 (dk_at dksX0_isTale_5 2 rfl rfl)
theorem dX0_isTale_121 : decode cX0_isTale 121 = .ok (.ifCond .le 14, 3) := dk_158 0 14 (dk_at dksX0_isTale_5 5 rfl rfl)
theorem dX0_isTale_124 : decode cX0_isTale 124 = .ok (.aload_n 3, 1) := dk_45 (dk_at dksX0_isTale_5 8 rfl rfl)
theorem dX0_isTale_125 : decode cX0_isTale 125 = .ok (.invokevirtual 304, 3) := dk_182 1 48 (dk_at dksX0_isTale_5 9 rfl rfl)
theorem dX0_isTale_128 : decode cX0_isTale 128 = .ok (.ifCond .le 7, 3) := dk_158 0 7 (dk_at dksX0_isTale_5 12 rfl rfl)
theorem dX0_isTale_131 : decode cX0_isTale 131 = .ok (.iconst 1, 1) := dk_4 (dk_at dksX0_isTale_5 15 rfl rfl)
theorem dX0_isTale_132 : decode cX0_isTale 132 = .ok (.goto 4, 3) := dk_167 0 4 (dk_at dksX0_isTale_5 16 rfl rfl)
theorem dX0_isTale_135 : decode cX0_isTale 135 = .ok (.iconst 0, 1) := dk_3 (dk_at dksX0_isTale_5 19 rfl rfl)
theorem dX0_isTale_136 : decode cX0_isTale 136 = .ok (.ireturn, 1) := dk_172 (dk_at dksX0_isTale_5 20 rfl rfl)
abbrev cX0_named_2 : ByteArray := prog_1_method_44_code
def yX0_named_2 : MethodName := ⟨RX0, "named", "(I)I"⟩
def dkwX0_named_2_1 : List UInt8 := [153, 0, 9, 28, 4, 29, 120, 128, 61, 132, 3, 1, 167, 255, 224, 28, 172]
abbrev dktX0_named_2_1 : List UInt8 := dkwX0_named_2_1 ++ []
def dkwX0_named_2_0 : List UInt8 := [3, 61, 3, 62, 29, 42, 180, 0, 20, 180, 0, 163, 182, 0, 100, 162, 0, 24, 42, 27, 29, 182, 1, 95]
abbrev dktX0_named_2_0 : List UInt8 := dkwX0_named_2_0 ++ dktX0_named_2_1
theorem dksX0_named_2_0 : cX0_named_2.data.toList.drop 0 = dktX0_named_2_0 := by decide +kernel
theorem dksX0_named_2_1 : cX0_named_2.data.toList.drop 24 = dktX0_named_2_1 := dk_seg dksX0_named_2_0 24 rfl rfl
theorem dX0_named_2_0 : decode cX0_named_2 0 = .ok (.iconst 0, 1) := dk_3 (dk_at dksX0_named_2_0 0 rfl rfl)
theorem dX0_named_2_1 : decode cX0_named_2 1 = .ok (.istore_n 2, 1) := dk_61 (dk_at dksX0_named_2_0 1 rfl rfl)
theorem dX0_named_2_2 : decode cX0_named_2 2 = .ok (.iconst 0, 1) := dk_3 (dk_at dksX0_named_2_0 2 rfl rfl)
theorem dX0_named_2_3 : decode cX0_named_2 3 = .ok (.istore_n 3, 1) := dk_62 (dk_at dksX0_named_2_0 3 rfl rfl)
theorem dX0_named_2_4 : decode cX0_named_2 4 = .ok (.iload_n 3, 1) := dk_29 (dk_at dksX0_named_2_0 4 rfl rfl)
theorem dX0_named_2_5 : decode cX0_named_2 5 = .ok (.aload_n 0, 1) := dk_42 (dk_at dksX0_named_2_0 5 rfl rfl)
theorem dX0_named_2_6 : decode cX0_named_2 6 = .ok (.getfield 20, 3) := dk_180 0 20 (dk_at dksX0_named_2_0 6 rfl rfl)
theorem dX0_named_2_9 : decode cX0_named_2 9 = .ok (.getfield 163, 3) := dk_180 0 163 (dk_at dksX0_named_2_0 9 rfl rfl)
theorem dX0_named_2_12 : decode cX0_named_2 12 = .ok (.invokevirtual 100, 3) := dk_182 0 100 (dk_at dksX0_named_2_0 12 rfl rfl)
theorem dX0_named_2_15 : decode cX0_named_2 15 = .ok (.if_icmp .ge 24, 3) := dk_162 0 24 (dk_at dksX0_named_2_0 15 rfl rfl)
theorem dX0_named_2_18 : decode cX0_named_2 18 = .ok (.aload_n 0, 1) := dk_42 (dk_at dksX0_named_2_0 18 rfl rfl)
theorem dX0_named_2_19 : decode cX0_named_2 19 = .ok (.iload_n 1, 1) := dk_27 (dk_at dksX0_named_2_0 19 rfl rfl)
theorem dX0_named_2_20 : decode cX0_named_2 20 = .ok (.iload_n 3, 1) := dk_29 (dk_at dksX0_named_2_0 20 rfl rfl)
theorem dX0_named_2_21 : decode cX0_named_2 21 = .ok (.invokevirtual 351, 3) := dk_182 1 95 (dk_at dksX0_named_2_0 21 rfl rfl)
theorem dX0_named_2_24 : decode cX0_named_2 24 = .ok (.ifCond .eq 9, 3) := dk_153 0 9 (dk_at dksX0_named_2_1 0 rfl rfl)
theorem dX0_named_2_27 : decode cX0_named_2 27 = .ok (.iload_n 2, 1) := dk_28 (dk_at dksX0_named_2_1 3 rfl rfl)
theorem dX0_named_2_28 : decode cX0_named_2 28 = .ok (.iconst 1, 1) := dk_4 (dk_at dksX0_named_2_1 4 rfl rfl)
theorem dX0_named_2_29 : decode cX0_named_2 29 = .ok (.iload_n 3, 1) := dk_29 (dk_at dksX0_named_2_1 5 rfl rfl)
theorem dX0_named_2_30 : decode cX0_named_2 30 = .ok (.ishl, 1) := dk_120 (dk_at dksX0_named_2_1 6 rfl rfl)
theorem dX0_named_2_31 : decode cX0_named_2 31 = .ok (.ior, 1) := dk_128 (dk_at dksX0_named_2_1 7 rfl rfl)
theorem dX0_named_2_32 : decode cX0_named_2 32 = .ok (.istore_n 2, 1) := dk_61 (dk_at dksX0_named_2_1 8 rfl rfl)
theorem dX0_named_2_33 : decode cX0_named_2 33 = .ok (.iinc 3 1, 3) := dk_132 3 1 (dk_at dksX0_named_2_1 9 rfl rfl)
theorem dX0_named_2_36 : decode cX0_named_2 36 = .ok (.goto (-32), 3) := dk_167 255 224 (dk_at dksX0_named_2_1 12 rfl rfl)
theorem dX0_named_2_39 : decode cX0_named_2 39 = .ok (.iload_n 2, 1) := dk_28 (dk_at dksX0_named_2_1 15 rfl rfl)
theorem dX0_named_2_40 : decode cX0_named_2 40 = .ok (.ireturn, 1) := dk_172 (dk_at dksX0_named_2_1 16 rfl rfl)
abbrev cX0_isNamed : ByteArray := prog_1_method_43_code
def yX0_isNamed : MethodName := ⟨RX0, "isNamed", "(II)Z"⟩
def dkwX0_isNamed_3 : List UInt8 := [4, 167, 0, 4, 3, 172]
abbrev dktX0_isNamed_3 : List UInt8 := dkwX0_isNamed_3 ++ []
def dkwX0_isNamed_2 : List UInt8 := [180, 0, 249, 27, 182, 0, 104, 192, 0, 42, 42, 28, 182, 1, 31, 180, 1, 89, 182, 1, 92, 153, 0, 7]
abbrev dktX0_isNamed_2 : List UInt8 := dkwX0_isNamed_2 ++ dktX0_isNamed_3
def dkwX0_isNamed_1 : List UInt8 := [154, 0, 50, 42, 42, 180, 0, 20, 180, 0, 163, 28, 182, 0, 104, 192, 0, 178, 42, 180, 0, 28]
abbrev dktX0_isNamed_1 : List UInt8 := dkwX0_isNamed_1 ++ dktX0_isNamed_2
def dkwX0_isNamed_0 : List UInt8 := [27, 28, 159, 0, 70, 42, 180, 0, 28, 180, 0, 249, 27, 182, 0, 104, 192, 0, 42, 182, 0, 254]
abbrev dktX0_isNamed_0 : List UInt8 := dkwX0_isNamed_0 ++ dktX0_isNamed_1
theorem dksX0_isNamed_0 : cX0_isNamed.data.toList.drop 0 = dktX0_isNamed_0 := by decide +kernel
theorem dksX0_isNamed_1 : cX0_isNamed.data.toList.drop 22 = dktX0_isNamed_1 := dk_seg dksX0_isNamed_0 22 rfl rfl
theorem dksX0_isNamed_2 : cX0_isNamed.data.toList.drop 44 = dktX0_isNamed_2 := dk_seg dksX0_isNamed_1 22 rfl rfl
theorem dksX0_isNamed_3 : cX0_isNamed.data.toList.drop 68 = dktX0_isNamed_3 := dk_seg dksX0_isNamed_2 24 rfl rfl
theorem dX0_isNamed_0 : decode cX0_isNamed 0 = .ok (.iload_n 1, 1) := dk_27 (dk_at dksX0_isNamed_0 0 rfl rfl)
theorem dX0_isNamed_1 : decode cX0_isNamed 1 = .ok (.iload_n 2, 1) := dk_28 (dk_at dksX0_isNamed_0 1 rfl rfl)
theorem dX0_isNamed_2 : decode cX0_isNamed 2 = .ok (.if_icmp .eq 70, 3) := dk_159 0 70 (dk_at dksX0_isNamed_0 2 rfl rfl)
theorem dX0_isNamed_5 : decode cX0_isNamed 5 = .ok (.aload_n 0, 1) := dk_42 (dk_at dksX0_isNamed_0 5 rfl rfl)
theorem dX0_isNamed_6 : decode cX0_isNamed 6 = .ok (.getfield 28, 3) := dk_180 0 28 (dk_at dksX0_isNamed_0 6 rfl rfl)
theorem dX0_isNamed_9 : decode cX0_isNamed 9 = .ok (.getfield 249, 3) := dk_180 0 249 (dk_at dksX0_isNamed_0 9 rfl rfl)
theorem dX0_isNamed_12 : decode cX0_isNamed 12 = .ok (.iload_n 1, 1) := dk_27 (dk_at dksX0_isNamed_0 12 rfl rfl)
theorem dX0_isNamed_13 : decode cX0_isNamed 13 = .ok (.invokevirtual 104, 3) := dk_182 0 104 (dk_at dksX0_isNamed_0 13 rfl rfl)
theorem dX0_isNamed_16 : decode cX0_isNamed 16 = .ok (.checkcast 42, 3) := dk_192 0 42 (dk_at dksX0_isNamed_0 16 rfl rfl)
theorem dX0_isNamed_19 : decode cX0_isNamed 19 = .ok (.invokevirtual 254, 3) := dk_182 0 254 (dk_at dksX0_isNamed_0 19 rfl rfl)
theorem dX0_isNamed_22 : decode cX0_isNamed 22 = .ok (.ifCond .ne 50, 3) := dk_154 0 50 (dk_at dksX0_isNamed_1 0 rfl rfl)
theorem dX0_isNamed_25 : decode cX0_isNamed 25 = .ok (.aload_n 0, 1) := dk_42 (dk_at dksX0_isNamed_1 3 rfl rfl)
theorem dX0_isNamed_26 : decode cX0_isNamed 26 = .ok (.aload_n 0, 1) := dk_42 (dk_at dksX0_isNamed_1 4 rfl rfl)
theorem dX0_isNamed_27 : decode cX0_isNamed 27 = .ok (.getfield 20, 3) := dk_180 0 20 (dk_at dksX0_isNamed_1 5 rfl rfl)
theorem dX0_isNamed_30 : decode cX0_isNamed 30 = .ok (.getfield 163, 3) := dk_180 0 163 (dk_at dksX0_isNamed_1 8 rfl rfl)
theorem dX0_isNamed_33 : decode cX0_isNamed 33 = .ok (.iload_n 2, 1) := dk_28 (dk_at dksX0_isNamed_1 11 rfl rfl)
theorem dX0_isNamed_34 : decode cX0_isNamed 34 = .ok (.invokevirtual 104, 3) := dk_182 0 104 (dk_at dksX0_isNamed_1 12 rfl rfl)
theorem dX0_isNamed_37 : decode cX0_isNamed 37 = .ok (.checkcast 178, 3) := dk_192 0 178 (dk_at dksX0_isNamed_1 15 rfl rfl)
theorem dX0_isNamed_40 : decode cX0_isNamed 40 = .ok (.aload_n 0, 1) := dk_42 (dk_at dksX0_isNamed_1 18 rfl rfl)
theorem dX0_isNamed_41 : decode cX0_isNamed 41 = .ok (.getfield 28, 3) := dk_180 0 28 (dk_at dksX0_isNamed_1 19 rfl rfl)
theorem dX0_isNamed_44 : decode cX0_isNamed 44 = .ok (.getfield 249, 3) := dk_180 0 249 (dk_at dksX0_isNamed_2 0 rfl rfl)
theorem dX0_isNamed_47 : decode cX0_isNamed 47 = .ok (.iload_n 1, 1) := dk_27 (dk_at dksX0_isNamed_2 3 rfl rfl)
theorem dX0_isNamed_48 : decode cX0_isNamed 48 = .ok (.invokevirtual 104, 3) := dk_182 0 104 (dk_at dksX0_isNamed_2 4 rfl rfl)
theorem dX0_isNamed_51 : decode cX0_isNamed 51 = .ok (.checkcast 42, 3) := dk_192 0 42 (dk_at dksX0_isNamed_2 7 rfl rfl)
theorem dX0_isNamed_54 : decode cX0_isNamed 54 = .ok (.aload_n 0, 1) := dk_42 (dk_at dksX0_isNamed_2 10 rfl rfl)
theorem dX0_isNamed_55 : decode cX0_isNamed 55 = .ok (.iload_n 2, 1) := dk_28 (dk_at dksX0_isNamed_2 11 rfl rfl)
theorem dX0_isNamed_56 : decode cX0_isNamed 56 = .ok (.invokevirtual 287, 3) := dk_182 1 31 (dk_at dksX0_isNamed_2 12 rfl rfl)
theorem dX0_isNamed_59 : decode cX0_isNamed 59 = .ok (.getfield 345, 3) := dk_180 1 89 (dk_at dksX0_isNamed_2 15 rfl rfl)
theorem dX0_isNamed_62 : decode cX0_isNamed 62 = .ok (.invokevirtual 348, 3) := dk_182 1 92 (dk_at dksX0_isNamed_2 18 rfl rfl)
theorem dX0_isNamed_65 : decode cX0_isNamed 65 = .ok (.ifCond .eq 7, 3) := dk_153 0 7 (dk_at dksX0_isNamed_2 21 rfl rfl)
theorem dX0_isNamed_68 : decode cX0_isNamed 68 = .ok (.iconst 1, 1) := dk_4 (dk_at dksX0_isNamed_3 0 rfl rfl)
theorem dX0_isNamed_69 : decode cX0_isNamed 69 = .ok (.goto 4, 3) := dk_167 0 4 (dk_at dksX0_isNamed_3 1 rfl rfl)
theorem dX0_isNamed_72 : decode cX0_isNamed 72 = .ok (.iconst 0, 1) := dk_3 (dk_at dksX0_isNamed_3 4 rfl rfl)
theorem dX0_isNamed_73 : decode cX0_isNamed 73 = .ok (.ireturn, 1) := dk_172 (dk_at dksX0_isNamed_3 5 rfl rfl)
abbrev cX0_fitsFor : ByteArray := prog_1_method_42_code
def yX0_fitsFor : MethodName := ⟨RX0, "fitsFor", "(LToldTracks$Ship;Ljava/util/ArrayList;Ljava/util/ArrayList;)Z"⟩
def dkwX0_fitsFor_0 : List UInt8 := [42, 43, 44, 44, 182, 0, 100, 3, 45, 182, 1, 85, 172]
abbrev dktX0_fitsFor_0 : List UInt8 := dkwX0_fitsFor_0 ++ []
theorem dksX0_fitsFor_0 : cX0_fitsFor.data.toList.drop 0 = dktX0_fitsFor_0 := by decide +kernel
theorem dX0_fitsFor_0 : decode cX0_fitsFor 0 = .ok (.aload_n 0, 1) := dk_42 (dk_at dksX0_fitsFor_0 0 rfl rfl)
theorem dX0_fitsFor_1 : decode cX0_fitsFor 1 = .ok (.aload_n 1, 1) := dk_43 (dk_at dksX0_fitsFor_0 1 rfl rfl)
theorem dX0_fitsFor_2 : decode cX0_fitsFor 2 = .ok (.aload_n 2, 1) := dk_44 (dk_at dksX0_fitsFor_0 2 rfl rfl)
theorem dX0_fitsFor_3 : decode cX0_fitsFor 3 = .ok (.aload_n 2, 1) := dk_44 (dk_at dksX0_fitsFor_0 3 rfl rfl)
theorem dX0_fitsFor_4 : decode cX0_fitsFor 4 = .ok (.invokevirtual 100, 3) := dk_182 0 100 (dk_at dksX0_fitsFor_0 4 rfl rfl)
theorem dX0_fitsFor_7 : decode cX0_fitsFor 7 = .ok (.iconst 0, 1) := dk_3 (dk_at dksX0_fitsFor_0 7 rfl rfl)
theorem dX0_fitsFor_8 : decode cX0_fitsFor 8 = .ok (.aload_n 3, 1) := dk_45 (dk_at dksX0_fitsFor_0 8 rfl rfl)
theorem dX0_fitsFor_9 : decode cX0_fitsFor 9 = .ok (.invokevirtual 341, 3) := dk_182 1 85 (dk_at dksX0_fitsFor_0 9 rfl rfl)
theorem dX0_fitsFor_12 : decode cX0_fitsFor 12 = .ok (.ireturn, 1) := dk_172 (dk_at dksX0_fitsFor_0 12 rfl rfl)
abbrev cX0_fitsFor_2 : ByteArray := prog_1_method_41_code
def yX0_fitsFor_2 : MethodName := ⟨RX0, "fitsFor", "(LToldTracks$Ship;Ljava/util/ArrayList;IILjava/util/ArrayList;)Z"⟩
def dkwX0_fitsFor_2_8 : List UInt8 := [154, 0, 5, 3, 172, 25, 11, 58, 6, 21, 12, 54, 7, 167, 255, 69, 4, 172]
abbrev dktX0_fitsFor_2_8 : List UInt8 := dkwX0_fitsFor_2_8 ++ []
def dkwX0_fitsFor_2_7 : List UInt8 := [182, 0, 207, 153, 0, 24, 25, 6, 198, 0, 21, 42, 43, 25, 6, 21, 7, 25, 11, 21, 12, 182, 0, 188]
abbrev dktX0_fitsFor_2_7 : List UInt8 := dkwX0_fitsFor_2_7 ++ dktX0_fitsFor_2_8
def dkwX0_fitsFor_2_6 : List UInt8 := [180, 0, 192, 21, 12, 96, 184, 1, 77, 154, 0, 6, 167, 255, 116, 25, 11, 42, 180, 0, 20, 43]
abbrev dktX0_fitsFor_2_6 : List UInt8 := dkwX0_fitsFor_2_6 ++ dktX0_fitsFor_2_7
def dkwX0_fitsFor_2_5 : List UInt8 := [21, 4, 167, 0, 4, 3, 54, 12, 21, 10, 153, 0, 9, 132, 8, 1, 167, 0, 6, 132, 9, 1, 25, 11]
abbrev dktX0_fitsFor_2_5 : List UInt8 := dkwX0_fitsFor_2_5 ++ dktX0_fitsFor_2_6
def dkwX0_fitsFor_2_4 : List UInt8 := [192, 0, 193, 167, 0, 13, 25, 5, 21, 9, 182, 0, 104, 192, 0, 193, 58, 11, 21, 10, 153, 0, 8]
abbrev dktX0_fitsFor_2_4 : List UInt8 := dkwX0_fitsFor_2_4 ++ dktX0_fitsFor_2_5
def dkwX0_fitsFor_2_3 : List UInt8 := [180, 0, 192, 163, 0, 7, 4, 167, 0, 4, 3, 54, 10, 21, 10, 153, 0, 15, 44, 21, 8, 182, 0, 104]
abbrev dktX0_fitsFor_2_3 : List UInt8 := dkwX0_fitsFor_2_3 ++ dktX0_fitsFor_2_4
def dkwX0_fitsFor_2_2 : List UInt8 := [21, 8, 182, 0, 104, 192, 1, 62, 180, 1, 64, 21, 4, 96, 25, 5, 21, 9, 182, 0, 104, 192, 0, 193]
abbrev dktX0_fitsFor_2_2 : List UInt8 := dkwX0_fitsFor_2_2 ++ dktX0_fitsFor_2_3
def dkwX0_fitsFor_2_1 : List UInt8 := [182, 0, 100, 162, 0, 177, 21, 8, 29, 162, 0, 48, 21, 9, 25, 5, 182, 0, 100, 159, 0, 34, 44]
abbrev dktX0_fitsFor_2_1 : List UInt8 := dkwX0_fitsFor_2_1 ++ dktX0_fitsFor_2_2
def dkwX0_fitsFor_2_0 : List UInt8 := [1, 58, 6, 3, 54, 7, 3, 54, 8, 3, 54, 9, 21, 8, 29, 161, 0, 13, 21, 9, 25, 5]
abbrev dktX0_fitsFor_2_0 : List UInt8 := dkwX0_fitsFor_2_0 ++ dktX0_fitsFor_2_1
theorem dksX0_fitsFor_2_0 : cX0_fitsFor_2.data.toList.drop 0 = dktX0_fitsFor_2_0 := by decide +kernel
theorem dksX0_fitsFor_2_1 : cX0_fitsFor_2.data.toList.drop 22 = dktX0_fitsFor_2_1 := dk_seg dksX0_fitsFor_2_0 22 rfl rfl
theorem dksX0_fitsFor_2_2 : cX0_fitsFor_2.data.toList.drop 45 = dktX0_fitsFor_2_2 := dk_seg dksX0_fitsFor_2_1 23 rfl rfl
theorem dksX0_fitsFor_2_3 : cX0_fitsFor_2.data.toList.drop 69 = dktX0_fitsFor_2_3 := dk_seg dksX0_fitsFor_2_2 24 rfl rfl
theorem dksX0_fitsFor_2_4 : cX0_fitsFor_2.data.toList.drop 93 = dktX0_fitsFor_2_4 := dk_seg dksX0_fitsFor_2_3 24 rfl rfl
theorem dksX0_fitsFor_2_5 : cX0_fitsFor_2.data.toList.drop 116 = dktX0_fitsFor_2_5 := dk_seg dksX0_fitsFor_2_4 23 rfl rfl
theorem dksX0_fitsFor_2_6 : cX0_fitsFor_2.data.toList.drop 140 = dktX0_fitsFor_2_6 := dk_seg dksX0_fitsFor_2_5 24 rfl rfl
theorem dksX0_fitsFor_2_7 : cX0_fitsFor_2.data.toList.drop 162 = dktX0_fitsFor_2_7 := dk_seg dksX0_fitsFor_2_6 22 rfl rfl
theorem dksX0_fitsFor_2_8 : cX0_fitsFor_2.data.toList.drop 186 = dktX0_fitsFor_2_8 := dk_seg dksX0_fitsFor_2_7 24 rfl rfl
theorem dX0_fitsFor_2_0 : decode cX0_fitsFor_2 0 = .ok (.aconst_null, 1) := dk_1 (dk_at dksX0_fitsFor_2_0 0 rfl rfl)
theorem dX0_fitsFor_2_1 : decode cX0_fitsFor_2 1 = .ok (.astore 6, 2) := dk_58 6 (dk_at dksX0_fitsFor_2_0 1 rfl rfl)
theorem dX0_fitsFor_2_3 : decode cX0_fitsFor_2 3 = .ok (.iconst 0, 1) := dk_3 (dk_at dksX0_fitsFor_2_0 3 rfl rfl)
theorem dX0_fitsFor_2_4 : decode cX0_fitsFor_2 4 = .ok (.istore 7, 2) := dk_54 7 (dk_at dksX0_fitsFor_2_0 4 rfl rfl)
theorem dX0_fitsFor_2_6 : decode cX0_fitsFor_2 6 = .ok (.iconst 0, 1) := dk_3 (dk_at dksX0_fitsFor_2_0 6 rfl rfl)
theorem dX0_fitsFor_2_7 : decode cX0_fitsFor_2 7 = .ok (.istore 8, 2) := dk_54 8 (dk_at dksX0_fitsFor_2_0 7 rfl rfl)
theorem dX0_fitsFor_2_9 : decode cX0_fitsFor_2 9 = .ok (.iconst 0, 1) := dk_3 (dk_at dksX0_fitsFor_2_0 9 rfl rfl)
theorem dX0_fitsFor_2_10 : decode cX0_fitsFor_2 10 = .ok (.istore 9, 2) := dk_54 9 (dk_at dksX0_fitsFor_2_0 10 rfl rfl)
theorem dX0_fitsFor_2_12 : decode cX0_fitsFor_2 12 = .ok (.iload 8, 2) := dk_21 8 (dk_at dksX0_fitsFor_2_0 12 rfl rfl)
theorem dX0_fitsFor_2_14 : decode cX0_fitsFor_2 14 = .ok (.iload_n 3, 1) := dk_29 (dk_at dksX0_fitsFor_2_0 14 rfl rfl)
theorem dX0_fitsFor_2_15 : decode cX0_fitsFor_2 15 = .ok (.if_icmp .lt 13, 3) := dk_161 0 13 (dk_at dksX0_fitsFor_2_0 15 rfl rfl)
theorem dX0_fitsFor_2_18 : decode cX0_fitsFor_2 18 = .ok (.iload 9, 2) := dk_21 9 (dk_at dksX0_fitsFor_2_0 18 rfl rfl)
theorem dX0_fitsFor_2_20 : decode cX0_fitsFor_2 20 = .ok (.aload 5, 2) := dk_25 5 (dk_at dksX0_fitsFor_2_0 20 rfl rfl)
theorem dX0_fitsFor_2_22 : decode cX0_fitsFor_2 22 = .ok (.invokevirtual 100, 3) := dk_182 0 100 (dk_at dksX0_fitsFor_2_1 0 rfl rfl)
theorem dX0_fitsFor_2_25 : decode cX0_fitsFor_2 25 = .ok (.if_icmp .ge 177, 3) := dk_162 0 177 (dk_at dksX0_fitsFor_2_1 3 rfl rfl)
theorem dX0_fitsFor_2_28 : decode cX0_fitsFor_2 28 = .ok (.iload 8, 2) := dk_21 8 (dk_at dksX0_fitsFor_2_1 6 rfl rfl)
theorem dX0_fitsFor_2_30 : decode cX0_fitsFor_2 30 = .ok (.iload_n 3, 1) := dk_29 (dk_at dksX0_fitsFor_2_1 8 rfl rfl)
theorem dX0_fitsFor_2_31 : decode cX0_fitsFor_2 31 = .ok (.if_icmp .ge 48, 3) := dk_162 0 48 (dk_at dksX0_fitsFor_2_1 9 rfl rfl)
theorem dX0_fitsFor_2_34 : decode cX0_fitsFor_2 34 = .ok (.iload 9, 2) := dk_21 9 (dk_at dksX0_fitsFor_2_1 12 rfl rfl)
theorem dX0_fitsFor_2_36 : decode cX0_fitsFor_2 36 = .ok (.aload 5, 2) := dk_25 5 (dk_at dksX0_fitsFor_2_1 14 rfl rfl)
theorem dX0_fitsFor_2_38 : decode cX0_fitsFor_2 38 = .ok (.invokevirtual 100, 3) := dk_182 0 100 (dk_at dksX0_fitsFor_2_1 16 rfl rfl)
theorem dX0_fitsFor_2_41 : decode cX0_fitsFor_2 41 = .ok (.if_icmp .eq 34, 3) := dk_159 0 34 (dk_at dksX0_fitsFor_2_1 19 rfl rfl)
theorem dX0_fitsFor_2_44 : decode cX0_fitsFor_2 44 = .ok (.aload_n 2, 1) := dk_44 (dk_at dksX0_fitsFor_2_1 22 rfl rfl)
theorem dX0_fitsFor_2_45 : decode cX0_fitsFor_2 45 = .ok (.iload 8, 2) := dk_21 8 (dk_at dksX0_fitsFor_2_2 0 rfl rfl)
theorem dX0_fitsFor_2_47 : decode cX0_fitsFor_2 47 = .ok (.invokevirtual 104, 3) := dk_182 0 104 (dk_at dksX0_fitsFor_2_2 2 rfl rfl)
theorem dX0_fitsFor_2_50 : decode cX0_fitsFor_2 50 = .ok (.checkcast 318, 3) := dk_192 1 62 (dk_at dksX0_fitsFor_2_2 5 rfl rfl)
theorem dX0_fitsFor_2_53 : decode cX0_fitsFor_2 53 = .ok (.getfield 320, 3) := dk_180 1 64 (dk_at dksX0_fitsFor_2_2 8 rfl rfl)
theorem dX0_fitsFor_2_56 : decode cX0_fitsFor_2 56 = .ok (.iload 4, 2) := dk_21 4 (dk_at dksX0_fitsFor_2_2 11 rfl rfl)
theorem dX0_fitsFor_2_58 : decode cX0_fitsFor_2 58 = .ok (.iadd, 1) := dk_96 (dk_at dksX0_fitsFor_2_2 13 rfl rfl)
theorem dX0_fitsFor_2_59 : decode cX0_fitsFor_2 59 = .ok (.aload 5, 2) := dk_25 5 (dk_at dksX0_fitsFor_2_2 14 rfl rfl)
theorem dX0_fitsFor_2_61 : decode cX0_fitsFor_2 61 = .ok (.iload 9, 2) := dk_21 9 (dk_at dksX0_fitsFor_2_2 16 rfl rfl)
theorem dX0_fitsFor_2_63 : decode cX0_fitsFor_2 63 = .ok (.invokevirtual 104, 3) := dk_182 0 104 (dk_at dksX0_fitsFor_2_2 18 rfl rfl)
theorem dX0_fitsFor_2_66 : decode cX0_fitsFor_2 66 = .ok (.checkcast 193, 3) := dk_192 0 193 (dk_at dksX0_fitsFor_2_2 21 rfl rfl)
theorem dX0_fitsFor_2_69 : decode cX0_fitsFor_2 69 = .ok (.getfield 192, 3) := dk_180 0 192 (dk_at dksX0_fitsFor_2_3 0 rfl rfl)
theorem dX0_fitsFor_2_72 : decode cX0_fitsFor_2 72 = .ok (.if_icmp .gt 7, 3) := dk_163 0 7 (dk_at dksX0_fitsFor_2_3 3 rfl rfl)
theorem dX0_fitsFor_2_75 : decode cX0_fitsFor_2 75 = .ok (.iconst 1, 1) := dk_4 (dk_at dksX0_fitsFor_2_3 6 rfl rfl)
theorem dX0_fitsFor_2_76 : decode cX0_fitsFor_2 76 = .ok (.goto 4, 3) := dk_167 0 4 (dk_at dksX0_fitsFor_2_3 7 rfl rfl)
theorem dX0_fitsFor_2_79 : decode cX0_fitsFor_2 79 = .ok (.iconst 0, 1) := dk_3 (dk_at dksX0_fitsFor_2_3 10 rfl rfl)
theorem dX0_fitsFor_2_80 : decode cX0_fitsFor_2 80 = .ok (.istore 10, 2) := dk_54 10 (dk_at dksX0_fitsFor_2_3 11 rfl rfl)
theorem dX0_fitsFor_2_82 : decode cX0_fitsFor_2 82 = .ok (.iload 10, 2) := dk_21 10 (dk_at dksX0_fitsFor_2_3 13 rfl rfl)
theorem dX0_fitsFor_2_84 : decode cX0_fitsFor_2 84 = .ok (.ifCond .eq 15, 3) := dk_153 0 15 (dk_at dksX0_fitsFor_2_3 15 rfl rfl)
theorem dX0_fitsFor_2_87 : decode cX0_fitsFor_2 87 = .ok (.aload_n 2, 1) := dk_44 (dk_at dksX0_fitsFor_2_3 18 rfl rfl)
theorem dX0_fitsFor_2_88 : decode cX0_fitsFor_2 88 = .ok (.iload 8, 2) := dk_21 8 (dk_at dksX0_fitsFor_2_3 19 rfl rfl)
theorem dX0_fitsFor_2_90 : decode cX0_fitsFor_2 90 = .ok (.invokevirtual 104, 3) := dk_182 0 104 (dk_at dksX0_fitsFor_2_3 21 rfl rfl)
theorem dX0_fitsFor_2_93 : decode cX0_fitsFor_2 93 = .ok (.checkcast 193, 3) := dk_192 0 193 (dk_at dksX0_fitsFor_2_4 0 rfl rfl)
theorem dX0_fitsFor_2_96 : decode cX0_fitsFor_2 96 = .ok (.goto 13, 3) := dk_167 0 13 (dk_at dksX0_fitsFor_2_4 3 rfl rfl)
theorem dX0_fitsFor_2_99 : decode cX0_fitsFor_2 99 = .ok (.aload 5, 2) := dk_25 5 (dk_at dksX0_fitsFor_2_4 6 rfl rfl)
theorem dX0_fitsFor_2_101 : decode cX0_fitsFor_2 101 = .ok (.iload 9, 2) := dk_21 9 (dk_at dksX0_fitsFor_2_4 8 rfl rfl)
theorem dX0_fitsFor_2_103 : decode cX0_fitsFor_2 103 = .ok (.invokevirtual 104, 3) := dk_182 0 104 (dk_at dksX0_fitsFor_2_4 10 rfl rfl)
theorem dX0_fitsFor_2_106 : decode cX0_fitsFor_2 106 = .ok (.checkcast 193, 3) := dk_192 0 193 (dk_at dksX0_fitsFor_2_4 13 rfl rfl)
theorem dX0_fitsFor_2_109 : decode cX0_fitsFor_2 109 = .ok (.astore 11, 2) := dk_58 11 (dk_at dksX0_fitsFor_2_4 16 rfl rfl)
theorem dX0_fitsFor_2_111 : decode cX0_fitsFor_2 111 = .ok (.iload 10, 2) := dk_21 10 (dk_at dksX0_fitsFor_2_4 18 rfl rfl)
theorem dX0_fitsFor_2_113 : decode cX0_fitsFor_2 113 = .ok (.ifCond .eq 8, 3) := dk_153 0 8 (dk_at dksX0_fitsFor_2_4 20 rfl rfl)
theorem dX0_fitsFor_2_116 : decode cX0_fitsFor_2 116 = .ok (.iload 4, 2) := dk_21 4 (dk_at dksX0_fitsFor_2_5 0 rfl rfl)
theorem dX0_fitsFor_2_118 : decode cX0_fitsFor_2 118 = .ok (.goto 4, 3) := dk_167 0 4 (dk_at dksX0_fitsFor_2_5 2 rfl rfl)
theorem dX0_fitsFor_2_121 : decode cX0_fitsFor_2 121 = .ok (.iconst 0, 1) := dk_3 (dk_at dksX0_fitsFor_2_5 5 rfl rfl)
theorem dX0_fitsFor_2_122 : decode cX0_fitsFor_2 122 = .ok (.istore 12, 2) := dk_54 12 (dk_at dksX0_fitsFor_2_5 6 rfl rfl)
theorem dX0_fitsFor_2_124 : decode cX0_fitsFor_2 124 = .ok (.iload 10, 2) := dk_21 10 (dk_at dksX0_fitsFor_2_5 8 rfl rfl)
theorem dX0_fitsFor_2_126 : decode cX0_fitsFor_2 126 = .ok (.ifCond .eq 9, 3) := dk_153 0 9 (dk_at dksX0_fitsFor_2_5 10 rfl rfl)
theorem dX0_fitsFor_2_129 : decode cX0_fitsFor_2 129 = .ok (.iinc 8 1, 3) := dk_132 8 1 (dk_at dksX0_fitsFor_2_5 13 rfl rfl)
theorem dX0_fitsFor_2_132 : decode cX0_fitsFor_2 132 = .ok (.goto 6, 3) := dk_167 0 6 (dk_at dksX0_fitsFor_2_5 16 rfl rfl)
theorem dX0_fitsFor_2_135 : decode cX0_fitsFor_2 135 = .ok (.iinc 9 1, 3) := dk_132 9 1 (dk_at dksX0_fitsFor_2_5 19 rfl rfl)
theorem dX0_fitsFor_2_138 : decode cX0_fitsFor_2 138 = .ok (.aload 11, 2) := dk_25 11 (dk_at dksX0_fitsFor_2_5 22 rfl rfl)
theorem dX0_fitsFor_2_140 : decode cX0_fitsFor_2 140 = .ok (.getfield 192, 3) := dk_180 0 192 (dk_at dksX0_fitsFor_2_6 0 rfl rfl)
theorem dX0_fitsFor_2_143 : decode cX0_fitsFor_2 143 = .ok (.iload 12, 2) := dk_21 12 (dk_at dksX0_fitsFor_2_6 3 rfl rfl)
theorem dX0_fitsFor_2_145 : decode cX0_fitsFor_2 145 = .ok (.iadd, 1) := dk_96 (dk_at dksX0_fitsFor_2_6 5 rfl rfl)
theorem dX0_fitsFor_2_146 : decode cX0_fitsFor_2 146 = .ok (.invokestatic 333, 3) := dk_184 1 77 (dk_at dksX0_fitsFor_2_6 6 rfl rfl)
theorem dX0_fitsFor_2_149 : decode cX0_fitsFor_2 149 = .ok (.ifCond .ne 6, 3) := dk_154 0 6 (dk_at dksX0_fitsFor_2_6 9 rfl rfl)
theorem dX0_fitsFor_2_152 : decode cX0_fitsFor_2 152 = .ok (.goto (-140), 3) := dk_167 255 116 (dk_at dksX0_fitsFor_2_6 12 rfl rfl)
theorem dX0_fitsFor_2_155 : decode cX0_fitsFor_2 155 = .ok (.aload 11, 2) := dk_25 11 (dk_at dksX0_fitsFor_2_6 15 rfl rfl)
theorem dX0_fitsFor_2_157 : decode cX0_fitsFor_2 157 = .ok (.aload_n 0, 1) := dk_42 (dk_at dksX0_fitsFor_2_6 17 rfl rfl)
theorem dX0_fitsFor_2_158 : decode cX0_fitsFor_2 158 = .ok (.getfield 20, 3) := dk_180 0 20 (dk_at dksX0_fitsFor_2_6 18 rfl rfl)
theorem dX0_fitsFor_2_161 : decode cX0_fitsFor_2 161 = .ok (.aload_n 1, 1) := dk_43 (dk_at dksX0_fitsFor_2_6 21 rfl rfl)
theorem dX0_fitsFor_2_162 : decode cX0_fitsFor_2 162 = .ok (.invokevirtual 207, 3) := dk_182 0 207 (dk_at dksX0_fitsFor_2_7 0 rfl rfl)
theorem dX0_fitsFor_2_165 : decode cX0_fitsFor_2 165 = .ok (.ifCond .eq 24, 3) := dk_153 0 24 (dk_at dksX0_fitsFor_2_7 3 rfl rfl)
theorem dX0_fitsFor_2_168 : decode cX0_fitsFor_2 168 = .ok (.aload 6, 2) := dk_25 6 (dk_at dksX0_fitsFor_2_7 6 rfl rfl)
theorem dX0_fitsFor_2_170 : decode cX0_fitsFor_2 170 = .ok (.ifnull 21, 3) := dk_198 0 21 (dk_at dksX0_fitsFor_2_7 8 rfl rfl)
theorem dX0_fitsFor_2_173 : decode cX0_fitsFor_2 173 = .ok (.aload_n 0, 1) := dk_42 (dk_at dksX0_fitsFor_2_7 11 rfl rfl)
theorem dX0_fitsFor_2_174 : decode cX0_fitsFor_2 174 = .ok (.aload_n 1, 1) := dk_43 (dk_at dksX0_fitsFor_2_7 12 rfl rfl)
theorem dX0_fitsFor_2_175 : decode cX0_fitsFor_2 175 = .ok (.aload 6, 2) := dk_25 6 (dk_at dksX0_fitsFor_2_7 13 rfl rfl)
theorem dX0_fitsFor_2_177 : decode cX0_fitsFor_2 177 = .ok (.iload 7, 2) := dk_21 7 (dk_at dksX0_fitsFor_2_7 15 rfl rfl)
theorem dX0_fitsFor_2_179 : decode cX0_fitsFor_2 179 = .ok (.aload 11, 2) := dk_25 11 (dk_at dksX0_fitsFor_2_7 17 rfl rfl)
theorem dX0_fitsFor_2_181 : decode cX0_fitsFor_2 181 = .ok (.iload 12, 2) := dk_21 12 (dk_at dksX0_fitsFor_2_7 19 rfl rfl)
theorem dX0_fitsFor_2_183 : decode cX0_fitsFor_2 183 = .ok (.invokevirtual 188, 3) := dk_182 0 188 (dk_at dksX0_fitsFor_2_7 21 rfl rfl)
theorem dX0_fitsFor_2_186 : decode cX0_fitsFor_2 186 = .ok (.ifCond .ne 5, 3) := dk_154 0 5 (dk_at dksX0_fitsFor_2_8 0 rfl rfl)
theorem dX0_fitsFor_2_189 : decode cX0_fitsFor_2 189 = .ok (.iconst 0, 1) := dk_3 (dk_at dksX0_fitsFor_2_8 3 rfl rfl)
theorem dX0_fitsFor_2_190 : decode cX0_fitsFor_2 190 = .ok (.ireturn, 1) := dk_172 (dk_at dksX0_fitsFor_2_8 4 rfl rfl)
theorem dX0_fitsFor_2_191 : decode cX0_fitsFor_2 191 = .ok (.aload 11, 2) := dk_25 11 (dk_at dksX0_fitsFor_2_8 5 rfl rfl)
theorem dX0_fitsFor_2_193 : decode cX0_fitsFor_2 193 = .ok (.astore 6, 2) := dk_58 6 (dk_at dksX0_fitsFor_2_8 7 rfl rfl)
theorem dX0_fitsFor_2_195 : decode cX0_fitsFor_2 195 = .ok (.iload 12, 2) := dk_21 12 (dk_at dksX0_fitsFor_2_8 9 rfl rfl)
theorem dX0_fitsFor_2_197 : decode cX0_fitsFor_2 197 = .ok (.istore 7, 2) := dk_54 7 (dk_at dksX0_fitsFor_2_8 11 rfl rfl)
theorem dX0_fitsFor_2_199 : decode cX0_fitsFor_2 199 = .ok (.goto (-187), 3) := dk_167 255 69 (dk_at dksX0_fitsFor_2_8 13 rfl rfl)
theorem dX0_fitsFor_2_202 : decode cX0_fitsFor_2 202 = .ok (.iconst 1, 1) := dk_4 (dk_at dksX0_fitsFor_2_8 16 rfl rfl)
theorem dX0_fitsFor_2_203 : decode cX0_fitsFor_2 203 = .ok (.ireturn, 1) := dk_172 (dk_at dksX0_fitsFor_2_8 17 rfl rfl)
abbrev cX0_tale : ByteArray := prog_1_method_48_code
def yX0_tale : MethodName := ⟨RX0, "tale", "(II)I"⟩
def dkwX0_tale_0 : List UInt8 := [42, 27, 182, 1, 22, 153, 0, 16, 28, 155, 0, 12, 42, 27, 28, 182, 1, 119, 167, 0, 4, 2, 172]
abbrev dktX0_tale_0 : List UInt8 := dkwX0_tale_0 ++ []
theorem dksX0_tale_0 : cX0_tale.data.toList.drop 0 = dktX0_tale_0 := by decide +kernel
theorem dX0_tale_0 : decode cX0_tale 0 = .ok (.aload_n 0, 1) := dk_42 (dk_at dksX0_tale_0 0 rfl rfl)
theorem dX0_tale_1 : decode cX0_tale 1 = .ok (.iload_n 1, 1) := dk_27 (dk_at dksX0_tale_0 1 rfl rfl)
theorem dX0_tale_2 : decode cX0_tale 2 = .ok (.invokevirtual 278, 3) := dk_182 1 22 (dk_at dksX0_tale_0 2 rfl rfl)
theorem dX0_tale_5 : decode cX0_tale 5 = .ok (.ifCond .eq 16, 3) := dk_153 0 16 (dk_at dksX0_tale_0 5 rfl rfl)
theorem dX0_tale_8 : decode cX0_tale 8 = .ok (.iload_n 2, 1) := dk_28 (dk_at dksX0_tale_0 8 rfl rfl)
theorem dX0_tale_9 : decode cX0_tale 9 = .ok (.ifCond .lt 12, 3) := dk_155 0 12 (dk_at dksX0_tale_0 9 rfl rfl)
theorem dX0_tale_12 : decode cX0_tale 12 = .ok (.aload_n 0, 1) := dk_42 (dk_at dksX0_tale_0 12 rfl rfl)
theorem dX0_tale_13 : decode cX0_tale 13 = .ok (.iload_n 1, 1) := dk_27 (dk_at dksX0_tale_0 13 rfl rfl)
theorem dX0_tale_14 : decode cX0_tale 14 = .ok (.iload_n 2, 1) := dk_28 (dk_at dksX0_tale_0 14 rfl rfl)
theorem dX0_tale_15 : decode cX0_tale 15 = .ok (.invokevirtual 375, 3) := dk_182 1 119 (dk_at dksX0_tale_0 15 rfl rfl)
theorem dX0_tale_18 : decode cX0_tale 18 = .ok (.goto 4, 3) := dk_167 0 4 (dk_at dksX0_tale_0 18 rfl rfl)
theorem dX0_tale_21 : decode cX0_tale 21 = .ok (.iconst (-1), 1) := dk_2 (dk_at dksX0_tale_0 21 rfl rfl)
theorem dX0_tale_22 : decode cX0_tale 22 = .ok (.ireturn, 1) := dk_172 (dk_at dksX0_tale_0 22 rfl rfl)
abbrev cX0_taleOf : ByteArray := prog_1_method_47_code
def yX0_taleOf : MethodName := ⟨RX0, "taleOf", "(II)I"⟩
def dkwX0_taleOf_1 : List UInt8 := [29, 154, 0, 6, 21, 4, 172, 132, 3, 255, 132, 4, 1, 167, 255, 224, 2, 172]
abbrev dktX0_taleOf_1 : List UInt8 := dkwX0_taleOf_1 ++ []
def dkwX0_taleOf_0 : List UInt8 := [28, 62, 3, 54, 4, 21, 4, 8, 162, 0, 32, 42, 27, 21, 4, 182, 1, 116, 154, 0, 6, 167, 0, 13]
abbrev dktX0_taleOf_0 : List UInt8 := dkwX0_taleOf_0 ++ dktX0_taleOf_1
theorem dksX0_taleOf_0 : cX0_taleOf.data.toList.drop 0 = dktX0_taleOf_0 := by decide +kernel
theorem dksX0_taleOf_1 : cX0_taleOf.data.toList.drop 24 = dktX0_taleOf_1 := dk_seg dksX0_taleOf_0 24 rfl rfl
theorem dX0_taleOf_0 : decode cX0_taleOf 0 = .ok (.iload_n 2, 1) := dk_28 (dk_at dksX0_taleOf_0 0 rfl rfl)
theorem dX0_taleOf_1 : decode cX0_taleOf 1 = .ok (.istore_n 3, 1) := dk_62 (dk_at dksX0_taleOf_0 1 rfl rfl)
theorem dX0_taleOf_2 : decode cX0_taleOf 2 = .ok (.iconst 0, 1) := dk_3 (dk_at dksX0_taleOf_0 2 rfl rfl)
theorem dX0_taleOf_3 : decode cX0_taleOf 3 = .ok (.istore 4, 2) := dk_54 4 (dk_at dksX0_taleOf_0 3 rfl rfl)
theorem dX0_taleOf_5 : decode cX0_taleOf 5 = .ok (.iload 4, 2) := dk_21 4 (dk_at dksX0_taleOf_0 5 rfl rfl)
theorem dX0_taleOf_7 : decode cX0_taleOf 7 = .ok (.iconst 5, 1) := dk_8 (dk_at dksX0_taleOf_0 7 rfl rfl)
theorem dX0_taleOf_8 : decode cX0_taleOf 8 = .ok (.if_icmp .ge 32, 3) := dk_162 0 32 (dk_at dksX0_taleOf_0 8 rfl rfl)
theorem dX0_taleOf_11 : decode cX0_taleOf 11 = .ok (.aload_n 0, 1) := dk_42 (dk_at dksX0_taleOf_0 11 rfl rfl)
theorem dX0_taleOf_12 : decode cX0_taleOf 12 = .ok (.iload_n 1, 1) := dk_27 (dk_at dksX0_taleOf_0 12 rfl rfl)
theorem dX0_taleOf_13 : decode cX0_taleOf 13 = .ok (.iload 4, 2) := dk_21 4 (dk_at dksX0_taleOf_0 13 rfl rfl)
theorem dX0_taleOf_15 : decode cX0_taleOf 15 = .ok (.invokevirtual 372, 3) := dk_182 1 116 (dk_at dksX0_taleOf_0 15 rfl rfl)
theorem dX0_taleOf_18 : decode cX0_taleOf 18 = .ok (.ifCond .ne 6, 3) := dk_154 0 6 (dk_at dksX0_taleOf_0 18 rfl rfl)
theorem dX0_taleOf_21 : decode cX0_taleOf 21 = .ok (.goto 13, 3) := dk_167 0 13 (dk_at dksX0_taleOf_0 21 rfl rfl)
theorem dX0_taleOf_24 : decode cX0_taleOf 24 = .ok (.iload_n 3, 1) := dk_29 (dk_at dksX0_taleOf_1 0 rfl rfl)
theorem dX0_taleOf_25 : decode cX0_taleOf 25 = .ok (.ifCond .ne 6, 3) := dk_154 0 6 (dk_at dksX0_taleOf_1 1 rfl rfl)
theorem dX0_taleOf_28 : decode cX0_taleOf 28 = .ok (.iload 4, 2) := dk_21 4 (dk_at dksX0_taleOf_1 4 rfl rfl)
theorem dX0_taleOf_30 : decode cX0_taleOf 30 = .ok (.ireturn, 1) := dk_172 (dk_at dksX0_taleOf_1 6 rfl rfl)
theorem dX0_taleOf_31 : decode cX0_taleOf 31 = .ok (.iinc 3 (-1), 3) := dk_132 3 255 (dk_at dksX0_taleOf_1 7 rfl rfl)
theorem dX0_taleOf_34 : decode cX0_taleOf 34 = .ok (.iinc 4 1, 3) := dk_132 4 1 (dk_at dksX0_taleOf_1 10 rfl rfl)
theorem dX0_taleOf_37 : decode cX0_taleOf 37 = .ok (.goto (-32), 3) := dk_167 255 224 (dk_at dksX0_taleOf_1 13 rfl rfl)
theorem dX0_taleOf_40 : decode cX0_taleOf 40 = .ok (.iconst (-1), 1) := dk_2 (dk_at dksX0_taleOf_1 16 rfl rfl)
theorem dX0_taleOf_41 : decode cX0_taleOf 41 = .ok (.ireturn, 1) := dk_172 (dk_at dksX0_taleOf_1 17 rfl rfl)
abbrev cX0_bars : ByteArray := prog_1_method_49_code
def yX0_bars : MethodName := ⟨RX0, "bars", "(I)I"⟩
def dkwX0_bars_2 : List UInt8 := [182, 1, 85, 154, 0, 5, 29, 172, 132, 3, 1, 167, 255, 217, 2, 172]
abbrev dktX0_bars_2 : List UInt8 := dkwX0_bars_2 ++ []
def dkwX0_bars_1 : List UInt8 := [182, 0, 100, 162, 0, 34, 42, 44, 180, 1, 35, 44, 180, 1, 44, 29, 4, 96, 3, 44, 180, 1, 122]
abbrev dktX0_bars_1 : List UInt8 := dkwX0_bars_1 ++ dktX0_bars_2
def dkwX0_bars_0 : List UInt8 := [42, 27, 182, 1, 22, 154, 0, 5, 2, 172, 42, 27, 182, 1, 31, 77, 3, 62, 29, 44, 180, 1, 44]
abbrev dktX0_bars_0 : List UInt8 := dkwX0_bars_0 ++ dktX0_bars_1
theorem dksX0_bars_0 : cX0_bars.data.toList.drop 0 = dktX0_bars_0 := by decide +kernel
theorem dksX0_bars_1 : cX0_bars.data.toList.drop 23 = dktX0_bars_1 := dk_seg dksX0_bars_0 23 rfl rfl
theorem dksX0_bars_2 : cX0_bars.data.toList.drop 46 = dktX0_bars_2 := dk_seg dksX0_bars_1 23 rfl rfl
theorem dX0_bars_0 : decode cX0_bars 0 = .ok (.aload_n 0, 1) := dk_42 (dk_at dksX0_bars_0 0 rfl rfl)
theorem dX0_bars_1 : decode cX0_bars 1 = .ok (.iload_n 1, 1) := dk_27 (dk_at dksX0_bars_0 1 rfl rfl)
theorem dX0_bars_2 : decode cX0_bars 2 = .ok (.invokevirtual 278, 3) := dk_182 1 22 (dk_at dksX0_bars_0 2 rfl rfl)
theorem dX0_bars_5 : decode cX0_bars 5 = .ok (.ifCond .ne 5, 3) := dk_154 0 5 (dk_at dksX0_bars_0 5 rfl rfl)
theorem dX0_bars_8 : decode cX0_bars 8 = .ok (.iconst (-1), 1) := dk_2 (dk_at dksX0_bars_0 8 rfl rfl)
theorem dX0_bars_9 : decode cX0_bars 9 = .ok (.ireturn, 1) := dk_172 (dk_at dksX0_bars_0 9 rfl rfl)
theorem dX0_bars_10 : decode cX0_bars 10 = .ok (.aload_n 0, 1) := dk_42 (dk_at dksX0_bars_0 10 rfl rfl)
theorem dX0_bars_11 : decode cX0_bars 11 = .ok (.iload_n 1, 1) := dk_27 (dk_at dksX0_bars_0 11 rfl rfl)
theorem dX0_bars_12 : decode cX0_bars 12 = .ok (.invokevirtual 287, 3) := dk_182 1 31 (dk_at dksX0_bars_0 12 rfl rfl)
theorem dX0_bars_15 : decode cX0_bars 15 = .ok (.astore_n 2, 1) := dk_77 (dk_at dksX0_bars_0 15 rfl rfl)
theorem dX0_bars_16 : decode cX0_bars 16 = .ok (.iconst 0, 1) := dk_3 (dk_at dksX0_bars_0 16 rfl rfl)
theorem dX0_bars_17 : decode cX0_bars 17 = .ok (.istore_n 3, 1) := dk_62 (dk_at dksX0_bars_0 17 rfl rfl)
theorem dX0_bars_18 : decode cX0_bars 18 = .ok (.iload_n 3, 1) := dk_29 (dk_at dksX0_bars_0 18 rfl rfl)
theorem dX0_bars_19 : decode cX0_bars 19 = .ok (.aload_n 2, 1) := dk_44 (dk_at dksX0_bars_0 19 rfl rfl)
theorem dX0_bars_20 : decode cX0_bars 20 = .ok (.getfield 300, 3) := dk_180 1 44 (dk_at dksX0_bars_0 20 rfl rfl)
theorem dX0_bars_23 : decode cX0_bars 23 = .ok (.invokevirtual 100, 3) := dk_182 0 100 (dk_at dksX0_bars_1 0 rfl rfl)
theorem dX0_bars_26 : decode cX0_bars 26 = .ok (.if_icmp .ge 34, 3) := dk_162 0 34 (dk_at dksX0_bars_1 3 rfl rfl)
theorem dX0_bars_29 : decode cX0_bars 29 = .ok (.aload_n 0, 1) := dk_42 (dk_at dksX0_bars_1 6 rfl rfl)
theorem dX0_bars_30 : decode cX0_bars 30 = .ok (.aload_n 2, 1) := dk_44 (dk_at dksX0_bars_1 7 rfl rfl)
theorem dX0_bars_31 : decode cX0_bars 31 = .ok (.getfield 291, 3) := dk_180 1 35 (dk_at dksX0_bars_1 8 rfl rfl)
theorem dX0_bars_34 : decode cX0_bars 34 = .ok (.aload_n 2, 1) := dk_44 (dk_at dksX0_bars_1 11 rfl rfl)
theorem dX0_bars_35 : decode cX0_bars 35 = .ok (.getfield 300, 3) := dk_180 1 44 (dk_at dksX0_bars_1 12 rfl rfl)
theorem dX0_bars_38 : decode cX0_bars 38 = .ok (.iload_n 3, 1) := dk_29 (dk_at dksX0_bars_1 15 rfl rfl)
theorem dX0_bars_39 : decode cX0_bars 39 = .ok (.iconst 1, 1) := dk_4 (dk_at dksX0_bars_1 16 rfl rfl)
theorem dX0_bars_40 : decode cX0_bars 40 = .ok (.iadd, 1) := dk_96 (dk_at dksX0_bars_1 17 rfl rfl)
theorem dX0_bars_41 : decode cX0_bars 41 = .ok (.iconst 0, 1) := dk_3 (dk_at dksX0_bars_1 18 rfl rfl)
theorem dX0_bars_42 : decode cX0_bars 42 = .ok (.aload_n 2, 1) := dk_44 (dk_at dksX0_bars_1 19 rfl rfl)
theorem dX0_bars_43 : decode cX0_bars 43 = .ok (.getfield 378, 3) := dk_180 1 122 (dk_at dksX0_bars_1 20 rfl rfl)
theorem dX0_bars_46 : decode cX0_bars 46 = .ok (.invokevirtual 341, 3) := dk_182 1 85 (dk_at dksX0_bars_2 0 rfl rfl)
theorem dX0_bars_49 : decode cX0_bars 49 = .ok (.ifCond .ne 5, 3) := dk_154 0 5 (dk_at dksX0_bars_2 3 rfl rfl)
theorem dX0_bars_52 : decode cX0_bars 52 = .ok (.iload_n 3, 1) := dk_29 (dk_at dksX0_bars_2 6 rfl rfl)
theorem dX0_bars_53 : decode cX0_bars 53 = .ok (.ireturn, 1) := dk_172 (dk_at dksX0_bars_2 7 rfl rfl)
theorem dX0_bars_54 : decode cX0_bars 54 = .ok (.iinc 3 1, 3) := dk_132 3 1 (dk_at dksX0_bars_2 8 rfl rfl)
theorem dX0_bars_57 : decode cX0_bars 57 = .ok (.goto (-39), 3) := dk_167 255 217 (dk_at dksX0_bars_2 11 rfl rfl)
theorem dX0_bars_60 : decode cX0_bars 60 = .ok (.iconst (-1), 1) := dk_2 (dk_at dksX0_bars_2 14 rfl rfl)
theorem dX0_bars_61 : decode cX0_bars 61 = .ok (.ireturn, 1) := dk_172 (dk_at dksX0_bars_2 15 rfl rfl)
abbrev cX0_clash : ByteArray := prog_1_method_51_code
def yX0_clash : MethodName := ⟨RX0, "clash", "(II)I"⟩
def dkwX0_clash_8 : List UInt8 := [167, 255, 176, 132, 4, 1, 167, 255, 101, 2, 172]
abbrev dktX0_clash_8 : List UInt8 := dkwX0_clash_8 ++ []
def dkwX0_clash_7 : List UInt8 := [167, 0, 18, 45, 180, 1, 44, 21, 5, 182, 0, 104, 192, 1, 62, 180, 1, 64, 172, 132, 5, 1]
abbrev dktX0_clash_7 : List UInt8 := dkwX0_clash_7 ++ dktX0_clash_8
def dkwX0_clash_6 : List UInt8 := [182, 0, 211, 154, 0, 38, 28, 154, 0, 8, 21, 5, 167, 0, 28, 28, 4, 160, 0, 8, 21, 4]
abbrev dktX0_clash_6 : List UInt8 := dkwX0_clash_6 ++ dktX0_clash_7
def dkwX0_clash_5 : List UInt8 := [180, 1, 44, 21, 5, 182, 0, 104, 192, 0, 193, 45, 180, 1, 44, 21, 4, 182, 0, 104, 192, 0, 193]
abbrev dktX0_clash_5 : List UInt8 := dkwX0_clash_5 ++ dktX0_clash_6
def dkwX0_clash_4 : List UInt8 := [192, 1, 62, 180, 1, 64, 172, 3, 54, 5, 21, 5, 21, 4, 162, 0, 79, 42, 45, 180, 1, 35, 45]
abbrev dktX0_clash_4 : List UInt8 := dkwX0_clash_4 ++ dktX0_clash_5
def dkwX0_clash_3 : List UInt8 := [167, 0, 28, 28, 4, 160, 0, 8, 21, 4, 167, 0, 18, 45, 180, 1, 44, 21, 4, 182, 0, 104]
abbrev dktX0_clash_3 : List UInt8 := dkwX0_clash_3 ++ dktX0_clash_4
def dkwX0_clash_2 : List UInt8 := [180, 1, 44, 21, 4, 182, 0, 104, 192, 1, 62, 182, 1, 125, 153, 0, 37, 28, 154, 0, 7, 2]
abbrev dktX0_clash_2 : List UInt8 := dkwX0_clash_2 ++ dktX0_clash_3
def dkwX0_clash_1 : List UInt8 := [182, 1, 31, 78, 3, 54, 4, 21, 4, 45, 180, 1, 44, 182, 0, 100, 162, 0, 149, 42, 45, 45]
abbrev dktX0_clash_1 : List UInt8 := dkwX0_clash_1 ++ dktX0_clash_2
def dkwX0_clash_0 : List UInt8 := [42, 27, 182, 1, 22, 153, 0, 15, 28, 133, 9, 20, 1, 123, 184, 0, 96, 154, 0, 5, 2, 172, 42, 27]
abbrev dktX0_clash_0 : List UInt8 := dkwX0_clash_0 ++ dktX0_clash_1
theorem dksX0_clash_0 : cX0_clash.data.toList.drop 0 = dktX0_clash_0 := by decide +kernel
theorem dksX0_clash_1 : cX0_clash.data.toList.drop 24 = dktX0_clash_1 := dk_seg dksX0_clash_0 24 rfl rfl
theorem dksX0_clash_2 : cX0_clash.data.toList.drop 46 = dktX0_clash_2 := dk_seg dksX0_clash_1 22 rfl rfl
theorem dksX0_clash_3 : cX0_clash.data.toList.drop 68 = dktX0_clash_3 := dk_seg dksX0_clash_2 22 rfl rfl
theorem dksX0_clash_4 : cX0_clash.data.toList.drop 90 = dktX0_clash_4 := dk_seg dksX0_clash_3 22 rfl rfl
theorem dksX0_clash_5 : cX0_clash.data.toList.drop 113 = dktX0_clash_5 := dk_seg dksX0_clash_4 23 rfl rfl
theorem dksX0_clash_6 : cX0_clash.data.toList.drop 136 = dktX0_clash_6 := dk_seg dksX0_clash_5 23 rfl rfl
theorem dksX0_clash_7 : cX0_clash.data.toList.drop 158 = dktX0_clash_7 := dk_seg dksX0_clash_6 22 rfl rfl
theorem dksX0_clash_8 : cX0_clash.data.toList.drop 180 = dktX0_clash_8 := dk_seg dksX0_clash_7 22 rfl rfl
theorem dX0_clash_0 : decode cX0_clash 0 = .ok (.aload_n 0, 1) := dk_42 (dk_at dksX0_clash_0 0 rfl rfl)
theorem dX0_clash_1 : decode cX0_clash 1 = .ok (.iload_n 1, 1) := dk_27 (dk_at dksX0_clash_0 1 rfl rfl)
theorem dX0_clash_2 : decode cX0_clash 2 = .ok (.invokevirtual 278, 3) := dk_182 1 22 (dk_at dksX0_clash_0 2 rfl rfl)
theorem dX0_clash_5 : decode cX0_clash 5 = .ok (.ifCond .eq 15, 3) := dk_153 0 15 (dk_at dksX0_clash_0 5 rfl rfl)
theorem dX0_clash_8 : decode cX0_clash 8 = .ok (.iload_n 2, 1) := dk_28 (dk_at dksX0_clash_0 8 rfl rfl)
theorem dX0_clash_9 : decode cX0_clash 9 = .ok (.i2l, 1) := dk_133 (dk_at dksX0_clash_0 9 rfl rfl)
theorem dX0_clash_10 : decode cX0_clash 10 = .ok (.lconst 0, 1) := dk_9 (dk_at dksX0_clash_0 10 rfl rfl)
theorem dX0_clash_11 : decode cX0_clash 11 = .ok (.ldc2_w 379, 3) := dk_20 1 123 (dk_at dksX0_clash_0 11 rfl rfl)
theorem dX0_clash_14 : decode cX0_clash 14 = .ok (.invokestatic 96, 3) := dk_184 0 96 (dk_at dksX0_clash_0 14 rfl rfl)
theorem dX0_clash_17 : decode cX0_clash 17 = .ok (.ifCond .ne 5, 3) := dk_154 0 5 (dk_at dksX0_clash_0 17 rfl rfl)
theorem dX0_clash_20 : decode cX0_clash 20 = .ok (.iconst (-1), 1) := dk_2 (dk_at dksX0_clash_0 20 rfl rfl)
theorem dX0_clash_21 : decode cX0_clash 21 = .ok (.ireturn, 1) := dk_172 (dk_at dksX0_clash_0 21 rfl rfl)
theorem dX0_clash_22 : decode cX0_clash 22 = .ok (.aload_n 0, 1) := dk_42 (dk_at dksX0_clash_0 22 rfl rfl)
theorem dX0_clash_23 : decode cX0_clash 23 = .ok (.iload_n 1, 1) := dk_27 (dk_at dksX0_clash_0 23 rfl rfl)
theorem dX0_clash_24 : decode cX0_clash 24 = .ok (.invokevirtual 287, 3) := dk_182 1 31 (dk_at dksX0_clash_1 0 rfl rfl)
theorem dX0_clash_27 : decode cX0_clash 27 = .ok (.astore_n 3, 1) := dk_78 (dk_at dksX0_clash_1 3 rfl rfl)
theorem dX0_clash_28 : decode cX0_clash 28 = .ok (.iconst 0, 1) := dk_3 (dk_at dksX0_clash_1 4 rfl rfl)
theorem dX0_clash_29 : decode cX0_clash 29 = .ok (.istore 4, 2) := dk_54 4 (dk_at dksX0_clash_1 5 rfl rfl)
theorem dX0_clash_31 : decode cX0_clash 31 = .ok (.iload 4, 2) := dk_21 4 (dk_at dksX0_clash_1 7 rfl rfl)
theorem dX0_clash_33 : decode cX0_clash 33 = .ok (.aload_n 3, 1) := dk_45 (dk_at dksX0_clash_1 9 rfl rfl)
theorem dX0_clash_34 : decode cX0_clash 34 = .ok (.getfield 300, 3) := dk_180 1 44 (dk_at dksX0_clash_1 10 rfl rfl)
theorem dX0_clash_37 : decode cX0_clash 37 = .ok (.invokevirtual 100, 3) := dk_182 0 100 (dk_at dksX0_clash_1 13 rfl rfl)
theorem dX0_clash_40 : decode cX0_clash 40 = .ok (.if_icmp .ge 149, 3) := dk_162 0 149 (dk_at dksX0_clash_1 16 rfl rfl)
theorem dX0_clash_43 : decode cX0_clash 43 = .ok (.aload_n 0, 1) := dk_42 (dk_at dksX0_clash_1 19 rfl rfl)
theorem dX0_clash_44 : decode cX0_clash 44 = .ok (.aload_n 3, 1) := dk_45 (dk_at dksX0_clash_1 20 rfl rfl)
theorem dX0_clash_45 : decode cX0_clash 45 = .ok (.aload_n 3, 1) := dk_45 (dk_at dksX0_clash_1 21 rfl rfl)
theorem dX0_clash_46 : decode cX0_clash 46 = .ok (.getfield 300, 3) := dk_180 1 44 (dk_at dksX0_clash_2 0 rfl rfl)
theorem dX0_clash_49 : decode cX0_clash 49 = .ok (.iload 4, 2) := dk_21 4 (dk_at dksX0_clash_2 3 rfl rfl)
theorem dX0_clash_51 : decode cX0_clash 51 = .ok (.invokevirtual 104, 3) := dk_182 0 104 (dk_at dksX0_clash_2 5 rfl rfl)
theorem dX0_clash_54 : decode cX0_clash 54 = .ok (.checkcast 318, 3) := dk_192 1 62 (dk_at dksX0_clash_2 8 rfl rfl)
theorem dX0_clash_57 : decode cX0_clash 57 = .ok (.invokevirtual 381, 3) := dk_182 1 125 (dk_at dksX0_clash_2 11 rfl rfl)
theorem dX0_clash_60 : decode cX0_clash 60 = .ok (.ifCond .eq 37, 3) := dk_153 0 37 (dk_at dksX0_clash_2 14 rfl rfl)
theorem dX0_clash_63 : decode cX0_clash 63 = .ok (.iload_n 2, 1) := dk_28 (dk_at dksX0_clash_2 17 rfl rfl)
theorem dX0_clash_64 : decode cX0_clash 64 = .ok (.ifCond .ne 7, 3) := dk_154 0 7 (dk_at dksX0_clash_2 18 rfl rfl)
theorem dX0_clash_67 : decode cX0_clash 67 = .ok (.iconst (-1), 1) := dk_2 (dk_at dksX0_clash_2 21 rfl rfl)
theorem dX0_clash_68 : decode cX0_clash 68 = .ok (.goto 28, 3) := dk_167 0 28 (dk_at dksX0_clash_3 0 rfl rfl)
theorem dX0_clash_71 : decode cX0_clash 71 = .ok (.iload_n 2, 1) := dk_28 (dk_at dksX0_clash_3 3 rfl rfl)
theorem dX0_clash_72 : decode cX0_clash 72 = .ok (.iconst 1, 1) := dk_4 (dk_at dksX0_clash_3 4 rfl rfl)
theorem dX0_clash_73 : decode cX0_clash 73 = .ok (.if_icmp .ne 8, 3) := dk_160 0 8 (dk_at dksX0_clash_3 5 rfl rfl)
theorem dX0_clash_76 : decode cX0_clash 76 = .ok (.iload 4, 2) := dk_21 4 (dk_at dksX0_clash_3 8 rfl rfl)
theorem dX0_clash_78 : decode cX0_clash 78 = .ok (.goto 18, 3) := dk_167 0 18 (dk_at dksX0_clash_3 10 rfl rfl)
theorem dX0_clash_81 : decode cX0_clash 81 = .ok (.aload_n 3, 1) := dk_45 (dk_at dksX0_clash_3 13 rfl rfl)
theorem dX0_clash_82 : decode cX0_clash 82 = .ok (.getfield 300, 3) := dk_180 1 44 (dk_at dksX0_clash_3 14 rfl rfl)
theorem dX0_clash_85 : decode cX0_clash 85 = .ok (.iload 4, 2) := dk_21 4 (dk_at dksX0_clash_3 17 rfl rfl)
theorem dX0_clash_87 : decode cX0_clash 87 = .ok (.invokevirtual 104, 3) := dk_182 0 104 (dk_at dksX0_clash_3 19 rfl rfl)
theorem dX0_clash_90 : decode cX0_clash 90 = .ok (.checkcast 318, 3) := dk_192 1 62 (dk_at dksX0_clash_4 0 rfl rfl)
theorem dX0_clash_93 : decode cX0_clash 93 = .ok (.getfield 320, 3) := dk_180 1 64 (dk_at dksX0_clash_4 3 rfl rfl)
theorem dX0_clash_96 : decode cX0_clash 96 = .ok (.ireturn, 1) := dk_172 (dk_at dksX0_clash_4 6 rfl rfl)
theorem dX0_clash_97 : decode cX0_clash 97 = .ok (.iconst 0, 1) := dk_3 (dk_at dksX0_clash_4 7 rfl rfl)
theorem dX0_clash_98 : decode cX0_clash 98 = .ok (.istore 5, 2) := dk_54 5 (dk_at dksX0_clash_4 8 rfl rfl)
theorem dX0_clash_100 : decode cX0_clash 100 = .ok (.iload 5, 2) := dk_21 5 (dk_at dksX0_clash_4 10 rfl rfl)
theorem dX0_clash_102 : decode cX0_clash 102 = .ok (.iload 4, 2) := dk_21 4 (dk_at dksX0_clash_4 12 rfl rfl)
theorem dX0_clash_104 : decode cX0_clash 104 = .ok (.if_icmp .ge 79, 3) := dk_162 0 79 (dk_at dksX0_clash_4 14 rfl rfl)
theorem dX0_clash_107 : decode cX0_clash 107 = .ok (.aload_n 0, 1) := dk_42 (dk_at dksX0_clash_4 17 rfl rfl)
theorem dX0_clash_108 : decode cX0_clash 108 = .ok (.aload_n 3, 1) := dk_45 (dk_at dksX0_clash_4 18 rfl rfl)
theorem dX0_clash_109 : decode cX0_clash 109 = .ok (.getfield 291, 3) := dk_180 1 35 (dk_at dksX0_clash_4 19 rfl rfl)
theorem dX0_clash_112 : decode cX0_clash 112 = .ok (.aload_n 3, 1) := dk_45 (dk_at dksX0_clash_4 22 rfl rfl)
theorem dX0_clash_113 : decode cX0_clash 113 = .ok (.getfield 300, 3) := dk_180 1 44 (dk_at dksX0_clash_5 0 rfl rfl)
theorem dX0_clash_116 : decode cX0_clash 116 = .ok (.iload 5, 2) := dk_21 5 (dk_at dksX0_clash_5 3 rfl rfl)
theorem dX0_clash_118 : decode cX0_clash 118 = .ok (.invokevirtual 104, 3) := dk_182 0 104 (dk_at dksX0_clash_5 5 rfl rfl)
theorem dX0_clash_121 : decode cX0_clash 121 = .ok (.checkcast 193, 3) := dk_192 0 193 (dk_at dksX0_clash_5 8 rfl rfl)
theorem dX0_clash_124 : decode cX0_clash 124 = .ok (.aload_n 3, 1) := dk_45 (dk_at dksX0_clash_5 11 rfl rfl)
theorem dX0_clash_125 : decode cX0_clash 125 = .ok (.getfield 300, 3) := dk_180 1 44 (dk_at dksX0_clash_5 12 rfl rfl)
theorem dX0_clash_128 : decode cX0_clash 128 = .ok (.iload 4, 2) := dk_21 4 (dk_at dksX0_clash_5 15 rfl rfl)
theorem dX0_clash_130 : decode cX0_clash 130 = .ok (.invokevirtual 104, 3) := dk_182 0 104 (dk_at dksX0_clash_5 17 rfl rfl)
theorem dX0_clash_133 : decode cX0_clash 133 = .ok (.checkcast 193, 3) := dk_192 0 193 (dk_at dksX0_clash_5 20 rfl rfl)
theorem dX0_clash_136 : decode cX0_clash 136 = .ok (.invokevirtual 211, 3) := dk_182 0 211 (dk_at dksX0_clash_6 0 rfl rfl)
theorem dX0_clash_139 : decode cX0_clash 139 = .ok (.ifCond .ne 38, 3) := dk_154 0 38 (dk_at dksX0_clash_6 3 rfl rfl)
theorem dX0_clash_142 : decode cX0_clash 142 = .ok (.iload_n 2, 1) := dk_28 (dk_at dksX0_clash_6 6 rfl rfl)
theorem dX0_clash_143 : decode cX0_clash 143 = .ok (.ifCond .ne 8, 3) := dk_154 0 8 (dk_at dksX0_clash_6 7 rfl rfl)
theorem dX0_clash_146 : decode cX0_clash 146 = .ok (.iload 5, 2) := dk_21 5 (dk_at dksX0_clash_6 10 rfl rfl)
theorem dX0_clash_148 : decode cX0_clash 148 = .ok (.goto 28, 3) := dk_167 0 28 (dk_at dksX0_clash_6 12 rfl rfl)
theorem dX0_clash_151 : decode cX0_clash 151 = .ok (.iload_n 2, 1) := dk_28 (dk_at dksX0_clash_6 15 rfl rfl)
theorem dX0_clash_152 : decode cX0_clash 152 = .ok (.iconst 1, 1) := dk_4 (dk_at dksX0_clash_6 16 rfl rfl)
theorem dX0_clash_153 : decode cX0_clash 153 = .ok (.if_icmp .ne 8, 3) := dk_160 0 8 (dk_at dksX0_clash_6 17 rfl rfl)
theorem dX0_clash_156 : decode cX0_clash 156 = .ok (.iload 4, 2) := dk_21 4 (dk_at dksX0_clash_6 20 rfl rfl)
theorem dX0_clash_158 : decode cX0_clash 158 = .ok (.goto 18, 3) := dk_167 0 18 (dk_at dksX0_clash_7 0 rfl rfl)
theorem dX0_clash_161 : decode cX0_clash 161 = .ok (.aload_n 3, 1) := dk_45 (dk_at dksX0_clash_7 3 rfl rfl)
theorem dX0_clash_162 : decode cX0_clash 162 = .ok (.getfield 300, 3) := dk_180 1 44 (dk_at dksX0_clash_7 4 rfl rfl)
theorem dX0_clash_165 : decode cX0_clash 165 = .ok (.iload 5, 2) := dk_21 5 (dk_at dksX0_clash_7 7 rfl rfl)
theorem dX0_clash_167 : decode cX0_clash 167 = .ok (.invokevirtual 104, 3) := dk_182 0 104 (dk_at dksX0_clash_7 9 rfl rfl)
theorem dX0_clash_170 : decode cX0_clash 170 = .ok (.checkcast 318, 3) := dk_192 1 62 (dk_at dksX0_clash_7 12 rfl rfl)
theorem dX0_clash_173 : decode cX0_clash 173 = .ok (.getfield 320, 3) := dk_180 1 64 (dk_at dksX0_clash_7 15 rfl rfl)
theorem dX0_clash_176 : decode cX0_clash 176 = .ok (.ireturn, 1) := dk_172 (dk_at dksX0_clash_7 18 rfl rfl)
theorem dX0_clash_177 : decode cX0_clash 177 = .ok (.iinc 5 1, 3) := dk_132 5 1 (dk_at dksX0_clash_7 19 rfl rfl)
theorem dX0_clash_180 : decode cX0_clash 180 = .ok (.goto (-80), 3) := dk_167 255 176 (dk_at dksX0_clash_8 0 rfl rfl)
theorem dX0_clash_183 : decode cX0_clash 183 = .ok (.iinc 4 1, 3) := dk_132 4 1 (dk_at dksX0_clash_8 3 rfl rfl)
theorem dX0_clash_186 : decode cX0_clash 186 = .ok (.goto (-155), 3) := dk_167 255 101 (dk_at dksX0_clash_8 6 rfl rfl)
theorem dX0_clash_189 : decode cX0_clash 189 = .ok (.iconst (-1), 1) := dk_2 (dk_at dksX0_clash_8 9 rfl rfl)
theorem dX0_clash_190 : decode cX0_clash 190 = .ok (.ireturn, 1) := dk_172 (dk_at dksX0_clash_8 10 rfl rfl)
abbrev cX0_isAlone : ByteArray := prog_1_method_50_code
def yX0_isAlone : MethodName := ⟨RX0, "isAlone", "(LToldTracks$Voyage;LToldTracks$Saying;)Z"⟩
def dkwX0_isAlone_3 : List UInt8 := [3, 172]
abbrev dktX0_isAlone_3 : List UInt8 := dkwX0_isAlone_3 ++ []
def dkwX0_isAlone_2 : List UInt8 := [182, 0, 104, 192, 0, 193, 182, 0, 211, 62, 132, 4, 1, 167, 255, 215, 29, 154, 0, 7, 4, 167, 0, 4]
abbrev dktX0_isAlone_2 : List UInt8 := dkwX0_isAlone_2 ++ dktX0_isAlone_3
def dkwX0_isAlone_1 : List UInt8 := [182, 0, 100, 162, 0, 35, 29, 153, 0, 31, 42, 43, 180, 1, 35, 44, 43, 180, 1, 122, 21, 4]
abbrev dktX0_isAlone_1 : List UInt8 := dkwX0_isAlone_1 ++ dktX0_isAlone_2
def dkwX0_isAlone_0 : List UInt8 := [44, 42, 180, 0, 20, 43, 180, 1, 35, 182, 1, 69, 62, 3, 54, 4, 21, 4, 43, 180, 1, 122]
abbrev dktX0_isAlone_0 : List UInt8 := dkwX0_isAlone_0 ++ dktX0_isAlone_1
theorem dksX0_isAlone_0 : cX0_isAlone.data.toList.drop 0 = dktX0_isAlone_0 := by decide +kernel
theorem dksX0_isAlone_1 : cX0_isAlone.data.toList.drop 22 = dktX0_isAlone_1 := dk_seg dksX0_isAlone_0 22 rfl rfl
theorem dksX0_isAlone_2 : cX0_isAlone.data.toList.drop 44 = dktX0_isAlone_2 := dk_seg dksX0_isAlone_1 22 rfl rfl
theorem dksX0_isAlone_3 : cX0_isAlone.data.toList.drop 68 = dktX0_isAlone_3 := dk_seg dksX0_isAlone_2 24 rfl rfl
theorem dX0_isAlone_0 : decode cX0_isAlone 0 = .ok (.aload_n 2, 1) := dk_44 (dk_at dksX0_isAlone_0 0 rfl rfl)
theorem dX0_isAlone_1 : decode cX0_isAlone 1 = .ok (.aload_n 0, 1) := dk_42 (dk_at dksX0_isAlone_0 1 rfl rfl)
theorem dX0_isAlone_2 : decode cX0_isAlone 2 = .ok (.getfield 20, 3) := dk_180 0 20 (dk_at dksX0_isAlone_0 2 rfl rfl)
theorem dX0_isAlone_5 : decode cX0_isAlone 5 = .ok (.aload_n 1, 1) := dk_43 (dk_at dksX0_isAlone_0 5 rfl rfl)
theorem dX0_isAlone_6 : decode cX0_isAlone 6 = .ok (.getfield 291, 3) := dk_180 1 35 (dk_at dksX0_isAlone_0 6 rfl rfl)
theorem dX0_isAlone_9 : decode cX0_isAlone 9 = .ok (.invokevirtual 325, 3) := dk_182 1 69 (dk_at dksX0_isAlone_0 9 rfl rfl)
theorem dX0_isAlone_12 : decode cX0_isAlone 12 = .ok (.istore_n 3, 1) := dk_62 (dk_at dksX0_isAlone_0 12 rfl rfl)
theorem dX0_isAlone_13 : decode cX0_isAlone 13 = .ok (.iconst 0, 1) := dk_3 (dk_at dksX0_isAlone_0 13 rfl rfl)
theorem dX0_isAlone_14 : decode cX0_isAlone 14 = .ok (.istore 4, 2) := dk_54 4 (dk_at dksX0_isAlone_0 14 rfl rfl)
theorem dX0_isAlone_16 : decode cX0_isAlone 16 = .ok (.iload 4, 2) := dk_21 4 (dk_at dksX0_isAlone_0 16 rfl rfl)
theorem dX0_isAlone_18 : decode cX0_isAlone 18 = .ok (.aload_n 1, 1) := dk_43 (dk_at dksX0_isAlone_0 18 rfl rfl)
theorem dX0_isAlone_19 : decode cX0_isAlone 19 = .ok (.getfield 378, 3) := dk_180 1 122 (dk_at dksX0_isAlone_0 19 rfl rfl)
theorem dX0_isAlone_22 : decode cX0_isAlone 22 = .ok (.invokevirtual 100, 3) := dk_182 0 100 (dk_at dksX0_isAlone_1 0 rfl rfl)
theorem dX0_isAlone_25 : decode cX0_isAlone 25 = .ok (.if_icmp .ge 35, 3) := dk_162 0 35 (dk_at dksX0_isAlone_1 3 rfl rfl)
theorem dX0_isAlone_28 : decode cX0_isAlone 28 = .ok (.iload_n 3, 1) := dk_29 (dk_at dksX0_isAlone_1 6 rfl rfl)
theorem dX0_isAlone_29 : decode cX0_isAlone 29 = .ok (.ifCond .eq 31, 3) := dk_153 0 31 (dk_at dksX0_isAlone_1 7 rfl rfl)
theorem dX0_isAlone_32 : decode cX0_isAlone 32 = .ok (.aload_n 0, 1) := dk_42 (dk_at dksX0_isAlone_1 10 rfl rfl)
theorem dX0_isAlone_33 : decode cX0_isAlone 33 = .ok (.aload_n 1, 1) := dk_43 (dk_at dksX0_isAlone_1 11 rfl rfl)
theorem dX0_isAlone_34 : decode cX0_isAlone 34 = .ok (.getfield 291, 3) := dk_180 1 35 (dk_at dksX0_isAlone_1 12 rfl rfl)
theorem dX0_isAlone_37 : decode cX0_isAlone 37 = .ok (.aload_n 2, 1) := dk_44 (dk_at dksX0_isAlone_1 15 rfl rfl)
theorem dX0_isAlone_38 : decode cX0_isAlone 38 = .ok (.aload_n 1, 1) := dk_43 (dk_at dksX0_isAlone_1 16 rfl rfl)
theorem dX0_isAlone_39 : decode cX0_isAlone 39 = .ok (.getfield 378, 3) := dk_180 1 122 (dk_at dksX0_isAlone_1 17 rfl rfl)
theorem dX0_isAlone_42 : decode cX0_isAlone 42 = .ok (.iload 4, 2) := dk_21 4 (dk_at dksX0_isAlone_1 20 rfl rfl)
theorem dX0_isAlone_44 : decode cX0_isAlone 44 = .ok (.invokevirtual 104, 3) := dk_182 0 104 (dk_at dksX0_isAlone_2 0 rfl rfl)
theorem dX0_isAlone_47 : decode cX0_isAlone 47 = .ok (.checkcast 193, 3) := dk_192 0 193 (dk_at dksX0_isAlone_2 3 rfl rfl)
theorem dX0_isAlone_50 : decode cX0_isAlone 50 = .ok (.invokevirtual 211, 3) := dk_182 0 211 (dk_at dksX0_isAlone_2 6 rfl rfl)
theorem dX0_isAlone_53 : decode cX0_isAlone 53 = .ok (.istore_n 3, 1) := dk_62 (dk_at dksX0_isAlone_2 9 rfl rfl)
theorem dX0_isAlone_54 : decode cX0_isAlone 54 = .ok (.iinc 4 1, 3) := dk_132 4 1 (dk_at dksX0_isAlone_2 10 rfl rfl)
theorem dX0_isAlone_57 : decode cX0_isAlone 57 = .ok (.goto (-41), 3) := dk_167 255 215 (dk_at dksX0_isAlone_2 13 rfl rfl)
theorem dX0_isAlone_60 : decode cX0_isAlone 60 = .ok (.iload_n 3, 1) := dk_29 (dk_at dksX0_isAlone_2 16 rfl rfl)
theorem dX0_isAlone_61 : decode cX0_isAlone 61 = .ok (.ifCond .ne 7, 3) := dk_154 0 7 (dk_at dksX0_isAlone_2 17 rfl rfl)
theorem dX0_isAlone_64 : decode cX0_isAlone 64 = .ok (.iconst 1, 1) := dk_4 (dk_at dksX0_isAlone_2 20 rfl rfl)
theorem dX0_isAlone_65 : decode cX0_isAlone 65 = .ok (.goto 4, 3) := dk_167 0 4 (dk_at dksX0_isAlone_2 21 rfl rfl)
theorem dX0_isAlone_68 : decode cX0_isAlone 68 = .ok (.iconst 0, 1) := dk_3 (dk_at dksX0_isAlone_3 0 rfl rfl)
theorem dX0_isAlone_69 : decode cX0_isAlone 69 = .ok (.ireturn, 1) := dk_172 (dk_at dksX0_isAlone_3 1 rfl rfl)
abbrev cX0_who : ByteArray := prog_1_method_52_code
def yX0_who : MethodName := ⟨RX0, "who", "(I)I"⟩
def dkwX0_who_0 : List UInt8 := [42, 27, 182, 1, 22, 153, 0, 11, 42, 27, 182, 1, 105, 167, 0, 4, 2, 172]
abbrev dktX0_who_0 : List UInt8 := dkwX0_who_0 ++ []
theorem dksX0_who_0 : cX0_who.data.toList.drop 0 = dktX0_who_0 := by decide +kernel
theorem dX0_who_0 : decode cX0_who 0 = .ok (.aload_n 0, 1) := dk_42 (dk_at dksX0_who_0 0 rfl rfl)
theorem dX0_who_1 : decode cX0_who 1 = .ok (.iload_n 1, 1) := dk_27 (dk_at dksX0_who_0 1 rfl rfl)
theorem dX0_who_2 : decode cX0_who 2 = .ok (.invokevirtual 278, 3) := dk_182 1 22 (dk_at dksX0_who_0 2 rfl rfl)
theorem dX0_who_5 : decode cX0_who 5 = .ok (.ifCond .eq 11, 3) := dk_153 0 11 (dk_at dksX0_who_0 5 rfl rfl)
theorem dX0_who_8 : decode cX0_who 8 = .ok (.aload_n 0, 1) := dk_42 (dk_at dksX0_who_0 8 rfl rfl)
theorem dX0_who_9 : decode cX0_who 9 = .ok (.iload_n 1, 1) := dk_27 (dk_at dksX0_who_0 9 rfl rfl)
theorem dX0_who_10 : decode cX0_who 10 = .ok (.invokevirtual 361, 3) := dk_182 1 105 (dk_at dksX0_who_0 10 rfl rfl)
theorem dX0_who_13 : decode cX0_who 13 = .ok (.goto 4, 3) := dk_167 0 4 (dk_at dksX0_who_0 13 rfl rfl)
theorem dX0_who_16 : decode cX0_who 16 = .ok (.iconst (-1), 1) := dk_2 (dk_at dksX0_who_0 16 rfl rfl)
theorem dX0_who_17 : decode cX0_who 17 = .ok (.ireturn, 1) := dk_172 (dk_at dksX0_who_0 17 rfl rfl)
abbrev cX0_swap : ByteArray := prog_1_method_54_code
def yX0_swap : MethodName := ⟨RX0, "swap", "(II)I"⟩
def dkwX0_swap_3 : List UInt8 := [153, 0, 16, 42, 28, 27, 182, 1, 129, 153, 0, 7, 4, 167, 0, 4, 3, 172]
abbrev dktX0_swap_3 : List UInt8 := dkwX0_swap_3 ++ []
def dkwX0_swap_2 : List UInt8 := [180, 0, 249, 28, 182, 0, 104, 192, 0, 42, 182, 0, 254, 153, 0, 5, 2, 172, 42, 27, 28, 182, 1, 129]
abbrev dktX0_swap_2 : List UInt8 := dkwX0_swap_2 ++ dktX0_swap_3
def dkwX0_swap_1 : List UInt8 := [180, 0, 28, 180, 0, 249, 27, 182, 0, 104, 192, 0, 42, 182, 0, 254, 154, 0, 23, 42, 180, 0, 28]
abbrev dktX0_swap_1 : List UInt8 := dkwX0_swap_1 ++ dktX0_swap_2
def dkwX0_swap_0 : List UInt8 := [42, 27, 182, 1, 22, 153, 0, 56, 42, 28, 182, 1, 22, 153, 0, 48, 27, 28, 159, 0, 43, 42]
abbrev dktX0_swap_0 : List UInt8 := dkwX0_swap_0 ++ dktX0_swap_1
theorem dksX0_swap_0 : cX0_swap.data.toList.drop 0 = dktX0_swap_0 := by decide +kernel
theorem dksX0_swap_1 : cX0_swap.data.toList.drop 22 = dktX0_swap_1 := dk_seg dksX0_swap_0 22 rfl rfl
theorem dksX0_swap_2 : cX0_swap.data.toList.drop 45 = dktX0_swap_2 := dk_seg dksX0_swap_1 23 rfl rfl
theorem dksX0_swap_3 : cX0_swap.data.toList.drop 69 = dktX0_swap_3 := dk_seg dksX0_swap_2 24 rfl rfl
theorem dX0_swap_0 : decode cX0_swap 0 = .ok (.aload_n 0, 1) := dk_42 (dk_at dksX0_swap_0 0 rfl rfl)
theorem dX0_swap_1 : decode cX0_swap 1 = .ok (.iload_n 1, 1) := dk_27 (dk_at dksX0_swap_0 1 rfl rfl)
theorem dX0_swap_2 : decode cX0_swap 2 = .ok (.invokevirtual 278, 3) := dk_182 1 22 (dk_at dksX0_swap_0 2 rfl rfl)
theorem dX0_swap_5 : decode cX0_swap 5 = .ok (.ifCond .eq 56, 3) := dk_153 0 56 (dk_at dksX0_swap_0 5 rfl rfl)
theorem dX0_swap_8 : decode cX0_swap 8 = .ok (.aload_n 0, 1) := dk_42 (dk_at dksX0_swap_0 8 rfl rfl)
theorem dX0_swap_9 : decode cX0_swap 9 = .ok (.iload_n 2, 1) := dk_28 (dk_at dksX0_swap_0 9 rfl rfl)
theorem dX0_swap_10 : decode cX0_swap 10 = .ok (.invokevirtual 278, 3) := dk_182 1 22 (dk_at dksX0_swap_0 10 rfl rfl)
theorem dX0_swap_13 : decode cX0_swap 13 = .ok (.ifCond .eq 48, 3) := dk_153 0 48 (dk_at dksX0_swap_0 13 rfl rfl)
theorem dX0_swap_16 : decode cX0_swap 16 = .ok (.iload_n 1, 1) := dk_27 (dk_at dksX0_swap_0 16 rfl rfl)
theorem dX0_swap_17 : decode cX0_swap 17 = .ok (.iload_n 2, 1) := dk_28 (dk_at dksX0_swap_0 17 rfl rfl)
theorem dX0_swap_18 : decode cX0_swap 18 = .ok (.if_icmp .eq 43, 3) := dk_159 0 43 (dk_at dksX0_swap_0 18 rfl rfl)
theorem dX0_swap_21 : decode cX0_swap 21 = .ok (.aload_n 0, 1) := dk_42 (dk_at dksX0_swap_0 21 rfl rfl)
theorem dX0_swap_22 : decode cX0_swap 22 = .ok (.getfield 28, 3) := dk_180 0 28 (dk_at dksX0_swap_1 0 rfl rfl)
theorem dX0_swap_25 : decode cX0_swap 25 = .ok (.getfield 249, 3) := dk_180 0 249 (dk_at dksX0_swap_1 3 rfl rfl)
theorem dX0_swap_28 : decode cX0_swap 28 = .ok (.iload_n 1, 1) := dk_27 (dk_at dksX0_swap_1 6 rfl rfl)
theorem dX0_swap_29 : decode cX0_swap 29 = .ok (.invokevirtual 104, 3) := dk_182 0 104 (dk_at dksX0_swap_1 7 rfl rfl)
theorem dX0_swap_32 : decode cX0_swap 32 = .ok (.checkcast 42, 3) := dk_192 0 42 (dk_at dksX0_swap_1 10 rfl rfl)
theorem dX0_swap_35 : decode cX0_swap 35 = .ok (.invokevirtual 254, 3) := dk_182 0 254 (dk_at dksX0_swap_1 13 rfl rfl)
theorem dX0_swap_38 : decode cX0_swap 38 = .ok (.ifCond .ne 23, 3) := dk_154 0 23 (dk_at dksX0_swap_1 16 rfl rfl)
theorem dX0_swap_41 : decode cX0_swap 41 = .ok (.aload_n 0, 1) := dk_42 (dk_at dksX0_swap_1 19 rfl rfl)
theorem dX0_swap_42 : decode cX0_swap 42 = .ok (.getfield 28, 3) := dk_180 0 28 (dk_at dksX0_swap_1 20 rfl rfl)
theorem dX0_swap_45 : decode cX0_swap 45 = .ok (.getfield 249, 3) := dk_180 0 249 (dk_at dksX0_swap_2 0 rfl rfl)
theorem dX0_swap_48 : decode cX0_swap 48 = .ok (.iload_n 2, 1) := dk_28 (dk_at dksX0_swap_2 3 rfl rfl)
theorem dX0_swap_49 : decode cX0_swap 49 = .ok (.invokevirtual 104, 3) := dk_182 0 104 (dk_at dksX0_swap_2 4 rfl rfl)
theorem dX0_swap_52 : decode cX0_swap 52 = .ok (.checkcast 42, 3) := dk_192 0 42 (dk_at dksX0_swap_2 7 rfl rfl)
theorem dX0_swap_55 : decode cX0_swap 55 = .ok (.invokevirtual 254, 3) := dk_182 0 254 (dk_at dksX0_swap_2 10 rfl rfl)
theorem dX0_swap_58 : decode cX0_swap 58 = .ok (.ifCond .eq 5, 3) := dk_153 0 5 (dk_at dksX0_swap_2 13 rfl rfl)
theorem dX0_swap_61 : decode cX0_swap 61 = .ok (.iconst (-1), 1) := dk_2 (dk_at dksX0_swap_2 16 rfl rfl)
theorem dX0_swap_62 : decode cX0_swap 62 = .ok (.ireturn, 1) := dk_172 (dk_at dksX0_swap_2 17 rfl rfl)
theorem dX0_swap_63 : decode cX0_swap 63 = .ok (.aload_n 0, 1) := dk_42 (dk_at dksX0_swap_2 18 rfl rfl)
theorem dX0_swap_64 : decode cX0_swap 64 = .ok (.iload_n 1, 1) := dk_27 (dk_at dksX0_swap_2 19 rfl rfl)
theorem dX0_swap_65 : decode cX0_swap 65 = .ok (.iload_n 2, 1) := dk_28 (dk_at dksX0_swap_2 20 rfl rfl)
theorem dX0_swap_66 : decode cX0_swap 66 = .ok (.invokevirtual 385, 3) := dk_182 1 129 (dk_at dksX0_swap_2 21 rfl rfl)
theorem dX0_swap_69 : decode cX0_swap 69 = .ok (.ifCond .eq 16, 3) := dk_153 0 16 (dk_at dksX0_swap_3 0 rfl rfl)
theorem dX0_swap_72 : decode cX0_swap 72 = .ok (.aload_n 0, 1) := dk_42 (dk_at dksX0_swap_3 3 rfl rfl)
theorem dX0_swap_73 : decode cX0_swap 73 = .ok (.iload_n 2, 1) := dk_28 (dk_at dksX0_swap_3 4 rfl rfl)
theorem dX0_swap_74 : decode cX0_swap 74 = .ok (.iload_n 1, 1) := dk_27 (dk_at dksX0_swap_3 5 rfl rfl)
theorem dX0_swap_75 : decode cX0_swap 75 = .ok (.invokevirtual 385, 3) := dk_182 1 129 (dk_at dksX0_swap_3 6 rfl rfl)
theorem dX0_swap_78 : decode cX0_swap 78 = .ok (.ifCond .eq 7, 3) := dk_153 0 7 (dk_at dksX0_swap_3 9 rfl rfl)
theorem dX0_swap_81 : decode cX0_swap 81 = .ok (.iconst 1, 1) := dk_4 (dk_at dksX0_swap_3 12 rfl rfl)
theorem dX0_swap_82 : decode cX0_swap 82 = .ok (.goto 4, 3) := dk_167 0 4 (dk_at dksX0_swap_3 13 rfl rfl)
theorem dX0_swap_85 : decode cX0_swap 85 = .ok (.iconst 0, 1) := dk_3 (dk_at dksX0_swap_3 16 rfl rfl)
theorem dX0_swap_86 : decode cX0_swap 86 = .ok (.ireturn, 1) := dk_172 (dk_at dksX0_swap_3 17 rfl rfl)
abbrev cX0_isSwapped : ByteArray := prog_1_method_53_code
def yX0_isSwapped : MethodName := ⟨RX0, "isSwapped", "(II)Z"⟩
def dkwX0_isSwapped_1 : List UInt8 := [182, 0, 104, 192, 0, 42, 42, 28, 182, 1, 31, 180, 1, 122, 182, 1, 92, 172]
abbrev dktX0_isSwapped_1 : List UInt8 := dkwX0_isSwapped_1 ++ []
def dkwX0_isSwapped_0 : List UInt8 := [42, 42, 180, 0, 20, 180, 0, 163, 28, 182, 0, 104, 192, 0, 178, 42, 180, 0, 28, 180, 0, 249, 27]
abbrev dktX0_isSwapped_0 : List UInt8 := dkwX0_isSwapped_0 ++ dktX0_isSwapped_1
theorem dksX0_isSwapped_0 : cX0_isSwapped.data.toList.drop 0 = dktX0_isSwapped_0 := by decide +kernel
theorem dksX0_isSwapped_1 : cX0_isSwapped.data.toList.drop 23 = dktX0_isSwapped_1 := dk_seg dksX0_isSwapped_0 23 rfl rfl
theorem dX0_isSwapped_0 : decode cX0_isSwapped 0 = .ok (.aload_n 0, 1) := dk_42 (dk_at dksX0_isSwapped_0 0 rfl rfl)
theorem dX0_isSwapped_1 : decode cX0_isSwapped 1 = .ok (.aload_n 0, 1) := dk_42 (dk_at dksX0_isSwapped_0 1 rfl rfl)
theorem dX0_isSwapped_2 : decode cX0_isSwapped 2 = .ok (.getfield 20, 3) := dk_180 0 20 (dk_at dksX0_isSwapped_0 2 rfl rfl)
theorem dX0_isSwapped_5 : decode cX0_isSwapped 5 = .ok (.getfield 163, 3) := dk_180 0 163 (dk_at dksX0_isSwapped_0 5 rfl rfl)
theorem dX0_isSwapped_8 : decode cX0_isSwapped 8 = .ok (.iload_n 2, 1) := dk_28 (dk_at dksX0_isSwapped_0 8 rfl rfl)
theorem dX0_isSwapped_9 : decode cX0_isSwapped 9 = .ok (.invokevirtual 104, 3) := dk_182 0 104 (dk_at dksX0_isSwapped_0 9 rfl rfl)
theorem dX0_isSwapped_12 : decode cX0_isSwapped 12 = .ok (.checkcast 178, 3) := dk_192 0 178 (dk_at dksX0_isSwapped_0 12 rfl rfl)
theorem dX0_isSwapped_15 : decode cX0_isSwapped 15 = .ok (.aload_n 0, 1) := dk_42 (dk_at dksX0_isSwapped_0 15 rfl rfl)
theorem dX0_isSwapped_16 : decode cX0_isSwapped 16 = .ok (.getfield 28, 3) := dk_180 0 28 (dk_at dksX0_isSwapped_0 16 rfl rfl)
theorem dX0_isSwapped_19 : decode cX0_isSwapped 19 = .ok (.getfield 249, 3) := dk_180 0 249 (dk_at dksX0_isSwapped_0 19 rfl rfl)
theorem dX0_isSwapped_22 : decode cX0_isSwapped 22 = .ok (.iload_n 1, 1) := dk_27 (dk_at dksX0_isSwapped_0 22 rfl rfl)
theorem dX0_isSwapped_23 : decode cX0_isSwapped 23 = .ok (.invokevirtual 104, 3) := dk_182 0 104 (dk_at dksX0_isSwapped_1 0 rfl rfl)
theorem dX0_isSwapped_26 : decode cX0_isSwapped 26 = .ok (.checkcast 42, 3) := dk_192 0 42 (dk_at dksX0_isSwapped_1 3 rfl rfl)
theorem dX0_isSwapped_29 : decode cX0_isSwapped 29 = .ok (.aload_n 0, 1) := dk_42 (dk_at dksX0_isSwapped_1 6 rfl rfl)
theorem dX0_isSwapped_30 : decode cX0_isSwapped 30 = .ok (.iload_n 2, 1) := dk_28 (dk_at dksX0_isSwapped_1 7 rfl rfl)
theorem dX0_isSwapped_31 : decode cX0_isSwapped 31 = .ok (.invokevirtual 287, 3) := dk_182 1 31 (dk_at dksX0_isSwapped_1 8 rfl rfl)
theorem dX0_isSwapped_34 : decode cX0_isSwapped 34 = .ok (.getfield 378, 3) := dk_180 1 122 (dk_at dksX0_isSwapped_1 11 rfl rfl)
theorem dX0_isSwapped_37 : decode cX0_isSwapped 37 = .ok (.invokevirtual 348, 3) := dk_182 1 92 (dk_at dksX0_isSwapped_1 14 rfl rfl)
theorem dX0_isSwapped_40 : decode cX0_isSwapped 40 = .ok (.ireturn, 1) := dk_172 (dk_at dksX0_isSwapped_1 17 rfl rfl)
abbrev cX0_kinds : ByteArray := prog_1_method_55_code
def yX0_kinds : MethodName := ⟨RX0, "kinds", "(I)I"⟩
def dkwX0_kinds_3 : List UInt8 := [132, 3, 1, 167, 255, 206, 28, 172]
abbrev dktX0_kinds_3 : List UInt8 := dkwX0_kinds_3 ++ []
def dkwX0_kinds_2 : List UInt8 := [192, 0, 42, 182, 0, 254, 154, 0, 16, 42, 29, 3, 182, 1, 119, 27, 160, 0, 6, 132, 2, 1]
abbrev dktX0_kinds_2 : List UInt8 := dkwX0_kinds_2 ++ dktX0_kinds_3
def dkwX0_kinds_1 : List UInt8 := [180, 0, 20, 180, 0, 163, 182, 0, 100, 162, 0, 42, 42, 180, 0, 28, 180, 0, 249, 29, 182, 0, 104]
abbrev dktX0_kinds_1 : List UInt8 := dkwX0_kinds_1 ++ dktX0_kinds_2
def dkwX0_kinds_0 : List UInt8 := [27, 133, 20, 1, 132, 20, 0, 94, 184, 0, 96, 154, 0, 5, 2, 172, 3, 61, 3, 62, 29, 42]
abbrev dktX0_kinds_0 : List UInt8 := dkwX0_kinds_0 ++ dktX0_kinds_1
theorem dksX0_kinds_0 : cX0_kinds.data.toList.drop 0 = dktX0_kinds_0 := by decide +kernel
theorem dksX0_kinds_1 : cX0_kinds.data.toList.drop 22 = dktX0_kinds_1 := dk_seg dksX0_kinds_0 22 rfl rfl
theorem dksX0_kinds_2 : cX0_kinds.data.toList.drop 45 = dktX0_kinds_2 := dk_seg dksX0_kinds_1 23 rfl rfl
theorem dksX0_kinds_3 : cX0_kinds.data.toList.drop 67 = dktX0_kinds_3 := dk_seg dksX0_kinds_2 22 rfl rfl
theorem dX0_kinds_0 : decode cX0_kinds 0 = .ok (.iload_n 1, 1) := dk_27 (dk_at dksX0_kinds_0 0 rfl rfl)
theorem dX0_kinds_1 : decode cX0_kinds 1 = .ok (.i2l, 1) := dk_133 (dk_at dksX0_kinds_0 1 rfl rfl)
theorem dX0_kinds_2 : decode cX0_kinds 2 = .ok (.ldc2_w 388, 3) := dk_20 1 132 (dk_at dksX0_kinds_0 2 rfl rfl)
theorem dX0_kinds_5 : decode cX0_kinds 5 = .ok (.ldc2_w 94, 3) := dk_20 0 94 (dk_at dksX0_kinds_0 5 rfl rfl)
theorem dX0_kinds_8 : decode cX0_kinds 8 = .ok (.invokestatic 96, 3) := dk_184 0 96 (dk_at dksX0_kinds_0 8 rfl rfl)
theorem dX0_kinds_11 : decode cX0_kinds 11 = .ok (.ifCond .ne 5, 3) := dk_154 0 5 (dk_at dksX0_kinds_0 11 rfl rfl)
theorem dX0_kinds_14 : decode cX0_kinds 14 = .ok (.iconst (-1), 1) := dk_2 (dk_at dksX0_kinds_0 14 rfl rfl)
theorem dX0_kinds_15 : decode cX0_kinds 15 = .ok (.ireturn, 1) := dk_172 (dk_at dksX0_kinds_0 15 rfl rfl)
theorem dX0_kinds_16 : decode cX0_kinds 16 = .ok (.iconst 0, 1) := dk_3 (dk_at dksX0_kinds_0 16 rfl rfl)
theorem dX0_kinds_17 : decode cX0_kinds 17 = .ok (.istore_n 2, 1) := dk_61 (dk_at dksX0_kinds_0 17 rfl rfl)
theorem dX0_kinds_18 : decode cX0_kinds 18 = .ok (.iconst 0, 1) := dk_3 (dk_at dksX0_kinds_0 18 rfl rfl)
theorem dX0_kinds_19 : decode cX0_kinds 19 = .ok (.istore_n 3, 1) := dk_62 (dk_at dksX0_kinds_0 19 rfl rfl)
theorem dX0_kinds_20 : decode cX0_kinds 20 = .ok (.iload_n 3, 1) := dk_29 (dk_at dksX0_kinds_0 20 rfl rfl)
theorem dX0_kinds_21 : decode cX0_kinds 21 = .ok (.aload_n 0, 1) := dk_42 (dk_at dksX0_kinds_0 21 rfl rfl)
theorem dX0_kinds_22 : decode cX0_kinds 22 = .ok (.getfield 20, 3) := dk_180 0 20 (dk_at dksX0_kinds_1 0 rfl rfl)
theorem dX0_kinds_25 : decode cX0_kinds 25 = .ok (.getfield 163, 3) := dk_180 0 163 (dk_at dksX0_kinds_1 3 rfl rfl)
theorem dX0_kinds_28 : decode cX0_kinds 28 = .ok (.invokevirtual 100, 3) := dk_182 0 100 (dk_at dksX0_kinds_1 6 rfl rfl)
theorem dX0_kinds_31 : decode cX0_kinds 31 = .ok (.if_icmp .ge 42, 3) := dk_162 0 42 (dk_at dksX0_kinds_1 9 rfl rfl)
theorem dX0_kinds_34 : decode cX0_kinds 34 = .ok (.aload_n 0, 1) := dk_42 (dk_at dksX0_kinds_1 12 rfl rfl)
theorem dX0_kinds_35 : decode cX0_kinds 35 = .ok (.getfield 28, 3) := dk_180 0 28 (dk_at dksX0_kinds_1 13 rfl rfl)
theorem dX0_kinds_38 : decode cX0_kinds 38 = .ok (.getfield 249, 3) := dk_180 0 249 (dk_at dksX0_kinds_1 16 rfl rfl)
theorem dX0_kinds_41 : decode cX0_kinds 41 = .ok (.iload_n 3, 1) := dk_29 (dk_at dksX0_kinds_1 19 rfl rfl)
theorem dX0_kinds_42 : decode cX0_kinds 42 = .ok (.invokevirtual 104, 3) := dk_182 0 104 (dk_at dksX0_kinds_1 20 rfl rfl)
theorem dX0_kinds_45 : decode cX0_kinds 45 = .ok (.checkcast 42, 3) := dk_192 0 42 (dk_at dksX0_kinds_2 0 rfl rfl)
theorem dX0_kinds_48 : decode cX0_kinds 48 = .ok (.invokevirtual 254, 3) := dk_182 0 254 (dk_at dksX0_kinds_2 3 rfl rfl)
theorem dX0_kinds_51 : decode cX0_kinds 51 = .ok (.ifCond .ne 16, 3) := dk_154 0 16 (dk_at dksX0_kinds_2 6 rfl rfl)
theorem dX0_kinds_54 : decode cX0_kinds 54 = .ok (.aload_n 0, 1) := dk_42 (dk_at dksX0_kinds_2 9 rfl rfl)
theorem dX0_kinds_55 : decode cX0_kinds 55 = .ok (.iload_n 3, 1) := dk_29 (dk_at dksX0_kinds_2 10 rfl rfl)
theorem dX0_kinds_56 : decode cX0_kinds 56 = .ok (.iconst 0, 1) := dk_3 (dk_at dksX0_kinds_2 11 rfl rfl)
theorem dX0_kinds_57 : decode cX0_kinds 57 = .ok (.invokevirtual 375, 3) := dk_182 1 119 (dk_at dksX0_kinds_2 12 rfl rfl)
theorem dX0_kinds_60 : decode cX0_kinds 60 = .ok (.iload_n 1, 1) := dk_27 (dk_at dksX0_kinds_2 15 rfl rfl)
theorem dX0_kinds_61 : decode cX0_kinds 61 = .ok (.if_icmp .ne 6, 3) := dk_160 0 6 (dk_at dksX0_kinds_2 16 rfl rfl)
theorem dX0_kinds_64 : decode cX0_kinds 64 = .ok (.iinc 2 1, 3) := dk_132 2 1 (dk_at dksX0_kinds_2 19 rfl rfl)
theorem dX0_kinds_67 : decode cX0_kinds 67 = .ok (.iinc 3 1, 3) := dk_132 3 1 (dk_at dksX0_kinds_3 0 rfl rfl)
theorem dX0_kinds_70 : decode cX0_kinds 70 = .ok (.goto (-50), 3) := dk_167 255 206 (dk_at dksX0_kinds_3 3 rfl rfl)
theorem dX0_kinds_73 : decode cX0_kinds 73 = .ok (.iload_n 2, 1) := dk_28 (dk_at dksX0_kinds_3 6 rfl rfl)
theorem dX0_kinds_74 : decode cX0_kinds 74 = .ok (.ireturn, 1) := dk_172 (dk_at dksX0_kinds_3 7 rfl rfl)
abbrev cX0_lies : ByteArray := prog_1_method_56_code
def yX0_lies : MethodName := ⟨RX0, "lies", "()I"⟩
def dkwX0_lies_1 : List UInt8 := [182, 1, 48, 96, 60, 132, 2, 1, 167, 255, 228, 27, 172]
abbrev dktX0_lies_1 : List UInt8 := dkwX0_lies_1 ++ []
def dkwX0_lies_0 : List UInt8 := [3, 60, 3, 61, 28, 42, 180, 0, 20, 180, 0, 163, 182, 0, 100, 162, 0, 20, 27, 42, 28, 182, 1, 31]
abbrev dktX0_lies_0 : List UInt8 := dkwX0_lies_0 ++ dktX0_lies_1
theorem dksX0_lies_0 : cX0_lies.data.toList.drop 0 = dktX0_lies_0 := by decide +kernel
theorem dksX0_lies_1 : cX0_lies.data.toList.drop 24 = dktX0_lies_1 := dk_seg dksX0_lies_0 24 rfl rfl
theorem dX0_lies_0 : decode cX0_lies 0 = .ok (.iconst 0, 1) := dk_3 (dk_at dksX0_lies_0 0 rfl rfl)
theorem dX0_lies_1 : decode cX0_lies 1 = .ok (.istore_n 1, 1) := dk_60 (dk_at dksX0_lies_0 1 rfl rfl)
theorem dX0_lies_2 : decode cX0_lies 2 = .ok (.iconst 0, 1) := dk_3 (dk_at dksX0_lies_0 2 rfl rfl)
theorem dX0_lies_3 : decode cX0_lies 3 = .ok (.istore_n 2, 1) := dk_61 (dk_at dksX0_lies_0 3 rfl rfl)
theorem dX0_lies_4 : decode cX0_lies 4 = .ok (.iload_n 2, 1) := dk_28 (dk_at dksX0_lies_0 4 rfl rfl)
theorem dX0_lies_5 : decode cX0_lies 5 = .ok (.aload_n 0, 1) := dk_42 (dk_at dksX0_lies_0 5 rfl rfl)
theorem dX0_lies_6 : decode cX0_lies 6 = .ok (.getfield 20, 3) := dk_180 0 20 (dk_at dksX0_lies_0 6 rfl rfl)
theorem dX0_lies_9 : decode cX0_lies 9 = .ok (.getfield 163, 3) := dk_180 0 163 (dk_at dksX0_lies_0 9 rfl rfl)
theorem dX0_lies_12 : decode cX0_lies 12 = .ok (.invokevirtual 100, 3) := dk_182 0 100 (dk_at dksX0_lies_0 12 rfl rfl)
theorem dX0_lies_15 : decode cX0_lies 15 = .ok (.if_icmp .ge 20, 3) := dk_162 0 20 (dk_at dksX0_lies_0 15 rfl rfl)
theorem dX0_lies_18 : decode cX0_lies 18 = .ok (.iload_n 1, 1) := dk_27 (dk_at dksX0_lies_0 18 rfl rfl)
theorem dX0_lies_19 : decode cX0_lies 19 = .ok (.aload_n 0, 1) := dk_42 (dk_at dksX0_lies_0 19 rfl rfl)
theorem dX0_lies_20 : decode cX0_lies 20 = .ok (.iload_n 2, 1) := dk_28 (dk_at dksX0_lies_0 20 rfl rfl)
theorem dX0_lies_21 : decode cX0_lies 21 = .ok (.invokevirtual 287, 3) := dk_182 1 31 (dk_at dksX0_lies_0 21 rfl rfl)
theorem dX0_lies_24 : decode cX0_lies 24 = .ok (.invokevirtual 304, 3) := dk_182 1 48 (dk_at dksX0_lies_1 0 rfl rfl)
theorem dX0_lies_27 : decode cX0_lies 27 = .ok (.iadd, 1) := dk_96 (dk_at dksX0_lies_1 3 rfl rfl)
theorem dX0_lies_28 : decode cX0_lies 28 = .ok (.istore_n 1, 1) := dk_60 (dk_at dksX0_lies_1 4 rfl rfl)
theorem dX0_lies_29 : decode cX0_lies 29 = .ok (.iinc 2 1, 3) := dk_132 2 1 (dk_at dksX0_lies_1 5 rfl rfl)
theorem dX0_lies_32 : decode cX0_lies 32 = .ok (.goto (-28), 3) := dk_167 255 228 (dk_at dksX0_lies_1 8 rfl rfl)
theorem dX0_lies_35 : decode cX0_lies 35 = .ok (.iload_n 1, 1) := dk_27 (dk_at dksX0_lies_1 11 rfl rfl)
theorem dX0_lies_36 : decode cX0_lies 36 = .ok (.ireturn, 1) := dk_172 (dk_at dksX0_lies_1 12 rfl rfl)
abbrev cX0_met : ByteArray := prog_1_method_58_code
def yX0_met : MethodName := ⟨RX0, "met", "(III)I"⟩
def dkwX0_met_8 : List UInt8 := [160, 0, 8, 21, 7, 167, 0, 5, 21, 8, 172]
abbrev dktX0_met_8 : List UInt8 := dkwX0_met_8 ++ []
def dkwX0_met_7 : List UInt8 := [160, 0, 7, 21, 9, 54, 7, 132, 9, 1, 167, 255, 140, 29, 154, 0, 8, 21, 6, 167, 0, 15, 29, 4]
abbrev dktX0_met_7 : List UInt8 := dkwX0_met_7 ++ dktX0_met_8
def dkwX0_met_6 : List UInt8 := [167, 255, 214, 21, 10, 154, 0, 6, 167, 0, 23, 132, 6, 1, 21, 8, 21, 10, 96, 54, 8, 21, 7, 2]
abbrev dktX0_met_6 : List UInt8 := dkwX0_met_6 ++ dktX0_met_7
def dkwX0_met_5 : List UInt8 := [182, 1, 82, 153, 0, 18, 25, 5, 21, 11, 21, 9, 182, 1, 82, 153, 0, 6, 132, 10, 1, 132, 11, 1]
abbrev dktX0_met_5 : List UInt8 := dkwX0_met_5 ++ dktX0_met_6
def dkwX0_met_4 : List UInt8 := [3, 54, 10, 3, 54, 11, 21, 11, 42, 180, 0, 20, 182, 0, 143, 162, 0, 36, 25, 4, 21, 11, 21, 9]
abbrev dktX0_met_4 : List UInt8 := dkwX0_met_4 ++ dktX0_met_5
def dkwX0_met_3 : List UInt8 := [21, 9, 3, 182, 1, 134, 153, 0, 97, 42, 25, 5, 21, 9, 4, 182, 1, 134, 154, 0, 6, 167, 0, 82]
abbrev dktX0_met_3 : List UInt8 := dkwX0_met_3 ++ dktX0_met_4
def dkwX0_met_2 : List UInt8 := [58, 5, 3, 54, 6, 2, 54, 7, 3, 54, 8, 3, 54, 9, 21, 9, 16, 48, 162, 0, 115, 42, 25, 4]
abbrev dktX0_met_2 : List UInt8 := dkwX0_met_2 ++ dktX0_met_3
def dkwX0_met_1 : List UInt8 := [20, 1, 123, 184, 0, 96, 154, 0, 5, 2, 172, 42, 27, 182, 1, 31, 58, 4, 42, 28, 182, 1, 31]
abbrev dktX0_met_1 : List UInt8 := dkwX0_met_1 ++ dktX0_met_2
def dkwX0_met_0 : List UInt8 := [42, 27, 182, 1, 22, 153, 0, 28, 42, 28, 182, 1, 22, 153, 0, 20, 27, 28, 159, 0, 15, 29, 133, 9]
abbrev dktX0_met_0 : List UInt8 := dkwX0_met_0 ++ dktX0_met_1
theorem dksX0_met_0 : cX0_met.data.toList.drop 0 = dktX0_met_0 := by decide +kernel
theorem dksX0_met_1 : cX0_met.data.toList.drop 24 = dktX0_met_1 := dk_seg dksX0_met_0 24 rfl rfl
theorem dksX0_met_2 : cX0_met.data.toList.drop 47 = dktX0_met_2 := dk_seg dksX0_met_1 23 rfl rfl
theorem dksX0_met_3 : cX0_met.data.toList.drop 71 = dktX0_met_3 := dk_seg dksX0_met_2 24 rfl rfl
theorem dksX0_met_4 : cX0_met.data.toList.drop 95 = dktX0_met_4 := dk_seg dksX0_met_3 24 rfl rfl
theorem dksX0_met_5 : cX0_met.data.toList.drop 119 = dktX0_met_5 := dk_seg dksX0_met_4 24 rfl rfl
theorem dksX0_met_6 : cX0_met.data.toList.drop 143 = dktX0_met_6 := dk_seg dksX0_met_5 24 rfl rfl
theorem dksX0_met_7 : cX0_met.data.toList.drop 167 = dktX0_met_7 := dk_seg dksX0_met_6 24 rfl rfl
theorem dksX0_met_8 : cX0_met.data.toList.drop 191 = dktX0_met_8 := dk_seg dksX0_met_7 24 rfl rfl
theorem dX0_met_0 : decode cX0_met 0 = .ok (.aload_n 0, 1) := dk_42 (dk_at dksX0_met_0 0 rfl rfl)
theorem dX0_met_1 : decode cX0_met 1 = .ok (.iload_n 1, 1) := dk_27 (dk_at dksX0_met_0 1 rfl rfl)
theorem dX0_met_2 : decode cX0_met 2 = .ok (.invokevirtual 278, 3) := dk_182 1 22 (dk_at dksX0_met_0 2 rfl rfl)
theorem dX0_met_5 : decode cX0_met 5 = .ok (.ifCond .eq 28, 3) := dk_153 0 28 (dk_at dksX0_met_0 5 rfl rfl)
theorem dX0_met_8 : decode cX0_met 8 = .ok (.aload_n 0, 1) := dk_42 (dk_at dksX0_met_0 8 rfl rfl)
theorem dX0_met_9 : decode cX0_met 9 = .ok (.iload_n 2, 1) := dk_28 (dk_at dksX0_met_0 9 rfl rfl)
theorem dX0_met_10 : decode cX0_met 10 = .ok (.invokevirtual 278, 3) := dk_182 1 22 (dk_at dksX0_met_0 10 rfl rfl)
theorem dX0_met_13 : decode cX0_met 13 = .ok (.ifCond .eq 20, 3) := dk_153 0 20 (dk_at dksX0_met_0 13 rfl rfl)
theorem dX0_met_16 : decode cX0_met 16 = .ok (.iload_n 1, 1) := dk_27 (dk_at dksX0_met_0 16 rfl rfl)
theorem dX0_met_17 : decode cX0_met 17 = .ok (.iload_n 2, 1) := dk_28 (dk_at dksX0_met_0 17 rfl rfl)
theorem dX0_met_18 : decode cX0_met 18 = .ok (.if_icmp .eq 15, 3) := dk_159 0 15 (dk_at dksX0_met_0 18 rfl rfl)
theorem dX0_met_21 : decode cX0_met 21 = .ok (.iload_n 3, 1) := dk_29 (dk_at dksX0_met_0 21 rfl rfl)
theorem dX0_met_22 : decode cX0_met 22 = .ok (.i2l, 1) := dk_133 (dk_at dksX0_met_0 22 rfl rfl)
theorem dX0_met_23 : decode cX0_met 23 = .ok (.lconst 0, 1) := dk_9 (dk_at dksX0_met_0 23 rfl rfl)
theorem dX0_met_24 : decode cX0_met 24 = .ok (.ldc2_w 379, 3) := dk_20 1 123 (dk_at dksX0_met_1 0 rfl rfl)
theorem dX0_met_27 : decode cX0_met 27 = .ok (.invokestatic 96, 3) := dk_184 0 96 (dk_at dksX0_met_1 3 rfl rfl)
theorem dX0_met_30 : decode cX0_met 30 = .ok (.ifCond .ne 5, 3) := dk_154 0 5 (dk_at dksX0_met_1 6 rfl rfl)
theorem dX0_met_33 : decode cX0_met 33 = .ok (.iconst (-1), 1) := dk_2 (dk_at dksX0_met_1 9 rfl rfl)
theorem dX0_met_34 : decode cX0_met 34 = .ok (.ireturn, 1) := dk_172 (dk_at dksX0_met_1 10 rfl rfl)
theorem dX0_met_35 : decode cX0_met 35 = .ok (.aload_n 0, 1) := dk_42 (dk_at dksX0_met_1 11 rfl rfl)
theorem dX0_met_36 : decode cX0_met 36 = .ok (.iload_n 1, 1) := dk_27 (dk_at dksX0_met_1 12 rfl rfl)
theorem dX0_met_37 : decode cX0_met 37 = .ok (.invokevirtual 287, 3) := dk_182 1 31 (dk_at dksX0_met_1 13 rfl rfl)
theorem dX0_met_40 : decode cX0_met 40 = .ok (.astore 4, 2) := dk_58 4 (dk_at dksX0_met_1 16 rfl rfl)
theorem dX0_met_42 : decode cX0_met 42 = .ok (.aload_n 0, 1) := dk_42 (dk_at dksX0_met_1 18 rfl rfl)
theorem dX0_met_43 : decode cX0_met 43 = .ok (.iload_n 2, 1) := dk_28 (dk_at dksX0_met_1 19 rfl rfl)
theorem dX0_met_44 : decode cX0_met 44 = .ok (.invokevirtual 287, 3) := dk_182 1 31 (dk_at dksX0_met_1 20 rfl rfl)
theorem dX0_met_47 : decode cX0_met 47 = .ok (.astore 5, 2) := dk_58 5 (dk_at dksX0_met_2 0 rfl rfl)
theorem dX0_met_49 : decode cX0_met 49 = .ok (.iconst 0, 1) := dk_3 (dk_at dksX0_met_2 2 rfl rfl)
theorem dX0_met_50 : decode cX0_met 50 = .ok (.istore 6, 2) := dk_54 6 (dk_at dksX0_met_2 3 rfl rfl)
theorem dX0_met_52 : decode cX0_met 52 = .ok (.iconst (-1), 1) := dk_2 (dk_at dksX0_met_2 5 rfl rfl)
theorem dX0_met_53 : decode cX0_met 53 = .ok (.istore 7, 2) := dk_54 7 (dk_at dksX0_met_2 6 rfl rfl)
theorem dX0_met_55 : decode cX0_met 55 = .ok (.iconst 0, 1) := dk_3 (dk_at dksX0_met_2 8 rfl rfl)
theorem dX0_met_56 : decode cX0_met 56 = .ok (.istore 8, 2) := dk_54 8 (dk_at dksX0_met_2 9 rfl rfl)
theorem dX0_met_58 : decode cX0_met 58 = .ok (.iconst 0, 1) := dk_3 (dk_at dksX0_met_2 11 rfl rfl)
theorem dX0_met_59 : decode cX0_met 59 = .ok (.istore 9, 2) := dk_54 9 (dk_at dksX0_met_2 12 rfl rfl)
theorem dX0_met_61 : decode cX0_met 61 = .ok (.iload 9, 2) := dk_21 9 (dk_at dksX0_met_2 14 rfl rfl)
theorem dX0_met_63 : decode cX0_met 63 = .ok (.bipush 48, 2) := dk_16 48 (dk_at dksX0_met_2 16 rfl rfl)
theorem dX0_met_65 : decode cX0_met 65 = .ok (.if_icmp .ge 115, 3) := dk_162 0 115 (dk_at dksX0_met_2 18 rfl rfl)
theorem dX0_met_68 : decode cX0_met 68 = .ok (.aload_n 0, 1) := dk_42 (dk_at dksX0_met_2 21 rfl rfl)
theorem dX0_met_69 : decode cX0_met 69 = .ok (.aload 4, 2) := dk_25 4 (dk_at dksX0_met_2 22 rfl rfl)
theorem dX0_met_71 : decode cX0_met 71 = .ok (.iload 9, 2) := dk_21 9 (dk_at dksX0_met_3 0 rfl rfl)
theorem dX0_met_73 : decode cX0_met 73 = .ok (.iconst 0, 1) := dk_3 (dk_at dksX0_met_3 2 rfl rfl)
theorem dX0_met_74 : decode cX0_met 74 = .ok (.invokevirtual 390, 3) := dk_182 1 134 (dk_at dksX0_met_3 3 rfl rfl)
theorem dX0_met_77 : decode cX0_met 77 = .ok (.ifCond .eq 97, 3) := dk_153 0 97 (dk_at dksX0_met_3 6 rfl rfl)
theorem dX0_met_80 : decode cX0_met 80 = .ok (.aload_n 0, 1) := dk_42 (dk_at dksX0_met_3 9 rfl rfl)
theorem dX0_met_81 : decode cX0_met 81 = .ok (.aload 5, 2) := dk_25 5 (dk_at dksX0_met_3 10 rfl rfl)
theorem dX0_met_83 : decode cX0_met 83 = .ok (.iload 9, 2) := dk_21 9 (dk_at dksX0_met_3 12 rfl rfl)
theorem dX0_met_85 : decode cX0_met 85 = .ok (.iconst 1, 1) := dk_4 (dk_at dksX0_met_3 14 rfl rfl)
theorem dX0_met_86 : decode cX0_met 86 = .ok (.invokevirtual 390, 3) := dk_182 1 134 (dk_at dksX0_met_3 15 rfl rfl)
theorem dX0_met_89 : decode cX0_met 89 = .ok (.ifCond .ne 6, 3) := dk_154 0 6 (dk_at dksX0_met_3 18 rfl rfl)
theorem dX0_met_92 : decode cX0_met 92 = .ok (.goto 82, 3) := dk_167 0 82 (dk_at dksX0_met_3 21 rfl rfl)
theorem dX0_met_95 : decode cX0_met 95 = .ok (.iconst 0, 1) := dk_3 (dk_at dksX0_met_4 0 rfl rfl)
theorem dX0_met_96 : decode cX0_met 96 = .ok (.istore 10, 2) := dk_54 10 (dk_at dksX0_met_4 1 rfl rfl)
theorem dX0_met_98 : decode cX0_met 98 = .ok (.iconst 0, 1) := dk_3 (dk_at dksX0_met_4 3 rfl rfl)
theorem dX0_met_99 : decode cX0_met 99 = .ok (.istore 11, 2) := dk_54 11 (dk_at dksX0_met_4 4 rfl rfl)
theorem dX0_met_101 : decode cX0_met 101 = .ok (.iload 11, 2) := dk_21 11 (dk_at dksX0_met_4 6 rfl rfl)
theorem dX0_met_103 : decode cX0_met 103 = .ok (.aload_n 0, 1) := dk_42 (dk_at dksX0_met_4 8 rfl rfl)
theorem dX0_met_104 : decode cX0_met 104 = .ok (.getfield 20, 3) := dk_180 0 20 (dk_at dksX0_met_4 9 rfl rfl)
theorem dX0_met_107 : decode cX0_met 107 = .ok (.invokevirtual 143, 3) := dk_182 0 143 (dk_at dksX0_met_4 12 rfl rfl)
theorem dX0_met_110 : decode cX0_met 110 = .ok (.if_icmp .ge 36, 3) := dk_162 0 36 (dk_at dksX0_met_4 15 rfl rfl)
theorem dX0_met_113 : decode cX0_met 113 = .ok (.aload 4, 2) := dk_25 4 (dk_at dksX0_met_4 18 rfl rfl)
theorem dX0_met_115 : decode cX0_met 115 = .ok (.iload 11, 2) := dk_21 11 (dk_at dksX0_met_4 20 rfl rfl)
theorem dX0_met_117 : decode cX0_met 117 = .ok (.iload 9, 2) := dk_21 9 (dk_at dksX0_met_4 22 rfl rfl)
theorem dX0_met_119 : decode cX0_met 119 = .ok (.invokevirtual 338, 3) := dk_182 1 82 (dk_at dksX0_met_5 0 rfl rfl)
theorem dX0_met_122 : decode cX0_met 122 = .ok (.ifCond .eq 18, 3) := dk_153 0 18 (dk_at dksX0_met_5 3 rfl rfl)
theorem dX0_met_125 : decode cX0_met 125 = .ok (.aload 5, 2) := dk_25 5 (dk_at dksX0_met_5 6 rfl rfl)
theorem dX0_met_127 : decode cX0_met 127 = .ok (.iload 11, 2) := dk_21 11 (dk_at dksX0_met_5 8 rfl rfl)
theorem dX0_met_129 : decode cX0_met 129 = .ok (.iload 9, 2) := dk_21 9 (dk_at dksX0_met_5 10 rfl rfl)
theorem dX0_met_131 : decode cX0_met 131 = .ok (.invokevirtual 338, 3) := dk_182 1 82 (dk_at dksX0_met_5 12 rfl rfl)
theorem dX0_met_134 : decode cX0_met 134 = .ok (.ifCond .eq 6, 3) := dk_153 0 6 (dk_at dksX0_met_5 15 rfl rfl)
theorem dX0_met_137 : decode cX0_met 137 = .ok (.iinc 10 1, 3) := dk_132 10 1 (dk_at dksX0_met_5 18 rfl rfl)
theorem dX0_met_140 : decode cX0_met 140 = .ok (.iinc 11 1, 3) := dk_132 11 1 (dk_at dksX0_met_5 21 rfl rfl)
theorem dX0_met_143 : decode cX0_met 143 = .ok (.goto (-42), 3) := dk_167 255 214 (dk_at dksX0_met_6 0 rfl rfl)
theorem dX0_met_146 : decode cX0_met 146 = .ok (.iload 10, 2) := dk_21 10 (dk_at dksX0_met_6 3 rfl rfl)
theorem dX0_met_148 : decode cX0_met 148 = .ok (.ifCond .ne 6, 3) := dk_154 0 6 (dk_at dksX0_met_6 5 rfl rfl)
theorem dX0_met_151 : decode cX0_met 151 = .ok (.goto 23, 3) := dk_167 0 23 (dk_at dksX0_met_6 8 rfl rfl)
theorem dX0_met_154 : decode cX0_met 154 = .ok (.iinc 6 1, 3) := dk_132 6 1 (dk_at dksX0_met_6 11 rfl rfl)
theorem dX0_met_157 : decode cX0_met 157 = .ok (.iload 8, 2) := dk_21 8 (dk_at dksX0_met_6 14 rfl rfl)
theorem dX0_met_159 : decode cX0_met 159 = .ok (.iload 10, 2) := dk_21 10 (dk_at dksX0_met_6 16 rfl rfl)
theorem dX0_met_161 : decode cX0_met 161 = .ok (.iadd, 1) := dk_96 (dk_at dksX0_met_6 18 rfl rfl)
theorem dX0_met_162 : decode cX0_met 162 = .ok (.istore 8, 2) := dk_54 8 (dk_at dksX0_met_6 19 rfl rfl)
theorem dX0_met_164 : decode cX0_met 164 = .ok (.iload 7, 2) := dk_21 7 (dk_at dksX0_met_6 21 rfl rfl)
theorem dX0_met_166 : decode cX0_met 166 = .ok (.iconst (-1), 1) := dk_2 (dk_at dksX0_met_6 23 rfl rfl)
theorem dX0_met_167 : decode cX0_met 167 = .ok (.if_icmp .ne 7, 3) := dk_160 0 7 (dk_at dksX0_met_7 0 rfl rfl)
theorem dX0_met_170 : decode cX0_met 170 = .ok (.iload 9, 2) := dk_21 9 (dk_at dksX0_met_7 3 rfl rfl)
theorem dX0_met_172 : decode cX0_met 172 = .ok (.istore 7, 2) := dk_54 7 (dk_at dksX0_met_7 5 rfl rfl)
theorem dX0_met_174 : decode cX0_met 174 = .ok (.iinc 9 1, 3) := dk_132 9 1 (dk_at dksX0_met_7 7 rfl rfl)
theorem dX0_met_177 : decode cX0_met 177 = .ok (.goto (-116), 3) := dk_167 255 140 (dk_at dksX0_met_7 10 rfl rfl)
theorem dX0_met_180 : decode cX0_met 180 = .ok (.iload_n 3, 1) := dk_29 (dk_at dksX0_met_7 13 rfl rfl)
theorem dX0_met_181 : decode cX0_met 181 = .ok (.ifCond .ne 8, 3) := dk_154 0 8 (dk_at dksX0_met_7 14 rfl rfl)
theorem dX0_met_184 : decode cX0_met 184 = .ok (.iload 6, 2) := dk_21 6 (dk_at dksX0_met_7 17 rfl rfl)
theorem dX0_met_186 : decode cX0_met 186 = .ok (.goto 15, 3) := dk_167 0 15 (dk_at dksX0_met_7 19 rfl rfl)
theorem dX0_met_189 : decode cX0_met 189 = .ok (.iload_n 3, 1) := dk_29 (dk_at dksX0_met_7 22 rfl rfl)
theorem dX0_met_190 : decode cX0_met 190 = .ok (.iconst 1, 1) := dk_4 (dk_at dksX0_met_7 23 rfl rfl)
theorem dX0_met_191 : decode cX0_met 191 = .ok (.if_icmp .ne 8, 3) := dk_160 0 8 (dk_at dksX0_met_8 0 rfl rfl)
theorem dX0_met_194 : decode cX0_met 194 = .ok (.iload 7, 2) := dk_21 7 (dk_at dksX0_met_8 3 rfl rfl)
theorem dX0_met_196 : decode cX0_met 196 = .ok (.goto 5, 3) := dk_167 0 5 (dk_at dksX0_met_8 5 rfl rfl)
theorem dX0_met_199 : decode cX0_met 199 = .ok (.iload 8, 2) := dk_21 8 (dk_at dksX0_met_8 8 rfl rfl)
theorem dX0_met_201 : decode cX0_met 201 = .ok (.ireturn, 1) := dk_172 (dk_at dksX0_met_8 10 rfl rfl)
abbrev cX0_isChanged : ByteArray := prog_1_method_57_code
def yX0_isChanged : MethodName := ⟨RX0, "isChanged", "(LToldTracks$Voyage;IZ)Z"⟩
def dkwX0_isChanged_4 : List UInt8 := [58, 4, 132, 5, 1, 167, 255, 164, 3, 172]
abbrev dktX0_isChanged_4 : List UInt8 := dkwX0_isChanged_4 ++ []
def dkwX0_isChanged_3 : List UInt8 := [180, 1, 66, 29, 159, 0, 16, 25, 6, 180, 1, 66, 29, 160, 0, 7, 4, 167, 0, 4, 3, 172, 25, 6]
abbrev dktX0_isChanged_3 : List UInt8 := dkwX0_isChanged_3 ++ dktX0_isChanged_4
def dkwX0_isChanged_2 : List UInt8 := [198, 0, 45, 25, 4, 180, 1, 64, 28, 162, 0, 36, 28, 25, 6, 180, 1, 64, 162, 0, 27, 25, 4]
abbrev dktX0_isChanged_2 : List UInt8 := dkwX0_isChanged_2 ++ dktX0_isChanged_3
def dkwX0_isChanged_1 : List UInt8 := [182, 0, 104, 192, 1, 62, 58, 6, 43, 25, 6, 182, 1, 70, 154, 0, 6, 167, 0, 54, 25, 4]
abbrev dktX0_isChanged_1 : List UInt8 := dkwX0_isChanged_1 ++ dktX0_isChanged_2
def dkwX0_isChanged_0 : List UInt8 := [1, 58, 4, 3, 54, 5, 21, 5, 43, 180, 1, 44, 182, 0, 100, 162, 0, 86, 43, 180, 1, 44, 21, 5]
abbrev dktX0_isChanged_0 : List UInt8 := dkwX0_isChanged_0 ++ dktX0_isChanged_1
theorem dksX0_isChanged_0 : cX0_isChanged.data.toList.drop 0 = dktX0_isChanged_0 := by decide +kernel
theorem dksX0_isChanged_1 : cX0_isChanged.data.toList.drop 24 = dktX0_isChanged_1 := dk_seg dksX0_isChanged_0 24 rfl rfl
theorem dksX0_isChanged_2 : cX0_isChanged.data.toList.drop 46 = dktX0_isChanged_2 := dk_seg dksX0_isChanged_1 22 rfl rfl
theorem dksX0_isChanged_3 : cX0_isChanged.data.toList.drop 69 = dktX0_isChanged_3 := dk_seg dksX0_isChanged_2 23 rfl rfl
theorem dksX0_isChanged_4 : cX0_isChanged.data.toList.drop 93 = dktX0_isChanged_4 := dk_seg dksX0_isChanged_3 24 rfl rfl
theorem dX0_isChanged_0 : decode cX0_isChanged 0 = .ok (.aconst_null, 1) := dk_1 (dk_at dksX0_isChanged_0 0 rfl rfl)
theorem dX0_isChanged_1 : decode cX0_isChanged 1 = .ok (.astore 4, 2) := dk_58 4 (dk_at dksX0_isChanged_0 1 rfl rfl)
theorem dX0_isChanged_3 : decode cX0_isChanged 3 = .ok (.iconst 0, 1) := dk_3 (dk_at dksX0_isChanged_0 3 rfl rfl)
theorem dX0_isChanged_4 : decode cX0_isChanged 4 = .ok (.istore 5, 2) := dk_54 5 (dk_at dksX0_isChanged_0 4 rfl rfl)
theorem dX0_isChanged_6 : decode cX0_isChanged 6 = .ok (.iload 5, 2) := dk_21 5 (dk_at dksX0_isChanged_0 6 rfl rfl)
theorem dX0_isChanged_8 : decode cX0_isChanged 8 = .ok (.aload_n 1, 1) := dk_43 (dk_at dksX0_isChanged_0 8 rfl rfl)
theorem dX0_isChanged_9 : decode cX0_isChanged 9 = .ok (.getfield 300, 3) := dk_180 1 44 (dk_at dksX0_isChanged_0 9 rfl rfl)
theorem dX0_isChanged_12 : decode cX0_isChanged 12 = .ok (.invokevirtual 100, 3) := dk_182 0 100 (dk_at dksX0_isChanged_0 12 rfl rfl)
theorem dX0_isChanged_15 : decode cX0_isChanged 15 = .ok (.if_icmp .ge 86, 3) := dk_162 0 86 (dk_at dksX0_isChanged_0 15 rfl rfl)
theorem dX0_isChanged_18 : decode cX0_isChanged 18 = .ok (.aload_n 1, 1) := dk_43 (dk_at dksX0_isChanged_0 18 rfl rfl)
theorem dX0_isChanged_19 : decode cX0_isChanged 19 = .ok (.getfield 300, 3) := dk_180 1 44 (dk_at dksX0_isChanged_0 19 rfl rfl)
theorem dX0_isChanged_22 : decode cX0_isChanged 22 = .ok (.iload 5, 2) := dk_21 5 (dk_at dksX0_isChanged_0 22 rfl rfl)
theorem dX0_isChanged_24 : decode cX0_isChanged 24 = .ok (.invokevirtual 104, 3) := dk_182 0 104 (dk_at dksX0_isChanged_1 0 rfl rfl)
theorem dX0_isChanged_27 : decode cX0_isChanged 27 = .ok (.checkcast 318, 3) := dk_192 1 62 (dk_at dksX0_isChanged_1 3 rfl rfl)
theorem dX0_isChanged_30 : decode cX0_isChanged 30 = .ok (.astore 6, 2) := dk_58 6 (dk_at dksX0_isChanged_1 6 rfl rfl)
theorem dX0_isChanged_32 : decode cX0_isChanged 32 = .ok (.aload_n 1, 1) := dk_43 (dk_at dksX0_isChanged_1 8 rfl rfl)
theorem dX0_isChanged_33 : decode cX0_isChanged 33 = .ok (.aload 6, 2) := dk_25 6 (dk_at dksX0_isChanged_1 9 rfl rfl)
theorem dX0_isChanged_35 : decode cX0_isChanged 35 = .ok (.invokevirtual 326, 3) := dk_182 1 70 (dk_at dksX0_isChanged_1 11 rfl rfl)
theorem dX0_isChanged_38 : decode cX0_isChanged 38 = .ok (.ifCond .ne 6, 3) := dk_154 0 6 (dk_at dksX0_isChanged_1 14 rfl rfl)
theorem dX0_isChanged_41 : decode cX0_isChanged 41 = .ok (.goto 54, 3) := dk_167 0 54 (dk_at dksX0_isChanged_1 17 rfl rfl)
theorem dX0_isChanged_44 : decode cX0_isChanged 44 = .ok (.aload 4, 2) := dk_25 4 (dk_at dksX0_isChanged_1 20 rfl rfl)
theorem dX0_isChanged_46 : decode cX0_isChanged 46 = .ok (.ifnull 45, 3) := dk_198 0 45 (dk_at dksX0_isChanged_2 0 rfl rfl)
theorem dX0_isChanged_49 : decode cX0_isChanged 49 = .ok (.aload 4, 2) := dk_25 4 (dk_at dksX0_isChanged_2 3 rfl rfl)
theorem dX0_isChanged_51 : decode cX0_isChanged 51 = .ok (.getfield 320, 3) := dk_180 1 64 (dk_at dksX0_isChanged_2 5 rfl rfl)
theorem dX0_isChanged_54 : decode cX0_isChanged 54 = .ok (.iload_n 2, 1) := dk_28 (dk_at dksX0_isChanged_2 8 rfl rfl)
theorem dX0_isChanged_55 : decode cX0_isChanged 55 = .ok (.if_icmp .ge 36, 3) := dk_162 0 36 (dk_at dksX0_isChanged_2 9 rfl rfl)
theorem dX0_isChanged_58 : decode cX0_isChanged 58 = .ok (.iload_n 2, 1) := dk_28 (dk_at dksX0_isChanged_2 12 rfl rfl)
theorem dX0_isChanged_59 : decode cX0_isChanged 59 = .ok (.aload 6, 2) := dk_25 6 (dk_at dksX0_isChanged_2 13 rfl rfl)
theorem dX0_isChanged_61 : decode cX0_isChanged 61 = .ok (.getfield 320, 3) := dk_180 1 64 (dk_at dksX0_isChanged_2 15 rfl rfl)
theorem dX0_isChanged_64 : decode cX0_isChanged 64 = .ok (.if_icmp .ge 27, 3) := dk_162 0 27 (dk_at dksX0_isChanged_2 18 rfl rfl)
theorem dX0_isChanged_67 : decode cX0_isChanged 67 = .ok (.aload 4, 2) := dk_25 4 (dk_at dksX0_isChanged_2 21 rfl rfl)
theorem dX0_isChanged_69 : decode cX0_isChanged 69 = .ok (.getfield 322, 3) := dk_180 1 66 (dk_at dksX0_isChanged_3 0 rfl rfl)
theorem dX0_isChanged_72 : decode cX0_isChanged 72 = .ok (.iload_n 3, 1) := dk_29 (dk_at dksX0_isChanged_3 3 rfl rfl)
theorem dX0_isChanged_73 : decode cX0_isChanged 73 = .ok (.if_icmp .eq 16, 3) := dk_159 0 16 (dk_at dksX0_isChanged_3 4 rfl rfl)
theorem dX0_isChanged_76 : decode cX0_isChanged 76 = .ok (.aload 6, 2) := dk_25 6 (dk_at dksX0_isChanged_3 7 rfl rfl)
theorem dX0_isChanged_78 : decode cX0_isChanged 78 = .ok (.getfield 322, 3) := dk_180 1 66 (dk_at dksX0_isChanged_3 9 rfl rfl)
theorem dX0_isChanged_81 : decode cX0_isChanged 81 = .ok (.iload_n 3, 1) := dk_29 (dk_at dksX0_isChanged_3 12 rfl rfl)
theorem dX0_isChanged_82 : decode cX0_isChanged 82 = .ok (.if_icmp .ne 7, 3) := dk_160 0 7 (dk_at dksX0_isChanged_3 13 rfl rfl)
theorem dX0_isChanged_85 : decode cX0_isChanged 85 = .ok (.iconst 1, 1) := dk_4 (dk_at dksX0_isChanged_3 16 rfl rfl)
theorem dX0_isChanged_86 : decode cX0_isChanged 86 = .ok (.goto 4, 3) := dk_167 0 4 (dk_at dksX0_isChanged_3 17 rfl rfl)
theorem dX0_isChanged_89 : decode cX0_isChanged 89 = .ok (.iconst 0, 1) := dk_3 (dk_at dksX0_isChanged_3 20 rfl rfl)
theorem dX0_isChanged_90 : decode cX0_isChanged 90 = .ok (.ireturn, 1) := dk_172 (dk_at dksX0_isChanged_3 21 rfl rfl)
theorem dX0_isChanged_91 : decode cX0_isChanged 91 = .ok (.aload 6, 2) := dk_25 6 (dk_at dksX0_isChanged_3 22 rfl rfl)
theorem dX0_isChanged_93 : decode cX0_isChanged 93 = .ok (.astore 4, 2) := dk_58 4 (dk_at dksX0_isChanged_4 0 rfl rfl)
theorem dX0_isChanged_95 : decode cX0_isChanged 95 = .ok (.iinc 5 1, 3) := dk_132 5 1 (dk_at dksX0_isChanged_4 2 rfl rfl)
theorem dX0_isChanged_98 : decode cX0_isChanged 98 = .ok (.goto (-92), 3) := dk_167 255 164 (dk_at dksX0_isChanged_4 5 rfl rfl)
theorem dX0_isChanged_101 : decode cX0_isChanged 101 = .ok (.iconst 0, 1) := dk_3 (dk_at dksX0_isChanged_4 8 rfl rfl)
theorem dX0_isChanged_102 : decode cX0_isChanged 102 = .ok (.ireturn, 1) := dk_172 (dk_at dksX0_isChanged_4 9 rfl rfl)
abbrev cX0_sighting : ByteArray := prog_1_method_60_code
def yX0_sighting : MethodName := ⟨RX0, "sighting", "(II)I"⟩
def dkwX0_sighting_3 : List UInt8 := [167, 0, 17, 28, 6, 160, 0, 11, 42, 45, 182, 1, 143, 167, 0, 4, 2, 172]
abbrev dktX0_sighting_3 : List UInt8 := dkwX0_sighting_3 ++ []
def dkwX0_sighting_2 : List UInt8 := [167, 0, 41, 28, 4, 160, 0, 10, 45, 180, 1, 141, 167, 0, 29, 28, 5, 160, 0, 10, 45, 180, 1, 142]
abbrev dktX0_sighting_2 : List UInt8 := dkwX0_sighting_2 ++ dktX0_sighting_3
def dkwX0_sighting_1 : List UInt8 := [42, 180, 0, 28, 180, 1, 11, 27, 182, 0, 104, 192, 1, 139, 78, 28, 154, 0, 10, 45, 180, 1, 138]
abbrev dktX0_sighting_1 : List UInt8 := dkwX0_sighting_1 ++ dktX0_sighting_2
def dkwX0_sighting_0 : List UInt8 := [27, 133, 9, 42, 180, 0, 28, 180, 1, 11, 182, 0, 100, 4, 100, 133, 184, 0, 96, 154, 0, 5, 2, 172]
abbrev dktX0_sighting_0 : List UInt8 := dkwX0_sighting_0 ++ dktX0_sighting_1
theorem dksX0_sighting_0 : cX0_sighting.data.toList.drop 0 = dktX0_sighting_0 := by decide +kernel
theorem dksX0_sighting_1 : cX0_sighting.data.toList.drop 24 = dktX0_sighting_1 := dk_seg dksX0_sighting_0 24 rfl rfl
theorem dksX0_sighting_2 : cX0_sighting.data.toList.drop 47 = dktX0_sighting_2 := dk_seg dksX0_sighting_1 23 rfl rfl
theorem dksX0_sighting_3 : cX0_sighting.data.toList.drop 71 = dktX0_sighting_3 := dk_seg dksX0_sighting_2 24 rfl rfl
theorem dX0_sighting_0 : decode cX0_sighting 0 = .ok (.iload_n 1, 1) := dk_27 (dk_at dksX0_sighting_0 0 rfl rfl)
theorem dX0_sighting_1 : decode cX0_sighting 1 = .ok (.i2l, 1) := dk_133 (dk_at dksX0_sighting_0 1 rfl rfl)
theorem dX0_sighting_2 : decode cX0_sighting 2 = .ok (.lconst 0, 1) := dk_9 (dk_at dksX0_sighting_0 2 rfl rfl)
theorem dX0_sighting_3 : decode cX0_sighting 3 = .ok (.aload_n 0, 1) := dk_42 (dk_at dksX0_sighting_0 3 rfl rfl)
theorem dX0_sighting_4 : decode cX0_sighting 4 = .ok (.getfield 28, 3) := dk_180 0 28 (dk_at dksX0_sighting_0 4 rfl rfl)
theorem dX0_sighting_7 : decode cX0_sighting 7 = .ok (.getfield 267, 3) := dk_180 1 11 (dk_at dksX0_sighting_0 7 rfl rfl)
theorem dX0_sighting_10 : decode cX0_sighting 10 = .ok (.invokevirtual 100, 3) := dk_182 0 100 (dk_at dksX0_sighting_0 10 rfl rfl)
theorem dX0_sighting_13 : decode cX0_sighting 13 = .ok (.iconst 1, 1) := dk_4 (dk_at dksX0_sighting_0 13 rfl rfl)
theorem dX0_sighting_14 : decode cX0_sighting 14 = .ok (.isub, 1) := dk_100 (dk_at dksX0_sighting_0 14 rfl rfl)
theorem dX0_sighting_15 : decode cX0_sighting 15 = .ok (.i2l, 1) := dk_133 (dk_at dksX0_sighting_0 15 rfl rfl)
theorem dX0_sighting_16 : decode cX0_sighting 16 = .ok (.invokestatic 96, 3) := dk_184 0 96 (dk_at dksX0_sighting_0 16 rfl rfl)
theorem dX0_sighting_19 : decode cX0_sighting 19 = .ok (.ifCond .ne 5, 3) := dk_154 0 5 (dk_at dksX0_sighting_0 19 rfl rfl)
theorem dX0_sighting_22 : decode cX0_sighting 22 = .ok (.iconst (-1), 1) := dk_2 (dk_at dksX0_sighting_0 22 rfl rfl)
theorem dX0_sighting_23 : decode cX0_sighting 23 = .ok (.ireturn, 1) := dk_172 (dk_at dksX0_sighting_0 23 rfl rfl)
theorem dX0_sighting_24 : decode cX0_sighting 24 = .ok (.aload_n 0, 1) := dk_42 (dk_at dksX0_sighting_1 0 rfl rfl)
theorem dX0_sighting_25 : decode cX0_sighting 25 = .ok (.getfield 28, 3) := dk_180 0 28 (dk_at dksX0_sighting_1 1 rfl rfl)
theorem dX0_sighting_28 : decode cX0_sighting 28 = .ok (.getfield 267, 3) := dk_180 1 11 (dk_at dksX0_sighting_1 4 rfl rfl)
theorem dX0_sighting_31 : decode cX0_sighting 31 = .ok (.iload_n 1, 1) := dk_27 (dk_at dksX0_sighting_1 7 rfl rfl)
theorem dX0_sighting_32 : decode cX0_sighting 32 = .ok (.invokevirtual 104, 3) := dk_182 0 104 (dk_at dksX0_sighting_1 8 rfl rfl)
theorem dX0_sighting_35 : decode cX0_sighting 35 = .ok (.checkcast 395, 3) := dk_192 1 139 (dk_at dksX0_sighting_1 11 rfl rfl)
theorem dX0_sighting_38 : decode cX0_sighting 38 = .ok (.astore_n 3, 1) := dk_78 (dk_at dksX0_sighting_1 14 rfl rfl)
theorem dX0_sighting_39 : decode cX0_sighting 39 = .ok (.iload_n 2, 1) := dk_28 (dk_at dksX0_sighting_1 15 rfl rfl)
theorem dX0_sighting_40 : decode cX0_sighting 40 = .ok (.ifCond .ne 10, 3) := dk_154 0 10 (dk_at dksX0_sighting_1 16 rfl rfl)
theorem dX0_sighting_43 : decode cX0_sighting 43 = .ok (.aload_n 3, 1) := dk_45 (dk_at dksX0_sighting_1 19 rfl rfl)
theorem dX0_sighting_44 : decode cX0_sighting 44 = .ok (.getfield 394, 3) := dk_180 1 138 (dk_at dksX0_sighting_1 20 rfl rfl)
theorem dX0_sighting_47 : decode cX0_sighting 47 = .ok (.goto 41, 3) := dk_167 0 41 (dk_at dksX0_sighting_2 0 rfl rfl)
theorem dX0_sighting_50 : decode cX0_sighting 50 = .ok (.iload_n 2, 1) := dk_28 (dk_at dksX0_sighting_2 3 rfl rfl)
theorem dX0_sighting_51 : decode cX0_sighting 51 = .ok (.iconst 1, 1) := dk_4 (dk_at dksX0_sighting_2 4 rfl rfl)
theorem dX0_sighting_52 : decode cX0_sighting 52 = .ok (.if_icmp .ne 10, 3) := dk_160 0 10 (dk_at dksX0_sighting_2 5 rfl rfl)
theorem dX0_sighting_55 : decode cX0_sighting 55 = .ok (.aload_n 3, 1) := dk_45 (dk_at dksX0_sighting_2 8 rfl rfl)
theorem dX0_sighting_56 : decode cX0_sighting 56 = .ok (.getfield 397, 3) := dk_180 1 141 (dk_at dksX0_sighting_2 9 rfl rfl)
theorem dX0_sighting_59 : decode cX0_sighting 59 = .ok (.goto 29, 3) := dk_167 0 29 (dk_at dksX0_sighting_2 12 rfl rfl)
theorem dX0_sighting_62 : decode cX0_sighting 62 = .ok (.iload_n 2, 1) := dk_28 (dk_at dksX0_sighting_2 15 rfl rfl)
theorem dX0_sighting_63 : decode cX0_sighting 63 = .ok (.iconst 2, 1) := dk_5 (dk_at dksX0_sighting_2 16 rfl rfl)
theorem dX0_sighting_64 : decode cX0_sighting 64 = .ok (.if_icmp .ne 10, 3) := dk_160 0 10 (dk_at dksX0_sighting_2 17 rfl rfl)
theorem dX0_sighting_67 : decode cX0_sighting 67 = .ok (.aload_n 3, 1) := dk_45 (dk_at dksX0_sighting_2 20 rfl rfl)
theorem dX0_sighting_68 : decode cX0_sighting 68 = .ok (.getfield 398, 3) := dk_180 1 142 (dk_at dksX0_sighting_2 21 rfl rfl)
theorem dX0_sighting_71 : decode cX0_sighting 71 = .ok (.goto 17, 3) := dk_167 0 17 (dk_at dksX0_sighting_3 0 rfl rfl)
theorem dX0_sighting_74 : decode cX0_sighting 74 = .ok (.iload_n 2, 1) := dk_28 (dk_at dksX0_sighting_3 3 rfl rfl)
theorem dX0_sighting_75 : decode cX0_sighting 75 = .ok (.iconst 3, 1) := dk_6 (dk_at dksX0_sighting_3 4 rfl rfl)
theorem dX0_sighting_76 : decode cX0_sighting 76 = .ok (.if_icmp .ne 11, 3) := dk_160 0 11 (dk_at dksX0_sighting_3 5 rfl rfl)
theorem dX0_sighting_79 : decode cX0_sighting 79 = .ok (.aload_n 0, 1) := dk_42 (dk_at dksX0_sighting_3 8 rfl rfl)
theorem dX0_sighting_80 : decode cX0_sighting 80 = .ok (.aload_n 3, 1) := dk_45 (dk_at dksX0_sighting_3 9 rfl rfl)
theorem dX0_sighting_81 : decode cX0_sighting 81 = .ok (.invokevirtual 399, 3) := dk_182 1 143 (dk_at dksX0_sighting_3 10 rfl rfl)
theorem dX0_sighting_84 : decode cX0_sighting 84 = .ok (.goto 4, 3) := dk_167 0 4 (dk_at dksX0_sighting_3 13 rfl rfl)
theorem dX0_sighting_87 : decode cX0_sighting 87 = .ok (.iconst (-1), 1) := dk_2 (dk_at dksX0_sighting_3 16 rfl rfl)
theorem dX0_sighting_88 : decode cX0_sighting 88 = .ok (.ireturn, 1) := dk_172 (dk_at dksX0_sighting_3 17 rfl rfl)
abbrev cX0_explained : ByteArray := prog_1_method_59_code
def yX0_explained : MethodName := ⟨RX0, "explained", "(LToldTracks$Sighting;)I"⟩
def dkwX0_explained_3 : List UInt8 := [132, 3, 1, 167, 255, 190, 28, 172]
abbrev dktX0_explained_3 : List UInt8 := dkwX0_explained_3 ++ []
def dkwX0_explained_2 : List UInt8 := [182, 1, 31, 43, 180, 1, 141, 43, 180, 1, 142, 182, 1, 82, 153, 0, 9, 28, 4, 29, 120, 128, 61]
abbrev dktX0_explained_2 : List UInt8 := dkwX0_explained_2 ++ dktX0_explained_3
def dkwX0_explained_1 : List UInt8 := [180, 0, 163, 29, 182, 0, 104, 192, 0, 178, 180, 1, 38, 43, 180, 1, 138, 160, 0, 28, 42, 29]
abbrev dktX0_explained_1 : List UInt8 := dkwX0_explained_1 ++ dktX0_explained_2
def dkwX0_explained_0 : List UInt8 := [3, 61, 3, 62, 29, 42, 180, 0, 20, 180, 0, 163, 182, 0, 100, 162, 0, 58, 42, 180, 0, 20]
abbrev dktX0_explained_0 : List UInt8 := dkwX0_explained_0 ++ dktX0_explained_1
theorem dksX0_explained_0 : cX0_explained.data.toList.drop 0 = dktX0_explained_0 := by decide +kernel
theorem dksX0_explained_1 : cX0_explained.data.toList.drop 22 = dktX0_explained_1 := dk_seg dksX0_explained_0 22 rfl rfl
theorem dksX0_explained_2 : cX0_explained.data.toList.drop 44 = dktX0_explained_2 := dk_seg dksX0_explained_1 22 rfl rfl
theorem dksX0_explained_3 : cX0_explained.data.toList.drop 67 = dktX0_explained_3 := dk_seg dksX0_explained_2 23 rfl rfl
theorem dX0_explained_0 : decode cX0_explained 0 = .ok (.iconst 0, 1) := dk_3 (dk_at dksX0_explained_0 0 rfl rfl)
theorem dX0_explained_1 : decode cX0_explained 1 = .ok (.istore_n 2, 1) := dk_61 (dk_at dksX0_explained_0 1 rfl rfl)
theorem dX0_explained_2 : decode cX0_explained 2 = .ok (.iconst 0, 1) := dk_3 (dk_at dksX0_explained_0 2 rfl rfl)
theorem dX0_explained_3 : decode cX0_explained 3 = .ok (.istore_n 3, 1) := dk_62 (dk_at dksX0_explained_0 3 rfl rfl)
theorem dX0_explained_4 : decode cX0_explained 4 = .ok (.iload_n 3, 1) := dk_29 (dk_at dksX0_explained_0 4 rfl rfl)
theorem dX0_explained_5 : decode cX0_explained 5 = .ok (.aload_n 0, 1) := dk_42 (dk_at dksX0_explained_0 5 rfl rfl)
theorem dX0_explained_6 : decode cX0_explained 6 = .ok (.getfield 20, 3) := dk_180 0 20 (dk_at dksX0_explained_0 6 rfl rfl)
theorem dX0_explained_9 : decode cX0_explained 9 = .ok (.getfield 163, 3) := dk_180 0 163 (dk_at dksX0_explained_0 9 rfl rfl)
theorem dX0_explained_12 : decode cX0_explained 12 = .ok (.invokevirtual 100, 3) := dk_182 0 100 (dk_at dksX0_explained_0 12 rfl rfl)
theorem dX0_explained_15 : decode cX0_explained 15 = .ok (.if_icmp .ge 58, 3) := dk_162 0 58 (dk_at dksX0_explained_0 15 rfl rfl)
theorem dX0_explained_18 : decode cX0_explained 18 = .ok (.aload_n 0, 1) := dk_42 (dk_at dksX0_explained_0 18 rfl rfl)
theorem dX0_explained_19 : decode cX0_explained 19 = .ok (.getfield 20, 3) := dk_180 0 20 (dk_at dksX0_explained_0 19 rfl rfl)
theorem dX0_explained_22 : decode cX0_explained 22 = .ok (.getfield 163, 3) := dk_180 0 163 (dk_at dksX0_explained_1 0 rfl rfl)
theorem dX0_explained_25 : decode cX0_explained 25 = .ok (.iload_n 3, 1) := dk_29 (dk_at dksX0_explained_1 3 rfl rfl)
theorem dX0_explained_26 : decode cX0_explained 26 = .ok (.invokevirtual 104, 3) := dk_182 0 104 (dk_at dksX0_explained_1 4 rfl rfl)
theorem dX0_explained_29 : decode cX0_explained 29 = .ok (.checkcast 178, 3) := dk_192 0 178 (dk_at dksX0_explained_1 7 rfl rfl)
theorem dX0_explained_32 : decode cX0_explained 32 = .ok (.getfield 294, 3) := dk_180 1 38 (dk_at dksX0_explained_1 10 rfl rfl)
theorem dX0_explained_35 : decode cX0_explained 35 = .ok (.aload_n 1, 1) := dk_43 (dk_at dksX0_explained_1 13 rfl rfl)
theorem dX0_explained_36 : decode cX0_explained 36 = .ok (.getfield 394, 3) := dk_180 1 138 (dk_at dksX0_explained_1 14 rfl rfl)
theorem dX0_explained_39 : decode cX0_explained 39 = .ok (.if_icmp .ne 28, 3) := dk_160 0 28 (dk_at dksX0_explained_1 17 rfl rfl)
theorem dX0_explained_42 : decode cX0_explained 42 = .ok (.aload_n 0, 1) := dk_42 (dk_at dksX0_explained_1 20 rfl rfl)
theorem dX0_explained_43 : decode cX0_explained 43 = .ok (.iload_n 3, 1) := dk_29 (dk_at dksX0_explained_1 21 rfl rfl)
theorem dX0_explained_44 : decode cX0_explained 44 = .ok (.invokevirtual 287, 3) := dk_182 1 31 (dk_at dksX0_explained_2 0 rfl rfl)
theorem dX0_explained_47 : decode cX0_explained 47 = .ok (.aload_n 1, 1) := dk_43 (dk_at dksX0_explained_2 3 rfl rfl)
theorem dX0_explained_48 : decode cX0_explained 48 = .ok (.getfield 397, 3) := dk_180 1 141 (dk_at dksX0_explained_2 4 rfl rfl)
theorem dX0_explained_51 : decode cX0_explained 51 = .ok (.aload_n 1, 1) := dk_43 (dk_at dksX0_explained_2 7 rfl rfl)
theorem dX0_explained_52 : decode cX0_explained 52 = .ok (.getfield 398, 3) := dk_180 1 142 (dk_at dksX0_explained_2 8 rfl rfl)
theorem dX0_explained_55 : decode cX0_explained 55 = .ok (.invokevirtual 338, 3) := dk_182 1 82 (dk_at dksX0_explained_2 11 rfl rfl)
theorem dX0_explained_58 : decode cX0_explained 58 = .ok (.ifCond .eq 9, 3) := dk_153 0 9 (dk_at dksX0_explained_2 14 rfl rfl)
theorem dX0_explained_61 : decode cX0_explained 61 = .ok (.iload_n 2, 1) := dk_28 (dk_at dksX0_explained_2 17 rfl rfl)
theorem dX0_explained_62 : decode cX0_explained 62 = .ok (.iconst 1, 1) := dk_4 (dk_at dksX0_explained_2 18 rfl rfl)
theorem dX0_explained_63 : decode cX0_explained 63 = .ok (.iload_n 3, 1) := dk_29 (dk_at dksX0_explained_2 19 rfl rfl)
theorem dX0_explained_64 : decode cX0_explained 64 = .ok (.ishl, 1) := dk_120 (dk_at dksX0_explained_2 20 rfl rfl)
theorem dX0_explained_65 : decode cX0_explained 65 = .ok (.ior, 1) := dk_128 (dk_at dksX0_explained_2 21 rfl rfl)
theorem dX0_explained_66 : decode cX0_explained 66 = .ok (.istore_n 2, 1) := dk_61 (dk_at dksX0_explained_2 22 rfl rfl)
theorem dX0_explained_67 : decode cX0_explained 67 = .ok (.iinc 3 1, 3) := dk_132 3 1 (dk_at dksX0_explained_3 0 rfl rfl)
theorem dX0_explained_70 : decode cX0_explained 70 = .ok (.goto (-66), 3) := dk_167 255 190 (dk_at dksX0_explained_3 3 rfl rfl)
theorem dX0_explained_73 : decode cX0_explained 73 = .ok (.iload_n 2, 1) := dk_28 (dk_at dksX0_explained_3 6 rfl rfl)
theorem dX0_explained_74 : decode cX0_explained 74 = .ok (.ireturn, 1) := dk_172 (dk_at dksX0_explained_3 7 rfl rfl)
abbrev cX0_strange : ByteArray := prog_1_method_61_code
def yX0_strange : MethodName := ⟨RX0, "strange", "()I"⟩
def dkwX0_strange_2 : List UInt8 := [167, 255, 215, 27, 172]
abbrev dktX0_strange_2 : List UInt8 := dkwX0_strange_2 ++ []
def dkwX0_strange_1 : List UInt8 := [180, 1, 11, 28, 182, 0, 104, 192, 1, 139, 182, 1, 143, 154, 0, 6, 132, 1, 1, 132, 2, 1]
abbrev dktX0_strange_1 : List UInt8 := dkwX0_strange_1 ++ dktX0_strange_2
def dkwX0_strange_0 : List UInt8 := [3, 60, 3, 61, 28, 42, 180, 0, 28, 180, 1, 11, 182, 0, 100, 162, 0, 33, 42, 42, 180, 0, 28]
abbrev dktX0_strange_0 : List UInt8 := dkwX0_strange_0 ++ dktX0_strange_1
theorem dksX0_strange_0 : cX0_strange.data.toList.drop 0 = dktX0_strange_0 := by decide +kernel
theorem dksX0_strange_1 : cX0_strange.data.toList.drop 23 = dktX0_strange_1 := dk_seg dksX0_strange_0 23 rfl rfl
theorem dksX0_strange_2 : cX0_strange.data.toList.drop 45 = dktX0_strange_2 := dk_seg dksX0_strange_1 22 rfl rfl
theorem dX0_strange_0 : decode cX0_strange 0 = .ok (.iconst 0, 1) := dk_3 (dk_at dksX0_strange_0 0 rfl rfl)
theorem dX0_strange_1 : decode cX0_strange 1 = .ok (.istore_n 1, 1) := dk_60 (dk_at dksX0_strange_0 1 rfl rfl)
theorem dX0_strange_2 : decode cX0_strange 2 = .ok (.iconst 0, 1) := dk_3 (dk_at dksX0_strange_0 2 rfl rfl)
theorem dX0_strange_3 : decode cX0_strange 3 = .ok (.istore_n 2, 1) := dk_61 (dk_at dksX0_strange_0 3 rfl rfl)
theorem dX0_strange_4 : decode cX0_strange 4 = .ok (.iload_n 2, 1) := dk_28 (dk_at dksX0_strange_0 4 rfl rfl)
theorem dX0_strange_5 : decode cX0_strange 5 = .ok (.aload_n 0, 1) := dk_42 (dk_at dksX0_strange_0 5 rfl rfl)
theorem dX0_strange_6 : decode cX0_strange 6 = .ok (.getfield 28, 3) := dk_180 0 28 (dk_at dksX0_strange_0 6 rfl rfl)
theorem dX0_strange_9 : decode cX0_strange 9 = .ok (.getfield 267, 3) := dk_180 1 11 (dk_at dksX0_strange_0 9 rfl rfl)
theorem dX0_strange_12 : decode cX0_strange 12 = .ok (.invokevirtual 100, 3) := dk_182 0 100 (dk_at dksX0_strange_0 12 rfl rfl)
theorem dX0_strange_15 : decode cX0_strange 15 = .ok (.if_icmp .ge 33, 3) := dk_162 0 33 (dk_at dksX0_strange_0 15 rfl rfl)
theorem dX0_strange_18 : decode cX0_strange 18 = .ok (.aload_n 0, 1) := dk_42 (dk_at dksX0_strange_0 18 rfl rfl)
theorem dX0_strange_19 : decode cX0_strange 19 = .ok (.aload_n 0, 1) := dk_42 (dk_at dksX0_strange_0 19 rfl rfl)
theorem dX0_strange_20 : decode cX0_strange 20 = .ok (.getfield 28, 3) := dk_180 0 28 (dk_at dksX0_strange_0 20 rfl rfl)
theorem dX0_strange_23 : decode cX0_strange 23 = .ok (.getfield 267, 3) := dk_180 1 11 (dk_at dksX0_strange_1 0 rfl rfl)
theorem dX0_strange_26 : decode cX0_strange 26 = .ok (.iload_n 2, 1) := dk_28 (dk_at dksX0_strange_1 3 rfl rfl)
theorem dX0_strange_27 : decode cX0_strange 27 = .ok (.invokevirtual 104, 3) := dk_182 0 104 (dk_at dksX0_strange_1 4 rfl rfl)
theorem dX0_strange_30 : decode cX0_strange 30 = .ok (.checkcast 395, 3) := dk_192 1 139 (dk_at dksX0_strange_1 7 rfl rfl)
theorem dX0_strange_33 : decode cX0_strange 33 = .ok (.invokevirtual 399, 3) := dk_182 1 143 (dk_at dksX0_strange_1 10 rfl rfl)
theorem dX0_strange_36 : decode cX0_strange 36 = .ok (.ifCond .ne 6, 3) := dk_154 0 6 (dk_at dksX0_strange_1 13 rfl rfl)
theorem dX0_strange_39 : decode cX0_strange 39 = .ok (.iinc 1 1, 3) := dk_132 1 1 (dk_at dksX0_strange_1 16 rfl rfl)
theorem dX0_strange_42 : decode cX0_strange 42 = .ok (.iinc 2 1, 3) := dk_132 2 1 (dk_at dksX0_strange_1 19 rfl rfl)
theorem dX0_strange_45 : decode cX0_strange 45 = .ok (.goto (-41), 3) := dk_167 255 215 (dk_at dksX0_strange_2 0 rfl rfl)
theorem dX0_strange_48 : decode cX0_strange 48 = .ok (.iload_n 1, 1) := dk_27 (dk_at dksX0_strange_2 3 rfl rfl)
theorem dX0_strange_49 : decode cX0_strange 49 = .ok (.ireturn, 1) := dk_172 (dk_at dksX0_strange_2 4 rfl rfl)
abbrev cX0_doubted : ByteArray := prog_1_method_62_code
def yX0_doubted : MethodName := ⟨RX0, "doubted", "()I"⟩
def dkwX0_doubted_5 : List UInt8 := [182, 1, 116, 153, 0, 9, 28, 4, 29, 120, 128, 61, 132, 3, 1, 167, 255, 199, 28, 172]
abbrev dktX0_doubted_5 : List UInt8 := dkwX0_doubted_5 ++ []
def dkwX0_doubted_4 : List UInt8 := [180, 0, 163, 29, 182, 0, 104, 192, 0, 178, 180, 1, 38, 122, 4, 126, 4, 160, 0, 18, 42, 29, 3]
abbrev dktX0_doubted_4 : List UInt8 := dkwX0_doubted_4 ++ dktX0_doubted_5
def dkwX0_doubted_3 : List UInt8 := [167, 255, 196, 3, 62, 29, 42, 180, 0, 20, 180, 0, 163, 182, 0, 100, 162, 0, 49, 27, 42, 180, 0, 20]
abbrev dktX0_doubted_3 : List UInt8 := dkwX0_doubted_3 ++ dktX0_doubted_4
def dkwX0_doubted_2 : List UInt8 := [180, 0, 28, 180, 1, 11, 29, 182, 0, 104, 192, 1, 139, 180, 1, 138, 120, 128, 60, 132, 3, 1]
abbrev dktX0_doubted_2 : List UInt8 := dkwX0_doubted_2 ++ dktX0_doubted_3
def dkwX0_doubted_1 : List UInt8 := [180, 0, 28, 180, 1, 11, 29, 182, 0, 104, 192, 1, 139, 182, 1, 143, 154, 0, 25, 27, 4, 42]
abbrev dktX0_doubted_1 : List UInt8 := dkwX0_doubted_1 ++ dktX0_doubted_2
def dkwX0_doubted_0 : List UInt8 := [3, 60, 3, 61, 3, 62, 29, 42, 180, 0, 28, 180, 1, 11, 182, 0, 100, 162, 0, 52, 42, 42]
abbrev dktX0_doubted_0 : List UInt8 := dkwX0_doubted_0 ++ dktX0_doubted_1
theorem dksX0_doubted_0 : cX0_doubted.data.toList.drop 0 = dktX0_doubted_0 := by decide +kernel
theorem dksX0_doubted_1 : cX0_doubted.data.toList.drop 22 = dktX0_doubted_1 := dk_seg dksX0_doubted_0 22 rfl rfl
theorem dksX0_doubted_2 : cX0_doubted.data.toList.drop 44 = dktX0_doubted_2 := dk_seg dksX0_doubted_1 22 rfl rfl
theorem dksX0_doubted_3 : cX0_doubted.data.toList.drop 66 = dktX0_doubted_3 := dk_seg dksX0_doubted_2 22 rfl rfl
theorem dksX0_doubted_4 : cX0_doubted.data.toList.drop 90 = dktX0_doubted_4 := dk_seg dksX0_doubted_3 24 rfl rfl
theorem dksX0_doubted_5 : cX0_doubted.data.toList.drop 113 = dktX0_doubted_5 := dk_seg dksX0_doubted_4 23 rfl rfl
theorem dX0_doubted_0 : decode cX0_doubted 0 = .ok (.iconst 0, 1) := dk_3 (dk_at dksX0_doubted_0 0 rfl rfl)
theorem dX0_doubted_1 : decode cX0_doubted 1 = .ok (.istore_n 1, 1) := dk_60 (dk_at dksX0_doubted_0 1 rfl rfl)
theorem dX0_doubted_2 : decode cX0_doubted 2 = .ok (.iconst 0, 1) := dk_3 (dk_at dksX0_doubted_0 2 rfl rfl)
theorem dX0_doubted_3 : decode cX0_doubted 3 = .ok (.istore_n 2, 1) := dk_61 (dk_at dksX0_doubted_0 3 rfl rfl)
theorem dX0_doubted_4 : decode cX0_doubted 4 = .ok (.iconst 0, 1) := dk_3 (dk_at dksX0_doubted_0 4 rfl rfl)
theorem dX0_doubted_5 : decode cX0_doubted 5 = .ok (.istore_n 3, 1) := dk_62 (dk_at dksX0_doubted_0 5 rfl rfl)
theorem dX0_doubted_6 : decode cX0_doubted 6 = .ok (.iload_n 3, 1) := dk_29 (dk_at dksX0_doubted_0 6 rfl rfl)
theorem dX0_doubted_7 : decode cX0_doubted 7 = .ok (.aload_n 0, 1) := dk_42 (dk_at dksX0_doubted_0 7 rfl rfl)
theorem dX0_doubted_8 : decode cX0_doubted 8 = .ok (.getfield 28, 3) := dk_180 0 28 (dk_at dksX0_doubted_0 8 rfl rfl)
theorem dX0_doubted_11 : decode cX0_doubted 11 = .ok (.getfield 267, 3) := dk_180 1 11 (dk_at dksX0_doubted_0 11 rfl rfl)
theorem dX0_doubted_14 : decode cX0_doubted 14 = .ok (.invokevirtual 100, 3) := dk_182 0 100 (dk_at dksX0_doubted_0 14 rfl rfl)
theorem dX0_doubted_17 : decode cX0_doubted 17 = .ok (.if_icmp .ge 52, 3) := dk_162 0 52 (dk_at dksX0_doubted_0 17 rfl rfl)
theorem dX0_doubted_20 : decode cX0_doubted 20 = .ok (.aload_n 0, 1) := dk_42 (dk_at dksX0_doubted_0 20 rfl rfl)
theorem dX0_doubted_21 : decode cX0_doubted 21 = .ok (.aload_n 0, 1) := dk_42 (dk_at dksX0_doubted_0 21 rfl rfl)
theorem dX0_doubted_22 : decode cX0_doubted 22 = .ok (.getfield 28, 3) := dk_180 0 28 (dk_at dksX0_doubted_1 0 rfl rfl)
theorem dX0_doubted_25 : decode cX0_doubted 25 = .ok (.getfield 267, 3) := dk_180 1 11 (dk_at dksX0_doubted_1 3 rfl rfl)
theorem dX0_doubted_28 : decode cX0_doubted 28 = .ok (.iload_n 3, 1) := dk_29 (dk_at dksX0_doubted_1 6 rfl rfl)
theorem dX0_doubted_29 : decode cX0_doubted 29 = .ok (.invokevirtual 104, 3) := dk_182 0 104 (dk_at dksX0_doubted_1 7 rfl rfl)
theorem dX0_doubted_32 : decode cX0_doubted 32 = .ok (.checkcast 395, 3) := dk_192 1 139 (dk_at dksX0_doubted_1 10 rfl rfl)
theorem dX0_doubted_35 : decode cX0_doubted 35 = .ok (.invokevirtual 399, 3) := dk_182 1 143 (dk_at dksX0_doubted_1 13 rfl rfl)
theorem dX0_doubted_38 : decode cX0_doubted 38 = .ok (.ifCond .ne 25, 3) := dk_154 0 25 (dk_at dksX0_doubted_1 16 rfl rfl)
theorem dX0_doubted_41 : decode cX0_doubted 41 = .ok (.iload_n 1, 1) := dk_27 (dk_at dksX0_doubted_1 19 rfl rfl)
theorem dX0_doubted_42 : decode cX0_doubted 42 = .ok (.iconst 1, 1) := dk_4 (dk_at dksX0_doubted_1 20 rfl rfl)
theorem dX0_doubted_43 : decode cX0_doubted 43 = .ok (.aload_n 0, 1) := dk_42 (dk_at dksX0_doubted_1 21 rfl rfl)
theorem dX0_doubted_44 : decode cX0_doubted 44 = .ok (.getfield 28, 3) := dk_180 0 28 (dk_at dksX0_doubted_2 0 rfl rfl)
theorem dX0_doubted_47 : decode cX0_doubted 47 = .ok (.getfield 267, 3) := dk_180 1 11 (dk_at dksX0_doubted_2 3 rfl rfl)
theorem dX0_doubted_50 : decode cX0_doubted 50 = .ok (.iload_n 3, 1) := dk_29 (dk_at dksX0_doubted_2 6 rfl rfl)
theorem dX0_doubted_51 : decode cX0_doubted 51 = .ok (.invokevirtual 104, 3) := dk_182 0 104 (dk_at dksX0_doubted_2 7 rfl rfl)
theorem dX0_doubted_54 : decode cX0_doubted 54 = .ok (.checkcast 395, 3) := dk_192 1 139 (dk_at dksX0_doubted_2 10 rfl rfl)
theorem dX0_doubted_57 : decode cX0_doubted 57 = .ok (.getfield 394, 3) := dk_180 1 138 (dk_at dksX0_doubted_2 13 rfl rfl)
theorem dX0_doubted_60 : decode cX0_doubted 60 = .ok (.ishl, 1) := dk_120 (dk_at dksX0_doubted_2 16 rfl rfl)
theorem dX0_doubted_61 : decode cX0_doubted 61 = .ok (.ior, 1) := dk_128 (dk_at dksX0_doubted_2 17 rfl rfl)
theorem dX0_doubted_62 : decode cX0_doubted 62 = .ok (.istore_n 1, 1) := dk_60 (dk_at dksX0_doubted_2 18 rfl rfl)
theorem dX0_doubted_63 : decode cX0_doubted 63 = .ok (.iinc 3 1, 3) := dk_132 3 1 (dk_at dksX0_doubted_2 19 rfl rfl)
theorem dX0_doubted_66 : decode cX0_doubted 66 = .ok (.goto (-60), 3) := dk_167 255 196 (dk_at dksX0_doubted_3 0 rfl rfl)
theorem dX0_doubted_69 : decode cX0_doubted 69 = .ok (.iconst 0, 1) := dk_3 (dk_at dksX0_doubted_3 3 rfl rfl)
theorem dX0_doubted_70 : decode cX0_doubted 70 = .ok (.istore_n 3, 1) := dk_62 (dk_at dksX0_doubted_3 4 rfl rfl)
theorem dX0_doubted_71 : decode cX0_doubted 71 = .ok (.iload_n 3, 1) := dk_29 (dk_at dksX0_doubted_3 5 rfl rfl)
theorem dX0_doubted_72 : decode cX0_doubted 72 = .ok (.aload_n 0, 1) := dk_42 (dk_at dksX0_doubted_3 6 rfl rfl)
theorem dX0_doubted_73 : decode cX0_doubted 73 = .ok (.getfield 20, 3) := dk_180 0 20 (dk_at dksX0_doubted_3 7 rfl rfl)
theorem dX0_doubted_76 : decode cX0_doubted 76 = .ok (.getfield 163, 3) := dk_180 0 163 (dk_at dksX0_doubted_3 10 rfl rfl)
theorem dX0_doubted_79 : decode cX0_doubted 79 = .ok (.invokevirtual 100, 3) := dk_182 0 100 (dk_at dksX0_doubted_3 13 rfl rfl)
theorem dX0_doubted_82 : decode cX0_doubted 82 = .ok (.if_icmp .ge 49, 3) := dk_162 0 49 (dk_at dksX0_doubted_3 16 rfl rfl)
theorem dX0_doubted_85 : decode cX0_doubted 85 = .ok (.iload_n 1, 1) := dk_27 (dk_at dksX0_doubted_3 19 rfl rfl)
theorem dX0_doubted_86 : decode cX0_doubted 86 = .ok (.aload_n 0, 1) := dk_42 (dk_at dksX0_doubted_3 20 rfl rfl)
theorem dX0_doubted_87 : decode cX0_doubted 87 = .ok (.getfield 20, 3) := dk_180 0 20 (dk_at dksX0_doubted_3 21 rfl rfl)
theorem dX0_doubted_90 : decode cX0_doubted 90 = .ok (.getfield 163, 3) := dk_180 0 163 (dk_at dksX0_doubted_4 0 rfl rfl)
theorem dX0_doubted_93 : decode cX0_doubted 93 = .ok (.iload_n 3, 1) := dk_29 (dk_at dksX0_doubted_4 3 rfl rfl)
theorem dX0_doubted_94 : decode cX0_doubted 94 = .ok (.invokevirtual 104, 3) := dk_182 0 104 (dk_at dksX0_doubted_4 4 rfl rfl)
theorem dX0_doubted_97 : decode cX0_doubted 97 = .ok (.checkcast 178, 3) := dk_192 0 178 (dk_at dksX0_doubted_4 7 rfl rfl)
theorem dX0_doubted_100 : decode cX0_doubted 100 = .ok (.getfield 294, 3) := dk_180 1 38 (dk_at dksX0_doubted_4 10 rfl rfl)
theorem dX0_doubted_103 : decode cX0_doubted 103 = .ok (.ishr, 1) := dk_122 (dk_at dksX0_doubted_4 13 rfl rfl)
theorem dX0_doubted_104 : decode cX0_doubted 104 = .ok (.iconst 1, 1) := dk_4 (dk_at dksX0_doubted_4 14 rfl rfl)
theorem dX0_doubted_105 : decode cX0_doubted 105 = .ok (.iand, 1) := dk_126 (dk_at dksX0_doubted_4 15 rfl rfl)
theorem dX0_doubted_106 : decode cX0_doubted 106 = .ok (.iconst 1, 1) := dk_4 (dk_at dksX0_doubted_4 16 rfl rfl)
theorem dX0_doubted_107 : decode cX0_doubted 107 = .ok (.if_icmp .ne 18, 3) := dk_160 0 18 (dk_at dksX0_doubted_4 17 rfl rfl)
theorem dX0_doubted_110 : decode cX0_doubted 110 = .ok (.aload_n 0, 1) := dk_42 (dk_at dksX0_doubted_4 20 rfl rfl)
theorem dX0_doubted_111 : decode cX0_doubted 111 = .ok (.iload_n 3, 1) := dk_29 (dk_at dksX0_doubted_4 21 rfl rfl)
theorem dX0_doubted_112 : decode cX0_doubted 112 = .ok (.iconst 0, 1) := dk_3 (dk_at dksX0_doubted_4 22 rfl rfl)
theorem dX0_doubted_113 : decode cX0_doubted 113 = .ok (.invokevirtual 372, 3) := dk_182 1 116 (dk_at dksX0_doubted_5 0 rfl rfl)
theorem dX0_doubted_116 : decode cX0_doubted 116 = .ok (.ifCond .eq 9, 3) := dk_153 0 9 (dk_at dksX0_doubted_5 3 rfl rfl)
theorem dX0_doubted_119 : decode cX0_doubted 119 = .ok (.iload_n 2, 1) := dk_28 (dk_at dksX0_doubted_5 6 rfl rfl)
theorem dX0_doubted_120 : decode cX0_doubted 120 = .ok (.iconst 1, 1) := dk_4 (dk_at dksX0_doubted_5 7 rfl rfl)
theorem dX0_doubted_121 : decode cX0_doubted 121 = .ok (.iload_n 3, 1) := dk_29 (dk_at dksX0_doubted_5 8 rfl rfl)
theorem dX0_doubted_122 : decode cX0_doubted 122 = .ok (.ishl, 1) := dk_120 (dk_at dksX0_doubted_5 9 rfl rfl)
theorem dX0_doubted_123 : decode cX0_doubted 123 = .ok (.ior, 1) := dk_128 (dk_at dksX0_doubted_5 10 rfl rfl)
theorem dX0_doubted_124 : decode cX0_doubted 124 = .ok (.istore_n 2, 1) := dk_61 (dk_at dksX0_doubted_5 11 rfl rfl)
theorem dX0_doubted_125 : decode cX0_doubted 125 = .ok (.iinc 3 1, 3) := dk_132 3 1 (dk_at dksX0_doubted_5 12 rfl rfl)
theorem dX0_doubted_128 : decode cX0_doubted 128 = .ok (.goto (-57), 3) := dk_167 255 199 (dk_at dksX0_doubted_5 15 rfl rfl)
theorem dX0_doubted_131 : decode cX0_doubted 131 = .ok (.iload_n 2, 1) := dk_28 (dk_at dksX0_doubted_5 18 rfl rfl)
theorem dX0_doubted_132 : decode cX0_doubted 132 = .ok (.ireturn, 1) := dk_172 (dk_at dksX0_doubted_5 19 rfl rfl)
abbrev cX0_gaps : ByteArray := prog_1_method_63_code
def yX0_gaps : MethodName := ⟨RX0, "gaps", "(II)I"⟩
def dkwX0_gaps_1 : List UInt8 := [182, 1, 31, 28, 154, 0, 7, 4, 167, 0, 4, 3, 182, 1, 101, 172]
abbrev dktX0_gaps_1 : List UInt8 := dkwX0_gaps_1 ++ []
def dkwX0_gaps_0 : List UInt8 := [42, 27, 182, 1, 22, 153, 0, 13, 28, 133, 9, 10, 184, 0, 96, 154, 0, 7, 2, 167, 0, 20, 42, 27]
abbrev dktX0_gaps_0 : List UInt8 := dkwX0_gaps_0 ++ dktX0_gaps_1
theorem dksX0_gaps_0 : cX0_gaps.data.toList.drop 0 = dktX0_gaps_0 := by decide +kernel
theorem dksX0_gaps_1 : cX0_gaps.data.toList.drop 24 = dktX0_gaps_1 := dk_seg dksX0_gaps_0 24 rfl rfl
theorem dX0_gaps_0 : decode cX0_gaps 0 = .ok (.aload_n 0, 1) := dk_42 (dk_at dksX0_gaps_0 0 rfl rfl)
theorem dX0_gaps_1 : decode cX0_gaps 1 = .ok (.iload_n 1, 1) := dk_27 (dk_at dksX0_gaps_0 1 rfl rfl)
theorem dX0_gaps_2 : decode cX0_gaps 2 = .ok (.invokevirtual 278, 3) := dk_182 1 22 (dk_at dksX0_gaps_0 2 rfl rfl)
theorem dX0_gaps_5 : decode cX0_gaps 5 = .ok (.ifCond .eq 13, 3) := dk_153 0 13 (dk_at dksX0_gaps_0 5 rfl rfl)
theorem dX0_gaps_8 : decode cX0_gaps 8 = .ok (.iload_n 2, 1) := dk_28 (dk_at dksX0_gaps_0 8 rfl rfl)
theorem dX0_gaps_9 : decode cX0_gaps 9 = .ok (.i2l, 1) := dk_133 (dk_at dksX0_gaps_0 9 rfl rfl)
theorem dX0_gaps_10 : decode cX0_gaps 10 = .ok (.lconst 0, 1) := dk_9 (dk_at dksX0_gaps_0 10 rfl rfl)
theorem dX0_gaps_11 : decode cX0_gaps 11 = .ok (.lconst 1, 1) := dk_10 (dk_at dksX0_gaps_0 11 rfl rfl)
theorem dX0_gaps_12 : decode cX0_gaps 12 = .ok (.invokestatic 96, 3) := dk_184 0 96 (dk_at dksX0_gaps_0 12 rfl rfl)
theorem dX0_gaps_15 : decode cX0_gaps 15 = .ok (.ifCond .ne 7, 3) := dk_154 0 7 (dk_at dksX0_gaps_0 15 rfl rfl)
theorem dX0_gaps_18 : decode cX0_gaps 18 = .ok (.iconst (-1), 1) := dk_2 (dk_at dksX0_gaps_0 18 rfl rfl)
theorem dX0_gaps_19 : decode cX0_gaps 19 = .ok (.goto 20, 3) := dk_167 0 20 (dk_at dksX0_gaps_0 19 rfl rfl)
theorem dX0_gaps_22 : decode cX0_gaps 22 = .ok (.aload_n 0, 1) := dk_42 (dk_at dksX0_gaps_0 22 rfl rfl)
theorem dX0_gaps_23 : decode cX0_gaps 23 = .ok (.iload_n 1, 1) := dk_27 (dk_at dksX0_gaps_0 23 rfl rfl)
theorem dX0_gaps_24 : decode cX0_gaps 24 = .ok (.invokevirtual 287, 3) := dk_182 1 31 (dk_at dksX0_gaps_1 0 rfl rfl)
theorem dX0_gaps_27 : decode cX0_gaps 27 = .ok (.iload_n 2, 1) := dk_28 (dk_at dksX0_gaps_1 3 rfl rfl)
theorem dX0_gaps_28 : decode cX0_gaps 28 = .ok (.ifCond .ne 7, 3) := dk_154 0 7 (dk_at dksX0_gaps_1 4 rfl rfl)
theorem dX0_gaps_31 : decode cX0_gaps 31 = .ok (.iconst 1, 1) := dk_4 (dk_at dksX0_gaps_1 7 rfl rfl)
theorem dX0_gaps_32 : decode cX0_gaps 32 = .ok (.goto 4, 3) := dk_167 0 4 (dk_at dksX0_gaps_1 8 rfl rfl)
theorem dX0_gaps_35 : decode cX0_gaps 35 = .ok (.iconst 0, 1) := dk_3 (dk_at dksX0_gaps_1 11 rfl rfl)
theorem dX0_gaps_36 : decode cX0_gaps 36 = .ok (.invokevirtual 357, 3) := dk_182 1 101 (dk_at dksX0_gaps_1 12 rfl rfl)
theorem dX0_gaps_39 : decode cX0_gaps 39 = .ok (.ireturn, 1) := dk_172 (dk_at dksX0_gaps_1 15 rfl rfl)
abbrev cX0_chance : ByteArray := prog_1_method_65_code
def yX0_chance : MethodName := ⟨RX0, "chance", "(I)J"⟩
def dkwX0_chance_0 : List UInt8 := [42, 27, 182, 1, 22, 153, 0, 11, 42, 27, 182, 1, 159, 167, 0, 6, 20, 1, 132, 173]
abbrev dktX0_chance_0 : List UInt8 := dkwX0_chance_0 ++ []
theorem dksX0_chance_0 : cX0_chance.data.toList.drop 0 = dktX0_chance_0 := by decide +kernel
theorem dX0_chance_0 : decode cX0_chance 0 = .ok (.aload_n 0, 1) := dk_42 (dk_at dksX0_chance_0 0 rfl rfl)
theorem dX0_chance_1 : decode cX0_chance 1 = .ok (.iload_n 1, 1) := dk_27 (dk_at dksX0_chance_0 1 rfl rfl)
theorem dX0_chance_2 : decode cX0_chance 2 = .ok (.invokevirtual 278, 3) := dk_182 1 22 (dk_at dksX0_chance_0 2 rfl rfl)
theorem dX0_chance_5 : decode cX0_chance 5 = .ok (.ifCond .eq 11, 3) := dk_153 0 11 (dk_at dksX0_chance_0 5 rfl rfl)
theorem dX0_chance_8 : decode cX0_chance 8 = .ok (.aload_n 0, 1) := dk_42 (dk_at dksX0_chance_0 8 rfl rfl)
theorem dX0_chance_9 : decode cX0_chance 9 = .ok (.iload_n 1, 1) := dk_27 (dk_at dksX0_chance_0 9 rfl rfl)
theorem dX0_chance_10 : decode cX0_chance 10 = .ok (.invokevirtual 415, 3) := dk_182 1 159 (dk_at dksX0_chance_0 10 rfl rfl)
theorem dX0_chance_13 : decode cX0_chance 13 = .ok (.goto 6, 3) := dk_167 0 6 (dk_at dksX0_chance_0 13 rfl rfl)
theorem dX0_chance_16 : decode cX0_chance 16 = .ok (.ldc2_w 388, 3) := dk_20 1 132 (dk_at dksX0_chance_0 16 rfl rfl)
theorem dX0_chance_19 : decode cX0_chance 19 = .ok (.lreturn, 1) := dk_173 (dk_at dksX0_chance_0 19 rfl rfl)
abbrev cX0_chanceOf : ByteArray := prog_1_method_64_code
def yX0_chanceOf : MethodName := ⟨RX0, "chanceOf", "(I)J"⟩
def dkwX0_chanceOf_7 : List UInt8 := [132, 8, 1, 167, 255, 236, 22, 6, 173]
abbrev dktX0_chanceOf_7 : List UInt8 := dkwX0_chanceOf_7 ++ []
def dkwX0_chanceOf_6 : List UInt8 := [55, 6, 21, 4, 54, 8, 21, 8, 16, 48, 163, 0, 19, 22, 6, 25, 5, 21, 8, 47, 97, 55, 6]
abbrev dktX0_chanceOf_6 : List UInt8 := dkwX0_chanceOf_6 ++ dktX0_chanceOf_7
def dkwX0_chanceOf_5 : List UInt8 := [167, 0, 4, 9, 97, 20, 1, 157, 109, 80, 132, 7, 255, 167, 255, 196, 132, 6, 1, 167, 255, 180, 9]
abbrev dktX0_chanceOf_5 : List UInt8 := dkwX0_chanceOf_5 ++ dktX0_chanceOf_6
def dkwX0_chanceOf_4 : List UInt8 := [133, 105, 21, 7, 158, 0, 22, 25, 5, 21, 7, 4, 100, 47, 42, 180, 0, 20, 180, 1, 14, 133, 105]
abbrev dktX0_chanceOf_4 : List UInt8 := dkwX0_chanceOf_4 ++ dktX0_chanceOf_5
def dkwX0_chanceOf_3 : List UInt8 := [21, 7, 155, 0, 61, 25, 5, 21, 7, 25, 5, 21, 7, 47, 16, 100, 42, 180, 0, 20, 180, 1, 14, 100]
abbrev dktX0_chanceOf_3 : List UInt8 := dkwX0_chanceOf_3 ++ dktX0_chanceOf_4
def dkwX0_chanceOf_2 : List UInt8 := [188, 11, 58, 5, 25, 5, 3, 20, 1, 155, 80, 3, 54, 6, 21, 6, 29, 162, 0, 76, 16, 48, 54, 7]
abbrev dktX0_chanceOf_2 : List UInt8 := dkwX0_chanceOf_2 ++ dktX0_chanceOf_3
def dkwX0_chanceOf_1 : List UInt8 := [182, 1, 147, 44, 182, 1, 150, 100, 4, 100, 184, 1, 153, 62, 44, 3, 182, 1, 101, 54, 4, 16, 49]
abbrev dktX0_chanceOf_1 : List UInt8 := dkwX0_chanceOf_1 ++ dktX0_chanceOf_2
def dkwX0_chanceOf_0 : List UInt8 := [42, 27, 182, 1, 31, 77, 44, 180, 1, 44, 182, 0, 254, 153, 0, 7, 3, 167, 0, 18, 3, 44]
abbrev dktX0_chanceOf_0 : List UInt8 := dkwX0_chanceOf_0 ++ dktX0_chanceOf_1
theorem dksX0_chanceOf_0 : cX0_chanceOf.data.toList.drop 0 = dktX0_chanceOf_0 := by decide +kernel
theorem dksX0_chanceOf_1 : cX0_chanceOf.data.toList.drop 22 = dktX0_chanceOf_1 := dk_seg dksX0_chanceOf_0 22 rfl rfl
theorem dksX0_chanceOf_2 : cX0_chanceOf.data.toList.drop 45 = dktX0_chanceOf_2 := dk_seg dksX0_chanceOf_1 23 rfl rfl
theorem dksX0_chanceOf_3 : cX0_chanceOf.data.toList.drop 69 = dktX0_chanceOf_3 := dk_seg dksX0_chanceOf_2 24 rfl rfl
theorem dksX0_chanceOf_4 : cX0_chanceOf.data.toList.drop 93 = dktX0_chanceOf_4 := dk_seg dksX0_chanceOf_3 24 rfl rfl
theorem dksX0_chanceOf_5 : cX0_chanceOf.data.toList.drop 116 = dktX0_chanceOf_5 := dk_seg dksX0_chanceOf_4 23 rfl rfl
theorem dksX0_chanceOf_6 : cX0_chanceOf.data.toList.drop 139 = dktX0_chanceOf_6 := dk_seg dksX0_chanceOf_5 23 rfl rfl
theorem dksX0_chanceOf_7 : cX0_chanceOf.data.toList.drop 162 = dktX0_chanceOf_7 := dk_seg dksX0_chanceOf_6 23 rfl rfl
theorem dX0_chanceOf_0 : decode cX0_chanceOf 0 = .ok (.aload_n 0, 1) := dk_42 (dk_at dksX0_chanceOf_0 0 rfl rfl)
theorem dX0_chanceOf_1 : decode cX0_chanceOf 1 = .ok (.iload_n 1, 1) := dk_27 (dk_at dksX0_chanceOf_0 1 rfl rfl)
theorem dX0_chanceOf_2 : decode cX0_chanceOf 2 = .ok (.invokevirtual 287, 3) := dk_182 1 31 (dk_at dksX0_chanceOf_0 2 rfl rfl)
theorem dX0_chanceOf_5 : decode cX0_chanceOf 5 = .ok (.astore_n 2, 1) := dk_77 (dk_at dksX0_chanceOf_0 5 rfl rfl)
theorem dX0_chanceOf_6 : decode cX0_chanceOf 6 = .ok (.aload_n 2, 1) := dk_44 (dk_at dksX0_chanceOf_0 6 rfl rfl)
theorem dX0_chanceOf_7 : decode cX0_chanceOf 7 = .ok (.getfield 300, 3) := dk_180 1 44 (dk_at dksX0_chanceOf_0 7 rfl rfl)
theorem dX0_chanceOf_10 : decode cX0_chanceOf 10 = .ok (.invokevirtual 254, 3) := dk_182 0 254 (dk_at dksX0_chanceOf_0 10 rfl rfl)
theorem dX0_chanceOf_13 : decode cX0_chanceOf 13 = .ok (.ifCond .eq 7, 3) := dk_153 0 7 (dk_at dksX0_chanceOf_0 13 rfl rfl)
theorem dX0_chanceOf_16 : decode cX0_chanceOf 16 = .ok (.iconst 0, 1) := dk_3 (dk_at dksX0_chanceOf_0 16 rfl rfl)
theorem dX0_chanceOf_17 : decode cX0_chanceOf 17 = .ok (.goto 18, 3) := dk_167 0 18 (dk_at dksX0_chanceOf_0 17 rfl rfl)
theorem dX0_chanceOf_20 : decode cX0_chanceOf 20 = .ok (.iconst 0, 1) := dk_3 (dk_at dksX0_chanceOf_0 20 rfl rfl)
theorem dX0_chanceOf_21 : decode cX0_chanceOf 21 = .ok (.aload_n 2, 1) := dk_44 (dk_at dksX0_chanceOf_0 21 rfl rfl)
theorem dX0_chanceOf_22 : decode cX0_chanceOf 22 = .ok (.invokevirtual 403, 3) := dk_182 1 147 (dk_at dksX0_chanceOf_1 0 rfl rfl)
theorem dX0_chanceOf_25 : decode cX0_chanceOf 25 = .ok (.aload_n 2, 1) := dk_44 (dk_at dksX0_chanceOf_1 3 rfl rfl)
theorem dX0_chanceOf_26 : decode cX0_chanceOf 26 = .ok (.invokevirtual 406, 3) := dk_182 1 150 (dk_at dksX0_chanceOf_1 4 rfl rfl)
theorem dX0_chanceOf_29 : decode cX0_chanceOf 29 = .ok (.isub, 1) := dk_100 (dk_at dksX0_chanceOf_1 7 rfl rfl)
theorem dX0_chanceOf_30 : decode cX0_chanceOf 30 = .ok (.iconst 1, 1) := dk_4 (dk_at dksX0_chanceOf_1 8 rfl rfl)
theorem dX0_chanceOf_31 : decode cX0_chanceOf 31 = .ok (.isub, 1) := dk_100 (dk_at dksX0_chanceOf_1 9 rfl rfl)
theorem dX0_chanceOf_32 : decode cX0_chanceOf 32 = .ok (.invokestatic 409, 3) := dk_184 1 153 (dk_at dksX0_chanceOf_1 10 rfl rfl)
theorem dX0_chanceOf_35 : decode cX0_chanceOf 35 = .ok (.istore_n 3, 1) := dk_62 (dk_at dksX0_chanceOf_1 13 rfl rfl)
theorem dX0_chanceOf_36 : decode cX0_chanceOf 36 = .ok (.aload_n 2, 1) := dk_44 (dk_at dksX0_chanceOf_1 14 rfl rfl)
theorem dX0_chanceOf_37 : decode cX0_chanceOf 37 = .ok (.iconst 0, 1) := dk_3 (dk_at dksX0_chanceOf_1 15 rfl rfl)
theorem dX0_chanceOf_38 : decode cX0_chanceOf 38 = .ok (.invokevirtual 357, 3) := dk_182 1 101 (dk_at dksX0_chanceOf_1 16 rfl rfl)
theorem dX0_chanceOf_41 : decode cX0_chanceOf 41 = .ok (.istore 4, 2) := dk_54 4 (dk_at dksX0_chanceOf_1 19 rfl rfl)
theorem dX0_chanceOf_43 : decode cX0_chanceOf 43 = .ok (.bipush 49, 2) := dk_16 49 (dk_at dksX0_chanceOf_1 21 rfl rfl)
theorem dX0_chanceOf_45 : decode cX0_chanceOf 45 = .ok (.newarray .long, 2) := dk_188_11 (dk_at dksX0_chanceOf_2 0 rfl rfl)
theorem dX0_chanceOf_47 : decode cX0_chanceOf 47 = .ok (.astore 5, 2) := dk_58 5 (dk_at dksX0_chanceOf_2 2 rfl rfl)
theorem dX0_chanceOf_49 : decode cX0_chanceOf 49 = .ok (.aload 5, 2) := dk_25 5 (dk_at dksX0_chanceOf_2 4 rfl rfl)
theorem dX0_chanceOf_51 : decode cX0_chanceOf 51 = .ok (.iconst 0, 1) := dk_3 (dk_at dksX0_chanceOf_2 6 rfl rfl)
theorem dX0_chanceOf_52 : decode cX0_chanceOf 52 = .ok (.ldc2_w 411, 3) := dk_20 1 155 (dk_at dksX0_chanceOf_2 7 rfl rfl)
theorem dX0_chanceOf_55 : decode cX0_chanceOf 55 = .ok (.lastore, 1) := dk_80 (dk_at dksX0_chanceOf_2 10 rfl rfl)
theorem dX0_chanceOf_56 : decode cX0_chanceOf 56 = .ok (.iconst 0, 1) := dk_3 (dk_at dksX0_chanceOf_2 11 rfl rfl)
theorem dX0_chanceOf_57 : decode cX0_chanceOf 57 = .ok (.istore 6, 2) := dk_54 6 (dk_at dksX0_chanceOf_2 12 rfl rfl)
theorem dX0_chanceOf_59 : decode cX0_chanceOf 59 = .ok (.iload 6, 2) := dk_21 6 (dk_at dksX0_chanceOf_2 14 rfl rfl)
theorem dX0_chanceOf_61 : decode cX0_chanceOf 61 = .ok (.iload_n 3, 1) := dk_29 (dk_at dksX0_chanceOf_2 16 rfl rfl)
theorem dX0_chanceOf_62 : decode cX0_chanceOf 62 = .ok (.if_icmp .ge 76, 3) := dk_162 0 76 (dk_at dksX0_chanceOf_2 17 rfl rfl)
theorem dX0_chanceOf_65 : decode cX0_chanceOf 65 = .ok (.bipush 48, 2) := dk_16 48 (dk_at dksX0_chanceOf_2 20 rfl rfl)
theorem dX0_chanceOf_67 : decode cX0_chanceOf 67 = .ok (.istore 7, 2) := dk_54 7 (dk_at dksX0_chanceOf_2 22 rfl rfl)
theorem dX0_chanceOf_69 : decode cX0_chanceOf 69 = .ok (.iload 7, 2) := dk_21 7 (dk_at dksX0_chanceOf_3 0 rfl rfl)
theorem dX0_chanceOf_71 : decode cX0_chanceOf 71 = .ok (.ifCond .lt 61, 3) := dk_155 0 61 (dk_at dksX0_chanceOf_3 2 rfl rfl)
theorem dX0_chanceOf_74 : decode cX0_chanceOf 74 = .ok (.aload 5, 2) := dk_25 5 (dk_at dksX0_chanceOf_3 5 rfl rfl)
theorem dX0_chanceOf_76 : decode cX0_chanceOf 76 = .ok (.iload 7, 2) := dk_21 7 (dk_at dksX0_chanceOf_3 7 rfl rfl)
theorem dX0_chanceOf_78 : decode cX0_chanceOf 78 = .ok (.aload 5, 2) := dk_25 5 (dk_at dksX0_chanceOf_3 9 rfl rfl)
theorem dX0_chanceOf_80 : decode cX0_chanceOf 80 = .ok (.iload 7, 2) := dk_21 7 (dk_at dksX0_chanceOf_3 11 rfl rfl)
theorem dX0_chanceOf_82 : decode cX0_chanceOf 82 = .ok (.laload, 1) := dk_47 (dk_at dksX0_chanceOf_3 13 rfl rfl)
theorem dX0_chanceOf_83 : decode cX0_chanceOf 83 = .ok (.bipush 100, 2) := dk_16 100 (dk_at dksX0_chanceOf_3 14 rfl rfl)
theorem dX0_chanceOf_85 : decode cX0_chanceOf 85 = .ok (.aload_n 0, 1) := dk_42 (dk_at dksX0_chanceOf_3 16 rfl rfl)
theorem dX0_chanceOf_86 : decode cX0_chanceOf 86 = .ok (.getfield 20, 3) := dk_180 0 20 (dk_at dksX0_chanceOf_3 17 rfl rfl)
theorem dX0_chanceOf_89 : decode cX0_chanceOf 89 = .ok (.getfield 270, 3) := dk_180 1 14 (dk_at dksX0_chanceOf_3 20 rfl rfl)
theorem dX0_chanceOf_92 : decode cX0_chanceOf 92 = .ok (.isub, 1) := dk_100 (dk_at dksX0_chanceOf_3 23 rfl rfl)
theorem dX0_chanceOf_93 : decode cX0_chanceOf 93 = .ok (.i2l, 1) := dk_133 (dk_at dksX0_chanceOf_4 0 rfl rfl)
theorem dX0_chanceOf_94 : decode cX0_chanceOf 94 = .ok (.lmul, 1) := dk_105 (dk_at dksX0_chanceOf_4 1 rfl rfl)
theorem dX0_chanceOf_95 : decode cX0_chanceOf 95 = .ok (.iload 7, 2) := dk_21 7 (dk_at dksX0_chanceOf_4 2 rfl rfl)
theorem dX0_chanceOf_97 : decode cX0_chanceOf 97 = .ok (.ifCond .le 22, 3) := dk_158 0 22 (dk_at dksX0_chanceOf_4 4 rfl rfl)
theorem dX0_chanceOf_100 : decode cX0_chanceOf 100 = .ok (.aload 5, 2) := dk_25 5 (dk_at dksX0_chanceOf_4 7 rfl rfl)
theorem dX0_chanceOf_102 : decode cX0_chanceOf 102 = .ok (.iload 7, 2) := dk_21 7 (dk_at dksX0_chanceOf_4 9 rfl rfl)
theorem dX0_chanceOf_104 : decode cX0_chanceOf 104 = .ok (.iconst 1, 1) := dk_4 (dk_at dksX0_chanceOf_4 11 rfl rfl)
theorem dX0_chanceOf_105 : decode cX0_chanceOf 105 = .ok (.isub, 1) := dk_100 (dk_at dksX0_chanceOf_4 12 rfl rfl)
theorem dX0_chanceOf_106 : decode cX0_chanceOf 106 = .ok (.laload, 1) := dk_47 (dk_at dksX0_chanceOf_4 13 rfl rfl)
theorem dX0_chanceOf_107 : decode cX0_chanceOf 107 = .ok (.aload_n 0, 1) := dk_42 (dk_at dksX0_chanceOf_4 14 rfl rfl)
theorem dX0_chanceOf_108 : decode cX0_chanceOf 108 = .ok (.getfield 20, 3) := dk_180 0 20 (dk_at dksX0_chanceOf_4 15 rfl rfl)
theorem dX0_chanceOf_111 : decode cX0_chanceOf 111 = .ok (.getfield 270, 3) := dk_180 1 14 (dk_at dksX0_chanceOf_4 18 rfl rfl)
theorem dX0_chanceOf_114 : decode cX0_chanceOf 114 = .ok (.i2l, 1) := dk_133 (dk_at dksX0_chanceOf_4 21 rfl rfl)
theorem dX0_chanceOf_115 : decode cX0_chanceOf 115 = .ok (.lmul, 1) := dk_105 (dk_at dksX0_chanceOf_4 22 rfl rfl)
theorem dX0_chanceOf_116 : decode cX0_chanceOf 116 = .ok (.goto 4, 3) := dk_167 0 4 (dk_at dksX0_chanceOf_5 0 rfl rfl)
theorem dX0_chanceOf_119 : decode cX0_chanceOf 119 = .ok (.lconst 0, 1) := dk_9 (dk_at dksX0_chanceOf_5 3 rfl rfl)
theorem dX0_chanceOf_120 : decode cX0_chanceOf 120 = .ok (.ladd, 1) := dk_97 (dk_at dksX0_chanceOf_5 4 rfl rfl)
theorem dX0_chanceOf_121 : decode cX0_chanceOf 121 = .ok (.ldc2_w 413, 3) := dk_20 1 157 (dk_at dksX0_chanceOf_5 5 rfl rfl)
theorem dX0_chanceOf_124 : decode cX0_chanceOf 124 = .ok (.ldiv, 1) := dk_109 (dk_at dksX0_chanceOf_5 8 rfl rfl)
theorem dX0_chanceOf_125 : decode cX0_chanceOf 125 = .ok (.lastore, 1) := dk_80 (dk_at dksX0_chanceOf_5 9 rfl rfl)
theorem dX0_chanceOf_126 : decode cX0_chanceOf 126 = .ok (.iinc 7 (-1), 3) := dk_132 7 255 (dk_at dksX0_chanceOf_5 10 rfl rfl)
theorem dX0_chanceOf_129 : decode cX0_chanceOf 129 = .ok (.goto (-60), 3) := dk_167 255 196 (dk_at dksX0_chanceOf_5 13 rfl rfl)
theorem dX0_chanceOf_132 : decode cX0_chanceOf 132 = .ok (.iinc 6 1, 3) := dk_132 6 1 (dk_at dksX0_chanceOf_5 16 rfl rfl)
theorem dX0_chanceOf_135 : decode cX0_chanceOf 135 = .ok (.goto (-76), 3) := dk_167 255 180 (dk_at dksX0_chanceOf_5 19 rfl rfl)
theorem dX0_chanceOf_138 : decode cX0_chanceOf 138 = .ok (.lconst 0, 1) := dk_9 (dk_at dksX0_chanceOf_5 22 rfl rfl)
theorem dX0_chanceOf_139 : decode cX0_chanceOf 139 = .ok (.lstore 6, 2) := dk_55 6 (dk_at dksX0_chanceOf_6 0 rfl rfl)
theorem dX0_chanceOf_141 : decode cX0_chanceOf 141 = .ok (.iload 4, 2) := dk_21 4 (dk_at dksX0_chanceOf_6 2 rfl rfl)
theorem dX0_chanceOf_143 : decode cX0_chanceOf 143 = .ok (.istore 8, 2) := dk_54 8 (dk_at dksX0_chanceOf_6 4 rfl rfl)
theorem dX0_chanceOf_145 : decode cX0_chanceOf 145 = .ok (.iload 8, 2) := dk_21 8 (dk_at dksX0_chanceOf_6 6 rfl rfl)
theorem dX0_chanceOf_147 : decode cX0_chanceOf 147 = .ok (.bipush 48, 2) := dk_16 48 (dk_at dksX0_chanceOf_6 8 rfl rfl)
theorem dX0_chanceOf_149 : decode cX0_chanceOf 149 = .ok (.if_icmp .gt 19, 3) := dk_163 0 19 (dk_at dksX0_chanceOf_6 10 rfl rfl)
theorem dX0_chanceOf_152 : decode cX0_chanceOf 152 = .ok (.lload 6, 2) := dk_22 6 (dk_at dksX0_chanceOf_6 13 rfl rfl)
theorem dX0_chanceOf_154 : decode cX0_chanceOf 154 = .ok (.aload 5, 2) := dk_25 5 (dk_at dksX0_chanceOf_6 15 rfl rfl)
theorem dX0_chanceOf_156 : decode cX0_chanceOf 156 = .ok (.iload 8, 2) := dk_21 8 (dk_at dksX0_chanceOf_6 17 rfl rfl)
theorem dX0_chanceOf_158 : decode cX0_chanceOf 158 = .ok (.laload, 1) := dk_47 (dk_at dksX0_chanceOf_6 19 rfl rfl)
theorem dX0_chanceOf_159 : decode cX0_chanceOf 159 = .ok (.ladd, 1) := dk_97 (dk_at dksX0_chanceOf_6 20 rfl rfl)
theorem dX0_chanceOf_160 : decode cX0_chanceOf 160 = .ok (.lstore 6, 2) := dk_55 6 (dk_at dksX0_chanceOf_6 21 rfl rfl)
theorem dX0_chanceOf_162 : decode cX0_chanceOf 162 = .ok (.iinc 8 1, 3) := dk_132 8 1 (dk_at dksX0_chanceOf_7 0 rfl rfl)
theorem dX0_chanceOf_165 : decode cX0_chanceOf 165 = .ok (.goto (-20), 3) := dk_167 255 236 (dk_at dksX0_chanceOf_7 3 rfl rfl)
theorem dX0_chanceOf_168 : decode cX0_chanceOf 168 = .ok (.lload 6, 2) := dk_22 6 (dk_at dksX0_chanceOf_7 6 rfl rfl)
theorem dX0_chanceOf_170 : decode cX0_chanceOf 170 = .ok (.lreturn, 1) := dk_173 (dk_at dksX0_chanceOf_7 8 rfl rfl)
abbrev cX0_beyond : ByteArray := prog_1_method_66_code
def yX0_beyond : MethodName := ⟨RX0, "beyond", "()I"⟩
def dkwX0_beyond_2 : List UInt8 := [20, 1, 163, 148, 156, 0, 9, 27, 4, 28, 120, 128, 60, 132, 2, 1, 167, 255, 197, 27, 172]
abbrev dktX0_beyond_2 : List UInt8 := dkwX0_beyond_2 ++ []
def dkwX0_beyond_1 : List UInt8 := [182, 1, 101, 158, 0, 33, 42, 28, 182, 1, 159, 42, 180, 0, 20, 180, 0, 163, 182, 0, 100, 133, 105]
abbrev dktX0_beyond_1 : List UInt8 := dkwX0_beyond_1 ++ dktX0_beyond_2
def dkwX0_beyond_0 : List UInt8 := [3, 60, 3, 61, 28, 42, 180, 0, 20, 180, 0, 163, 182, 0, 100, 162, 0, 51, 42, 28, 182, 1, 31, 3]
abbrev dktX0_beyond_0 : List UInt8 := dkwX0_beyond_0 ++ dktX0_beyond_1
theorem dksX0_beyond_0 : cX0_beyond.data.toList.drop 0 = dktX0_beyond_0 := by decide +kernel
theorem dksX0_beyond_1 : cX0_beyond.data.toList.drop 24 = dktX0_beyond_1 := dk_seg dksX0_beyond_0 24 rfl rfl
theorem dksX0_beyond_2 : cX0_beyond.data.toList.drop 47 = dktX0_beyond_2 := dk_seg dksX0_beyond_1 23 rfl rfl
theorem dX0_beyond_0 : decode cX0_beyond 0 = .ok (.iconst 0, 1) := dk_3 (dk_at dksX0_beyond_0 0 rfl rfl)
theorem dX0_beyond_1 : decode cX0_beyond 1 = .ok (.istore_n 1, 1) := dk_60 (dk_at dksX0_beyond_0 1 rfl rfl)
theorem dX0_beyond_2 : decode cX0_beyond 2 = .ok (.iconst 0, 1) := dk_3 (dk_at dksX0_beyond_0 2 rfl rfl)
theorem dX0_beyond_3 : decode cX0_beyond 3 = .ok (.istore_n 2, 1) := dk_61 (dk_at dksX0_beyond_0 3 rfl rfl)
theorem dX0_beyond_4 : decode cX0_beyond 4 = .ok (.iload_n 2, 1) := dk_28 (dk_at dksX0_beyond_0 4 rfl rfl)
theorem dX0_beyond_5 : decode cX0_beyond 5 = .ok (.aload_n 0, 1) := dk_42 (dk_at dksX0_beyond_0 5 rfl rfl)
theorem dX0_beyond_6 : decode cX0_beyond 6 = .ok (.getfield 20, 3) := dk_180 0 20 (dk_at dksX0_beyond_0 6 rfl rfl)
theorem dX0_beyond_9 : decode cX0_beyond 9 = .ok (.getfield 163, 3) := dk_180 0 163 (dk_at dksX0_beyond_0 9 rfl rfl)
theorem dX0_beyond_12 : decode cX0_beyond 12 = .ok (.invokevirtual 100, 3) := dk_182 0 100 (dk_at dksX0_beyond_0 12 rfl rfl)
theorem dX0_beyond_15 : decode cX0_beyond 15 = .ok (.if_icmp .ge 51, 3) := dk_162 0 51 (dk_at dksX0_beyond_0 15 rfl rfl)
theorem dX0_beyond_18 : decode cX0_beyond 18 = .ok (.aload_n 0, 1) := dk_42 (dk_at dksX0_beyond_0 18 rfl rfl)
theorem dX0_beyond_19 : decode cX0_beyond 19 = .ok (.iload_n 2, 1) := dk_28 (dk_at dksX0_beyond_0 19 rfl rfl)
theorem dX0_beyond_20 : decode cX0_beyond 20 = .ok (.invokevirtual 287, 3) := dk_182 1 31 (dk_at dksX0_beyond_0 20 rfl rfl)
theorem dX0_beyond_23 : decode cX0_beyond 23 = .ok (.iconst 0, 1) := dk_3 (dk_at dksX0_beyond_0 23 rfl rfl)
theorem dX0_beyond_24 : decode cX0_beyond 24 = .ok (.invokevirtual 357, 3) := dk_182 1 101 (dk_at dksX0_beyond_1 0 rfl rfl)
theorem dX0_beyond_27 : decode cX0_beyond 27 = .ok (.ifCond .le 33, 3) := dk_158 0 33 (dk_at dksX0_beyond_1 3 rfl rfl)
theorem dX0_beyond_30 : decode cX0_beyond 30 = .ok (.aload_n 0, 1) := dk_42 (dk_at dksX0_beyond_1 6 rfl rfl)
theorem dX0_beyond_31 : decode cX0_beyond 31 = .ok (.iload_n 2, 1) := dk_28 (dk_at dksX0_beyond_1 7 rfl rfl)
theorem dX0_beyond_32 : decode cX0_beyond 32 = .ok (.invokevirtual 415, 3) := dk_182 1 159 (dk_at dksX0_beyond_1 8 rfl rfl)
theorem dX0_beyond_35 : decode cX0_beyond 35 = .ok (.aload_n 0, 1) := dk_42 (dk_at dksX0_beyond_1 11 rfl rfl)
theorem dX0_beyond_36 : decode cX0_beyond 36 = .ok (.getfield 20, 3) := dk_180 0 20 (dk_at dksX0_beyond_1 12 rfl rfl)
theorem dX0_beyond_39 : decode cX0_beyond 39 = .ok (.getfield 163, 3) := dk_180 0 163 (dk_at dksX0_beyond_1 15 rfl rfl)
theorem dX0_beyond_42 : decode cX0_beyond 42 = .ok (.invokevirtual 100, 3) := dk_182 0 100 (dk_at dksX0_beyond_1 18 rfl rfl)
theorem dX0_beyond_45 : decode cX0_beyond 45 = .ok (.i2l, 1) := dk_133 (dk_at dksX0_beyond_1 21 rfl rfl)
theorem dX0_beyond_46 : decode cX0_beyond 46 = .ok (.lmul, 1) := dk_105 (dk_at dksX0_beyond_1 22 rfl rfl)
theorem dX0_beyond_47 : decode cX0_beyond 47 = .ok (.ldc2_w 419, 3) := dk_20 1 163 (dk_at dksX0_beyond_2 0 rfl rfl)
theorem dX0_beyond_50 : decode cX0_beyond 50 = .ok (.lcmp, 1) := dk_148 (dk_at dksX0_beyond_2 3 rfl rfl)
theorem dX0_beyond_51 : decode cX0_beyond 51 = .ok (.ifCond .ge 9, 3) := dk_156 0 9 (dk_at dksX0_beyond_2 4 rfl rfl)
theorem dX0_beyond_54 : decode cX0_beyond 54 = .ok (.iload_n 1, 1) := dk_27 (dk_at dksX0_beyond_2 7 rfl rfl)
theorem dX0_beyond_55 : decode cX0_beyond 55 = .ok (.iconst 1, 1) := dk_4 (dk_at dksX0_beyond_2 8 rfl rfl)
theorem dX0_beyond_56 : decode cX0_beyond 56 = .ok (.iload_n 2, 1) := dk_28 (dk_at dksX0_beyond_2 9 rfl rfl)
theorem dX0_beyond_57 : decode cX0_beyond 57 = .ok (.ishl, 1) := dk_120 (dk_at dksX0_beyond_2 10 rfl rfl)
theorem dX0_beyond_58 : decode cX0_beyond 58 = .ok (.ior, 1) := dk_128 (dk_at dksX0_beyond_2 11 rfl rfl)
theorem dX0_beyond_59 : decode cX0_beyond 59 = .ok (.istore_n 1, 1) := dk_60 (dk_at dksX0_beyond_2 12 rfl rfl)
theorem dX0_beyond_60 : decode cX0_beyond 60 = .ok (.iinc 2 1, 3) := dk_132 2 1 (dk_at dksX0_beyond_2 13 rfl rfl)
theorem dX0_beyond_63 : decode cX0_beyond 63 = .ok (.goto (-59), 3) := dk_167 255 197 (dk_at dksX0_beyond_2 16 rfl rfl)
theorem dX0_beyond_66 : decode cX0_beyond 66 = .ok (.iload_n 1, 1) := dk_27 (dk_at dksX0_beyond_2 19 rfl rfl)
theorem dX0_beyond_67 : decode cX0_beyond 67 = .ok (.ireturn, 1) := dk_172 (dk_at dksX0_beyond_2 20 rfl rfl)
abbrev cX0_settles : ByteArray := prog_1_method_69_code
def yX0_settles : MethodName := ⟨RX0, "settles", "(III)I"⟩
def dkwX0_settles_1 : List UInt8 := [42, 21, 4, 27, 42, 27, 182, 1, 168, 182, 1, 171, 167, 0, 4, 2, 172]
abbrev dktX0_settles_1 : List UInt8 := dkwX0_settles_1 ++ []
def dkwX0_settles_0 : List UInt8 := [42, 180, 0, 20, 28, 29, 182, 1, 74, 54, 4, 21, 4, 2, 159, 0, 25, 27, 184, 1, 77, 153, 0, 18]
abbrev dktX0_settles_0 : List UInt8 := dkwX0_settles_0 ++ dktX0_settles_1
theorem dksX0_settles_0 : cX0_settles.data.toList.drop 0 = dktX0_settles_0 := by decide +kernel
theorem dksX0_settles_1 : cX0_settles.data.toList.drop 24 = dktX0_settles_1 := dk_seg dksX0_settles_0 24 rfl rfl
theorem dX0_settles_0 : decode cX0_settles 0 = .ok (.aload_n 0, 1) := dk_42 (dk_at dksX0_settles_0 0 rfl rfl)
theorem dX0_settles_1 : decode cX0_settles 1 = .ok (.getfield 20, 3) := dk_180 0 20 (dk_at dksX0_settles_0 1 rfl rfl)
theorem dX0_settles_4 : decode cX0_settles 4 = .ok (.iload_n 2, 1) := dk_28 (dk_at dksX0_settles_0 4 rfl rfl)
theorem dX0_settles_5 : decode cX0_settles 5 = .ok (.iload_n 3, 1) := dk_29 (dk_at dksX0_settles_0 5 rfl rfl)
theorem dX0_settles_6 : decode cX0_settles 6 = .ok (.invokevirtual 330, 3) := dk_182 1 74 (dk_at dksX0_settles_0 6 rfl rfl)
theorem dX0_settles_9 : decode cX0_settles 9 = .ok (.istore 4, 2) := dk_54 4 (dk_at dksX0_settles_0 9 rfl rfl)
theorem dX0_settles_11 : decode cX0_settles 11 = .ok (.iload 4, 2) := dk_21 4 (dk_at dksX0_settles_0 11 rfl rfl)
theorem dX0_settles_13 : decode cX0_settles 13 = .ok (.iconst (-1), 1) := dk_2 (dk_at dksX0_settles_0 13 rfl rfl)
theorem dX0_settles_14 : decode cX0_settles 14 = .ok (.if_icmp .eq 25, 3) := dk_159 0 25 (dk_at dksX0_settles_0 14 rfl rfl)
theorem dX0_settles_17 : decode cX0_settles 17 = .ok (.iload_n 1, 1) := dk_27 (dk_at dksX0_settles_0 17 rfl rfl)
theorem dX0_settles_18 : decode cX0_settles 18 = .ok (.invokestatic 333, 3) := dk_184 1 77 (dk_at dksX0_settles_0 18 rfl rfl)
theorem dX0_settles_21 : decode cX0_settles 21 = .ok (.ifCond .eq 18, 3) := dk_153 0 18 (dk_at dksX0_settles_0 21 rfl rfl)
theorem dX0_settles_24 : decode cX0_settles 24 = .ok (.aload_n 0, 1) := dk_42 (dk_at dksX0_settles_1 0 rfl rfl)
theorem dX0_settles_25 : decode cX0_settles 25 = .ok (.iload 4, 2) := dk_21 4 (dk_at dksX0_settles_1 1 rfl rfl)
theorem dX0_settles_27 : decode cX0_settles 27 = .ok (.iload_n 1, 1) := dk_27 (dk_at dksX0_settles_1 3 rfl rfl)
theorem dX0_settles_28 : decode cX0_settles 28 = .ok (.aload_n 0, 1) := dk_42 (dk_at dksX0_settles_1 4 rfl rfl)
theorem dX0_settles_29 : decode cX0_settles 29 = .ok (.iload_n 1, 1) := dk_27 (dk_at dksX0_settles_1 5 rfl rfl)
theorem dX0_settles_30 : decode cX0_settles 30 = .ok (.invokevirtual 424, 3) := dk_182 1 168 (dk_at dksX0_settles_1 6 rfl rfl)
theorem dX0_settles_33 : decode cX0_settles 33 = .ok (.invokevirtual 427, 3) := dk_182 1 171 (dk_at dksX0_settles_1 9 rfl rfl)
theorem dX0_settles_36 : decode cX0_settles 36 = .ok (.goto 4, 3) := dk_167 0 4 (dk_at dksX0_settles_1 12 rfl rfl)
theorem dX0_settles_39 : decode cX0_settles 39 = .ok (.iconst (-1), 1) := dk_2 (dk_at dksX0_settles_1 15 rfl rfl)
theorem dX0_settles_40 : decode cX0_settles 40 = .ok (.ireturn, 1) := dk_172 (dk_at dksX0_settles_1 16 rfl rfl)
abbrev cX0_loose : ByteArray := prog_1_method_67_code
def yX0_loose : MethodName := ⟨RX0, "loose", "(I)I"⟩
def dkwX0_loose_2 : List UInt8 := [182, 1, 165, 4, 164, 0, 9, 28, 4, 29, 120, 128, 61, 132, 3, 1, 167, 255, 200, 28, 172]
abbrev dktX0_loose_2 : List UInt8 := dkwX0_loose_2 ++ []
def dkwX0_loose_1 : List UInt8 := [180, 0, 249, 29, 182, 0, 104, 192, 0, 42, 182, 0, 254, 154, 0, 22, 42, 29, 182, 1, 31, 27]
abbrev dktX0_loose_1 : List UInt8 := dkwX0_loose_1 ++ dktX0_loose_2
def dkwX0_loose_0 : List UInt8 := [3, 61, 3, 62, 29, 42, 180, 0, 20, 180, 0, 163, 182, 0, 100, 162, 0, 48, 42, 180, 0, 28]
abbrev dktX0_loose_0 : List UInt8 := dkwX0_loose_0 ++ dktX0_loose_1
theorem dksX0_loose_0 : cX0_loose.data.toList.drop 0 = dktX0_loose_0 := by decide +kernel
theorem dksX0_loose_1 : cX0_loose.data.toList.drop 22 = dktX0_loose_1 := dk_seg dksX0_loose_0 22 rfl rfl
theorem dksX0_loose_2 : cX0_loose.data.toList.drop 44 = dktX0_loose_2 := dk_seg dksX0_loose_1 22 rfl rfl
theorem dX0_loose_0 : decode cX0_loose 0 = .ok (.iconst 0, 1) := dk_3 (dk_at dksX0_loose_0 0 rfl rfl)
theorem dX0_loose_1 : decode cX0_loose 1 = .ok (.istore_n 2, 1) := dk_61 (dk_at dksX0_loose_0 1 rfl rfl)
theorem dX0_loose_2 : decode cX0_loose 2 = .ok (.iconst 0, 1) := dk_3 (dk_at dksX0_loose_0 2 rfl rfl)
theorem dX0_loose_3 : decode cX0_loose 3 = .ok (.istore_n 3, 1) := dk_62 (dk_at dksX0_loose_0 3 rfl rfl)
theorem dX0_loose_4 : decode cX0_loose 4 = .ok (.iload_n 3, 1) := dk_29 (dk_at dksX0_loose_0 4 rfl rfl)
theorem dX0_loose_5 : decode cX0_loose 5 = .ok (.aload_n 0, 1) := dk_42 (dk_at dksX0_loose_0 5 rfl rfl)
theorem dX0_loose_6 : decode cX0_loose 6 = .ok (.getfield 20, 3) := dk_180 0 20 (dk_at dksX0_loose_0 6 rfl rfl)
theorem dX0_loose_9 : decode cX0_loose 9 = .ok (.getfield 163, 3) := dk_180 0 163 (dk_at dksX0_loose_0 9 rfl rfl)
theorem dX0_loose_12 : decode cX0_loose 12 = .ok (.invokevirtual 100, 3) := dk_182 0 100 (dk_at dksX0_loose_0 12 rfl rfl)
theorem dX0_loose_15 : decode cX0_loose 15 = .ok (.if_icmp .ge 48, 3) := dk_162 0 48 (dk_at dksX0_loose_0 15 rfl rfl)
theorem dX0_loose_18 : decode cX0_loose 18 = .ok (.aload_n 0, 1) := dk_42 (dk_at dksX0_loose_0 18 rfl rfl)
theorem dX0_loose_19 : decode cX0_loose 19 = .ok (.getfield 28, 3) := dk_180 0 28 (dk_at dksX0_loose_0 19 rfl rfl)
theorem dX0_loose_22 : decode cX0_loose 22 = .ok (.getfield 249, 3) := dk_180 0 249 (dk_at dksX0_loose_1 0 rfl rfl)
theorem dX0_loose_25 : decode cX0_loose 25 = .ok (.iload_n 3, 1) := dk_29 (dk_at dksX0_loose_1 3 rfl rfl)
theorem dX0_loose_26 : decode cX0_loose 26 = .ok (.invokevirtual 104, 3) := dk_182 0 104 (dk_at dksX0_loose_1 4 rfl rfl)
theorem dX0_loose_29 : decode cX0_loose 29 = .ok (.checkcast 42, 3) := dk_192 0 42 (dk_at dksX0_loose_1 7 rfl rfl)
theorem dX0_loose_32 : decode cX0_loose 32 = .ok (.invokevirtual 254, 3) := dk_182 0 254 (dk_at dksX0_loose_1 10 rfl rfl)
theorem dX0_loose_35 : decode cX0_loose 35 = .ok (.ifCond .ne 22, 3) := dk_154 0 22 (dk_at dksX0_loose_1 13 rfl rfl)
theorem dX0_loose_38 : decode cX0_loose 38 = .ok (.aload_n 0, 1) := dk_42 (dk_at dksX0_loose_1 16 rfl rfl)
theorem dX0_loose_39 : decode cX0_loose 39 = .ok (.iload_n 3, 1) := dk_29 (dk_at dksX0_loose_1 17 rfl rfl)
theorem dX0_loose_40 : decode cX0_loose 40 = .ok (.invokevirtual 287, 3) := dk_182 1 31 (dk_at dksX0_loose_1 18 rfl rfl)
theorem dX0_loose_43 : decode cX0_loose 43 = .ok (.iload_n 1, 1) := dk_27 (dk_at dksX0_loose_1 21 rfl rfl)
theorem dX0_loose_44 : decode cX0_loose 44 = .ok (.invokevirtual 421, 3) := dk_182 1 165 (dk_at dksX0_loose_2 0 rfl rfl)
theorem dX0_loose_47 : decode cX0_loose 47 = .ok (.iconst 1, 1) := dk_4 (dk_at dksX0_loose_2 3 rfl rfl)
theorem dX0_loose_48 : decode cX0_loose 48 = .ok (.if_icmp .le 9, 3) := dk_164 0 9 (dk_at dksX0_loose_2 4 rfl rfl)
theorem dX0_loose_51 : decode cX0_loose 51 = .ok (.iload_n 2, 1) := dk_28 (dk_at dksX0_loose_2 7 rfl rfl)
theorem dX0_loose_52 : decode cX0_loose 52 = .ok (.iconst 1, 1) := dk_4 (dk_at dksX0_loose_2 8 rfl rfl)
theorem dX0_loose_53 : decode cX0_loose 53 = .ok (.iload_n 3, 1) := dk_29 (dk_at dksX0_loose_2 9 rfl rfl)
theorem dX0_loose_54 : decode cX0_loose 54 = .ok (.ishl, 1) := dk_120 (dk_at dksX0_loose_2 10 rfl rfl)
theorem dX0_loose_55 : decode cX0_loose 55 = .ok (.ior, 1) := dk_128 (dk_at dksX0_loose_2 11 rfl rfl)
theorem dX0_loose_56 : decode cX0_loose 56 = .ok (.istore_n 2, 1) := dk_61 (dk_at dksX0_loose_2 12 rfl rfl)
theorem dX0_loose_57 : decode cX0_loose 57 = .ok (.iinc 3 1, 3) := dk_132 3 1 (dk_at dksX0_loose_2 13 rfl rfl)
theorem dX0_loose_60 : decode cX0_loose 60 = .ok (.goto (-56), 3) := dk_167 255 200 (dk_at dksX0_loose_2 16 rfl rfl)
theorem dX0_loose_63 : decode cX0_loose 63 = .ok (.iload_n 2, 1) := dk_28 (dk_at dksX0_loose_2 19 rfl rfl)
theorem dX0_loose_64 : decode cX0_loose 64 = .ok (.ireturn, 1) := dk_172 (dk_at dksX0_loose_2 20 rfl rfl)
abbrev cX0_settled : ByteArray := prog_1_method_68_code
def yX0_settled : MethodName := ⟨RX0, "settled", "(III)I"⟩
def dkwX0_settled_2 : List UInt8 := [132, 5, 1, 167, 255, 211, 21, 4, 172]
abbrev dktX0_settled_2 : List UInt8 := dkwX0_settled_2 ++ []
def dkwX0_settled_1 : List UInt8 := [122, 4, 126, 4, 160, 0, 20, 42, 21, 5, 182, 1, 31, 27, 28, 182, 1, 82, 153, 0, 6, 132, 4, 1]
abbrev dktX0_settled_1 : List UInt8 := dkwX0_settled_1 ++ dktX0_settled_2
def dkwX0_settled_0 : List UInt8 := [3, 54, 4, 3, 54, 5, 21, 5, 42, 180, 0, 20, 180, 0, 163, 182, 0, 100, 162, 0, 36, 29, 21, 5]
abbrev dktX0_settled_0 : List UInt8 := dkwX0_settled_0 ++ dktX0_settled_1
theorem dksX0_settled_0 : cX0_settled.data.toList.drop 0 = dktX0_settled_0 := by decide +kernel
theorem dksX0_settled_1 : cX0_settled.data.toList.drop 24 = dktX0_settled_1 := dk_seg dksX0_settled_0 24 rfl rfl
theorem dksX0_settled_2 : cX0_settled.data.toList.drop 48 = dktX0_settled_2 := dk_seg dksX0_settled_1 24 rfl rfl
theorem dX0_settled_0 : decode cX0_settled 0 = .ok (.iconst 0, 1) := dk_3 (dk_at dksX0_settled_0 0 rfl rfl)
theorem dX0_settled_1 : decode cX0_settled 1 = .ok (.istore 4, 2) := dk_54 4 (dk_at dksX0_settled_0 1 rfl rfl)
theorem dX0_settled_3 : decode cX0_settled 3 = .ok (.iconst 0, 1) := dk_3 (dk_at dksX0_settled_0 3 rfl rfl)
theorem dX0_settled_4 : decode cX0_settled 4 = .ok (.istore 5, 2) := dk_54 5 (dk_at dksX0_settled_0 4 rfl rfl)
theorem dX0_settled_6 : decode cX0_settled 6 = .ok (.iload 5, 2) := dk_21 5 (dk_at dksX0_settled_0 6 rfl rfl)
theorem dX0_settled_8 : decode cX0_settled 8 = .ok (.aload_n 0, 1) := dk_42 (dk_at dksX0_settled_0 8 rfl rfl)
theorem dX0_settled_9 : decode cX0_settled 9 = .ok (.getfield 20, 3) := dk_180 0 20 (dk_at dksX0_settled_0 9 rfl rfl)
theorem dX0_settled_12 : decode cX0_settled 12 = .ok (.getfield 163, 3) := dk_180 0 163 (dk_at dksX0_settled_0 12 rfl rfl)
theorem dX0_settled_15 : decode cX0_settled 15 = .ok (.invokevirtual 100, 3) := dk_182 0 100 (dk_at dksX0_settled_0 15 rfl rfl)
theorem dX0_settled_18 : decode cX0_settled 18 = .ok (.if_icmp .ge 36, 3) := dk_162 0 36 (dk_at dksX0_settled_0 18 rfl rfl)
theorem dX0_settled_21 : decode cX0_settled 21 = .ok (.iload_n 3, 1) := dk_29 (dk_at dksX0_settled_0 21 rfl rfl)
theorem dX0_settled_22 : decode cX0_settled 22 = .ok (.iload 5, 2) := dk_21 5 (dk_at dksX0_settled_0 22 rfl rfl)
theorem dX0_settled_24 : decode cX0_settled 24 = .ok (.ishr, 1) := dk_122 (dk_at dksX0_settled_1 0 rfl rfl)
theorem dX0_settled_25 : decode cX0_settled 25 = .ok (.iconst 1, 1) := dk_4 (dk_at dksX0_settled_1 1 rfl rfl)
theorem dX0_settled_26 : decode cX0_settled 26 = .ok (.iand, 1) := dk_126 (dk_at dksX0_settled_1 2 rfl rfl)
theorem dX0_settled_27 : decode cX0_settled 27 = .ok (.iconst 1, 1) := dk_4 (dk_at dksX0_settled_1 3 rfl rfl)
theorem dX0_settled_28 : decode cX0_settled 28 = .ok (.if_icmp .ne 20, 3) := dk_160 0 20 (dk_at dksX0_settled_1 4 rfl rfl)
theorem dX0_settled_31 : decode cX0_settled 31 = .ok (.aload_n 0, 1) := dk_42 (dk_at dksX0_settled_1 7 rfl rfl)
theorem dX0_settled_32 : decode cX0_settled 32 = .ok (.iload 5, 2) := dk_21 5 (dk_at dksX0_settled_1 8 rfl rfl)
theorem dX0_settled_34 : decode cX0_settled 34 = .ok (.invokevirtual 287, 3) := dk_182 1 31 (dk_at dksX0_settled_1 10 rfl rfl)
theorem dX0_settled_37 : decode cX0_settled 37 = .ok (.iload_n 1, 1) := dk_27 (dk_at dksX0_settled_1 13 rfl rfl)
theorem dX0_settled_38 : decode cX0_settled 38 = .ok (.iload_n 2, 1) := dk_28 (dk_at dksX0_settled_1 14 rfl rfl)
theorem dX0_settled_39 : decode cX0_settled 39 = .ok (.invokevirtual 338, 3) := dk_182 1 82 (dk_at dksX0_settled_1 15 rfl rfl)
theorem dX0_settled_42 : decode cX0_settled 42 = .ok (.ifCond .eq 6, 3) := dk_153 0 6 (dk_at dksX0_settled_1 18 rfl rfl)
theorem dX0_settled_45 : decode cX0_settled 45 = .ok (.iinc 4 1, 3) := dk_132 4 1 (dk_at dksX0_settled_1 21 rfl rfl)
theorem dX0_settled_48 : decode cX0_settled 48 = .ok (.iinc 5 1, 3) := dk_132 5 1 (dk_at dksX0_settled_2 0 rfl rfl)
theorem dX0_settled_51 : decode cX0_settled 51 = .ok (.goto (-45), 3) := dk_167 255 211 (dk_at dksX0_settled_2 3 rfl rfl)
theorem dX0_settled_54 : decode cX0_settled 54 = .ok (.iload 4, 2) := dk_21 4 (dk_at dksX0_settled_2 6 rfl rfl)
theorem dX0_settled_56 : decode cX0_settled 56 = .ok (.ireturn, 1) := dk_172 (dk_at dksX0_settled_2 8 rfl rfl)
abbrev cX0_next : ByteArray := prog_1_method_70_code
def yX0_next : MethodName := ⟨RX0, "next", "(I)I"⟩
def dkwX0_next_6 : List UInt8 := [4, 160, 0, 7, 28, 167, 0, 14, 27, 5, 160, 0, 8, 21, 4, 167, 0, 4, 2, 172]
abbrev dktX0_next_6 : List UInt8 := dkwX0_next_6 ++ []
def dkwX0_next_5 : List UInt8 := [132, 5, 1, 167, 255, 146, 28, 2, 160, 0, 7, 2, 167, 0, 31, 27, 154, 0, 7, 29, 167, 0, 23, 27]
abbrev dktX0_next_5 : List UInt8 := dkwX0_next_5 ++ dktX0_next_6
def dkwX0_next_4 : List UInt8 := [28, 46, 161, 0, 6, 167, 0, 13, 21, 7, 61, 21, 5, 62, 21, 8, 54, 4, 132, 7, 1, 167, 255, 170]
abbrev dktX0_next_4 : List UInt8 := dkwX0_next_4 ++ dktX0_next_5
def dkwX0_next_3 : List UInt8 := [21, 8, 21, 4, 160, 0, 28, 42, 180, 0, 20, 180, 0, 154, 21, 7, 46, 42, 180, 0, 20, 180, 0, 154]
abbrev dktX0_next_3 : List UInt8 := dkwX0_next_3 ++ dktX0_next_4
def dkwX0_next_2 : List UInt8 := [21, 7, 21, 5, 21, 6, 182, 1, 171, 54, 8, 21, 8, 21, 4, 161, 0, 50, 21, 8, 153, 0, 45]
abbrev dktX0_next_2 : List UInt8 := dkwX0_next_2 ++ dktX0_next_3
def dkwX0_next_1 : List UInt8 := [54, 6, 3, 54, 7, 21, 7, 42, 180, 0, 20, 182, 0, 143, 162, 0, 80, 21, 6, 153, 0, 75, 42]
abbrev dktX0_next_1 : List UInt8 := dkwX0_next_1 ++ dktX0_next_2
def dkwX0_next_0 : List UInt8 := [2, 61, 2, 62, 3, 54, 4, 3, 54, 5, 21, 5, 16, 48, 162, 0, 109, 42, 21, 5, 182, 1, 168]
abbrev dktX0_next_0 : List UInt8 := dkwX0_next_0 ++ dktX0_next_1
theorem dksX0_next_0 : cX0_next.data.toList.drop 0 = dktX0_next_0 := by decide +kernel
theorem dksX0_next_1 : cX0_next.data.toList.drop 23 = dktX0_next_1 := dk_seg dksX0_next_0 23 rfl rfl
theorem dksX0_next_2 : cX0_next.data.toList.drop 46 = dktX0_next_2 := dk_seg dksX0_next_1 23 rfl rfl
theorem dksX0_next_3 : cX0_next.data.toList.drop 69 = dktX0_next_3 := dk_seg dksX0_next_2 23 rfl rfl
theorem dksX0_next_4 : cX0_next.data.toList.drop 93 = dktX0_next_4 := dk_seg dksX0_next_3 24 rfl rfl
theorem dksX0_next_5 : cX0_next.data.toList.drop 117 = dktX0_next_5 := dk_seg dksX0_next_4 24 rfl rfl
theorem dksX0_next_6 : cX0_next.data.toList.drop 141 = dktX0_next_6 := dk_seg dksX0_next_5 24 rfl rfl
theorem dX0_next_0 : decode cX0_next 0 = .ok (.iconst (-1), 1) := dk_2 (dk_at dksX0_next_0 0 rfl rfl)
theorem dX0_next_1 : decode cX0_next 1 = .ok (.istore_n 2, 1) := dk_61 (dk_at dksX0_next_0 1 rfl rfl)
theorem dX0_next_2 : decode cX0_next 2 = .ok (.iconst (-1), 1) := dk_2 (dk_at dksX0_next_0 2 rfl rfl)
theorem dX0_next_3 : decode cX0_next 3 = .ok (.istore_n 3, 1) := dk_62 (dk_at dksX0_next_0 3 rfl rfl)
theorem dX0_next_4 : decode cX0_next 4 = .ok (.iconst 0, 1) := dk_3 (dk_at dksX0_next_0 4 rfl rfl)
theorem dX0_next_5 : decode cX0_next 5 = .ok (.istore 4, 2) := dk_54 4 (dk_at dksX0_next_0 5 rfl rfl)
theorem dX0_next_7 : decode cX0_next 7 = .ok (.iconst 0, 1) := dk_3 (dk_at dksX0_next_0 7 rfl rfl)
theorem dX0_next_8 : decode cX0_next 8 = .ok (.istore 5, 2) := dk_54 5 (dk_at dksX0_next_0 8 rfl rfl)
theorem dX0_next_10 : decode cX0_next 10 = .ok (.iload 5, 2) := dk_21 5 (dk_at dksX0_next_0 10 rfl rfl)
theorem dX0_next_12 : decode cX0_next 12 = .ok (.bipush 48, 2) := dk_16 48 (dk_at dksX0_next_0 12 rfl rfl)
theorem dX0_next_14 : decode cX0_next 14 = .ok (.if_icmp .ge 109, 3) := dk_162 0 109 (dk_at dksX0_next_0 14 rfl rfl)
theorem dX0_next_17 : decode cX0_next 17 = .ok (.aload_n 0, 1) := dk_42 (dk_at dksX0_next_0 17 rfl rfl)
theorem dX0_next_18 : decode cX0_next 18 = .ok (.iload 5, 2) := dk_21 5 (dk_at dksX0_next_0 18 rfl rfl)
theorem dX0_next_20 : decode cX0_next 20 = .ok (.invokevirtual 424, 3) := dk_182 1 168 (dk_at dksX0_next_0 20 rfl rfl)
theorem dX0_next_23 : decode cX0_next 23 = .ok (.istore 6, 2) := dk_54 6 (dk_at dksX0_next_1 0 rfl rfl)
theorem dX0_next_25 : decode cX0_next 25 = .ok (.iconst 0, 1) := dk_3 (dk_at dksX0_next_1 2 rfl rfl)
theorem dX0_next_26 : decode cX0_next 26 = .ok (.istore 7, 2) := dk_54 7 (dk_at dksX0_next_1 3 rfl rfl)
theorem dX0_next_28 : decode cX0_next 28 = .ok (.iload 7, 2) := dk_21 7 (dk_at dksX0_next_1 5 rfl rfl)
theorem dX0_next_30 : decode cX0_next 30 = .ok (.aload_n 0, 1) := dk_42 (dk_at dksX0_next_1 7 rfl rfl)
theorem dX0_next_31 : decode cX0_next 31 = .ok (.getfield 20, 3) := dk_180 0 20 (dk_at dksX0_next_1 8 rfl rfl)
theorem dX0_next_34 : decode cX0_next 34 = .ok (.invokevirtual 143, 3) := dk_182 0 143 (dk_at dksX0_next_1 11 rfl rfl)
theorem dX0_next_37 : decode cX0_next 37 = .ok (.if_icmp .ge 80, 3) := dk_162 0 80 (dk_at dksX0_next_1 14 rfl rfl)
theorem dX0_next_40 : decode cX0_next 40 = .ok (.iload 6, 2) := dk_21 6 (dk_at dksX0_next_1 17 rfl rfl)
theorem dX0_next_42 : decode cX0_next 42 = .ok (.ifCond .eq 75, 3) := dk_153 0 75 (dk_at dksX0_next_1 19 rfl rfl)
theorem dX0_next_45 : decode cX0_next 45 = .ok (.aload_n 0, 1) := dk_42 (dk_at dksX0_next_1 22 rfl rfl)
theorem dX0_next_46 : decode cX0_next 46 = .ok (.iload 7, 2) := dk_21 7 (dk_at dksX0_next_2 0 rfl rfl)
theorem dX0_next_48 : decode cX0_next 48 = .ok (.iload 5, 2) := dk_21 5 (dk_at dksX0_next_2 2 rfl rfl)
theorem dX0_next_50 : decode cX0_next 50 = .ok (.iload 6, 2) := dk_21 6 (dk_at dksX0_next_2 4 rfl rfl)
theorem dX0_next_52 : decode cX0_next 52 = .ok (.invokevirtual 427, 3) := dk_182 1 171 (dk_at dksX0_next_2 6 rfl rfl)
theorem dX0_next_55 : decode cX0_next 55 = .ok (.istore 8, 2) := dk_54 8 (dk_at dksX0_next_2 9 rfl rfl)
theorem dX0_next_57 : decode cX0_next 57 = .ok (.iload 8, 2) := dk_21 8 (dk_at dksX0_next_2 11 rfl rfl)
theorem dX0_next_59 : decode cX0_next 59 = .ok (.iload 4, 2) := dk_21 4 (dk_at dksX0_next_2 13 rfl rfl)
theorem dX0_next_61 : decode cX0_next 61 = .ok (.if_icmp .lt 50, 3) := dk_161 0 50 (dk_at dksX0_next_2 15 rfl rfl)
theorem dX0_next_64 : decode cX0_next 64 = .ok (.iload 8, 2) := dk_21 8 (dk_at dksX0_next_2 18 rfl rfl)
theorem dX0_next_66 : decode cX0_next 66 = .ok (.ifCond .eq 45, 3) := dk_153 0 45 (dk_at dksX0_next_2 20 rfl rfl)
theorem dX0_next_69 : decode cX0_next 69 = .ok (.iload 8, 2) := dk_21 8 (dk_at dksX0_next_3 0 rfl rfl)
theorem dX0_next_71 : decode cX0_next 71 = .ok (.iload 4, 2) := dk_21 4 (dk_at dksX0_next_3 2 rfl rfl)
theorem dX0_next_73 : decode cX0_next 73 = .ok (.if_icmp .ne 28, 3) := dk_160 0 28 (dk_at dksX0_next_3 4 rfl rfl)
theorem dX0_next_76 : decode cX0_next 76 = .ok (.aload_n 0, 1) := dk_42 (dk_at dksX0_next_3 7 rfl rfl)
theorem dX0_next_77 : decode cX0_next 77 = .ok (.getfield 20, 3) := dk_180 0 20 (dk_at dksX0_next_3 8 rfl rfl)
theorem dX0_next_80 : decode cX0_next 80 = .ok (.getfield 154, 3) := dk_180 0 154 (dk_at dksX0_next_3 11 rfl rfl)
theorem dX0_next_83 : decode cX0_next 83 = .ok (.iload 7, 2) := dk_21 7 (dk_at dksX0_next_3 14 rfl rfl)
theorem dX0_next_85 : decode cX0_next 85 = .ok (.iaload, 1) := dk_46 (dk_at dksX0_next_3 16 rfl rfl)
theorem dX0_next_86 : decode cX0_next 86 = .ok (.aload_n 0, 1) := dk_42 (dk_at dksX0_next_3 17 rfl rfl)
theorem dX0_next_87 : decode cX0_next 87 = .ok (.getfield 20, 3) := dk_180 0 20 (dk_at dksX0_next_3 18 rfl rfl)
theorem dX0_next_90 : decode cX0_next 90 = .ok (.getfield 154, 3) := dk_180 0 154 (dk_at dksX0_next_3 21 rfl rfl)
theorem dX0_next_93 : decode cX0_next 93 = .ok (.iload_n 2, 1) := dk_28 (dk_at dksX0_next_4 0 rfl rfl)
theorem dX0_next_94 : decode cX0_next 94 = .ok (.iaload, 1) := dk_46 (dk_at dksX0_next_4 1 rfl rfl)
theorem dX0_next_95 : decode cX0_next 95 = .ok (.if_icmp .lt 6, 3) := dk_161 0 6 (dk_at dksX0_next_4 2 rfl rfl)
theorem dX0_next_98 : decode cX0_next 98 = .ok (.goto 13, 3) := dk_167 0 13 (dk_at dksX0_next_4 5 rfl rfl)
theorem dX0_next_101 : decode cX0_next 101 = .ok (.iload 7, 2) := dk_21 7 (dk_at dksX0_next_4 8 rfl rfl)
theorem dX0_next_103 : decode cX0_next 103 = .ok (.istore_n 2, 1) := dk_61 (dk_at dksX0_next_4 10 rfl rfl)
theorem dX0_next_104 : decode cX0_next 104 = .ok (.iload 5, 2) := dk_21 5 (dk_at dksX0_next_4 11 rfl rfl)
theorem dX0_next_106 : decode cX0_next 106 = .ok (.istore_n 3, 1) := dk_62 (dk_at dksX0_next_4 13 rfl rfl)
theorem dX0_next_107 : decode cX0_next 107 = .ok (.iload 8, 2) := dk_21 8 (dk_at dksX0_next_4 14 rfl rfl)
theorem dX0_next_109 : decode cX0_next 109 = .ok (.istore 4, 2) := dk_54 4 (dk_at dksX0_next_4 16 rfl rfl)
theorem dX0_next_111 : decode cX0_next 111 = .ok (.iinc 7 1, 3) := dk_132 7 1 (dk_at dksX0_next_4 18 rfl rfl)
theorem dX0_next_114 : decode cX0_next 114 = .ok (.goto (-86), 3) := dk_167 255 170 (dk_at dksX0_next_4 21 rfl rfl)
theorem dX0_next_117 : decode cX0_next 117 = .ok (.iinc 5 1, 3) := dk_132 5 1 (dk_at dksX0_next_5 0 rfl rfl)
theorem dX0_next_120 : decode cX0_next 120 = .ok (.goto (-110), 3) := dk_167 255 146 (dk_at dksX0_next_5 3 rfl rfl)
theorem dX0_next_123 : decode cX0_next 123 = .ok (.iload_n 2, 1) := dk_28 (dk_at dksX0_next_5 6 rfl rfl)
theorem dX0_next_124 : decode cX0_next 124 = .ok (.iconst (-1), 1) := dk_2 (dk_at dksX0_next_5 7 rfl rfl)
theorem dX0_next_125 : decode cX0_next 125 = .ok (.if_icmp .ne 7, 3) := dk_160 0 7 (dk_at dksX0_next_5 8 rfl rfl)
theorem dX0_next_128 : decode cX0_next 128 = .ok (.iconst (-1), 1) := dk_2 (dk_at dksX0_next_5 11 rfl rfl)
theorem dX0_next_129 : decode cX0_next 129 = .ok (.goto 31, 3) := dk_167 0 31 (dk_at dksX0_next_5 12 rfl rfl)
theorem dX0_next_132 : decode cX0_next 132 = .ok (.iload_n 1, 1) := dk_27 (dk_at dksX0_next_5 15 rfl rfl)
theorem dX0_next_133 : decode cX0_next 133 = .ok (.ifCond .ne 7, 3) := dk_154 0 7 (dk_at dksX0_next_5 16 rfl rfl)
theorem dX0_next_136 : decode cX0_next 136 = .ok (.iload_n 3, 1) := dk_29 (dk_at dksX0_next_5 19 rfl rfl)
theorem dX0_next_137 : decode cX0_next 137 = .ok (.goto 23, 3) := dk_167 0 23 (dk_at dksX0_next_5 20 rfl rfl)
theorem dX0_next_140 : decode cX0_next 140 = .ok (.iload_n 1, 1) := dk_27 (dk_at dksX0_next_5 23 rfl rfl)
theorem dX0_next_141 : decode cX0_next 141 = .ok (.iconst 1, 1) := dk_4 (dk_at dksX0_next_6 0 rfl rfl)
theorem dX0_next_142 : decode cX0_next 142 = .ok (.if_icmp .ne 7, 3) := dk_160 0 7 (dk_at dksX0_next_6 1 rfl rfl)
theorem dX0_next_145 : decode cX0_next 145 = .ok (.iload_n 2, 1) := dk_28 (dk_at dksX0_next_6 4 rfl rfl)
theorem dX0_next_146 : decode cX0_next 146 = .ok (.goto 14, 3) := dk_167 0 14 (dk_at dksX0_next_6 5 rfl rfl)
theorem dX0_next_149 : decode cX0_next 149 = .ok (.iload_n 1, 1) := dk_27 (dk_at dksX0_next_6 8 rfl rfl)
theorem dX0_next_150 : decode cX0_next 150 = .ok (.iconst 2, 1) := dk_5 (dk_at dksX0_next_6 9 rfl rfl)
theorem dX0_next_151 : decode cX0_next 151 = .ok (.if_icmp .ne 8, 3) := dk_160 0 8 (dk_at dksX0_next_6 10 rfl rfl)
theorem dX0_next_154 : decode cX0_next 154 = .ok (.iload 4, 2) := dk_21 4 (dk_at dksX0_next_6 13 rfl rfl)
theorem dX0_next_156 : decode cX0_next 156 = .ok (.goto 4, 3) := dk_167 0 4 (dk_at dksX0_next_6 15 rfl rfl)
theorem dX0_next_159 : decode cX0_next 159 = .ok (.iconst (-1), 1) := dk_2 (dk_at dksX0_next_6 18 rfl rfl)
theorem dX0_next_160 : decode cX0_next 160 = .ok (.ireturn, 1) := dk_172 (dk_at dksX0_next_6 19 rfl rfl)
