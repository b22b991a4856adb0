set_option maxRecDepth 100000
/-! ToldTracks$Reader -/
def RX7 : String := "ToldTracks$Reader"
def TX7 : u_T := fun k => match k with
  | 0 => ("ToldTracks$Reader", "size", "I", true)
  | 1 => ("ToldTracks$Reader", "h", "LToldTracks$Sea;", true)
  | 2 => ("ToldTracks$Reader", "at", "I", false)
  | 3 => ("ToldTracks$Reader", "behind", "I", false)
  | 4 => ("ToldTracks$Reader", "place", "I", false)
  | 5 => ("ToldTracks$Reader", "number", "I", false)
  | 6 => ("ToldTracks$Reader", "what", "I", false)
  | 7 => ("ToldTracks$Reader", "open", "I", false)
  | 8 => ("ToldTracks$Reader", "isSeen", "Z", false)
  | 9 => ("ToldTracks$Reader", "sign", "C", false)
  | 10 => ("ToldTracks$Reader", "word", "Ljava/lang/String;", false)
  | _ => ("ToldTracks$Reader", "this$0", "LToldTracks;", true)
def tyX7 : Nat → FieldType := fun k => match k with
  | 0 => .int
  | 1 => .object "ToldTracks$Sea"
  | 2 => .int
  | 3 => .int
  | 4 => .int
  | 5 => .int
  | 6 => .int
  | 7 => .int
  | 8 => .boolean
  | 9 => .char
  | 10 => .object "java/lang/String"
  | _ => .object "ToldTracks"
abbrev wsX70 : List Cond := u_ws RX7 TX7 12
theorem nmX7 : ∀ a, a < 12 → ∀ b, b < 12 → a ≠ b → (TX7 a).2.1 ≠ (TX7 b).2.1 := by decide +kernel
theorem tyX7_ok : ∀ k, k < 12 → parseFieldDescriptor (TX7 k).2.2.1 = some (tyX7 k) := by decide +kernel
abbrev cX7_init : ByteArray := prog_17_method_1_code
def yX7_init : MethodName := ⟨RX7, "<init>", "(LToldTracks;I)V"⟩
def dkwX7_init_1 : List UInt8 := [181, 0, 22, 42, 28, 181, 0, 26, 177]
abbrev dktX7_init_1 : List UInt8 := dkwX7_init_1 ++ []
def dkwX7_init_0 : List UInt8 := [42, 43, 181, 0, 3, 42, 183, 0, 9, 42, 187, 0, 15, 89, 183, 0, 17, 181, 0, 18, 42, 2]
abbrev dktX7_init_0 : List UInt8 := dkwX7_init_0 ++ dktX7_init_1
theorem dksX7_init_0 : cX7_init.data.toList.drop 0 = dktX7_init_0 := by decide +kernel
theorem dksX7_init_1 : cX7_init.data.toList.drop 22 = dktX7_init_1 := dk_seg dksX7_init_0 22 rfl rfl
theorem dX7_init_0 : decode cX7_init 0 = .ok (.aload_n 0, 1) := dk_42 (dk_at dksX7_init_0 0 rfl rfl)
theorem dX7_init_1 : decode cX7_init 1 = .ok (.aload_n 1, 1) := dk_43 (dk_at dksX7_init_0 1 rfl rfl)
theorem dX7_init_2 : decode cX7_init 2 = .ok (.putfield 3, 3) := dk_181 0 3 (dk_at dksX7_init_0 2 rfl rfl)
theorem dX7_init_5 : decode cX7_init 5 = .ok (.aload_n 0, 1) := dk_42 (dk_at dksX7_init_0 5 rfl rfl)
theorem dX7_init_6 : decode cX7_init 6 = .ok (.invokespecial 9, 3) := dk_183 0 9 (dk_at dksX7_init_0 6 rfl rfl)
theorem dX7_init_9 : decode cX7_init 9 = .ok (.aload_n 0, 1) := dk_42 (dk_at dksX7_init_0 9 rfl rfl)
theorem dX7_init_10 : decode cX7_init 10 = .ok (.new 15, 3) := dk_187 0 15 (dk_at dksX7_init_0 10 rfl rfl)
theorem dX7_init_13 : decode cX7_init 13 = .ok (.dup, 1) := dk_89 (dk_at dksX7_init_0 13 rfl rfl)
theorem dX7_init_14 : decode cX7_init 14 = .ok (.invokespecial 17, 3) := dk_183 0 17 (dk_at dksX7_init_0 14 rfl rfl)
theorem dX7_init_17 : decode cX7_init 17 = .ok (.putfield 18, 3) := dk_181 0 18 (dk_at dksX7_init_0 17 rfl rfl)
theorem dX7_init_20 : decode cX7_init 20 = .ok (.aload_n 0, 1) := dk_42 (dk_at dksX7_init_0 20 rfl rfl)
theorem dX7_init_21 : decode cX7_init 21 = .ok (.iconst (-1), 1) := dk_2 (dk_at dksX7_init_0 21 rfl rfl)
theorem dX7_init_22 : decode cX7_init 22 = .ok (.putfield 22, 3) := dk_181 0 22 (dk_at dksX7_init_1 0 rfl rfl)
theorem dX7_init_25 : decode cX7_init 25 = .ok (.aload_n 0, 1) := dk_42 (dk_at dksX7_init_1 3 rfl rfl)
theorem dX7_init_26 : decode cX7_init 26 = .ok (.iload_n 2, 1) := dk_28 (dk_at dksX7_init_1 4 rfl rfl)
theorem dX7_init_27 : decode cX7_init 27 = .ok (.putfield 26, 3) := dk_181 0 26 (dk_at dksX7_init_1 5 rfl rfl)
theorem dX7_init_30 : decode cX7_init 30 = .ok (.return_, 1) := dk_177 (dk_at dksX7_init_1 8 rfl rfl)
abbrev cX7_text : ByteArray := prog_17_method_39_code
def yX7_text : MethodName := ⟨RX7, "text", "()LToldTracks$Sea;"⟩
def dkwX7_text_3 : List UInt8 := [89, 180, 1, 131, 4, 96, 181, 1, 131, 167, 255, 226, 42, 180, 0, 18, 176]
abbrev dktX7_text_3 : List UInt8 := dkwX7_text_3 ++ []
def dkwX7_text_2 : List UInt8 := [181, 1, 131, 42, 182, 0, 78, 153, 0, 29, 42, 182, 1, 134, 42, 16, 59, 182, 0, 130, 42, 180, 0, 18]
abbrev dktX7_text_2 : List UInt8 := dkwX7_text_2 ++ dktX7_text_3
def dkwX7_text_1 : List UInt8 := [180, 0, 18, 42, 5, 16, 16, 182, 0, 216, 181, 1, 7, 42, 16, 59, 182, 0, 130, 42, 180, 0, 18, 4]
abbrev dktX7_text_1 : List UInt8 := dkwX7_text_1 ++ dktX7_text_2
def dkwX7_text_0 : List UInt8 := [42, 19, 1, 130, 182, 0, 236, 42, 180, 0, 18, 42, 5, 16, 16, 182, 0, 216, 181, 1, 4, 42]
abbrev dktX7_text_0 : List UInt8 := dkwX7_text_0 ++ dktX7_text_1
theorem dksX7_text_0 : cX7_text.data.toList.drop 0 = dktX7_text_0 := by decide +kernel
theorem dksX7_text_1 : cX7_text.data.toList.drop 22 = dktX7_text_1 := dk_seg dksX7_text_0 22 rfl rfl
theorem dksX7_text_2 : cX7_text.data.toList.drop 46 = dktX7_text_2 := dk_seg dksX7_text_1 24 rfl rfl
theorem dksX7_text_3 : cX7_text.data.toList.drop 70 = dktX7_text_3 := dk_seg dksX7_text_2 24 rfl rfl
theorem dX7_text_0 : decode cX7_text 0 = .ok (.aload_n 0, 1) := dk_42 (dk_at dksX7_text_0 0 rfl rfl)
theorem dX7_text_1 : decode cX7_text 1 = .ok (.ldc_w 386, 3) := dk_19 1 130 (dk_at dksX7_text_0 1 rfl rfl)
theorem dX7_text_4 : decode cX7_text 4 = .ok (.invokevirtual 236, 3) := dk_182 0 236 (dk_at dksX7_text_0 4 rfl rfl)
theorem dX7_text_7 : decode cX7_text 7 = .ok (.aload_n 0, 1) := dk_42 (dk_at dksX7_text_0 7 rfl rfl)
theorem dX7_text_8 : decode cX7_text 8 = .ok (.getfield 18, 3) := dk_180 0 18 (dk_at dksX7_text_0 8 rfl rfl)
theorem dX7_text_11 : decode cX7_text 11 = .ok (.aload_n 0, 1) := dk_42 (dk_at dksX7_text_0 11 rfl rfl)
theorem dX7_text_12 : decode cX7_text 12 = .ok (.iconst 2, 1) := dk_5 (dk_at dksX7_text_0 12 rfl rfl)
theorem dX7_text_13 : decode cX7_text 13 = .ok (.bipush 16, 2) := dk_16 16 (dk_at dksX7_text_0 13 rfl rfl)
theorem dX7_text_15 : decode cX7_text 15 = .ok (.invokevirtual 216, 3) := dk_182 0 216 (dk_at dksX7_text_0 15 rfl rfl)
theorem dX7_text_18 : decode cX7_text 18 = .ok (.putfield 260, 3) := dk_181 1 4 (dk_at dksX7_text_0 18 rfl rfl)
theorem dX7_text_21 : decode cX7_text 21 = .ok (.aload_n 0, 1) := dk_42 (dk_at dksX7_text_0 21 rfl rfl)
theorem dX7_text_22 : decode cX7_text 22 = .ok (.getfield 18, 3) := dk_180 0 18 (dk_at dksX7_text_1 0 rfl rfl)
theorem dX7_text_25 : decode cX7_text 25 = .ok (.aload_n 0, 1) := dk_42 (dk_at dksX7_text_1 3 rfl rfl)
theorem dX7_text_26 : decode cX7_text 26 = .ok (.iconst 2, 1) := dk_5 (dk_at dksX7_text_1 4 rfl rfl)
theorem dX7_text_27 : decode cX7_text 27 = .ok (.bipush 16, 2) := dk_16 16 (dk_at dksX7_text_1 5 rfl rfl)
theorem dX7_text_29 : decode cX7_text 29 = .ok (.invokevirtual 216, 3) := dk_182 0 216 (dk_at dksX7_text_1 7 rfl rfl)
theorem dX7_text_32 : decode cX7_text 32 = .ok (.putfield 263, 3) := dk_181 1 7 (dk_at dksX7_text_1 10 rfl rfl)
theorem dX7_text_35 : decode cX7_text 35 = .ok (.aload_n 0, 1) := dk_42 (dk_at dksX7_text_1 13 rfl rfl)
theorem dX7_text_36 : decode cX7_text 36 = .ok (.bipush 59, 2) := dk_16 59 (dk_at dksX7_text_1 14 rfl rfl)
theorem dX7_text_38 : decode cX7_text 38 = .ok (.invokevirtual 130, 3) := dk_182 0 130 (dk_at dksX7_text_1 16 rfl rfl)
theorem dX7_text_41 : decode cX7_text 41 = .ok (.aload_n 0, 1) := dk_42 (dk_at dksX7_text_1 19 rfl rfl)
theorem dX7_text_42 : decode cX7_text 42 = .ok (.getfield 18, 3) := dk_180 0 18 (dk_at dksX7_text_1 20 rfl rfl)
theorem dX7_text_45 : decode cX7_text 45 = .ok (.iconst 1, 1) := dk_4 (dk_at dksX7_text_1 23 rfl rfl)
theorem dX7_text_46 : decode cX7_text 46 = .ok (.putfield 387, 3) := dk_181 1 131 (dk_at dksX7_text_2 0 rfl rfl)
theorem dX7_text_49 : decode cX7_text 49 = .ok (.aload_n 0, 1) := dk_42 (dk_at dksX7_text_2 3 rfl rfl)
theorem dX7_text_50 : decode cX7_text 50 = .ok (.invokevirtual 78, 3) := dk_182 0 78 (dk_at dksX7_text_2 4 rfl rfl)
theorem dX7_text_53 : decode cX7_text 53 = .ok (.ifCond .eq 29, 3) := dk_153 0 29 (dk_at dksX7_text_2 7 rfl rfl)
theorem dX7_text_56 : decode cX7_text 56 = .ok (.aload_n 0, 1) := dk_42 (dk_at dksX7_text_2 10 rfl rfl)
theorem dX7_text_57 : decode cX7_text 57 = .ok (.invokevirtual 390, 3) := dk_182 1 134 (dk_at dksX7_text_2 11 rfl rfl)
theorem dX7_text_60 : decode cX7_text 60 = .ok (.aload_n 0, 1) := dk_42 (dk_at dksX7_text_2 14 rfl rfl)
theorem dX7_text_61 : decode cX7_text 61 = .ok (.bipush 59, 2) := dk_16 59 (dk_at dksX7_text_2 15 rfl rfl)
theorem dX7_text_63 : decode cX7_text 63 = .ok (.invokevirtual 130, 3) := dk_182 0 130 (dk_at dksX7_text_2 17 rfl rfl)
theorem dX7_text_66 : decode cX7_text 66 = .ok (.aload_n 0, 1) := dk_42 (dk_at dksX7_text_2 20 rfl rfl)
theorem dX7_text_67 : decode cX7_text 67 = .ok (.getfield 18, 3) := dk_180 0 18 (dk_at dksX7_text_2 21 rfl rfl)
theorem dX7_text_70 : decode cX7_text 70 = .ok (.dup, 1) := dk_89 (dk_at dksX7_text_3 0 rfl rfl)
theorem dX7_text_71 : decode cX7_text 71 = .ok (.getfield 387, 3) := dk_180 1 131 (dk_at dksX7_text_3 1 rfl rfl)
theorem dX7_text_74 : decode cX7_text 74 = .ok (.iconst 1, 1) := dk_4 (dk_at dksX7_text_3 4 rfl rfl)
theorem dX7_text_75 : decode cX7_text 75 = .ok (.iadd, 1) := dk_96 (dk_at dksX7_text_3 5 rfl rfl)
theorem dX7_text_76 : decode cX7_text 76 = .ok (.putfield 387, 3) := dk_181 1 131 (dk_at dksX7_text_3 6 rfl rfl)
theorem dX7_text_79 : decode cX7_text 79 = .ok (.goto (-30), 3) := dk_167 255 226 (dk_at dksX7_text_3 9 rfl rfl)
theorem dX7_text_82 : decode cX7_text 82 = .ok (.aload_n 0, 1) := dk_42 (dk_at dksX7_text_3 12 rfl rfl)
theorem dX7_text_83 : decode cX7_text 83 = .ok (.getfield 18, 3) := dk_180 0 18 (dk_at dksX7_text_3 13 rfl rfl)
theorem dX7_text_86 : decode cX7_text 86 = .ok (.areturn, 1) := dk_176 (dk_at dksX7_text_3 16 rfl rfl)
abbrev cX7_asks : ByteArray := prog_17_method_11_code
def yX7_asks : MethodName := ⟨RX7, "asks", "(Ljava/lang/String;)V"⟩
def dkwX7_asks_0 : List UInt8 := [42, 43, 182, 0, 100, 154, 0, 8, 42, 182, 0, 96, 191, 177]
abbrev dktX7_asks_0 : List UInt8 := dkwX7_asks_0 ++ []
theorem dksX7_asks_0 : cX7_asks.data.toList.drop 0 = dktX7_asks_0 := by decide +kernel
theorem dX7_asks_0 : decode cX7_asks 0 = .ok (.aload_n 0, 1) := dk_42 (dk_at dksX7_asks_0 0 rfl rfl)
theorem dX7_asks_1 : decode cX7_asks 1 = .ok (.aload_n 1, 1) := dk_43 (dk_at dksX7_asks_0 1 rfl rfl)
theorem dX7_asks_2 : decode cX7_asks 2 = .ok (.invokevirtual 100, 3) := dk_182 0 100 (dk_at dksX7_asks_0 2 rfl rfl)
theorem dX7_asks_5 : decode cX7_asks 5 = .ok (.ifCond .ne 8, 3) := dk_154 0 8 (dk_at dksX7_asks_0 5 rfl rfl)
theorem dX7_asks_8 : decode cX7_asks 8 = .ok (.aload_n 0, 1) := dk_42 (dk_at dksX7_asks_0 8 rfl rfl)
theorem dX7_asks_9 : decode cX7_asks 9 = .ok (.invokevirtual 96, 3) := dk_182 0 96 (dk_at dksX7_asks_0 9 rfl rfl)
theorem dX7_asks_12 : decode cX7_asks 12 = .ok (.athrow, 1) := dk_191 (dk_at dksX7_asks_0 12 rfl rfl)
theorem dX7_asks_13 : decode cX7_asks 13 = .ok (.return_, 1) := dk_177 (dk_at dksX7_asks_0 13 rfl rfl)
abbrev cX7_takes : ByteArray := prog_17_method_9_code
def yX7_takes : MethodName := ⟨RX7, "takes", "(Ljava/lang/String;)Z"⟩
def dkwX7_takes_0 : List UInt8 := [42, 43, 182, 0, 89, 154, 0, 5, 3, 172, 42, 3, 181, 0, 29, 4, 172]
abbrev dktX7_takes_0 : List UInt8 := dkwX7_takes_0 ++ []
theorem dksX7_takes_0 : cX7_takes.data.toList.drop 0 = dktX7_takes_0 := by decide +kernel
theorem dX7_takes_0 : decode cX7_takes 0 = .ok (.aload_n 0, 1) := dk_42 (dk_at dksX7_takes_0 0 rfl rfl)
theorem dX7_takes_1 : decode cX7_takes 1 = .ok (.aload_n 1, 1) := dk_43 (dk_at dksX7_takes_0 1 rfl rfl)
theorem dX7_takes_2 : decode cX7_takes 2 = .ok (.invokevirtual 89, 3) := dk_182 0 89 (dk_at dksX7_takes_0 2 rfl rfl)
theorem dX7_takes_5 : decode cX7_takes 5 = .ok (.ifCond .ne 5, 3) := dk_154 0 5 (dk_at dksX7_takes_0 5 rfl rfl)
theorem dX7_takes_8 : decode cX7_takes 8 = .ok (.iconst 0, 1) := dk_3 (dk_at dksX7_takes_0 8 rfl rfl)
theorem dX7_takes_9 : decode cX7_takes 9 = .ok (.ireturn, 1) := dk_172 (dk_at dksX7_takes_0 9 rfl rfl)
theorem dX7_takes_10 : decode cX7_takes 10 = .ok (.aload_n 0, 1) := dk_42 (dk_at dksX7_takes_0 10 rfl rfl)
theorem dX7_takes_11 : decode cX7_takes 11 = .ok (.iconst 0, 1) := dk_3 (dk_at dksX7_takes_0 11 rfl rfl)
theorem dX7_takes_12 : decode cX7_takes 12 = .ok (.putfield 29, 3) := dk_181 0 29 (dk_at dksX7_takes_0 12 rfl rfl)
theorem dX7_takes_15 : decode cX7_takes 15 = .ok (.iconst 1, 1) := dk_4 (dk_at dksX7_takes_0 15 rfl rfl)
theorem dX7_takes_16 : decode cX7_takes 16 = .ok (.ireturn, 1) := dk_172 (dk_at dksX7_takes_0 16 rfl rfl)
abbrev cX7_isWord : ByteArray := prog_17_method_7_code
def yX7_isWord : MethodName := ⟨RX7, "isWord", "(Ljava/lang/String;)Z"⟩
def dkwX7_isWord_1 : List UInt8 := [172]
abbrev dktX7_isWord_1 : List UInt8 := dkwX7_isWord_1 ++ []
def dkwX7_isWord_0 : List UInt8 := [42, 182, 0, 78, 4, 160, 0, 18, 42, 180, 0, 67, 43, 182, 0, 82, 153, 0, 7, 4, 167, 0, 4, 3]
abbrev dktX7_isWord_0 : List UInt8 := dkwX7_isWord_0 ++ dktX7_isWord_1
theorem dksX7_isWord_0 : cX7_isWord.data.toList.drop 0 = dktX7_isWord_0 := by decide +kernel
theorem dksX7_isWord_1 : cX7_isWord.data.toList.drop 24 = dktX7_isWord_1 := dk_seg dksX7_isWord_0 24 rfl rfl
theorem dX7_isWord_0 : decode cX7_isWord 0 = .ok (.aload_n 0, 1) := dk_42 (dk_at dksX7_isWord_0 0 rfl rfl)
theorem dX7_isWord_1 : decode cX7_isWord 1 = .ok (.invokevirtual 78, 3) := dk_182 0 78 (dk_at dksX7_isWord_0 1 rfl rfl)
theorem dX7_isWord_4 : decode cX7_isWord 4 = .ok (.iconst 1, 1) := dk_4 (dk_at dksX7_isWord_0 4 rfl rfl)
theorem dX7_isWord_5 : decode cX7_isWord 5 = .ok (.if_icmp .ne 18, 3) := dk_160 0 18 (dk_at dksX7_isWord_0 5 rfl rfl)
theorem dX7_isWord_8 : decode cX7_isWord 8 = .ok (.aload_n 0, 1) := dk_42 (dk_at dksX7_isWord_0 8 rfl rfl)
theorem dX7_isWord_9 : decode cX7_isWord 9 = .ok (.getfield 67, 3) := dk_180 0 67 (dk_at dksX7_isWord_0 9 rfl rfl)
theorem dX7_isWord_12 : decode cX7_isWord 12 = .ok (.aload_n 1, 1) := dk_43 (dk_at dksX7_isWord_0 12 rfl rfl)
theorem dX7_isWord_13 : decode cX7_isWord 13 = .ok (.invokevirtual 82, 3) := dk_182 0 82 (dk_at dksX7_isWord_0 13 rfl rfl)
theorem dX7_isWord_16 : decode cX7_isWord 16 = .ok (.ifCond .eq 7, 3) := dk_153 0 7 (dk_at dksX7_isWord_0 16 rfl rfl)
theorem dX7_isWord_19 : decode cX7_isWord 19 = .ok (.iconst 1, 1) := dk_4 (dk_at dksX7_isWord_0 19 rfl rfl)
theorem dX7_isWord_20 : decode cX7_isWord 20 = .ok (.goto 4, 3) := dk_167 0 4 (dk_at dksX7_isWord_0 20 rfl rfl)
theorem dX7_isWord_23 : decode cX7_isWord 23 = .ok (.iconst 0, 1) := dk_3 (dk_at dksX7_isWord_0 23 rfl rfl)
theorem dX7_isWord_24 : decode cX7_isWord 24 = .ok (.ireturn, 1) := dk_172 (dk_at dksX7_isWord_1 0 rfl rfl)
abbrev cX7_see : ByteArray := prog_17_method_4_code
def yX7_see : MethodName := ⟨RX7, "see", "()I"⟩
def dkwX7_see_15 : List UInt8 := [167, 0, 4, 5, 181, 0, 33, 42, 180, 0, 33, 172]
abbrev dktX7_see_15 : List UInt8 := dkwX7_see_15 ++ []
def dkwX7_see_14 : List UInt8 := [181, 0, 67, 28, 154, 0, 14, 42, 42, 180, 0, 67, 184, 0, 71, 181, 0, 75, 42, 28, 153, 0, 7, 4]
abbrev dktX7_see_14 : List UInt8 := dkwX7_see_14 ++ dktX7_see_15
def dkwX7_see_13 : List UInt8 := [42, 180, 0, 3, 180, 0, 39, 42, 180, 0, 43, 42, 180, 0, 36, 42, 180, 0, 43, 100, 183, 0, 64]
abbrev dktX7_see_13 : List UInt8 := dkwX7_see_13 ++ dktX7_see_14
def dkwX7_see_12 : List UInt8 := [180, 0, 36, 4, 96, 181, 0, 36, 167, 255, 164, 42, 42, 180, 0, 36, 181, 0, 22, 42, 187, 0, 62, 89]
abbrev dktX7_see_12 : List UInt8 := dkwX7_see_12 ++ dktX7_see_13
def dkwX7_see_11 : List UInt8 := [180, 0, 43, 100, 29, 160, 0, 16, 187, 0, 57, 89, 4, 42, 180, 0, 36, 183, 0, 59, 191, 42, 89]
abbrev dktX7_see_11 : List UInt8 := dkwX7_see_11 ++ dktX7_see_12
def dkwX7_see_10 : List UInt8 := [180, 0, 3, 180, 0, 39, 42, 180, 0, 36, 52, 182, 0, 50, 153, 0, 42, 42, 180, 0, 36, 42]
abbrev dktX7_see_10 : List UInt8 := dkwX7_see_10 ++ dktX7_see_11
def dkwX7_see_9 : List UInt8 := [180, 0, 3, 180, 0, 39, 42, 180, 0, 36, 52, 182, 0, 46, 153, 0, 64, 167, 0, 22, 42, 42]
abbrev dktX7_see_9 : List UInt8 := dkwX7_see_9 ++ dktX7_see_10
def dkwX7_see_8 : List UInt8 := [16, 6, 167, 0, 4, 7, 62, 42, 180, 0, 36, 42, 180, 0, 26, 162, 0, 87, 28, 153, 0, 25, 42, 42]
abbrev dktX7_see_8 : List UInt8 := dkwX7_see_8 ++ dktX7_see_9
def dkwX7_see_7 : List UInt8 := [180, 0, 22, 160, 0, 16, 187, 0, 57, 89, 4, 42, 180, 0, 36, 183, 0, 59, 191, 28, 153, 0, 8]
abbrev dktX7_see_7 : List UInt8 := dkwX7_see_7 ++ dktX7_see_8
def dkwX7_see_6 : List UInt8 := [180, 0, 36, 4, 96, 181, 0, 36, 42, 6, 181, 0, 33, 42, 180, 0, 33, 172, 42, 180, 0, 36, 42]
abbrev dktX7_see_6 : List UInt8 := dkwX7_see_6 ++ dktX7_see_7
def dkwX7_see_5 : List UInt8 := [182, 0, 46, 61, 28, 154, 0, 36, 42, 27, 182, 0, 50, 154, 0, 28, 42, 27, 181, 0, 53, 42, 89]
abbrev dktX7_see_5 : List UInt8 := dkwX7_see_5 ++ dktX7_see_6
def dkwX7_see_4 : List UInt8 := [160, 0, 8, 42, 180, 0, 33, 172, 42, 180, 0, 3, 180, 0, 39, 42, 180, 0, 36, 52, 60, 42, 27]
abbrev dktX7_see_4 : List UInt8 := dkwX7_see_4 ++ dktX7_see_5
def dkwX7_see_3 : List UInt8 := [180, 0, 36, 181, 0, 43, 42, 4, 181, 0, 29, 42, 3, 181, 0, 33, 42, 180, 0, 36, 42, 180, 0, 26]
abbrev dktX7_see_3 : List UInt8 := dkwX7_see_3 ++ dktX7_see_4
def dkwX7_see_2 : List UInt8 := [180, 0, 36, 52, 16, 10, 160, 0, 16, 42, 89, 180, 0, 36, 4, 96, 181, 0, 36, 167, 255, 201, 42, 42]
abbrev dktX7_see_2 : List UInt8 := dkwX7_see_2 ++ dktX7_see_3
def dkwX7_see_1 : List UInt8 := [180, 0, 3, 180, 0, 39, 42, 180, 0, 36, 52, 16, 32, 159, 0, 20, 42, 180, 0, 3, 180, 0, 39, 42]
abbrev dktX7_see_1 : List UInt8 := dkwX7_see_1 ++ dktX7_see_2
def dkwX7_see_0 : List UInt8 := [42, 180, 0, 29, 153, 0, 8, 42, 180, 0, 33, 172, 42, 180, 0, 36, 42, 180, 0, 26, 162, 0, 50, 42]
abbrev dktX7_see_0 : List UInt8 := dkwX7_see_0 ++ dktX7_see_1
theorem dksX7_see_0 : cX7_see.data.toList.drop 0 = dktX7_see_0 := by decide +kernel
theorem dksX7_see_1 : cX7_see.data.toList.drop 24 = dktX7_see_1 := dk_seg dksX7_see_0 24 rfl rfl
theorem dksX7_see_2 : cX7_see.data.toList.drop 48 = dktX7_see_2 := dk_seg dksX7_see_1 24 rfl rfl
theorem dksX7_see_3 : cX7_see.data.toList.drop 72 = dktX7_see_3 := dk_seg dksX7_see_2 24 rfl rfl
theorem dksX7_see_4 : cX7_see.data.toList.drop 96 = dktX7_see_4 := dk_seg dksX7_see_3 24 rfl rfl
theorem dksX7_see_5 : cX7_see.data.toList.drop 119 = dktX7_see_5 := dk_seg dksX7_see_4 23 rfl rfl
theorem dksX7_see_6 : cX7_see.data.toList.drop 142 = dktX7_see_6 := dk_seg dksX7_see_5 23 rfl rfl
theorem dksX7_see_7 : cX7_see.data.toList.drop 165 = dktX7_see_7 := dk_seg dksX7_see_6 23 rfl rfl
theorem dksX7_see_8 : cX7_see.data.toList.drop 188 = dktX7_see_8 := dk_seg dksX7_see_7 23 rfl rfl
theorem dksX7_see_9 : cX7_see.data.toList.drop 212 = dktX7_see_9 := dk_seg dksX7_see_8 24 rfl rfl
theorem dksX7_see_10 : cX7_see.data.toList.drop 234 = dktX7_see_10 := dk_seg dksX7_see_9 22 rfl rfl
theorem dksX7_see_11 : cX7_see.data.toList.drop 256 = dktX7_see_11 := dk_seg dksX7_see_10 22 rfl rfl
theorem dksX7_see_12 : cX7_see.data.toList.drop 279 = dktX7_see_12 := dk_seg dksX7_see_11 23 rfl rfl
theorem dksX7_see_13 : cX7_see.data.toList.drop 303 = dktX7_see_13 := dk_seg dksX7_see_12 24 rfl rfl
theorem dksX7_see_14 : cX7_see.data.toList.drop 326 = dktX7_see_14 := dk_seg dksX7_see_13 23 rfl rfl
theorem dksX7_see_15 : cX7_see.data.toList.drop 350 = dktX7_see_15 := dk_seg dksX7_see_14 24 rfl rfl
theorem dX7_see_0 : decode cX7_see 0 = .ok (.aload_n 0, 1) := dk_42 (dk_at dksX7_see_0 0 rfl rfl)
theorem dX7_see_1 : decode cX7_see 1 = .ok (.getfield 29, 3) := dk_180 0 29 (dk_at dksX7_see_0 1 rfl rfl)
theorem dX7_see_4 : decode cX7_see 4 = .ok (.ifCond .eq 8, 3) := dk_153 0 8 (dk_at dksX7_see_0 4 rfl rfl)
theorem dX7_see_7 : decode cX7_see 7 = .ok (.aload_n 0, 1) := dk_42 (dk_at dksX7_see_0 7 rfl rfl)
theorem dX7_see_8 : decode cX7_see 8 = .ok (.getfield 33, 3) := dk_180 0 33 (dk_at dksX7_see_0 8 rfl rfl)
theorem dX7_see_11 : decode cX7_see 11 = .ok (.ireturn, 1) := dk_172 (dk_at dksX7_see_0 11 rfl rfl)
theorem dX7_see_12 : decode cX7_see 12 = .ok (.aload_n 0, 1) := dk_42 (dk_at dksX7_see_0 12 rfl rfl)
theorem dX7_see_13 : decode cX7_see 13 = .ok (.getfield 36, 3) := dk_180 0 36 (dk_at dksX7_see_0 13 rfl rfl)
theorem dX7_see_16 : decode cX7_see 16 = .ok (.aload_n 0, 1) := dk_42 (dk_at dksX7_see_0 16 rfl rfl)
theorem dX7_see_17 : decode cX7_see 17 = .ok (.getfield 26, 3) := dk_180 0 26 (dk_at dksX7_see_0 17 rfl rfl)
theorem dX7_see_20 : decode cX7_see 20 = .ok (.if_icmp .ge 50, 3) := dk_162 0 50 (dk_at dksX7_see_0 20 rfl rfl)
theorem dX7_see_23 : decode cX7_see 23 = .ok (.aload_n 0, 1) := dk_42 (dk_at dksX7_see_0 23 rfl rfl)
theorem dX7_see_24 : decode cX7_see 24 = .ok (.getfield 3, 3) := dk_180 0 3 (dk_at dksX7_see_1 0 rfl rfl)
theorem dX7_see_27 : decode cX7_see 27 = .ok (.getfield 39, 3) := dk_180 0 39 (dk_at dksX7_see_1 3 rfl rfl)
theorem dX7_see_30 : decode cX7_see 30 = .ok (.aload_n 0, 1) := dk_42 (dk_at dksX7_see_1 6 rfl rfl)
theorem dX7_see_31 : decode cX7_see 31 = .ok (.getfield 36, 3) := dk_180 0 36 (dk_at dksX7_see_1 7 rfl rfl)
theorem dX7_see_34 : decode cX7_see 34 = .ok (.caload, 1) := dk_52 (dk_at dksX7_see_1 10 rfl rfl)
theorem dX7_see_35 : decode cX7_see 35 = .ok (.bipush 32, 2) := dk_16 32 (dk_at dksX7_see_1 11 rfl rfl)
theorem dX7_see_37 : decode cX7_see 37 = .ok (.if_icmp .eq 20, 3) := dk_159 0 20 (dk_at dksX7_see_1 13 rfl rfl)
theorem dX7_see_40 : decode cX7_see 40 = .ok (.aload_n 0, 1) := dk_42 (dk_at dksX7_see_1 16 rfl rfl)
theorem dX7_see_41 : decode cX7_see 41 = .ok (.getfield 3, 3) := dk_180 0 3 (dk_at dksX7_see_1 17 rfl rfl)
theorem dX7_see_44 : decode cX7_see 44 = .ok (.getfield 39, 3) := dk_180 0 39 (dk_at dksX7_see_1 20 rfl rfl)
theorem dX7_see_47 : decode cX7_see 47 = .ok (.aload_n 0, 1) := dk_42 (dk_at dksX7_see_1 23 rfl rfl)
theorem dX7_see_48 : decode cX7_see 48 = .ok (.getfield 36, 3) := dk_180 0 36 (dk_at dksX7_see_2 0 rfl rfl)
theorem dX7_see_51 : decode cX7_see 51 = .ok (.caload, 1) := dk_52 (dk_at dksX7_see_2 3 rfl rfl)
theorem dX7_see_52 : decode cX7_see 52 = .ok (.bipush 10, 2) := dk_16 10 (dk_at dksX7_see_2 4 rfl rfl)
theorem dX7_see_54 : decode cX7_see 54 = .ok (.if_icmp .ne 16, 3) := dk_160 0 16 (dk_at dksX7_see_2 6 rfl rfl)
theorem dX7_see_57 : decode cX7_see 57 = .ok (.aload_n 0, 1) := dk_42 (dk_at dksX7_see_2 9 rfl rfl)
theorem dX7_see_58 : decode cX7_see 58 = .ok (.dup, 1) := dk_89 (dk_at dksX7_see_2 10 rfl rfl)
theorem dX7_see_59 : decode cX7_see 59 = .ok (.getfield 36, 3) := dk_180 0 36 (dk_at dksX7_see_2 11 rfl rfl)
theorem dX7_see_62 : decode cX7_see 62 = .ok (.iconst 1, 1) := dk_4 (dk_at dksX7_see_2 14 rfl rfl)
theorem dX7_see_63 : decode cX7_see 63 = .ok (.iadd, 1) := dk_96 (dk_at dksX7_see_2 15 rfl rfl)
theorem dX7_see_64 : decode cX7_see 64 = .ok (.putfield 36, 3) := dk_181 0 36 (dk_at dksX7_see_2 16 rfl rfl)
theorem dX7_see_67 : decode cX7_see 67 = .ok (.goto (-55), 3) := dk_167 255 201 (dk_at dksX7_see_2 19 rfl rfl)
theorem dX7_see_70 : decode cX7_see 70 = .ok (.aload_n 0, 1) := dk_42 (dk_at dksX7_see_2 22 rfl rfl)
theorem dX7_see_71 : decode cX7_see 71 = .ok (.aload_n 0, 1) := dk_42 (dk_at dksX7_see_2 23 rfl rfl)
theorem dX7_see_72 : decode cX7_see 72 = .ok (.getfield 36, 3) := dk_180 0 36 (dk_at dksX7_see_3 0 rfl rfl)
theorem dX7_see_75 : decode cX7_see 75 = .ok (.putfield 43, 3) := dk_181 0 43 (dk_at dksX7_see_3 3 rfl rfl)
theorem dX7_see_78 : decode cX7_see 78 = .ok (.aload_n 0, 1) := dk_42 (dk_at dksX7_see_3 6 rfl rfl)
theorem dX7_see_79 : decode cX7_see 79 = .ok (.iconst 1, 1) := dk_4 (dk_at dksX7_see_3 7 rfl rfl)
theorem dX7_see_80 : decode cX7_see 80 = .ok (.putfield 29, 3) := dk_181 0 29 (dk_at dksX7_see_3 8 rfl rfl)
theorem dX7_see_83 : decode cX7_see 83 = .ok (.aload_n 0, 1) := dk_42 (dk_at dksX7_see_3 11 rfl rfl)
theorem dX7_see_84 : decode cX7_see 84 = .ok (.iconst 0, 1) := dk_3 (dk_at dksX7_see_3 12 rfl rfl)
theorem dX7_see_85 : decode cX7_see 85 = .ok (.putfield 33, 3) := dk_181 0 33 (dk_at dksX7_see_3 13 rfl rfl)
theorem dX7_see_88 : decode cX7_see 88 = .ok (.aload_n 0, 1) := dk_42 (dk_at dksX7_see_3 16 rfl rfl)
theorem dX7_see_89 : decode cX7_see 89 = .ok (.getfield 36, 3) := dk_180 0 36 (dk_at dksX7_see_3 17 rfl rfl)
theorem dX7_see_92 : decode cX7_see 92 = .ok (.aload_n 0, 1) := dk_42 (dk_at dksX7_see_3 20 rfl rfl)
theorem dX7_see_93 : decode cX7_see 93 = .ok (.getfield 26, 3) := dk_180 0 26 (dk_at dksX7_see_3 21 rfl rfl)
theorem dX7_see_96 : decode cX7_see 96 = .ok (.if_icmp .ne 8, 3) := dk_160 0 8 (dk_at dksX7_see_4 0 rfl rfl)
theorem dX7_see_99 : decode cX7_see 99 = .ok (.aload_n 0, 1) := dk_42 (dk_at dksX7_see_4 3 rfl rfl)
theorem dX7_see_100 : decode cX7_see 100 = .ok (.getfield 33, 3) := dk_180 0 33 (dk_at dksX7_see_4 4 rfl rfl)
theorem dX7_see_103 : decode cX7_see 103 = .ok (.ireturn, 1) := dk_172 (dk_at dksX7_see_4 7 rfl rfl)
theorem dX7_see_104 : decode cX7_see 104 = .ok (.aload_n 0, 1) := dk_42 (dk_at dksX7_see_4 8 rfl rfl)
theorem dX7_see_105 : decode cX7_see 105 = .ok (.getfield 3, 3) := dk_180 0 3 (dk_at dksX7_see_4 9 rfl rfl)
theorem dX7_see_108 : decode cX7_see 108 = .ok (.getfield 39, 3) := dk_180 0 39 (dk_at dksX7_see_4 12 rfl rfl)
theorem dX7_see_111 : decode cX7_see 111 = .ok (.aload_n 0, 1) := dk_42 (dk_at dksX7_see_4 15 rfl rfl)
theorem dX7_see_112 : decode cX7_see 112 = .ok (.getfield 36, 3) := dk_180 0 36 (dk_at dksX7_see_4 16 rfl rfl)
theorem dX7_see_115 : decode cX7_see 115 = .ok (.caload, 1) := dk_52 (dk_at dksX7_see_4 19 rfl rfl)
theorem dX7_see_116 : decode cX7_see 116 = .ok (.istore_n 1, 1) := dk_60 (dk_at dksX7_see_4 20 rfl rfl)
theorem dX7_see_117 : decode cX7_see 117 = .ok (.aload_n 0, 1) := dk_42 (dk_at dksX7_see_4 21 rfl rfl)
theorem dX7_see_118 : decode cX7_see 118 = .ok (.iload_n 1, 1) := dk_27 (dk_at dksX7_see_4 22 rfl rfl)
theorem dX7_see_119 : decode cX7_see 119 = .ok (.invokevirtual 46, 3) := dk_182 0 46 (dk_at dksX7_see_5 0 rfl rfl)
theorem dX7_see_122 : decode cX7_see 122 = .ok (.istore_n 2, 1) := dk_61 (dk_at dksX7_see_5 3 rfl rfl)
theorem dX7_see_123 : decode cX7_see 123 = .ok (.iload_n 2, 1) := dk_28 (dk_at dksX7_see_5 4 rfl rfl)
theorem dX7_see_124 : decode cX7_see 124 = .ok (.ifCond .ne 36, 3) := dk_154 0 36 (dk_at dksX7_see_5 5 rfl rfl)
theorem dX7_see_127 : decode cX7_see 127 = .ok (.aload_n 0, 1) := dk_42 (dk_at dksX7_see_5 8 rfl rfl)
theorem dX7_see_128 : decode cX7_see 128 = .ok (.iload_n 1, 1) := dk_27 (dk_at dksX7_see_5 9 rfl rfl)
theorem dX7_see_129 : decode cX7_see 129 = .ok (.invokevirtual 50, 3) := dk_182 0 50 (dk_at dksX7_see_5 10 rfl rfl)
theorem dX7_see_132 : decode cX7_see 132 = .ok (.ifCond .ne 28, 3) := dk_154 0 28 (dk_at dksX7_see_5 13 rfl rfl)
theorem dX7_see_135 : decode cX7_see 135 = .ok (.aload_n 0, 1) := dk_42 (dk_at dksX7_see_5 16 rfl rfl)
theorem dX7_see_136 : decode cX7_see 136 = .ok (.iload_n 1, 1) := dk_27 (dk_at dksX7_see_5 17 rfl rfl)
theorem dX7_see_137 : decode cX7_see 137 = .ok (.putfield 53, 3) := dk_181 0 53 (dk_at dksX7_see_5 18 rfl rfl)
theorem dX7_see_140 : decode cX7_see 140 = .ok (.aload_n 0, 1) := dk_42 (dk_at dksX7_see_5 21 rfl rfl)
theorem dX7_see_141 : decode cX7_see 141 = .ok (.dup, 1) := dk_89 (dk_at dksX7_see_5 22 rfl rfl)
theorem dX7_see_142 : decode cX7_see 142 = .ok (.getfield 36, 3) := dk_180 0 36 (dk_at dksX7_see_6 0 rfl rfl)
theorem dX7_see_145 : decode cX7_see 145 = .ok (.iconst 1, 1) := dk_4 (dk_at dksX7_see_6 3 rfl rfl)
theorem dX7_see_146 : decode cX7_see 146 = .ok (.iadd, 1) := dk_96 (dk_at dksX7_see_6 4 rfl rfl)
theorem dX7_see_147 : decode cX7_see 147 = .ok (.putfield 36, 3) := dk_181 0 36 (dk_at dksX7_see_6 5 rfl rfl)
theorem dX7_see_150 : decode cX7_see 150 = .ok (.aload_n 0, 1) := dk_42 (dk_at dksX7_see_6 8 rfl rfl)
theorem dX7_see_151 : decode cX7_see 151 = .ok (.iconst 3, 1) := dk_6 (dk_at dksX7_see_6 9 rfl rfl)
theorem dX7_see_152 : decode cX7_see 152 = .ok (.putfield 33, 3) := dk_181 0 33 (dk_at dksX7_see_6 10 rfl rfl)
theorem dX7_see_155 : decode cX7_see 155 = .ok (.aload_n 0, 1) := dk_42 (dk_at dksX7_see_6 13 rfl rfl)
theorem dX7_see_156 : decode cX7_see 156 = .ok (.getfield 33, 3) := dk_180 0 33 (dk_at dksX7_see_6 14 rfl rfl)
theorem dX7_see_159 : decode cX7_see 159 = .ok (.ireturn, 1) := dk_172 (dk_at dksX7_see_6 17 rfl rfl)
theorem dX7_see_160 : decode cX7_see 160 = .ok (.aload_n 0, 1) := dk_42 (dk_at dksX7_see_6 18 rfl rfl)
theorem dX7_see_161 : decode cX7_see 161 = .ok (.getfield 36, 3) := dk_180 0 36 (dk_at dksX7_see_6 19 rfl rfl)
theorem dX7_see_164 : decode cX7_see 164 = .ok (.aload_n 0, 1) := dk_42 (dk_at dksX7_see_6 22 rfl rfl)
theorem dX7_see_165 : decode cX7_see 165 = .ok (.getfield 22, 3) := dk_180 0 22 (dk_at dksX7_see_7 0 rfl rfl)
theorem dX7_see_168 : decode cX7_see 168 = .ok (.if_icmp .ne 16, 3) := dk_160 0 16 (dk_at dksX7_see_7 3 rfl rfl)
theorem dX7_see_171 : decode cX7_see 171 = .ok (.new 57, 3) := dk_187 0 57 (dk_at dksX7_see_7 6 rfl rfl)
theorem dX7_see_174 : decode cX7_see 174 = .ok (.dup, 1) := dk_89 (dk_at dksX7_see_7 9 rfl rfl)
theorem dX7_see_175 : decode cX7_see 175 = .ok (.iconst 1, 1) := dk_4 (dk_at dksX7_see_7 10 rfl rfl)
theorem dX7_see_176 : decode cX7_see 176 = .ok (.aload_n 0, 1) := dk_42 (dk_at dksX7_see_7 11 rfl rfl)
theorem dX7_see_177 : decode cX7_see 177 = .ok (.getfield 36, 3) := dk_180 0 36 (dk_at dksX7_see_7 12 rfl rfl)
theorem dX7_see_180 : decode cX7_see 180 = .ok (.invokespecial 59, 3) := dk_183 0 59 (dk_at dksX7_see_7 15 rfl rfl)
theorem dX7_see_183 : decode cX7_see 183 = .ok (.athrow, 1) := dk_191 (dk_at dksX7_see_7 18 rfl rfl)
theorem dX7_see_184 : decode cX7_see 184 = .ok (.iload_n 2, 1) := dk_28 (dk_at dksX7_see_7 19 rfl rfl)
theorem dX7_see_185 : decode cX7_see 185 = .ok (.ifCond .eq 8, 3) := dk_153 0 8 (dk_at dksX7_see_7 20 rfl rfl)
theorem dX7_see_188 : decode cX7_see 188 = .ok (.bipush 6, 2) := dk_16 6 (dk_at dksX7_see_8 0 rfl rfl)
theorem dX7_see_190 : decode cX7_see 190 = .ok (.goto 4, 3) := dk_167 0 4 (dk_at dksX7_see_8 2 rfl rfl)
theorem dX7_see_193 : decode cX7_see 193 = .ok (.iconst 4, 1) := dk_7 (dk_at dksX7_see_8 5 rfl rfl)
theorem dX7_see_194 : decode cX7_see 194 = .ok (.istore_n 3, 1) := dk_62 (dk_at dksX7_see_8 6 rfl rfl)
theorem dX7_see_195 : decode cX7_see 195 = .ok (.aload_n 0, 1) := dk_42 (dk_at dksX7_see_8 7 rfl rfl)
theorem dX7_see_196 : decode cX7_see 196 = .ok (.getfield 36, 3) := dk_180 0 36 (dk_at dksX7_see_8 8 rfl rfl)
theorem dX7_see_199 : decode cX7_see 199 = .ok (.aload_n 0, 1) := dk_42 (dk_at dksX7_see_8 11 rfl rfl)
theorem dX7_see_200 : decode cX7_see 200 = .ok (.getfield 26, 3) := dk_180 0 26 (dk_at dksX7_see_8 12 rfl rfl)
theorem dX7_see_203 : decode cX7_see 203 = .ok (.if_icmp .ge 87, 3) := dk_162 0 87 (dk_at dksX7_see_8 15 rfl rfl)
theorem dX7_see_206 : decode cX7_see 206 = .ok (.iload_n 2, 1) := dk_28 (dk_at dksX7_see_8 18 rfl rfl)
theorem dX7_see_207 : decode cX7_see 207 = .ok (.ifCond .eq 25, 3) := dk_153 0 25 (dk_at dksX7_see_8 19 rfl rfl)
theorem dX7_see_210 : decode cX7_see 210 = .ok (.aload_n 0, 1) := dk_42 (dk_at dksX7_see_8 22 rfl rfl)
theorem dX7_see_211 : decode cX7_see 211 = .ok (.aload_n 0, 1) := dk_42 (dk_at dksX7_see_8 23 rfl rfl)
theorem dX7_see_212 : decode cX7_see 212 = .ok (.getfield 3, 3) := dk_180 0 3 (dk_at dksX7_see_9 0 rfl rfl)
theorem dX7_see_215 : decode cX7_see 215 = .ok (.getfield 39, 3) := dk_180 0 39 (dk_at dksX7_see_9 3 rfl rfl)
theorem dX7_see_218 : decode cX7_see 218 = .ok (.aload_n 0, 1) := dk_42 (dk_at dksX7_see_9 6 rfl rfl)
theorem dX7_see_219 : decode cX7_see 219 = .ok (.getfield 36, 3) := dk_180 0 36 (dk_at dksX7_see_9 7 rfl rfl)
theorem dX7_see_222 : decode cX7_see 222 = .ok (.caload, 1) := dk_52 (dk_at dksX7_see_9 10 rfl rfl)
theorem dX7_see_223 : decode cX7_see 223 = .ok (.invokevirtual 46, 3) := dk_182 0 46 (dk_at dksX7_see_9 11 rfl rfl)
theorem dX7_see_226 : decode cX7_see 226 = .ok (.ifCond .eq 64, 3) := dk_153 0 64 (dk_at dksX7_see_9 14 rfl rfl)
theorem dX7_see_229 : decode cX7_see 229 = .ok (.goto 22, 3) := dk_167 0 22 (dk_at dksX7_see_9 17 rfl rfl)
theorem dX7_see_232 : decode cX7_see 232 = .ok (.aload_n 0, 1) := dk_42 (dk_at dksX7_see_9 20 rfl rfl)
theorem dX7_see_233 : decode cX7_see 233 = .ok (.aload_n 0, 1) := dk_42 (dk_at dksX7_see_9 21 rfl rfl)
theorem dX7_see_234 : decode cX7_see 234 = .ok (.getfield 3, 3) := dk_180 0 3 (dk_at dksX7_see_10 0 rfl rfl)
theorem dX7_see_237 : decode cX7_see 237 = .ok (.getfield 39, 3) := dk_180 0 39 (dk_at dksX7_see_10 3 rfl rfl)
theorem dX7_see_240 : decode cX7_see 240 = .ok (.aload_n 0, 1) := dk_42 (dk_at dksX7_see_10 6 rfl rfl)
theorem dX7_see_241 : decode cX7_see 241 = .ok (.getfield 36, 3) := dk_180 0 36 (dk_at dksX7_see_10 7 rfl rfl)
theorem dX7_see_244 : decode cX7_see 244 = .ok (.caload, 1) := dk_52 (dk_at dksX7_see_10 10 rfl rfl)
theorem dX7_see_245 : decode cX7_see 245 = .ok (.invokevirtual 50, 3) := dk_182 0 50 (dk_at dksX7_see_10 11 rfl rfl)
theorem dX7_see_248 : decode cX7_see 248 = .ok (.ifCond .eq 42, 3) := dk_153 0 42 (dk_at dksX7_see_10 14 rfl rfl)
theorem dX7_see_251 : decode cX7_see 251 = .ok (.aload_n 0, 1) := dk_42 (dk_at dksX7_see_10 17 rfl rfl)
theorem dX7_see_252 : decode cX7_see 252 = .ok (.getfield 36, 3) := dk_180 0 36 (dk_at dksX7_see_10 18 rfl rfl)
theorem dX7_see_255 : decode cX7_see 255 = .ok (.aload_n 0, 1) := dk_42 (dk_at dksX7_see_10 21 rfl rfl)
theorem dX7_see_256 : decode cX7_see 256 = .ok (.getfield 43, 3) := dk_180 0 43 (dk_at dksX7_see_11 0 rfl rfl)
theorem dX7_see_259 : decode cX7_see 259 = .ok (.isub, 1) := dk_100 (dk_at dksX7_see_11 3 rfl rfl)
theorem dX7_see_260 : decode cX7_see 260 = .ok (.iload_n 3, 1) := dk_29 (dk_at dksX7_see_11 4 rfl rfl)
theorem dX7_see_261 : decode cX7_see 261 = .ok (.if_icmp .ne 16, 3) := dk_160 0 16 (dk_at dksX7_see_11 5 rfl rfl)
theorem dX7_see_264 : decode cX7_see 264 = .ok (.new 57, 3) := dk_187 0 57 (dk_at dksX7_see_11 8 rfl rfl)
theorem dX7_see_267 : decode cX7_see 267 = .ok (.dup, 1) := dk_89 (dk_at dksX7_see_11 11 rfl rfl)
theorem dX7_see_268 : decode cX7_see 268 = .ok (.iconst 1, 1) := dk_4 (dk_at dksX7_see_11 12 rfl rfl)
theorem dX7_see_269 : decode cX7_see 269 = .ok (.aload_n 0, 1) := dk_42 (dk_at dksX7_see_11 13 rfl rfl)
theorem dX7_see_270 : decode cX7_see 270 = .ok (.getfield 36, 3) := dk_180 0 36 (dk_at dksX7_see_11 14 rfl rfl)
theorem dX7_see_273 : decode cX7_see 273 = .ok (.invokespecial 59, 3) := dk_183 0 59 (dk_at dksX7_see_11 17 rfl rfl)
theorem dX7_see_276 : decode cX7_see 276 = .ok (.athrow, 1) := dk_191 (dk_at dksX7_see_11 20 rfl rfl)
theorem dX7_see_277 : decode cX7_see 277 = .ok (.aload_n 0, 1) := dk_42 (dk_at dksX7_see_11 21 rfl rfl)
theorem dX7_see_278 : decode cX7_see 278 = .ok (.dup, 1) := dk_89 (dk_at dksX7_see_11 22 rfl rfl)
theorem dX7_see_279 : decode cX7_see 279 = .ok (.getfield 36, 3) := dk_180 0 36 (dk_at dksX7_see_12 0 rfl rfl)
theorem dX7_see_282 : decode cX7_see 282 = .ok (.iconst 1, 1) := dk_4 (dk_at dksX7_see_12 3 rfl rfl)
theorem dX7_see_283 : decode cX7_see 283 = .ok (.iadd, 1) := dk_96 (dk_at dksX7_see_12 4 rfl rfl)
theorem dX7_see_284 : decode cX7_see 284 = .ok (.putfield 36, 3) := dk_181 0 36 (dk_at dksX7_see_12 5 rfl rfl)
theorem dX7_see_287 : decode cX7_see 287 = .ok (.goto (-92), 3) := dk_167 255 164 (dk_at dksX7_see_12 8 rfl rfl)
theorem dX7_see_290 : decode cX7_see 290 = .ok (.aload_n 0, 1) := dk_42 (dk_at dksX7_see_12 11 rfl rfl)
theorem dX7_see_291 : decode cX7_see 291 = .ok (.aload_n 0, 1) := dk_42 (dk_at dksX7_see_12 12 rfl rfl)
theorem dX7_see_292 : decode cX7_see 292 = .ok (.getfield 36, 3) := dk_180 0 36 (dk_at dksX7_see_12 13 rfl rfl)
theorem dX7_see_295 : decode cX7_see 295 = .ok (.putfield 22, 3) := dk_181 0 22 (dk_at dksX7_see_12 16 rfl rfl)
theorem dX7_see_298 : decode cX7_see 298 = .ok (.aload_n 0, 1) := dk_42 (dk_at dksX7_see_12 19 rfl rfl)
theorem dX7_see_299 : decode cX7_see 299 = .ok (.new 62, 3) := dk_187 0 62 (dk_at dksX7_see_12 20 rfl rfl)
theorem dX7_see_302 : decode cX7_see 302 = .ok (.dup, 1) := dk_89 (dk_at dksX7_see_12 23 rfl rfl)
theorem dX7_see_303 : decode cX7_see 303 = .ok (.aload_n 0, 1) := dk_42 (dk_at dksX7_see_13 0 rfl rfl)
theorem dX7_see_304 : decode cX7_see 304 = .ok (.getfield 3, 3) := dk_180 0 3 (dk_at dksX7_see_13 1 rfl rfl)
theorem dX7_see_307 : decode cX7_see 307 = .ok (.getfield 39, 3) := dk_180 0 39 (dk_at dksX7_see_13 4 rfl rfl)
theorem dX7_see_310 : decode cX7_see 310 = .ok (.aload_n 0, 1) := dk_42 (dk_at dksX7_see_13 7 rfl rfl)
theorem dX7_see_311 : decode cX7_see 311 = .ok (.getfield 43, 3) := dk_180 0 43 (dk_at dksX7_see_13 8 rfl rfl)
theorem dX7_see_314 : decode cX7_see 314 = .ok (.aload_n 0, 1) := dk_42 (dk_at dksX7_see_13 11 rfl rfl)
theorem dX7_see_315 : decode cX7_see 315 = .ok (.getfield 36, 3) := dk_180 0 36 (dk_at dksX7_see_13 12 rfl rfl)
theorem dX7_see_318 : decode cX7_see 318 = .ok (.aload_n 0, 1) := dk_42 (dk_at dksX7_see_13 15 rfl rfl)
theorem dX7_see_319 : decode cX7_see 319 = .ok (.getfield 43, 3) := dk_180 0 43 (dk_at dksX7_see_13 16 rfl rfl)
theorem dX7_see_322 : decode cX7_see 322 = .ok (.isub, 1) := dk_100 (dk_at dksX7_see_13 19 rfl rfl)
theorem dX7_see_323 : decode cX7_see 323 = .ok (.invokespecial 64, 3) := dk_183 0 64 (dk_at dksX7_see_13 20 rfl rfl)
theorem dX7_see_326 : decode cX7_see 326 = .ok (.putfield 67, 3) := dk_181 0 67 (dk_at dksX7_see_14 0 rfl rfl)
theorem dX7_see_329 : decode cX7_see 329 = .ok (.iload_n 2, 1) := dk_28 (dk_at dksX7_see_14 3 rfl rfl)
theorem dX7_see_330 : decode cX7_see 330 = .ok (.ifCond .ne 14, 3) := dk_154 0 14 (dk_at dksX7_see_14 4 rfl rfl)
theorem dX7_see_333 : decode cX7_see 333 = .ok (.aload_n 0, 1) := dk_42 (dk_at dksX7_see_14 7 rfl rfl)
theorem dX7_see_334 : decode cX7_see 334 = .ok (.aload_n 0, 1) := dk_42 (dk_at dksX7_see_14 8 rfl rfl)
theorem dX7_see_335 : decode cX7_see 335 = .ok (.getfield 67, 3) := dk_180 0 67 (dk_at dksX7_see_14 9 rfl rfl)
theorem dX7_see_338 : decode cX7_see 338 = .ok (.invokestatic 71, 3) := dk_184 0 71 (dk_at dksX7_see_14 12 rfl rfl)
theorem dX7_see_341 : decode cX7_see 341 = .ok (.putfield 75, 3) := dk_181 0 75 (dk_at dksX7_see_14 15 rfl rfl)
theorem dX7_see_344 : decode cX7_see 344 = .ok (.aload_n 0, 1) := dk_42 (dk_at dksX7_see_14 18 rfl rfl)
theorem dX7_see_345 : decode cX7_see 345 = .ok (.iload_n 2, 1) := dk_28 (dk_at dksX7_see_14 19 rfl rfl)
theorem dX7_see_346 : decode cX7_see 346 = .ok (.ifCond .eq 7, 3) := dk_153 0 7 (dk_at dksX7_see_14 20 rfl rfl)
theorem dX7_see_349 : decode cX7_see 349 = .ok (.iconst 1, 1) := dk_4 (dk_at dksX7_see_14 23 rfl rfl)
theorem dX7_see_350 : decode cX7_see 350 = .ok (.goto 4, 3) := dk_167 0 4 (dk_at dksX7_see_15 0 rfl rfl)
theorem dX7_see_353 : decode cX7_see 353 = .ok (.iconst 2, 1) := dk_5 (dk_at dksX7_see_15 3 rfl rfl)
theorem dX7_see_354 : decode cX7_see 354 = .ok (.putfield 33, 3) := dk_181 0 33 (dk_at dksX7_see_15 4 rfl rfl)
theorem dX7_see_357 : decode cX7_see 357 = .ok (.aload_n 0, 1) := dk_42 (dk_at dksX7_see_15 7 rfl rfl)
theorem dX7_see_358 : decode cX7_see 358 = .ok (.getfield 33, 3) := dk_180 0 33 (dk_at dksX7_see_15 8 rfl rfl)
theorem dX7_see_361 : decode cX7_see 361 = .ok (.ireturn, 1) := dk_172 (dk_at dksX7_see_15 11 rfl rfl)
abbrev cX7_isLetter : ByteArray := prog_17_method_2_code
def yX7_isLetter : MethodName := ⟨RX7, "isLetter", "(C)Z"⟩
def dkwX7_isLetter_0 : List UInt8 := [27, 16, 97, 161, 0, 13, 27, 16, 122, 163, 0, 7, 4, 167, 0, 4, 3, 172]
abbrev dktX7_isLetter_0 : List UInt8 := dkwX7_isLetter_0 ++ []
theorem dksX7_isLetter_0 : cX7_isLetter.data.toList.drop 0 = dktX7_isLetter_0 := by decide +kernel
theorem dX7_isLetter_0 : decode cX7_isLetter 0 = .ok (.iload_n 1, 1) := dk_27 (dk_at dksX7_isLetter_0 0 rfl rfl)
theorem dX7_isLetter_1 : decode cX7_isLetter 1 = .ok (.bipush 97, 2) := dk_16 97 (dk_at dksX7_isLetter_0 1 rfl rfl)
theorem dX7_isLetter_3 : decode cX7_isLetter 3 = .ok (.if_icmp .lt 13, 3) := dk_161 0 13 (dk_at dksX7_isLetter_0 3 rfl rfl)
theorem dX7_isLetter_6 : decode cX7_isLetter 6 = .ok (.iload_n 1, 1) := dk_27 (dk_at dksX7_isLetter_0 6 rfl rfl)
theorem dX7_isLetter_7 : decode cX7_isLetter 7 = .ok (.bipush 122, 2) := dk_16 122 (dk_at dksX7_isLetter_0 7 rfl rfl)
theorem dX7_isLetter_9 : decode cX7_isLetter 9 = .ok (.if_icmp .gt 7, 3) := dk_163 0 7 (dk_at dksX7_isLetter_0 9 rfl rfl)
theorem dX7_isLetter_12 : decode cX7_isLetter 12 = .ok (.iconst 1, 1) := dk_4 (dk_at dksX7_isLetter_0 12 rfl rfl)
theorem dX7_isLetter_13 : decode cX7_isLetter 13 = .ok (.goto 4, 3) := dk_167 0 4 (dk_at dksX7_isLetter_0 13 rfl rfl)
theorem dX7_isLetter_16 : decode cX7_isLetter 16 = .ok (.iconst 0, 1) := dk_3 (dk_at dksX7_isLetter_0 16 rfl rfl)
theorem dX7_isLetter_17 : decode cX7_isLetter 17 = .ok (.ireturn, 1) := dk_172 (dk_at dksX7_isLetter_0 17 rfl rfl)
abbrev cX7_isDigit : ByteArray := prog_17_method_3_code
def yX7_isDigit : MethodName := ⟨RX7, "isDigit", "(C)Z"⟩
def dkwX7_isDigit_0 : List UInt8 := [27, 16, 48, 161, 0, 13, 27, 16, 57, 163, 0, 7, 4, 167, 0, 4, 3, 172]
abbrev dktX7_isDigit_0 : List UInt8 := dkwX7_isDigit_0 ++ []
theorem dksX7_isDigit_0 : cX7_isDigit.data.toList.drop 0 = dktX7_isDigit_0 := by decide +kernel
theorem dX7_isDigit_0 : decode cX7_isDigit 0 = .ok (.iload_n 1, 1) := dk_27 (dk_at dksX7_isDigit_0 0 rfl rfl)
theorem dX7_isDigit_1 : decode cX7_isDigit 1 = .ok (.bipush 48, 2) := dk_16 48 (dk_at dksX7_isDigit_0 1 rfl rfl)
theorem dX7_isDigit_3 : decode cX7_isDigit 3 = .ok (.if_icmp .lt 13, 3) := dk_161 0 13 (dk_at dksX7_isDigit_0 3 rfl rfl)
theorem dX7_isDigit_6 : decode cX7_isDigit 6 = .ok (.iload_n 1, 1) := dk_27 (dk_at dksX7_isDigit_0 6 rfl rfl)
theorem dX7_isDigit_7 : decode cX7_isDigit 7 = .ok (.bipush 57, 2) := dk_16 57 (dk_at dksX7_isDigit_0 7 rfl rfl)
theorem dX7_isDigit_9 : decode cX7_isDigit 9 = .ok (.if_icmp .gt 7, 3) := dk_163 0 7 (dk_at dksX7_isDigit_0 9 rfl rfl)
theorem dX7_isDigit_12 : decode cX7_isDigit 12 = .ok (.iconst 1, 1) := dk_4 (dk_at dksX7_isDigit_0 12 rfl rfl)
theorem dX7_isDigit_13 : decode cX7_isDigit 13 = .ok (.goto 4, 3) := dk_167 0 4 (dk_at dksX7_isDigit_0 13 rfl rfl)
theorem dX7_isDigit_16 : decode cX7_isDigit 16 = .ok (.iconst 0, 1) := dk_3 (dk_at dksX7_isDigit_0 16 rfl rfl)
theorem dX7_isDigit_17 : decode cX7_isDigit 17 = .ok (.ireturn, 1) := dk_172 (dk_at dksX7_isDigit_0 17 rfl rfl)
abbrev cX7_wrong : ByteArray := prog_17_method_5_code
def yX7_wrong : MethodName := ⟨RX7, "wrong", "()LToldTracks$Fault;"⟩
def dkwX7_wrong_0 : List UInt8 := [187, 0, 57, 89, 4, 42, 180, 0, 43, 183, 0, 59, 176]
abbrev dktX7_wrong_0 : List UInt8 := dkwX7_wrong_0 ++ []
theorem dksX7_wrong_0 : cX7_wrong.data.toList.drop 0 = dktX7_wrong_0 := by decide +kernel
theorem dX7_wrong_0 : decode cX7_wrong 0 = .ok (.new 57, 3) := dk_187 0 57 (dk_at dksX7_wrong_0 0 rfl rfl)
theorem dX7_wrong_3 : decode cX7_wrong 3 = .ok (.dup, 1) := dk_89 (dk_at dksX7_wrong_0 3 rfl rfl)
theorem dX7_wrong_4 : decode cX7_wrong 4 = .ok (.iconst 1, 1) := dk_4 (dk_at dksX7_wrong_0 4 rfl rfl)
theorem dX7_wrong_5 : decode cX7_wrong 5 = .ok (.aload_n 0, 1) := dk_42 (dk_at dksX7_wrong_0 5 rfl rfl)
theorem dX7_wrong_6 : decode cX7_wrong 6 = .ok (.getfield 43, 3) := dk_180 0 43 (dk_at dksX7_wrong_0 6 rfl rfl)
theorem dX7_wrong_9 : decode cX7_wrong 9 = .ok (.invokespecial 59, 3) := dk_183 0 59 (dk_at dksX7_wrong_0 9 rfl rfl)
theorem dX7_wrong_12 : decode cX7_wrong 12 = .ok (.areturn, 1) := dk_176 (dk_at dksX7_wrong_0 12 rfl rfl)
abbrev cX7_number : ByteArray := prog_17_method_12_code
def yX7_number : MethodName := ⟨RX7, "number", "(II)I"⟩
def dkwX7_number_2 : List UInt8 := [42, 180, 0, 75, 172]
abbrev dktX7_number_2 : List UInt8 := dkwX7_number_2 ++ []
def dkwX7_number_1 : List UInt8 := [184, 0, 102, 154, 0, 16, 187, 0, 57, 89, 7, 42, 180, 0, 43, 183, 0, 59, 191, 42, 3, 181, 0, 29]
abbrev dktX7_number_1 : List UInt8 := dkwX7_number_1 ++ dktX7_number_2
def dkwX7_number_0 : List UInt8 := [42, 182, 0, 78, 5, 159, 0, 8, 42, 182, 0, 96, 191, 42, 180, 0, 75, 133, 27, 133, 28, 133]
abbrev dktX7_number_0 : List UInt8 := dkwX7_number_0 ++ dktX7_number_1
theorem dksX7_number_0 : cX7_number.data.toList.drop 0 = dktX7_number_0 := by decide +kernel
theorem dksX7_number_1 : cX7_number.data.toList.drop 22 = dktX7_number_1 := dk_seg dksX7_number_0 22 rfl rfl
theorem dksX7_number_2 : cX7_number.data.toList.drop 46 = dktX7_number_2 := dk_seg dksX7_number_1 24 rfl rfl
theorem dX7_number_0 : decode cX7_number 0 = .ok (.aload_n 0, 1) := dk_42 (dk_at dksX7_number_0 0 rfl rfl)
theorem dX7_number_1 : decode cX7_number 1 = .ok (.invokevirtual 78, 3) := dk_182 0 78 (dk_at dksX7_number_0 1 rfl rfl)
theorem dX7_number_4 : decode cX7_number 4 = .ok (.iconst 2, 1) := dk_5 (dk_at dksX7_number_0 4 rfl rfl)
theorem dX7_number_5 : decode cX7_number 5 = .ok (.if_icmp .eq 8, 3) := dk_159 0 8 (dk_at dksX7_number_0 5 rfl rfl)
theorem dX7_number_8 : decode cX7_number 8 = .ok (.aload_n 0, 1) := dk_42 (dk_at dksX7_number_0 8 rfl rfl)
theorem dX7_number_9 : decode cX7_number 9 = .ok (.invokevirtual 96, 3) := dk_182 0 96 (dk_at dksX7_number_0 9 rfl rfl)
theorem dX7_number_12 : decode cX7_number 12 = .ok (.athrow, 1) := dk_191 (dk_at dksX7_number_0 12 rfl rfl)
theorem dX7_number_13 : decode cX7_number 13 = .ok (.aload_n 0, 1) := dk_42 (dk_at dksX7_number_0 13 rfl rfl)
theorem dX7_number_14 : decode cX7_number 14 = .ok (.getfield 75, 3) := dk_180 0 75 (dk_at dksX7_number_0 14 rfl rfl)
theorem dX7_number_17 : decode cX7_number 17 = .ok (.i2l, 1) := dk_133 (dk_at dksX7_number_0 17 rfl rfl)
theorem dX7_number_18 : decode cX7_number 18 = .ok (.iload_n 1, 1) := dk_27 (dk_at dksX7_number_0 18 rfl rfl)
theorem dX7_number_19 : decode cX7_number 19 = .ok (.i2l, 1) := dk_133 (dk_at dksX7_number_0 19 rfl rfl)
theorem dX7_number_20 : decode cX7_number 20 = .ok (.iload_n 2, 1) := dk_28 (dk_at dksX7_number_0 20 rfl rfl)
theorem dX7_number_21 : decode cX7_number 21 = .ok (.i2l, 1) := dk_133 (dk_at dksX7_number_0 21 rfl rfl)
theorem dX7_number_22 : decode cX7_number 22 = .ok (.invokestatic 102, 3) := dk_184 0 102 (dk_at dksX7_number_1 0 rfl rfl)
theorem dX7_number_25 : decode cX7_number 25 = .ok (.ifCond .ne 16, 3) := dk_154 0 16 (dk_at dksX7_number_1 3 rfl rfl)
theorem dX7_number_28 : decode cX7_number 28 = .ok (.new 57, 3) := dk_187 0 57 (dk_at dksX7_number_1 6 rfl rfl)
theorem dX7_number_31 : decode cX7_number 31 = .ok (.dup, 1) := dk_89 (dk_at dksX7_number_1 9 rfl rfl)
theorem dX7_number_32 : decode cX7_number 32 = .ok (.iconst 4, 1) := dk_7 (dk_at dksX7_number_1 10 rfl rfl)
theorem dX7_number_33 : decode cX7_number 33 = .ok (.aload_n 0, 1) := dk_42 (dk_at dksX7_number_1 11 rfl rfl)
theorem dX7_number_34 : decode cX7_number 34 = .ok (.getfield 43, 3) := dk_180 0 43 (dk_at dksX7_number_1 12 rfl rfl)
theorem dX7_number_37 : decode cX7_number 37 = .ok (.invokespecial 59, 3) := dk_183 0 59 (dk_at dksX7_number_1 15 rfl rfl)
theorem dX7_number_40 : decode cX7_number 40 = .ok (.athrow, 1) := dk_191 (dk_at dksX7_number_1 18 rfl rfl)
theorem dX7_number_41 : decode cX7_number 41 = .ok (.aload_n 0, 1) := dk_42 (dk_at dksX7_number_1 19 rfl rfl)
theorem dX7_number_42 : decode cX7_number 42 = .ok (.iconst 0, 1) := dk_3 (dk_at dksX7_number_1 20 rfl rfl)
theorem dX7_number_43 : decode cX7_number 43 = .ok (.putfield 29, 3) := dk_181 0 29 (dk_at dksX7_number_1 21 rfl rfl)
theorem dX7_number_46 : decode cX7_number 46 = .ok (.aload_n 0, 1) := dk_42 (dk_at dksX7_number_2 0 rfl rfl)
theorem dX7_number_47 : decode cX7_number 47 = .ok (.getfield 75, 3) := dk_180 0 75 (dk_at dksX7_number_2 1 rfl rfl)
theorem dX7_number_50 : decode cX7_number 50 = .ok (.ireturn, 1) := dk_172 (dk_at dksX7_number_2 4 rfl rfl)
abbrev cX7_asks_2 : ByteArray := prog_17_method_10_code
def yX7_asks_2 : MethodName := ⟨RX7, "asks", "(C)V"⟩
def dkwX7_asks_2_0 : List UInt8 := [42, 27, 182, 0, 93, 154, 0, 8, 42, 182, 0, 96, 191, 177]
abbrev dktX7_asks_2_0 : List UInt8 := dkwX7_asks_2_0 ++ []
theorem dksX7_asks_2_0 : cX7_asks_2.data.toList.drop 0 = dktX7_asks_2_0 := by decide +kernel
theorem dX7_asks_2_0 : decode cX7_asks_2 0 = .ok (.aload_n 0, 1) := dk_42 (dk_at dksX7_asks_2_0 0 rfl rfl)
theorem dX7_asks_2_1 : decode cX7_asks_2 1 = .ok (.iload_n 1, 1) := dk_27 (dk_at dksX7_asks_2_0 1 rfl rfl)
theorem dX7_asks_2_2 : decode cX7_asks_2 2 = .ok (.invokevirtual 93, 3) := dk_182 0 93 (dk_at dksX7_asks_2_0 2 rfl rfl)
theorem dX7_asks_2_5 : decode cX7_asks_2 5 = .ok (.ifCond .ne 8, 3) := dk_154 0 8 (dk_at dksX7_asks_2_0 5 rfl rfl)
theorem dX7_asks_2_8 : decode cX7_asks_2 8 = .ok (.aload_n 0, 1) := dk_42 (dk_at dksX7_asks_2_0 8 rfl rfl)
theorem dX7_asks_2_9 : decode cX7_asks_2 9 = .ok (.invokevirtual 96, 3) := dk_182 0 96 (dk_at dksX7_asks_2_0 9 rfl rfl)
theorem dX7_asks_2_12 : decode cX7_asks_2 12 = .ok (.athrow, 1) := dk_191 (dk_at dksX7_asks_2_0 12 rfl rfl)
theorem dX7_asks_2_13 : decode cX7_asks_2 13 = .ok (.return_, 1) := dk_177 (dk_at dksX7_asks_2_0 13 rfl rfl)
abbrev cX7_takes_2 : ByteArray := prog_17_method_8_code
def yX7_takes_2 : MethodName := ⟨RX7, "takes", "(C)Z"⟩
def dkwX7_takes_2_0 : List UInt8 := [42, 27, 182, 0, 86, 154, 0, 5, 3, 172, 42, 3, 181, 0, 29, 4, 172]
abbrev dktX7_takes_2_0 : List UInt8 := dkwX7_takes_2_0 ++ []
theorem dksX7_takes_2_0 : cX7_takes_2.data.toList.drop 0 = dktX7_takes_2_0 := by decide +kernel
theorem dX7_takes_2_0 : decode cX7_takes_2 0 = .ok (.aload_n 0, 1) := dk_42 (dk_at dksX7_takes_2_0 0 rfl rfl)
theorem dX7_takes_2_1 : decode cX7_takes_2 1 = .ok (.iload_n 1, 1) := dk_27 (dk_at dksX7_takes_2_0 1 rfl rfl)
theorem dX7_takes_2_2 : decode cX7_takes_2 2 = .ok (.invokevirtual 86, 3) := dk_182 0 86 (dk_at dksX7_takes_2_0 2 rfl rfl)
theorem dX7_takes_2_5 : decode cX7_takes_2 5 = .ok (.ifCond .ne 5, 3) := dk_154 0 5 (dk_at dksX7_takes_2_0 5 rfl rfl)
theorem dX7_takes_2_8 : decode cX7_takes_2 8 = .ok (.iconst 0, 1) := dk_3 (dk_at dksX7_takes_2_0 8 rfl rfl)
theorem dX7_takes_2_9 : decode cX7_takes_2 9 = .ok (.ireturn, 1) := dk_172 (dk_at dksX7_takes_2_0 9 rfl rfl)
theorem dX7_takes_2_10 : decode cX7_takes_2 10 = .ok (.aload_n 0, 1) := dk_42 (dk_at dksX7_takes_2_0 10 rfl rfl)
theorem dX7_takes_2_11 : decode cX7_takes_2 11 = .ok (.iconst 0, 1) := dk_3 (dk_at dksX7_takes_2_0 11 rfl rfl)
theorem dX7_takes_2_12 : decode cX7_takes_2 12 = .ok (.putfield 29, 3) := dk_181 0 29 (dk_at dksX7_takes_2_0 12 rfl rfl)
theorem dX7_takes_2_15 : decode cX7_takes_2 15 = .ok (.iconst 1, 1) := dk_4 (dk_at dksX7_takes_2_0 15 rfl rfl)
theorem dX7_takes_2_16 : decode cX7_takes_2 16 = .ok (.ireturn, 1) := dk_172 (dk_at dksX7_takes_2_0 16 rfl rfl)
abbrev cX7_isSign : ByteArray := prog_17_method_6_code
def yX7_isSign : MethodName := ⟨RX7, "isSign", "(C)Z"⟩
def dkwX7_isSign_0 : List UInt8 := [42, 182, 0, 78, 6, 160, 0, 15, 42, 180, 0, 53, 27, 160, 0, 7, 4, 167, 0, 4, 3, 172]
abbrev dktX7_isSign_0 : List UInt8 := dkwX7_isSign_0 ++ []
theorem dksX7_isSign_0 : cX7_isSign.data.toList.drop 0 = dktX7_isSign_0 := by decide +kernel
theorem dX7_isSign_0 : decode cX7_isSign 0 = .ok (.aload_n 0, 1) := dk_42 (dk_at dksX7_isSign_0 0 rfl rfl)
theorem dX7_isSign_1 : decode cX7_isSign 1 = .ok (.invokevirtual 78, 3) := dk_182 0 78 (dk_at dksX7_isSign_0 1 rfl rfl)
theorem dX7_isSign_4 : decode cX7_isSign 4 = .ok (.iconst 3, 1) := dk_6 (dk_at dksX7_isSign_0 4 rfl rfl)
theorem dX7_isSign_5 : decode cX7_isSign 5 = .ok (.if_icmp .ne 15, 3) := dk_160 0 15 (dk_at dksX7_isSign_0 5 rfl rfl)
theorem dX7_isSign_8 : decode cX7_isSign 8 = .ok (.aload_n 0, 1) := dk_42 (dk_at dksX7_isSign_0 8 rfl rfl)
theorem dX7_isSign_9 : decode cX7_isSign 9 = .ok (.getfield 53, 3) := dk_180 0 53 (dk_at dksX7_isSign_0 9 rfl rfl)
theorem dX7_isSign_12 : decode cX7_isSign 12 = .ok (.iload_n 1, 1) := dk_27 (dk_at dksX7_isSign_0 12 rfl rfl)
theorem dX7_isSign_13 : decode cX7_isSign 13 = .ok (.if_icmp .ne 7, 3) := dk_160 0 7 (dk_at dksX7_isSign_0 13 rfl rfl)
theorem dX7_isSign_16 : decode cX7_isSign 16 = .ok (.iconst 1, 1) := dk_4 (dk_at dksX7_isSign_0 16 rfl rfl)
theorem dX7_isSign_17 : decode cX7_isSign 17 = .ok (.goto 4, 3) := dk_167 0 4 (dk_at dksX7_isSign_0 17 rfl rfl)
theorem dX7_isSign_20 : decode cX7_isSign 20 = .ok (.iconst 0, 1) := dk_3 (dk_at dksX7_isSign_0 20 rfl rfl)
theorem dX7_isSign_21 : decode cX7_isSign 21 = .ok (.ireturn, 1) := dk_172 (dk_at dksX7_isSign_0 21 rfl rfl)
abbrev cX7_statement : ByteArray := prog_17_method_38_code
def yX7_statement : MethodName := ⟨RX7, "statement", "()V"⟩
def dkwX7_statement_8 : List UInt8 := [16, 100, 182, 0, 216, 181, 1, 128, 177]
abbrev dktX7_statement_8 : List UInt8 := dkwX7_statement_8 ++ []
def dkwX7_statement_7 : List UInt8 := [153, 0, 11, 42, 27, 182, 1, 124, 167, 0, 24, 42, 19, 1, 126, 182, 0, 236, 42, 180, 0, 18, 42, 3]
abbrev dktX7_statement_7 : List UInt8 := dkwX7_statement_7 ++ dktX7_statement_8
def dkwX7_statement_6 : List UInt8 := [19, 1, 119, 182, 0, 100, 153, 0, 11, 42, 27, 182, 1, 121, 167, 0, 42, 42, 19, 1, 123, 182, 0, 100]
abbrev dktX7_statement_6 : List UInt8 := dkwX7_statement_6 ++ dktX7_statement_7
def dkwX7_statement_5 : List UInt8 := [167, 0, 78, 42, 19, 1, 116, 182, 0, 100, 153, 0, 11, 42, 27, 182, 1, 117, 167, 0, 60, 42]
abbrev dktX7_statement_5 : List UInt8 := dkwX7_statement_5 ++ dktX7_statement_6
def dkwX7_statement_4 : List UInt8 := [182, 0, 149, 87, 167, 0, 96, 42, 19, 1, 112, 182, 0, 100, 153, 0, 11, 42, 27, 182, 1, 114]
abbrev dktX7_statement_4 : List UInt8 := dkwX7_statement_4 ++ dktX7_statement_5
def dkwX7_statement_3 : List UInt8 := [180, 1, 109, 182, 1, 15, 16, 6, 27, 182, 0, 250, 42, 180, 0, 18, 180, 1, 109, 42, 182, 0, 254]
abbrev dktX7_statement_3 : List UInt8 := dkwX7_statement_3 ++ dktX7_statement_4
def dkwX7_statement_2 : List UInt8 := [27, 182, 1, 99, 167, 0, 141, 42, 19, 1, 107, 182, 0, 100, 153, 0, 38, 42, 42, 180, 0, 18]
abbrev dktX7_statement_2 : List UInt8 := dkwX7_statement_2 ++ dktX7_statement_3
def dkwX7_statement_1 : List UInt8 := [182, 1, 99, 167, 0, 166, 42, 19, 1, 103, 182, 0, 100, 153, 0, 18, 42, 42, 180, 0, 18, 180, 1, 105]
abbrev dktX7_statement_1 : List UInt8 := dkwX7_statement_1 ++ dktX7_statement_2
def dkwX7_statement_0 : List UInt8 := [42, 180, 0, 43, 60, 42, 19, 1, 94, 182, 0, 100, 153, 0, 18, 42, 42, 180, 0, 18, 180, 1, 96, 27]
abbrev dktX7_statement_0 : List UInt8 := dkwX7_statement_0 ++ dktX7_statement_1
theorem dksX7_statement_0 : cX7_statement.data.toList.drop 0 = dktX7_statement_0 := by decide +kernel
theorem dksX7_statement_1 : cX7_statement.data.toList.drop 24 = dktX7_statement_1 := dk_seg dksX7_statement_0 24 rfl rfl
theorem dksX7_statement_2 : cX7_statement.data.toList.drop 48 = dktX7_statement_2 := dk_seg dksX7_statement_1 24 rfl rfl
theorem dksX7_statement_3 : cX7_statement.data.toList.drop 70 = dktX7_statement_3 := dk_seg dksX7_statement_2 22 rfl rfl
theorem dksX7_statement_4 : cX7_statement.data.toList.drop 93 = dktX7_statement_4 := dk_seg dksX7_statement_3 23 rfl rfl
theorem dksX7_statement_5 : cX7_statement.data.toList.drop 115 = dktX7_statement_5 := dk_seg dksX7_statement_4 22 rfl rfl
theorem dksX7_statement_6 : cX7_statement.data.toList.drop 137 = dktX7_statement_6 := dk_seg dksX7_statement_5 22 rfl rfl
theorem dksX7_statement_7 : cX7_statement.data.toList.drop 161 = dktX7_statement_7 := dk_seg dksX7_statement_6 24 rfl rfl
theorem dksX7_statement_8 : cX7_statement.data.toList.drop 185 = dktX7_statement_8 := dk_seg dksX7_statement_7 24 rfl rfl
theorem dX7_statement_0 : decode cX7_statement 0 = .ok (.aload_n 0, 1) := dk_42 (dk_at dksX7_statement_0 0 rfl rfl)
theorem dX7_statement_1 : decode cX7_statement 1 = .ok (.getfield 43, 3) := dk_180 0 43 (dk_at dksX7_statement_0 1 rfl rfl)
theorem dX7_statement_4 : decode cX7_statement 4 = .ok (.istore_n 1, 1) := dk_60 (dk_at dksX7_statement_0 4 rfl rfl)
theorem dX7_statement_5 : decode cX7_statement 5 = .ok (.aload_n 0, 1) := dk_42 (dk_at dksX7_statement_0 5 rfl rfl)
theorem dX7_statement_6 : decode cX7_statement 6 = .ok (.ldc_w 350, 3) := dk_19 1 94 (dk_at dksX7_statement_0 6 rfl rfl)
theorem dX7_statement_9 : decode cX7_statement 9 = .ok (.invokevirtual 100, 3) := dk_182 0 100 (dk_at dksX7_statement_0 9 rfl rfl)
theorem dX7_statement_12 : decode cX7_statement 12 = .ok (.ifCond .eq 18, 3) := dk_153 0 18 (dk_at dksX7_statement_0 12 rfl rfl)
theorem dX7_statement_15 : decode cX7_statement 15 = .ok (.aload_n 0, 1) := dk_42 (dk_at dksX7_statement_0 15 rfl rfl)
theorem dX7_statement_16 : decode cX7_statement 16 = .ok (.aload_n 0, 1) := dk_42 (dk_at dksX7_statement_0 16 rfl rfl)
theorem dX7_statement_17 : decode cX7_statement 17 = .ok (.getfield 18, 3) := dk_180 0 18 (dk_at dksX7_statement_0 17 rfl rfl)
theorem dX7_statement_20 : decode cX7_statement 20 = .ok (.getfield 352, 3) := dk_180 1 96 (dk_at dksX7_statement_0 20 rfl rfl)
theorem dX7_statement_23 : decode cX7_statement 23 = .ok (.iload_n 1, 1) := dk_27 (dk_at dksX7_statement_0 23 rfl rfl)
theorem dX7_statement_24 : decode cX7_statement 24 = .ok (.invokevirtual 355, 3) := dk_182 1 99 (dk_at dksX7_statement_1 0 rfl rfl)
theorem dX7_statement_27 : decode cX7_statement 27 = .ok (.goto 166, 3) := dk_167 0 166 (dk_at dksX7_statement_1 3 rfl rfl)
theorem dX7_statement_30 : decode cX7_statement 30 = .ok (.aload_n 0, 1) := dk_42 (dk_at dksX7_statement_1 6 rfl rfl)
theorem dX7_statement_31 : decode cX7_statement 31 = .ok (.ldc_w 359, 3) := dk_19 1 103 (dk_at dksX7_statement_1 7 rfl rfl)
theorem dX7_statement_34 : decode cX7_statement 34 = .ok (.invokevirtual 100, 3) := dk_182 0 100 (dk_at dksX7_statement_1 10 rfl rfl)
theorem dX7_statement_37 : decode cX7_statement 37 = .ok (.ifCond .eq 18, 3) := dk_153 0 18 (dk_at dksX7_statement_1 13 rfl rfl)
theorem dX7_statement_40 : decode cX7_statement 40 = .ok (.aload_n 0, 1) := dk_42 (dk_at dksX7_statement_1 16 rfl rfl)
theorem dX7_statement_41 : decode cX7_statement 41 = .ok (.aload_n 0, 1) := dk_42 (dk_at dksX7_statement_1 17 rfl rfl)
theorem dX7_statement_42 : decode cX7_statement 42 = .ok (.getfield 18, 3) := dk_180 0 18 (dk_at dksX7_statement_1 18 rfl rfl)
theorem dX7_statement_45 : decode cX7_statement 45 = .ok (.getfield 361, 3) := dk_180 1 105 (dk_at dksX7_statement_1 21 rfl rfl)
theorem dX7_statement_48 : decode cX7_statement 48 = .ok (.iload_n 1, 1) := dk_27 (dk_at dksX7_statement_2 0 rfl rfl)
theorem dX7_statement_49 : decode cX7_statement 49 = .ok (.invokevirtual 355, 3) := dk_182 1 99 (dk_at dksX7_statement_2 1 rfl rfl)
theorem dX7_statement_52 : decode cX7_statement 52 = .ok (.goto 141, 3) := dk_167 0 141 (dk_at dksX7_statement_2 4 rfl rfl)
theorem dX7_statement_55 : decode cX7_statement 55 = .ok (.aload_n 0, 1) := dk_42 (dk_at dksX7_statement_2 7 rfl rfl)
theorem dX7_statement_56 : decode cX7_statement 56 = .ok (.ldc_w 363, 3) := dk_19 1 107 (dk_at dksX7_statement_2 8 rfl rfl)
theorem dX7_statement_59 : decode cX7_statement 59 = .ok (.invokevirtual 100, 3) := dk_182 0 100 (dk_at dksX7_statement_2 11 rfl rfl)
theorem dX7_statement_62 : decode cX7_statement 62 = .ok (.ifCond .eq 38, 3) := dk_153 0 38 (dk_at dksX7_statement_2 14 rfl rfl)
theorem dX7_statement_65 : decode cX7_statement 65 = .ok (.aload_n 0, 1) := dk_42 (dk_at dksX7_statement_2 17 rfl rfl)
theorem dX7_statement_66 : decode cX7_statement 66 = .ok (.aload_n 0, 1) := dk_42 (dk_at dksX7_statement_2 18 rfl rfl)
theorem dX7_statement_67 : decode cX7_statement 67 = .ok (.getfield 18, 3) := dk_180 0 18 (dk_at dksX7_statement_2 19 rfl rfl)
theorem dX7_statement_70 : decode cX7_statement 70 = .ok (.getfield 365, 3) := dk_180 1 109 (dk_at dksX7_statement_3 0 rfl rfl)
theorem dX7_statement_73 : decode cX7_statement 73 = .ok (.invokevirtual 271, 3) := dk_182 1 15 (dk_at dksX7_statement_3 3 rfl rfl)
theorem dX7_statement_76 : decode cX7_statement 76 = .ok (.bipush 6, 2) := dk_16 6 (dk_at dksX7_statement_3 6 rfl rfl)
theorem dX7_statement_78 : decode cX7_statement 78 = .ok (.iload_n 1, 1) := dk_27 (dk_at dksX7_statement_3 8 rfl rfl)
theorem dX7_statement_79 : decode cX7_statement 79 = .ok (.invokevirtual 250, 3) := dk_182 0 250 (dk_at dksX7_statement_3 9 rfl rfl)
theorem dX7_statement_82 : decode cX7_statement 82 = .ok (.aload_n 0, 1) := dk_42 (dk_at dksX7_statement_3 12 rfl rfl)
theorem dX7_statement_83 : decode cX7_statement 83 = .ok (.getfield 18, 3) := dk_180 0 18 (dk_at dksX7_statement_3 13 rfl rfl)
theorem dX7_statement_86 : decode cX7_statement 86 = .ok (.getfield 365, 3) := dk_180 1 109 (dk_at dksX7_statement_3 16 rfl rfl)
theorem dX7_statement_89 : decode cX7_statement 89 = .ok (.aload_n 0, 1) := dk_42 (dk_at dksX7_statement_3 19 rfl rfl)
theorem dX7_statement_90 : decode cX7_statement 90 = .ok (.invokevirtual 254, 3) := dk_182 0 254 (dk_at dksX7_statement_3 20 rfl rfl)
theorem dX7_statement_93 : decode cX7_statement 93 = .ok (.invokevirtual 149, 3) := dk_182 0 149 (dk_at dksX7_statement_4 0 rfl rfl)
theorem dX7_statement_96 : decode cX7_statement 96 = .ok (.pop, 1) := dk_87 (dk_at dksX7_statement_4 3 rfl rfl)
theorem dX7_statement_97 : decode cX7_statement 97 = .ok (.goto 96, 3) := dk_167 0 96 (dk_at dksX7_statement_4 4 rfl rfl)
theorem dX7_statement_100 : decode cX7_statement 100 = .ok (.aload_n 0, 1) := dk_42 (dk_at dksX7_statement_4 7 rfl rfl)
theorem dX7_statement_101 : decode cX7_statement 101 = .ok (.ldc_w 368, 3) := dk_19 1 112 (dk_at dksX7_statement_4 8 rfl rfl)
theorem dX7_statement_104 : decode cX7_statement 104 = .ok (.invokevirtual 100, 3) := dk_182 0 100 (dk_at dksX7_statement_4 11 rfl rfl)
theorem dX7_statement_107 : decode cX7_statement 107 = .ok (.ifCond .eq 11, 3) := dk_153 0 11 (dk_at dksX7_statement_4 14 rfl rfl)
theorem dX7_statement_110 : decode cX7_statement 110 = .ok (.aload_n 0, 1) := dk_42 (dk_at dksX7_statement_4 17 rfl rfl)
theorem dX7_statement_111 : decode cX7_statement 111 = .ok (.iload_n 1, 1) := dk_27 (dk_at dksX7_statement_4 18 rfl rfl)
theorem dX7_statement_112 : decode cX7_statement 112 = .ok (.invokevirtual 370, 3) := dk_182 1 114 (dk_at dksX7_statement_4 19 rfl rfl)
theorem dX7_statement_115 : decode cX7_statement 115 = .ok (.goto 78, 3) := dk_167 0 78 (dk_at dksX7_statement_5 0 rfl rfl)
theorem dX7_statement_118 : decode cX7_statement 118 = .ok (.aload_n 0, 1) := dk_42 (dk_at dksX7_statement_5 3 rfl rfl)
theorem dX7_statement_119 : decode cX7_statement 119 = .ok (.ldc_w 372, 3) := dk_19 1 116 (dk_at dksX7_statement_5 4 rfl rfl)
theorem dX7_statement_122 : decode cX7_statement 122 = .ok (.invokevirtual 100, 3) := dk_182 0 100 (dk_at dksX7_statement_5 7 rfl rfl)
theorem dX7_statement_125 : decode cX7_statement 125 = .ok (.ifCond .eq 11, 3) := dk_153 0 11 (dk_at dksX7_statement_5 10 rfl rfl)
theorem dX7_statement_128 : decode cX7_statement 128 = .ok (.aload_n 0, 1) := dk_42 (dk_at dksX7_statement_5 13 rfl rfl)
theorem dX7_statement_129 : decode cX7_statement 129 = .ok (.iload_n 1, 1) := dk_27 (dk_at dksX7_statement_5 14 rfl rfl)
theorem dX7_statement_130 : decode cX7_statement 130 = .ok (.invokevirtual 373, 3) := dk_182 1 117 (dk_at dksX7_statement_5 15 rfl rfl)
theorem dX7_statement_133 : decode cX7_statement 133 = .ok (.goto 60, 3) := dk_167 0 60 (dk_at dksX7_statement_5 18 rfl rfl)
theorem dX7_statement_136 : decode cX7_statement 136 = .ok (.aload_n 0, 1) := dk_42 (dk_at dksX7_statement_5 21 rfl rfl)
theorem dX7_statement_137 : decode cX7_statement 137 = .ok (.ldc_w 375, 3) := dk_19 1 119 (dk_at dksX7_statement_6 0 rfl rfl)
theorem dX7_statement_140 : decode cX7_statement 140 = .ok (.invokevirtual 100, 3) := dk_182 0 100 (dk_at dksX7_statement_6 3 rfl rfl)
theorem dX7_statement_143 : decode cX7_statement 143 = .ok (.ifCond .eq 11, 3) := dk_153 0 11 (dk_at dksX7_statement_6 6 rfl rfl)
theorem dX7_statement_146 : decode cX7_statement 146 = .ok (.aload_n 0, 1) := dk_42 (dk_at dksX7_statement_6 9 rfl rfl)
theorem dX7_statement_147 : decode cX7_statement 147 = .ok (.iload_n 1, 1) := dk_27 (dk_at dksX7_statement_6 10 rfl rfl)
theorem dX7_statement_148 : decode cX7_statement 148 = .ok (.invokevirtual 377, 3) := dk_182 1 121 (dk_at dksX7_statement_6 11 rfl rfl)
theorem dX7_statement_151 : decode cX7_statement 151 = .ok (.goto 42, 3) := dk_167 0 42 (dk_at dksX7_statement_6 14 rfl rfl)
theorem dX7_statement_154 : decode cX7_statement 154 = .ok (.aload_n 0, 1) := dk_42 (dk_at dksX7_statement_6 17 rfl rfl)
theorem dX7_statement_155 : decode cX7_statement 155 = .ok (.ldc_w 379, 3) := dk_19 1 123 (dk_at dksX7_statement_6 18 rfl rfl)
theorem dX7_statement_158 : decode cX7_statement 158 = .ok (.invokevirtual 100, 3) := dk_182 0 100 (dk_at dksX7_statement_6 21 rfl rfl)
theorem dX7_statement_161 : decode cX7_statement 161 = .ok (.ifCond .eq 11, 3) := dk_153 0 11 (dk_at dksX7_statement_7 0 rfl rfl)
theorem dX7_statement_164 : decode cX7_statement 164 = .ok (.aload_n 0, 1) := dk_42 (dk_at dksX7_statement_7 3 rfl rfl)
theorem dX7_statement_165 : decode cX7_statement 165 = .ok (.iload_n 1, 1) := dk_27 (dk_at dksX7_statement_7 4 rfl rfl)
theorem dX7_statement_166 : decode cX7_statement 166 = .ok (.invokevirtual 380, 3) := dk_182 1 124 (dk_at dksX7_statement_7 5 rfl rfl)
theorem dX7_statement_169 : decode cX7_statement 169 = .ok (.goto 24, 3) := dk_167 0 24 (dk_at dksX7_statement_7 8 rfl rfl)
theorem dX7_statement_172 : decode cX7_statement 172 = .ok (.aload_n 0, 1) := dk_42 (dk_at dksX7_statement_7 11 rfl rfl)
theorem dX7_statement_173 : decode cX7_statement 173 = .ok (.ldc_w 382, 3) := dk_19 1 126 (dk_at dksX7_statement_7 12 rfl rfl)
theorem dX7_statement_176 : decode cX7_statement 176 = .ok (.invokevirtual 236, 3) := dk_182 0 236 (dk_at dksX7_statement_7 15 rfl rfl)
theorem dX7_statement_179 : decode cX7_statement 179 = .ok (.aload_n 0, 1) := dk_42 (dk_at dksX7_statement_7 18 rfl rfl)
theorem dX7_statement_180 : decode cX7_statement 180 = .ok (.getfield 18, 3) := dk_180 0 18 (dk_at dksX7_statement_7 19 rfl rfl)
theorem dX7_statement_183 : decode cX7_statement 183 = .ok (.aload_n 0, 1) := dk_42 (dk_at dksX7_statement_7 22 rfl rfl)
theorem dX7_statement_184 : decode cX7_statement 184 = .ok (.iconst 0, 1) := dk_3 (dk_at dksX7_statement_7 23 rfl rfl)
theorem dX7_statement_185 : decode cX7_statement 185 = .ok (.bipush 100, 2) := dk_16 100 (dk_at dksX7_statement_8 0 rfl rfl)
theorem dX7_statement_187 : decode cX7_statement 187 = .ok (.invokevirtual 216, 3) := dk_182 0 216 (dk_at dksX7_statement_8 2 rfl rfl)
theorem dX7_statement_190 : decode cX7_statement 190 = .ok (.putfield 384, 3) := dk_181 1 128 (dk_at dksX7_statement_8 5 rfl rfl)
theorem dX7_statement_193 : decode cX7_statement 193 = .ok (.return_, 1) := dk_177 (dk_at dksX7_statement_8 8 rfl rfl)
abbrev cX7_rate : ByteArray := prog_17_method_32_code
def yX7_rate : MethodName := ⟨RX7, "rate", "(LToldTracks$Rates;I)V"⟩
def dkwX7_rate_1 : List UInt8 := [182, 1, 0, 177]
abbrev dktX7_rate_1 : List UInt8 := dkwX7_rate_1 ++ []
def dkwX7_rate_0 : List UInt8 := [42, 43, 182, 0, 246, 16, 12, 28, 182, 0, 250, 42, 182, 0, 188, 78, 43, 45, 42, 182, 0, 254]
abbrev dktX7_rate_0 : List UInt8 := dkwX7_rate_0 ++ dktX7_rate_1
theorem dksX7_rate_0 : cX7_rate.data.toList.drop 0 = dktX7_rate_0 := by decide +kernel
theorem dksX7_rate_1 : cX7_rate.data.toList.drop 22 = dktX7_rate_1 := dk_seg dksX7_rate_0 22 rfl rfl
theorem dX7_rate_0 : decode cX7_rate 0 = .ok (.aload_n 0, 1) := dk_42 (dk_at dksX7_rate_0 0 rfl rfl)
theorem dX7_rate_1 : decode cX7_rate 1 = .ok (.aload_n 1, 1) := dk_43 (dk_at dksX7_rate_0 1 rfl rfl)
theorem dX7_rate_2 : decode cX7_rate 2 = .ok (.invokevirtual 246, 3) := dk_182 0 246 (dk_at dksX7_rate_0 2 rfl rfl)
theorem dX7_rate_5 : decode cX7_rate 5 = .ok (.bipush 12, 2) := dk_16 12 (dk_at dksX7_rate_0 5 rfl rfl)
theorem dX7_rate_7 : decode cX7_rate 7 = .ok (.iload_n 2, 1) := dk_28 (dk_at dksX7_rate_0 7 rfl rfl)
theorem dX7_rate_8 : decode cX7_rate 8 = .ok (.invokevirtual 250, 3) := dk_182 0 250 (dk_at dksX7_rate_0 8 rfl rfl)
theorem dX7_rate_11 : decode cX7_rate 11 = .ok (.aload_n 0, 1) := dk_42 (dk_at dksX7_rate_0 11 rfl rfl)
theorem dX7_rate_12 : decode cX7_rate 12 = .ok (.invokevirtual 188, 3) := dk_182 0 188 (dk_at dksX7_rate_0 12 rfl rfl)
theorem dX7_rate_15 : decode cX7_rate 15 = .ok (.astore_n 3, 1) := dk_78 (dk_at dksX7_rate_0 15 rfl rfl)
theorem dX7_rate_16 : decode cX7_rate 16 = .ok (.aload_n 1, 1) := dk_43 (dk_at dksX7_rate_0 16 rfl rfl)
theorem dX7_rate_17 : decode cX7_rate 17 = .ok (.aload_n 3, 1) := dk_45 (dk_at dksX7_rate_0 17 rfl rfl)
theorem dX7_rate_18 : decode cX7_rate 18 = .ok (.aload_n 0, 1) := dk_42 (dk_at dksX7_rate_0 18 rfl rfl)
theorem dX7_rate_19 : decode cX7_rate 19 = .ok (.invokevirtual 254, 3) := dk_182 0 254 (dk_at dksX7_rate_0 19 rfl rfl)
theorem dX7_rate_22 : decode cX7_rate 22 = .ok (.invokevirtual 256, 3) := dk_182 1 0 (dk_at dksX7_rate_1 0 rfl rfl)
theorem dX7_rate_25 : decode cX7_rate 25 = .ok (.return_, 1) := dk_177 (dk_at dksX7_rate_1 3 rfl rfl)
abbrev cX7_space : ByteArray := prog_17_method_30_code
def yX7_space : MethodName := ⟨RX7, "space", "(III)V"⟩
def dkwX7_space_0 : List UInt8 := [27, 28, 160, 0, 13, 187, 0, 57, 89, 8, 29, 183, 0, 59, 191, 177]
abbrev dktX7_space_0 : List UInt8 := dkwX7_space_0 ++ []
theorem dksX7_space_0 : cX7_space.data.toList.drop 0 = dktX7_space_0 := by decide +kernel
theorem dX7_space_0 : decode cX7_space 0 = .ok (.iload_n 1, 1) := dk_27 (dk_at dksX7_space_0 0 rfl rfl)
theorem dX7_space_1 : decode cX7_space 1 = .ok (.iload_n 2, 1) := dk_28 (dk_at dksX7_space_0 1 rfl rfl)
theorem dX7_space_2 : decode cX7_space 2 = .ok (.if_icmp .ne 13, 3) := dk_160 0 13 (dk_at dksX7_space_0 2 rfl rfl)
theorem dX7_space_5 : decode cX7_space 5 = .ok (.new 57, 3) := dk_187 0 57 (dk_at dksX7_space_0 5 rfl rfl)
theorem dX7_space_8 : decode cX7_space 8 = .ok (.dup, 1) := dk_89 (dk_at dksX7_space_0 8 rfl rfl)
theorem dX7_space_9 : decode cX7_space 9 = .ok (.iconst 5, 1) := dk_8 (dk_at dksX7_space_0 9 rfl rfl)
theorem dX7_space_10 : decode cX7_space 10 = .ok (.iload_n 3, 1) := dk_29 (dk_at dksX7_space_0 10 rfl rfl)
theorem dX7_space_11 : decode cX7_space 11 = .ok (.invokespecial 59, 3) := dk_183 0 59 (dk_at dksX7_space_0 11 rfl rfl)
theorem dX7_space_14 : decode cX7_space 14 = .ok (.athrow, 1) := dk_191 (dk_at dksX7_space_0 14 rfl rfl)
theorem dX7_space_15 : decode cX7_space 15 = .ok (.return_, 1) := dk_177 (dk_at dksX7_space_0 15 rfl rfl)
abbrev cX7_sum : ByteArray := prog_17_method_25_code
def yX7_sum : MethodName := ⟨RX7, "sum", "()LToldTracks$Sum;"⟩
def dkwX7_sum_3 : List UInt8 := [42, 182, 0, 197, 182, 0, 203, 167, 255, 219, 44, 176]
abbrev dktX7_sum_3 : List UInt8 := dkwX7_sum_3 ++ []
def dkwX7_sum_2 : List UInt8 := [154, 0, 12, 42, 16, 45, 182, 0, 86, 153, 0, 25, 42, 180, 0, 53, 62, 42, 3, 181, 0, 29, 44, 29]
abbrev dktX7_sum_2 : List UInt8 := dkwX7_sum_2 ++ dktX7_sum_3
def dkwX7_sum_1 : List UInt8 := [176, 187, 0, 200, 89, 183, 0, 202, 77, 44, 16, 43, 43, 182, 0, 203, 42, 16, 43, 182, 0, 86]
abbrev dktX7_sum_1 : List UInt8 := dkwX7_sum_1 ++ dktX7_sum_2
def dkwX7_sum_0 : List UInt8 := [42, 182, 0, 197, 76, 42, 16, 43, 182, 0, 86, 154, 0, 14, 42, 16, 45, 182, 0, 86, 154, 0, 5, 43]
abbrev dktX7_sum_0 : List UInt8 := dkwX7_sum_0 ++ dktX7_sum_1
theorem dksX7_sum_0 : cX7_sum.data.toList.drop 0 = dktX7_sum_0 := by decide +kernel
theorem dksX7_sum_1 : cX7_sum.data.toList.drop 24 = dktX7_sum_1 := dk_seg dksX7_sum_0 24 rfl rfl
theorem dksX7_sum_2 : cX7_sum.data.toList.drop 46 = dktX7_sum_2 := dk_seg dksX7_sum_1 22 rfl rfl
theorem dksX7_sum_3 : cX7_sum.data.toList.drop 70 = dktX7_sum_3 := dk_seg dksX7_sum_2 24 rfl rfl
theorem dX7_sum_0 : decode cX7_sum 0 = .ok (.aload_n 0, 1) := dk_42 (dk_at dksX7_sum_0 0 rfl rfl)
theorem dX7_sum_1 : decode cX7_sum 1 = .ok (.invokevirtual 197, 3) := dk_182 0 197 (dk_at dksX7_sum_0 1 rfl rfl)
theorem dX7_sum_4 : decode cX7_sum 4 = .ok (.astore_n 1, 1) := dk_76 (dk_at dksX7_sum_0 4 rfl rfl)
theorem dX7_sum_5 : decode cX7_sum 5 = .ok (.aload_n 0, 1) := dk_42 (dk_at dksX7_sum_0 5 rfl rfl)
theorem dX7_sum_6 : decode cX7_sum 6 = .ok (.bipush 43, 2) := dk_16 43 (dk_at dksX7_sum_0 6 rfl rfl)
theorem dX7_sum_8 : decode cX7_sum 8 = .ok (.invokevirtual 86, 3) := dk_182 0 86 (dk_at dksX7_sum_0 8 rfl rfl)
theorem dX7_sum_11 : decode cX7_sum 11 = .ok (.ifCond .ne 14, 3) := dk_154 0 14 (dk_at dksX7_sum_0 11 rfl rfl)
theorem dX7_sum_14 : decode cX7_sum 14 = .ok (.aload_n 0, 1) := dk_42 (dk_at dksX7_sum_0 14 rfl rfl)
theorem dX7_sum_15 : decode cX7_sum 15 = .ok (.bipush 45, 2) := dk_16 45 (dk_at dksX7_sum_0 15 rfl rfl)
theorem dX7_sum_17 : decode cX7_sum 17 = .ok (.invokevirtual 86, 3) := dk_182 0 86 (dk_at dksX7_sum_0 17 rfl rfl)
theorem dX7_sum_20 : decode cX7_sum 20 = .ok (.ifCond .ne 5, 3) := dk_154 0 5 (dk_at dksX7_sum_0 20 rfl rfl)
theorem dX7_sum_23 : decode cX7_sum 23 = .ok (.aload_n 1, 1) := dk_43 (dk_at dksX7_sum_0 23 rfl rfl)
theorem dX7_sum_24 : decode cX7_sum 24 = .ok (.areturn, 1) := dk_176 (dk_at dksX7_sum_1 0 rfl rfl)
theorem dX7_sum_25 : decode cX7_sum 25 = .ok (.new 200, 3) := dk_187 0 200 (dk_at dksX7_sum_1 1 rfl rfl)
theorem dX7_sum_28 : decode cX7_sum 28 = .ok (.dup, 1) := dk_89 (dk_at dksX7_sum_1 4 rfl rfl)
theorem dX7_sum_29 : decode cX7_sum 29 = .ok (.invokespecial 202, 3) := dk_183 0 202 (dk_at dksX7_sum_1 5 rfl rfl)
theorem dX7_sum_32 : decode cX7_sum 32 = .ok (.astore_n 2, 1) := dk_77 (dk_at dksX7_sum_1 8 rfl rfl)
theorem dX7_sum_33 : decode cX7_sum 33 = .ok (.aload_n 2, 1) := dk_44 (dk_at dksX7_sum_1 9 rfl rfl)
theorem dX7_sum_34 : decode cX7_sum 34 = .ok (.bipush 43, 2) := dk_16 43 (dk_at dksX7_sum_1 10 rfl rfl)
theorem dX7_sum_36 : decode cX7_sum 36 = .ok (.aload_n 1, 1) := dk_43 (dk_at dksX7_sum_1 12 rfl rfl)
theorem dX7_sum_37 : decode cX7_sum 37 = .ok (.invokevirtual 203, 3) := dk_182 0 203 (dk_at dksX7_sum_1 13 rfl rfl)
theorem dX7_sum_40 : decode cX7_sum 40 = .ok (.aload_n 0, 1) := dk_42 (dk_at dksX7_sum_1 16 rfl rfl)
theorem dX7_sum_41 : decode cX7_sum 41 = .ok (.bipush 43, 2) := dk_16 43 (dk_at dksX7_sum_1 17 rfl rfl)
theorem dX7_sum_43 : decode cX7_sum 43 = .ok (.invokevirtual 86, 3) := dk_182 0 86 (dk_at dksX7_sum_1 19 rfl rfl)
theorem dX7_sum_46 : decode cX7_sum 46 = .ok (.ifCond .ne 12, 3) := dk_154 0 12 (dk_at dksX7_sum_2 0 rfl rfl)
theorem dX7_sum_49 : decode cX7_sum 49 = .ok (.aload_n 0, 1) := dk_42 (dk_at dksX7_sum_2 3 rfl rfl)
theorem dX7_sum_50 : decode cX7_sum 50 = .ok (.bipush 45, 2) := dk_16 45 (dk_at dksX7_sum_2 4 rfl rfl)
theorem dX7_sum_52 : decode cX7_sum 52 = .ok (.invokevirtual 86, 3) := dk_182 0 86 (dk_at dksX7_sum_2 6 rfl rfl)
theorem dX7_sum_55 : decode cX7_sum 55 = .ok (.ifCond .eq 25, 3) := dk_153 0 25 (dk_at dksX7_sum_2 9 rfl rfl)
theorem dX7_sum_58 : decode cX7_sum 58 = .ok (.aload_n 0, 1) := dk_42 (dk_at dksX7_sum_2 12 rfl rfl)
theorem dX7_sum_59 : decode cX7_sum 59 = .ok (.getfield 53, 3) := dk_180 0 53 (dk_at dksX7_sum_2 13 rfl rfl)
theorem dX7_sum_62 : decode cX7_sum 62 = .ok (.istore_n 3, 1) := dk_62 (dk_at dksX7_sum_2 16 rfl rfl)
theorem dX7_sum_63 : decode cX7_sum 63 = .ok (.aload_n 0, 1) := dk_42 (dk_at dksX7_sum_2 17 rfl rfl)
theorem dX7_sum_64 : decode cX7_sum 64 = .ok (.iconst 0, 1) := dk_3 (dk_at dksX7_sum_2 18 rfl rfl)
theorem dX7_sum_65 : decode cX7_sum 65 = .ok (.putfield 29, 3) := dk_181 0 29 (dk_at dksX7_sum_2 19 rfl rfl)
theorem dX7_sum_68 : decode cX7_sum 68 = .ok (.aload_n 2, 1) := dk_44 (dk_at dksX7_sum_2 22 rfl rfl)
theorem dX7_sum_69 : decode cX7_sum 69 = .ok (.iload_n 3, 1) := dk_29 (dk_at dksX7_sum_2 23 rfl rfl)
theorem dX7_sum_70 : decode cX7_sum 70 = .ok (.aload_n 0, 1) := dk_42 (dk_at dksX7_sum_3 0 rfl rfl)
theorem dX7_sum_71 : decode cX7_sum 71 = .ok (.invokevirtual 197, 3) := dk_182 0 197 (dk_at dksX7_sum_3 1 rfl rfl)
theorem dX7_sum_74 : decode cX7_sum 74 = .ok (.invokevirtual 203, 3) := dk_182 0 203 (dk_at dksX7_sum_3 4 rfl rfl)
theorem dX7_sum_77 : decode cX7_sum 77 = .ok (.goto (-37), 3) := dk_167 255 219 (dk_at dksX7_sum_3 7 rfl rfl)
theorem dX7_sum_80 : decode cX7_sum 80 = .ok (.aload_n 2, 1) := dk_44 (dk_at dksX7_sum_3 10 rfl rfl)
theorem dX7_sum_81 : decode cX7_sum 81 = .ok (.areturn, 1) := dk_176 (dk_at dksX7_sum_3 11 rfl rfl)
abbrev cX7_product : ByteArray := prog_17_method_27_code
def yX7_product : MethodName := ⟨RX7, "product", "()LToldTracks$Sum;"⟩
def dkwX7_product_2 : List UInt8 := [29, 42, 182, 0, 207, 182, 0, 203, 167, 255, 230, 44, 176]
abbrev dktX7_product_2 : List UInt8 := dkwX7_product_2 ++ []
def dkwX7_product_1 : List UInt8 := [16, 42, 43, 182, 0, 203, 42, 182, 0, 210, 153, 0, 25, 42, 180, 0, 53, 62, 42, 3, 181, 0, 29, 44]
abbrev dktX7_product_1 : List UInt8 := dkwX7_product_1 ++ dktX7_product_2
def dkwX7_product_0 : List UInt8 := [42, 182, 0, 207, 76, 42, 182, 0, 210, 154, 0, 5, 43, 176, 187, 0, 200, 89, 183, 0, 202, 77, 44]
abbrev dktX7_product_0 : List UInt8 := dkwX7_product_0 ++ dktX7_product_1
theorem dksX7_product_0 : cX7_product.data.toList.drop 0 = dktX7_product_0 := by decide +kernel
theorem dksX7_product_1 : cX7_product.data.toList.drop 23 = dktX7_product_1 := dk_seg dksX7_product_0 23 rfl rfl
theorem dksX7_product_2 : cX7_product.data.toList.drop 47 = dktX7_product_2 := dk_seg dksX7_product_1 24 rfl rfl
theorem dX7_product_0 : decode cX7_product 0 = .ok (.aload_n 0, 1) := dk_42 (dk_at dksX7_product_0 0 rfl rfl)
theorem dX7_product_1 : decode cX7_product 1 = .ok (.invokevirtual 207, 3) := dk_182 0 207 (dk_at dksX7_product_0 1 rfl rfl)
theorem dX7_product_4 : decode cX7_product 4 = .ok (.astore_n 1, 1) := dk_76 (dk_at dksX7_product_0 4 rfl rfl)
theorem dX7_product_5 : decode cX7_product 5 = .ok (.aload_n 0, 1) := dk_42 (dk_at dksX7_product_0 5 rfl rfl)
theorem dX7_product_6 : decode cX7_product 6 = .ok (.invokevirtual 210, 3) := dk_182 0 210 (dk_at dksX7_product_0 6 rfl rfl)
theorem dX7_product_9 : decode cX7_product 9 = .ok (.ifCond .ne 5, 3) := dk_154 0 5 (dk_at dksX7_product_0 9 rfl rfl)
theorem dX7_product_12 : decode cX7_product 12 = .ok (.aload_n 1, 1) := dk_43 (dk_at dksX7_product_0 12 rfl rfl)
theorem dX7_product_13 : decode cX7_product 13 = .ok (.areturn, 1) := dk_176 (dk_at dksX7_product_0 13 rfl rfl)
theorem dX7_product_14 : decode cX7_product 14 = .ok (.new 200, 3) := dk_187 0 200 (dk_at dksX7_product_0 14 rfl rfl)
theorem dX7_product_17 : decode cX7_product 17 = .ok (.dup, 1) := dk_89 (dk_at dksX7_product_0 17 rfl rfl)
theorem dX7_product_18 : decode cX7_product 18 = .ok (.invokespecial 202, 3) := dk_183 0 202 (dk_at dksX7_product_0 18 rfl rfl)
theorem dX7_product_21 : decode cX7_product 21 = .ok (.astore_n 2, 1) := dk_77 (dk_at dksX7_product_0 21 rfl rfl)
theorem dX7_product_22 : decode cX7_product 22 = .ok (.aload_n 2, 1) := dk_44 (dk_at dksX7_product_0 22 rfl rfl)
theorem dX7_product_23 : decode cX7_product 23 = .ok (.bipush 42, 2) := dk_16 42 (dk_at dksX7_product_1 0 rfl rfl)
theorem dX7_product_25 : decode cX7_product 25 = .ok (.aload_n 1, 1) := dk_43 (dk_at dksX7_product_1 2 rfl rfl)
theorem dX7_product_26 : decode cX7_product 26 = .ok (.invokevirtual 203, 3) := dk_182 0 203 (dk_at dksX7_product_1 3 rfl rfl)
theorem dX7_product_29 : decode cX7_product 29 = .ok (.aload_n 0, 1) := dk_42 (dk_at dksX7_product_1 6 rfl rfl)
theorem dX7_product_30 : decode cX7_product 30 = .ok (.invokevirtual 210, 3) := dk_182 0 210 (dk_at dksX7_product_1 7 rfl rfl)
theorem dX7_product_33 : decode cX7_product 33 = .ok (.ifCond .eq 25, 3) := dk_153 0 25 (dk_at dksX7_product_1 10 rfl rfl)
theorem dX7_product_36 : decode cX7_product 36 = .ok (.aload_n 0, 1) := dk_42 (dk_at dksX7_product_1 13 rfl rfl)
theorem dX7_product_37 : decode cX7_product 37 = .ok (.getfield 53, 3) := dk_180 0 53 (dk_at dksX7_product_1 14 rfl rfl)
theorem dX7_product_40 : decode cX7_product 40 = .ok (.istore_n 3, 1) := dk_62 (dk_at dksX7_product_1 17 rfl rfl)
theorem dX7_product_41 : decode cX7_product 41 = .ok (.aload_n 0, 1) := dk_42 (dk_at dksX7_product_1 18 rfl rfl)
theorem dX7_product_42 : decode cX7_product 42 = .ok (.iconst 0, 1) := dk_3 (dk_at dksX7_product_1 19 rfl rfl)
theorem dX7_product_43 : decode cX7_product 43 = .ok (.putfield 29, 3) := dk_181 0 29 (dk_at dksX7_product_1 20 rfl rfl)
theorem dX7_product_46 : decode cX7_product 46 = .ok (.aload_n 2, 1) := dk_44 (dk_at dksX7_product_1 23 rfl rfl)
theorem dX7_product_47 : decode cX7_product 47 = .ok (.iload_n 3, 1) := dk_29 (dk_at dksX7_product_2 0 rfl rfl)
theorem dX7_product_48 : decode cX7_product 48 = .ok (.aload_n 0, 1) := dk_42 (dk_at dksX7_product_2 1 rfl rfl)
theorem dX7_product_49 : decode cX7_product 49 = .ok (.invokevirtual 207, 3) := dk_182 0 207 (dk_at dksX7_product_2 2 rfl rfl)
theorem dX7_product_52 : decode cX7_product 52 = .ok (.invokevirtual 203, 3) := dk_182 0 203 (dk_at dksX7_product_2 5 rfl rfl)
theorem dX7_product_55 : decode cX7_product 55 = .ok (.goto (-26), 3) := dk_167 255 230 (dk_at dksX7_product_2 8 rfl rfl)
theorem dX7_product_58 : decode cX7_product 58 = .ok (.aload_n 2, 1) := dk_44 (dk_at dksX7_product_2 11 rfl rfl)
theorem dX7_product_59 : decode cX7_product 59 = .ok (.areturn, 1) := dk_176 (dk_at dksX7_product_2 12 rfl rfl)
abbrev cX7_part : ByteArray := prog_17_method_28_code
def yX7_part : MethodName := ⟨RX7, "part", "()LToldTracks$Sum;"⟩
def dkwX7_part_2 : List UInt8 := [42, 16, 41, 182, 0, 177, 43, 176]
abbrev dktX7_part_2 : List UInt8 := dkwX7_part_2 ++ []
def dkwX7_part_1 : List UInt8 := [42, 180, 0, 33, 4, 160, 0, 8, 42, 182, 0, 222, 176, 42, 16, 40, 182, 0, 171, 42, 182, 0, 188, 76]
abbrev dktX7_part_1 : List UInt8 := dkwX7_part_1 ++ dktX7_part_2
def dkwX7_part_0 : List UInt8 := [42, 182, 0, 78, 5, 160, 0, 19, 187, 0, 214, 89, 42, 3, 17, 39, 15, 182, 0, 216, 183, 0, 219, 176]
abbrev dktX7_part_0 : List UInt8 := dkwX7_part_0 ++ dktX7_part_1
theorem dksX7_part_0 : cX7_part.data.toList.drop 0 = dktX7_part_0 := by decide +kernel
theorem dksX7_part_1 : cX7_part.data.toList.drop 24 = dktX7_part_1 := dk_seg dksX7_part_0 24 rfl rfl
theorem dksX7_part_2 : cX7_part.data.toList.drop 48 = dktX7_part_2 := dk_seg dksX7_part_1 24 rfl rfl
theorem dX7_part_0 : decode cX7_part 0 = .ok (.aload_n 0, 1) := dk_42 (dk_at dksX7_part_0 0 rfl rfl)
theorem dX7_part_1 : decode cX7_part 1 = .ok (.invokevirtual 78, 3) := dk_182 0 78 (dk_at dksX7_part_0 1 rfl rfl)
theorem dX7_part_4 : decode cX7_part 4 = .ok (.iconst 2, 1) := dk_5 (dk_at dksX7_part_0 4 rfl rfl)
theorem dX7_part_5 : decode cX7_part 5 = .ok (.if_icmp .ne 19, 3) := dk_160 0 19 (dk_at dksX7_part_0 5 rfl rfl)
theorem dX7_part_8 : decode cX7_part 8 = .ok (.new 214, 3) := dk_187 0 214 (dk_at dksX7_part_0 8 rfl rfl)
theorem dX7_part_11 : decode cX7_part 11 = .ok (.dup, 1) := dk_89 (dk_at dksX7_part_0 11 rfl rfl)
theorem dX7_part_12 : decode cX7_part 12 = .ok (.aload_n 0, 1) := dk_42 (dk_at dksX7_part_0 12 rfl rfl)
theorem dX7_part_13 : decode cX7_part 13 = .ok (.iconst 0, 1) := dk_3 (dk_at dksX7_part_0 13 rfl rfl)
theorem dX7_part_14 : decode cX7_part 14 = .ok (.sipush 9999, 3) := dk_17 39 15 (dk_at dksX7_part_0 14 rfl rfl)
theorem dX7_part_17 : decode cX7_part 17 = .ok (.invokevirtual 216, 3) := dk_182 0 216 (dk_at dksX7_part_0 17 rfl rfl)
theorem dX7_part_20 : decode cX7_part 20 = .ok (.invokespecial 219, 3) := dk_183 0 219 (dk_at dksX7_part_0 20 rfl rfl)
theorem dX7_part_23 : decode cX7_part 23 = .ok (.areturn, 1) := dk_176 (dk_at dksX7_part_0 23 rfl rfl)
theorem dX7_part_24 : decode cX7_part 24 = .ok (.aload_n 0, 1) := dk_42 (dk_at dksX7_part_1 0 rfl rfl)
theorem dX7_part_25 : decode cX7_part 25 = .ok (.getfield 33, 3) := dk_180 0 33 (dk_at dksX7_part_1 1 rfl rfl)
theorem dX7_part_28 : decode cX7_part 28 = .ok (.iconst 1, 1) := dk_4 (dk_at dksX7_part_1 4 rfl rfl)
theorem dX7_part_29 : decode cX7_part 29 = .ok (.if_icmp .ne 8, 3) := dk_160 0 8 (dk_at dksX7_part_1 5 rfl rfl)
theorem dX7_part_32 : decode cX7_part 32 = .ok (.aload_n 0, 1) := dk_42 (dk_at dksX7_part_1 8 rfl rfl)
theorem dX7_part_33 : decode cX7_part 33 = .ok (.invokevirtual 222, 3) := dk_182 0 222 (dk_at dksX7_part_1 9 rfl rfl)
theorem dX7_part_36 : decode cX7_part 36 = .ok (.areturn, 1) := dk_176 (dk_at dksX7_part_1 12 rfl rfl)
theorem dX7_part_37 : decode cX7_part 37 = .ok (.aload_n 0, 1) := dk_42 (dk_at dksX7_part_1 13 rfl rfl)
theorem dX7_part_38 : decode cX7_part 38 = .ok (.bipush 40, 2) := dk_16 40 (dk_at dksX7_part_1 14 rfl rfl)
theorem dX7_part_40 : decode cX7_part 40 = .ok (.invokevirtual 171, 3) := dk_182 0 171 (dk_at dksX7_part_1 16 rfl rfl)
theorem dX7_part_43 : decode cX7_part 43 = .ok (.aload_n 0, 1) := dk_42 (dk_at dksX7_part_1 19 rfl rfl)
theorem dX7_part_44 : decode cX7_part 44 = .ok (.invokevirtual 188, 3) := dk_182 0 188 (dk_at dksX7_part_1 20 rfl rfl)
theorem dX7_part_47 : decode cX7_part 47 = .ok (.astore_n 1, 1) := dk_76 (dk_at dksX7_part_1 23 rfl rfl)
theorem dX7_part_48 : decode cX7_part 48 = .ok (.aload_n 0, 1) := dk_42 (dk_at dksX7_part_2 0 rfl rfl)
theorem dX7_part_49 : decode cX7_part 49 = .ok (.bipush 41, 2) := dk_16 41 (dk_at dksX7_part_2 1 rfl rfl)
theorem dX7_part_51 : decode cX7_part 51 = .ok (.invokevirtual 177, 3) := dk_182 0 177 (dk_at dksX7_part_2 3 rfl rfl)
theorem dX7_part_54 : decode cX7_part 54 = .ok (.aload_n 1, 1) := dk_43 (dk_at dksX7_part_2 6 rfl rfl)
theorem dX7_part_55 : decode cX7_part 55 = .ok (.areturn, 1) := dk_176 (dk_at dksX7_part_2 7 rfl rfl)
abbrev cX7_wordPart : ByteArray := prog_17_method_29_code
def yX7_wordPart : MethodName := ⟨RX7, "wordPart", "()LToldTracks$Sum;"⟩
def dkwX7_wordPart_4 : List UInt8 := [176]
abbrev dktX7_wordPart_4 : List UInt8 := dkwX7_wordPart_4 ++ []
def dkwX7_wordPart_3 : List UInt8 := [182, 0, 130, 42, 182, 0, 188, 78, 42, 16, 41, 182, 0, 177, 187, 0, 239, 89, 27, 44, 45, 183, 0, 241]
abbrev dktX7_wordPart_3 : List UInt8 := dkwX7_wordPart_3 ++ dktX7_wordPart_4
def dkwX7_wordPart_2 : List UInt8 := [154, 0, 9, 42, 18, 234, 182, 0, 236, 42, 16, 40, 182, 0, 171, 42, 182, 0, 188, 77, 42, 16, 44]
abbrev dktX7_wordPart_2 : List UInt8 := dkwX7_wordPart_2 ++ dktX7_wordPart_3
def dkwX7_wordPart_1 : List UInt8 := [187, 0, 226, 89, 27, 183, 0, 231, 176, 132, 1, 1, 167, 255, 224, 42, 18, 232, 182, 0, 100, 60, 27]
abbrev dktX7_wordPart_1 : List UInt8 := dkwX7_wordPart_1 ++ dktX7_wordPart_2
def dkwX7_wordPart_0 : List UInt8 := [3, 60, 27, 178, 0, 225, 190, 162, 0, 30, 42, 178, 0, 225, 27, 50, 182, 0, 100, 153, 0, 12]
abbrev dktX7_wordPart_0 : List UInt8 := dkwX7_wordPart_0 ++ dktX7_wordPart_1
theorem dksX7_wordPart_0 : cX7_wordPart.data.toList.drop 0 = dktX7_wordPart_0 := by decide +kernel
theorem dksX7_wordPart_1 : cX7_wordPart.data.toList.drop 22 = dktX7_wordPart_1 := dk_seg dksX7_wordPart_0 22 rfl rfl
theorem dksX7_wordPart_2 : cX7_wordPart.data.toList.drop 45 = dktX7_wordPart_2 := dk_seg dksX7_wordPart_1 23 rfl rfl
theorem dksX7_wordPart_3 : cX7_wordPart.data.toList.drop 68 = dktX7_wordPart_3 := dk_seg dksX7_wordPart_2 23 rfl rfl
theorem dksX7_wordPart_4 : cX7_wordPart.data.toList.drop 92 = dktX7_wordPart_4 := dk_seg dksX7_wordPart_3 24 rfl rfl
theorem dX7_wordPart_0 : decode cX7_wordPart 0 = .ok (.iconst 0, 1) := dk_3 (dk_at dksX7_wordPart_0 0 rfl rfl)
theorem dX7_wordPart_1 : decode cX7_wordPart 1 = .ok (.istore_n 1, 1) := dk_60 (dk_at dksX7_wordPart_0 1 rfl rfl)
theorem dX7_wordPart_2 : decode cX7_wordPart 2 = .ok (.iload_n 1, 1) := dk_27 (dk_at dksX7_wordPart_0 2 rfl rfl)
theorem dX7_wordPart_3 : decode cX7_wordPart 3 = .ok (.getstatic 225, 3) := dk_178 0 225 (dk_at dksX7_wordPart_0 3 rfl rfl)
theorem dX7_wordPart_6 : decode cX7_wordPart 6 = .ok (.arraylength, 1) := dk_190 (dk_at dksX7_wordPart_0 6 rfl rfl)
theorem dX7_wordPart_7 : decode cX7_wordPart 7 = .ok (.if_icmp .ge 30, 3) := dk_162 0 30 (dk_at dksX7_wordPart_0 7 rfl rfl)
theorem dX7_wordPart_10 : decode cX7_wordPart 10 = .ok (.aload_n 0, 1) := dk_42 (dk_at dksX7_wordPart_0 10 rfl rfl)
theorem dX7_wordPart_11 : decode cX7_wordPart 11 = .ok (.getstatic 225, 3) := dk_178 0 225 (dk_at dksX7_wordPart_0 11 rfl rfl)
theorem dX7_wordPart_14 : decode cX7_wordPart 14 = .ok (.iload_n 1, 1) := dk_27 (dk_at dksX7_wordPart_0 14 rfl rfl)
theorem dX7_wordPart_15 : decode cX7_wordPart 15 = .ok (.aaload, 1) := dk_50 (dk_at dksX7_wordPart_0 15 rfl rfl)
theorem dX7_wordPart_16 : decode cX7_wordPart 16 = .ok (.invokevirtual 100, 3) := dk_182 0 100 (dk_at dksX7_wordPart_0 16 rfl rfl)
theorem dX7_wordPart_19 : decode cX7_wordPart 19 = .ok (.ifCond .eq 12, 3) := dk_153 0 12 (dk_at dksX7_wordPart_0 19 rfl rfl)
theorem dX7_wordPart_22 : decode cX7_wordPart 22 = .ok (.new 226, 3) := dk_187 0 226 (dk_at dksX7_wordPart_1 0 rfl rfl)
theorem dX7_wordPart_25 : decode cX7_wordPart 25 = .ok (.dup, 1) := dk_89 (dk_at dksX7_wordPart_1 3 rfl rfl)
theorem dX7_wordPart_26 : decode cX7_wordPart 26 = .ok (.iload_n 1, 1) := dk_27 (dk_at dksX7_wordPart_1 4 rfl rfl)
theorem dX7_wordPart_27 : decode cX7_wordPart 27 = .ok (.invokespecial 231, 3) := dk_183 0 231 (dk_at dksX7_wordPart_1 5 rfl rfl)
theorem dX7_wordPart_30 : decode cX7_wordPart 30 = .ok (.areturn, 1) := dk_176 (dk_at dksX7_wordPart_1 8 rfl rfl)
theorem dX7_wordPart_31 : decode cX7_wordPart 31 = .ok (.iinc 1 1, 3) := dk_132 1 1 (dk_at dksX7_wordPart_1 9 rfl rfl)
theorem dX7_wordPart_34 : decode cX7_wordPart 34 = .ok (.goto (-32), 3) := dk_167 255 224 (dk_at dksX7_wordPart_1 12 rfl rfl)
theorem dX7_wordPart_37 : decode cX7_wordPart 37 = .ok (.aload_n 0, 1) := dk_42 (dk_at dksX7_wordPart_1 15 rfl rfl)
theorem dX7_wordPart_38 : decode cX7_wordPart 38 = .ok (.ldc 232, 2) := dk_18 232 (dk_at dksX7_wordPart_1 16 rfl rfl)
theorem dX7_wordPart_40 : decode cX7_wordPart 40 = .ok (.invokevirtual 100, 3) := dk_182 0 100 (dk_at dksX7_wordPart_1 18 rfl rfl)
theorem dX7_wordPart_43 : decode cX7_wordPart 43 = .ok (.istore_n 1, 1) := dk_60 (dk_at dksX7_wordPart_1 21 rfl rfl)
theorem dX7_wordPart_44 : decode cX7_wordPart 44 = .ok (.iload_n 1, 1) := dk_27 (dk_at dksX7_wordPart_1 22 rfl rfl)
theorem dX7_wordPart_45 : decode cX7_wordPart 45 = .ok (.ifCond .ne 9, 3) := dk_154 0 9 (dk_at dksX7_wordPart_2 0 rfl rfl)
theorem dX7_wordPart_48 : decode cX7_wordPart 48 = .ok (.aload_n 0, 1) := dk_42 (dk_at dksX7_wordPart_2 3 rfl rfl)
theorem dX7_wordPart_49 : decode cX7_wordPart 49 = .ok (.ldc 234, 2) := dk_18 234 (dk_at dksX7_wordPart_2 4 rfl rfl)
theorem dX7_wordPart_51 : decode cX7_wordPart 51 = .ok (.invokevirtual 236, 3) := dk_182 0 236 (dk_at dksX7_wordPart_2 6 rfl rfl)
theorem dX7_wordPart_54 : decode cX7_wordPart 54 = .ok (.aload_n 0, 1) := dk_42 (dk_at dksX7_wordPart_2 9 rfl rfl)
theorem dX7_wordPart_55 : decode cX7_wordPart 55 = .ok (.bipush 40, 2) := dk_16 40 (dk_at dksX7_wordPart_2 10 rfl rfl)
theorem dX7_wordPart_57 : decode cX7_wordPart 57 = .ok (.invokevirtual 171, 3) := dk_182 0 171 (dk_at dksX7_wordPart_2 12 rfl rfl)
theorem dX7_wordPart_60 : decode cX7_wordPart 60 = .ok (.aload_n 0, 1) := dk_42 (dk_at dksX7_wordPart_2 15 rfl rfl)
theorem dX7_wordPart_61 : decode cX7_wordPart 61 = .ok (.invokevirtual 188, 3) := dk_182 0 188 (dk_at dksX7_wordPart_2 16 rfl rfl)
theorem dX7_wordPart_64 : decode cX7_wordPart 64 = .ok (.astore_n 2, 1) := dk_77 (dk_at dksX7_wordPart_2 19 rfl rfl)
theorem dX7_wordPart_65 : decode cX7_wordPart 65 = .ok (.aload_n 0, 1) := dk_42 (dk_at dksX7_wordPart_2 20 rfl rfl)
theorem dX7_wordPart_66 : decode cX7_wordPart 66 = .ok (.bipush 44, 2) := dk_16 44 (dk_at dksX7_wordPart_2 21 rfl rfl)
theorem dX7_wordPart_68 : decode cX7_wordPart 68 = .ok (.invokevirtual 130, 3) := dk_182 0 130 (dk_at dksX7_wordPart_3 0 rfl rfl)
theorem dX7_wordPart_71 : decode cX7_wordPart 71 = .ok (.aload_n 0, 1) := dk_42 (dk_at dksX7_wordPart_3 3 rfl rfl)
theorem dX7_wordPart_72 : decode cX7_wordPart 72 = .ok (.invokevirtual 188, 3) := dk_182 0 188 (dk_at dksX7_wordPart_3 4 rfl rfl)
theorem dX7_wordPart_75 : decode cX7_wordPart 75 = .ok (.astore_n 3, 1) := dk_78 (dk_at dksX7_wordPart_3 7 rfl rfl)
theorem dX7_wordPart_76 : decode cX7_wordPart 76 = .ok (.aload_n 0, 1) := dk_42 (dk_at dksX7_wordPart_3 8 rfl rfl)
theorem dX7_wordPart_77 : decode cX7_wordPart 77 = .ok (.bipush 41, 2) := dk_16 41 (dk_at dksX7_wordPart_3 9 rfl rfl)
theorem dX7_wordPart_79 : decode cX7_wordPart 79 = .ok (.invokevirtual 177, 3) := dk_182 0 177 (dk_at dksX7_wordPart_3 11 rfl rfl)
theorem dX7_wordPart_82 : decode cX7_wordPart 82 = .ok (.new 239, 3) := dk_187 0 239 (dk_at dksX7_wordPart_3 14 rfl rfl)
theorem dX7_wordPart_85 : decode cX7_wordPart 85 = .ok (.dup, 1) := dk_89 (dk_at dksX7_wordPart_3 17 rfl rfl)
theorem dX7_wordPart_86 : decode cX7_wordPart 86 = .ok (.iload_n 1, 1) := dk_27 (dk_at dksX7_wordPart_3 18 rfl rfl)
theorem dX7_wordPart_87 : decode cX7_wordPart 87 = .ok (.aload_n 2, 1) := dk_44 (dk_at dksX7_wordPart_3 19 rfl rfl)
theorem dX7_wordPart_88 : decode cX7_wordPart 88 = .ok (.aload_n 3, 1) := dk_45 (dk_at dksX7_wordPart_3 20 rfl rfl)
theorem dX7_wordPart_89 : decode cX7_wordPart 89 = .ok (.invokespecial 241, 3) := dk_183 0 241 (dk_at dksX7_wordPart_3 21 rfl rfl)
theorem dX7_wordPart_92 : decode cX7_wordPart 92 = .ok (.areturn, 1) := dk_176 (dk_at dksX7_wordPart_4 0 rfl rfl)
abbrev cX7_opens : ByteArray := prog_17_method_17_code
def yX7_opens : MethodName := ⟨RX7, "opens", "(C)V"⟩
def dkwX7_opens_2 : List UInt8 := [3, 181, 0, 29, 177]
abbrev dktX7_opens_2 : List UInt8 := dkwX7_opens_2 ++ []
def dkwX7_opens_1 : List UInt8 := [187, 0, 57, 89, 8, 42, 180, 0, 43, 183, 0, 59, 191, 42, 89, 180, 0, 127, 4, 96, 181, 0, 127, 42]
abbrev dktX7_opens_1 : List UInt8 := dkwX7_opens_1 ++ dktX7_opens_2
def dkwX7_opens_0 : List UInt8 := [42, 27, 182, 0, 86, 154, 0, 8, 42, 182, 0, 96, 191, 42, 180, 0, 127, 16, 8, 160, 0, 16]
abbrev dktX7_opens_0 : List UInt8 := dkwX7_opens_0 ++ dktX7_opens_1
theorem dksX7_opens_0 : cX7_opens.data.toList.drop 0 = dktX7_opens_0 := by decide +kernel
theorem dksX7_opens_1 : cX7_opens.data.toList.drop 22 = dktX7_opens_1 := dk_seg dksX7_opens_0 22 rfl rfl
theorem dksX7_opens_2 : cX7_opens.data.toList.drop 46 = dktX7_opens_2 := dk_seg dksX7_opens_1 24 rfl rfl
theorem dX7_opens_0 : decode cX7_opens 0 = .ok (.aload_n 0, 1) := dk_42 (dk_at dksX7_opens_0 0 rfl rfl)
theorem dX7_opens_1 : decode cX7_opens 1 = .ok (.iload_n 1, 1) := dk_27 (dk_at dksX7_opens_0 1 rfl rfl)
theorem dX7_opens_2 : decode cX7_opens 2 = .ok (.invokevirtual 86, 3) := dk_182 0 86 (dk_at dksX7_opens_0 2 rfl rfl)
theorem dX7_opens_5 : decode cX7_opens 5 = .ok (.ifCond .ne 8, 3) := dk_154 0 8 (dk_at dksX7_opens_0 5 rfl rfl)
theorem dX7_opens_8 : decode cX7_opens 8 = .ok (.aload_n 0, 1) := dk_42 (dk_at dksX7_opens_0 8 rfl rfl)
theorem dX7_opens_9 : decode cX7_opens 9 = .ok (.invokevirtual 96, 3) := dk_182 0 96 (dk_at dksX7_opens_0 9 rfl rfl)
theorem dX7_opens_12 : decode cX7_opens 12 = .ok (.athrow, 1) := dk_191 (dk_at dksX7_opens_0 12 rfl rfl)
theorem dX7_opens_13 : decode cX7_opens 13 = .ok (.aload_n 0, 1) := dk_42 (dk_at dksX7_opens_0 13 rfl rfl)
theorem dX7_opens_14 : decode cX7_opens 14 = .ok (.getfield 127, 3) := dk_180 0 127 (dk_at dksX7_opens_0 14 rfl rfl)
theorem dX7_opens_17 : decode cX7_opens 17 = .ok (.bipush 8, 2) := dk_16 8 (dk_at dksX7_opens_0 17 rfl rfl)
theorem dX7_opens_19 : decode cX7_opens 19 = .ok (.if_icmp .ne 16, 3) := dk_160 0 16 (dk_at dksX7_opens_0 19 rfl rfl)
theorem dX7_opens_22 : decode cX7_opens 22 = .ok (.new 57, 3) := dk_187 0 57 (dk_at dksX7_opens_1 0 rfl rfl)
theorem dX7_opens_25 : decode cX7_opens 25 = .ok (.dup, 1) := dk_89 (dk_at dksX7_opens_1 3 rfl rfl)
theorem dX7_opens_26 : decode cX7_opens 26 = .ok (.iconst 5, 1) := dk_8 (dk_at dksX7_opens_1 4 rfl rfl)
theorem dX7_opens_27 : decode cX7_opens 27 = .ok (.aload_n 0, 1) := dk_42 (dk_at dksX7_opens_1 5 rfl rfl)
theorem dX7_opens_28 : decode cX7_opens 28 = .ok (.getfield 43, 3) := dk_180 0 43 (dk_at dksX7_opens_1 6 rfl rfl)
theorem dX7_opens_31 : decode cX7_opens 31 = .ok (.invokespecial 59, 3) := dk_183 0 59 (dk_at dksX7_opens_1 9 rfl rfl)
theorem dX7_opens_34 : decode cX7_opens 34 = .ok (.athrow, 1) := dk_191 (dk_at dksX7_opens_1 12 rfl rfl)
theorem dX7_opens_35 : decode cX7_opens 35 = .ok (.aload_n 0, 1) := dk_42 (dk_at dksX7_opens_1 13 rfl rfl)
theorem dX7_opens_36 : decode cX7_opens 36 = .ok (.dup, 1) := dk_89 (dk_at dksX7_opens_1 14 rfl rfl)
theorem dX7_opens_37 : decode cX7_opens 37 = .ok (.getfield 127, 3) := dk_180 0 127 (dk_at dksX7_opens_1 15 rfl rfl)
theorem dX7_opens_40 : decode cX7_opens 40 = .ok (.iconst 1, 1) := dk_4 (dk_at dksX7_opens_1 18 rfl rfl)
theorem dX7_opens_41 : decode cX7_opens 41 = .ok (.iadd, 1) := dk_96 (dk_at dksX7_opens_1 19 rfl rfl)
theorem dX7_opens_42 : decode cX7_opens 42 = .ok (.putfield 127, 3) := dk_181 0 127 (dk_at dksX7_opens_1 20 rfl rfl)
theorem dX7_opens_45 : decode cX7_opens 45 = .ok (.aload_n 0, 1) := dk_42 (dk_at dksX7_opens_1 23 rfl rfl)
theorem dX7_opens_46 : decode cX7_opens 46 = .ok (.iconst 0, 1) := dk_3 (dk_at dksX7_opens_2 0 rfl rfl)
theorem dX7_opens_47 : decode cX7_opens 47 = .ok (.putfield 29, 3) := dk_181 0 29 (dk_at dksX7_opens_2 1 rfl rfl)
theorem dX7_opens_50 : decode cX7_opens 50 = .ok (.return_, 1) := dk_177 (dk_at dksX7_opens_2 4 rfl rfl)
abbrev cX7_closes : ByteArray := prog_17_method_18_code
def yX7_closes : MethodName := ⟨RX7, "closes", "(C)V"⟩
def dkwX7_closes_0 : List UInt8 := [42, 27, 182, 0, 130, 42, 89, 180, 0, 127, 4, 100, 181, 0, 127, 177]
abbrev dktX7_closes_0 : List UInt8 := dkwX7_closes_0 ++ []
theorem dksX7_closes_0 : cX7_closes.data.toList.drop 0 = dktX7_closes_0 := by decide +kernel
theorem dX7_closes_0 : decode cX7_closes 0 = .ok (.aload_n 0, 1) := dk_42 (dk_at dksX7_closes_0 0 rfl rfl)
theorem dX7_closes_1 : decode cX7_closes 1 = .ok (.iload_n 1, 1) := dk_27 (dk_at dksX7_closes_0 1 rfl rfl)
theorem dX7_closes_2 : decode cX7_closes 2 = .ok (.invokevirtual 130, 3) := dk_182 0 130 (dk_at dksX7_closes_0 2 rfl rfl)
theorem dX7_closes_5 : decode cX7_closes 5 = .ok (.aload_n 0, 1) := dk_42 (dk_at dksX7_closes_0 5 rfl rfl)
theorem dX7_closes_6 : decode cX7_closes 6 = .ok (.dup, 1) := dk_89 (dk_at dksX7_closes_0 6 rfl rfl)
theorem dX7_closes_7 : decode cX7_closes 7 = .ok (.getfield 127, 3) := dk_180 0 127 (dk_at dksX7_closes_0 7 rfl rfl)
theorem dX7_closes_10 : decode cX7_closes 10 = .ok (.iconst 1, 1) := dk_4 (dk_at dksX7_closes_0 10 rfl rfl)
theorem dX7_closes_11 : decode cX7_closes 11 = .ok (.isub, 1) := dk_100 (dk_at dksX7_closes_0 11 rfl rfl)
theorem dX7_closes_12 : decode cX7_closes 12 = .ok (.putfield 127, 3) := dk_181 0 127 (dk_at dksX7_closes_0 12 rfl rfl)
theorem dX7_closes_15 : decode cX7_closes 15 = .ok (.return_, 1) := dk_177 (dk_at dksX7_closes_0 15 rfl rfl)
abbrev cX7_isProduct : ByteArray := prog_17_method_26_code
def yX7_isProduct : MethodName := ⟨RX7, "isProduct", "()Z"⟩
def dkwX7_isProduct_1 : List UInt8 := [153, 0, 7, 4, 167, 0, 4, 3, 172]
abbrev dktX7_isProduct_1 : List UInt8 := dkwX7_isProduct_1 ++ []
def dkwX7_isProduct_0 : List UInt8 := [42, 16, 42, 182, 0, 86, 154, 0, 21, 42, 16, 47, 182, 0, 86, 154, 0, 12, 42, 16, 37, 182, 0, 86]
abbrev dktX7_isProduct_0 : List UInt8 := dkwX7_isProduct_0 ++ dktX7_isProduct_1
theorem dksX7_isProduct_0 : cX7_isProduct.data.toList.drop 0 = dktX7_isProduct_0 := by decide +kernel
theorem dksX7_isProduct_1 : cX7_isProduct.data.toList.drop 24 = dktX7_isProduct_1 := dk_seg dksX7_isProduct_0 24 rfl rfl
theorem dX7_isProduct_0 : decode cX7_isProduct 0 = .ok (.aload_n 0, 1) := dk_42 (dk_at dksX7_isProduct_0 0 rfl rfl)
theorem dX7_isProduct_1 : decode cX7_isProduct 1 = .ok (.bipush 42, 2) := dk_16 42 (dk_at dksX7_isProduct_0 1 rfl rfl)
theorem dX7_isProduct_3 : decode cX7_isProduct 3 = .ok (.invokevirtual 86, 3) := dk_182 0 86 (dk_at dksX7_isProduct_0 3 rfl rfl)
theorem dX7_isProduct_6 : decode cX7_isProduct 6 = .ok (.ifCond .ne 21, 3) := dk_154 0 21 (dk_at dksX7_isProduct_0 6 rfl rfl)
theorem dX7_isProduct_9 : decode cX7_isProduct 9 = .ok (.aload_n 0, 1) := dk_42 (dk_at dksX7_isProduct_0 9 rfl rfl)
theorem dX7_isProduct_10 : decode cX7_isProduct 10 = .ok (.bipush 47, 2) := dk_16 47 (dk_at dksX7_isProduct_0 10 rfl rfl)
theorem dX7_isProduct_12 : decode cX7_isProduct 12 = .ok (.invokevirtual 86, 3) := dk_182 0 86 (dk_at dksX7_isProduct_0 12 rfl rfl)
theorem dX7_isProduct_15 : decode cX7_isProduct 15 = .ok (.ifCond .ne 12, 3) := dk_154 0 12 (dk_at dksX7_isProduct_0 15 rfl rfl)
theorem dX7_isProduct_18 : decode cX7_isProduct 18 = .ok (.aload_n 0, 1) := dk_42 (dk_at dksX7_isProduct_0 18 rfl rfl)
theorem dX7_isProduct_19 : decode cX7_isProduct 19 = .ok (.bipush 37, 2) := dk_16 37 (dk_at dksX7_isProduct_0 19 rfl rfl)
theorem dX7_isProduct_21 : decode cX7_isProduct 21 = .ok (.invokevirtual 86, 3) := dk_182 0 86 (dk_at dksX7_isProduct_0 21 rfl rfl)
theorem dX7_isProduct_24 : decode cX7_isProduct 24 = .ok (.ifCond .eq 7, 3) := dk_153 0 7 (dk_at dksX7_isProduct_1 0 rfl rfl)
theorem dX7_isProduct_27 : decode cX7_isProduct 27 = .ok (.iconst 1, 1) := dk_4 (dk_at dksX7_isProduct_1 3 rfl rfl)
theorem dX7_isProduct_28 : decode cX7_isProduct 28 = .ok (.goto 4, 3) := dk_167 0 4 (dk_at dksX7_isProduct_1 4 rfl rfl)
theorem dX7_isProduct_31 : decode cX7_isProduct 31 = .ok (.iconst 0, 1) := dk_3 (dk_at dksX7_isProduct_1 7 rfl rfl)
theorem dX7_isProduct_32 : decode cX7_isProduct 32 = .ok (.ireturn, 1) := dk_172 (dk_at dksX7_isProduct_1 8 rfl rfl)
abbrev cX7_when : ByteArray := prog_17_method_31_code
def yX7_when : MethodName := ⟨RX7, "when", "()LToldTracks$Test;"⟩
def dkwX7_when_0 : List UInt8 := [42, 18, 244, 182, 0, 236, 42, 182, 0, 174, 176]
abbrev dktX7_when_0 : List UInt8 := dkwX7_when_0 ++ []
theorem dksX7_when_0 : cX7_when.data.toList.drop 0 = dktX7_when_0 := by decide +kernel
theorem dX7_when_0 : decode cX7_when 0 = .ok (.aload_n 0, 1) := dk_42 (dk_at dksX7_when_0 0 rfl rfl)
theorem dX7_when_1 : decode cX7_when 1 = .ok (.ldc 244, 2) := dk_18 244 (dk_at dksX7_when_0 1 rfl rfl)
theorem dX7_when_3 : decode cX7_when 3 = .ok (.invokevirtual 236, 3) := dk_182 0 236 (dk_at dksX7_when_0 3 rfl rfl)
theorem dX7_when_6 : decode cX7_when 6 = .ok (.aload_n 0, 1) := dk_42 (dk_at dksX7_when_0 6 rfl rfl)
theorem dX7_when_7 : decode cX7_when 7 = .ok (.invokevirtual 174, 3) := dk_182 0 174 (dk_at dksX7_when_0 7 rfl rfl)
theorem dX7_when_10 : decode cX7_when 10 = .ok (.areturn, 1) := dk_176 (dk_at dksX7_when_0 10 rfl rfl)
abbrev cX7_test : ByteArray := prog_17_method_19_code
def yX7_test : MethodName := ⟨RX7, "test", "()LToldTracks$Test;"⟩
def dkwX7_test_2 : List UInt8 := [87, 167, 255, 235, 44, 176]
abbrev dktX7_test_2 : List UInt8 := dkwX7_test_2 ++ []
def dkwX7_test_1 : List UInt8 := [183, 0, 142, 77, 42, 18, 138, 182, 0, 100, 153, 0, 18, 44, 180, 0, 145, 42, 182, 0, 134, 182, 0, 149]
abbrev dktX7_test_1 : List UInt8 := dkwX7_test_1 ++ dktX7_test_2
def dkwX7_test_0 : List UInt8 := [42, 182, 0, 134, 76, 42, 18, 138, 182, 0, 89, 154, 0, 5, 43, 176, 187, 0, 140, 89, 3, 43]
abbrev dktX7_test_0 : List UInt8 := dkwX7_test_0 ++ dktX7_test_1
theorem dksX7_test_0 : cX7_test.data.toList.drop 0 = dktX7_test_0 := by decide +kernel
theorem dksX7_test_1 : cX7_test.data.toList.drop 22 = dktX7_test_1 := dk_seg dksX7_test_0 22 rfl rfl
theorem dksX7_test_2 : cX7_test.data.toList.drop 46 = dktX7_test_2 := dk_seg dksX7_test_1 24 rfl rfl
theorem dX7_test_0 : decode cX7_test 0 = .ok (.aload_n 0, 1) := dk_42 (dk_at dksX7_test_0 0 rfl rfl)
theorem dX7_test_1 : decode cX7_test 1 = .ok (.invokevirtual 134, 3) := dk_182 0 134 (dk_at dksX7_test_0 1 rfl rfl)
theorem dX7_test_4 : decode cX7_test 4 = .ok (.astore_n 1, 1) := dk_76 (dk_at dksX7_test_0 4 rfl rfl)
theorem dX7_test_5 : decode cX7_test 5 = .ok (.aload_n 0, 1) := dk_42 (dk_at dksX7_test_0 5 rfl rfl)
theorem dX7_test_6 : decode cX7_test 6 = .ok (.ldc 138, 2) := dk_18 138 (dk_at dksX7_test_0 6 rfl rfl)
theorem dX7_test_8 : decode cX7_test 8 = .ok (.invokevirtual 89, 3) := dk_182 0 89 (dk_at dksX7_test_0 8 rfl rfl)
theorem dX7_test_11 : decode cX7_test 11 = .ok (.ifCond .ne 5, 3) := dk_154 0 5 (dk_at dksX7_test_0 11 rfl rfl)
theorem dX7_test_14 : decode cX7_test 14 = .ok (.aload_n 1, 1) := dk_43 (dk_at dksX7_test_0 14 rfl rfl)
theorem dX7_test_15 : decode cX7_test 15 = .ok (.areturn, 1) := dk_176 (dk_at dksX7_test_0 15 rfl rfl)
theorem dX7_test_16 : decode cX7_test 16 = .ok (.new 140, 3) := dk_187 0 140 (dk_at dksX7_test_0 16 rfl rfl)
theorem dX7_test_19 : decode cX7_test 19 = .ok (.dup, 1) := dk_89 (dk_at dksX7_test_0 19 rfl rfl)
theorem dX7_test_20 : decode cX7_test 20 = .ok (.iconst 0, 1) := dk_3 (dk_at dksX7_test_0 20 rfl rfl)
theorem dX7_test_21 : decode cX7_test 21 = .ok (.aload_n 1, 1) := dk_43 (dk_at dksX7_test_0 21 rfl rfl)
theorem dX7_test_22 : decode cX7_test 22 = .ok (.invokespecial 142, 3) := dk_183 0 142 (dk_at dksX7_test_1 0 rfl rfl)
theorem dX7_test_25 : decode cX7_test 25 = .ok (.astore_n 2, 1) := dk_77 (dk_at dksX7_test_1 3 rfl rfl)
theorem dX7_test_26 : decode cX7_test 26 = .ok (.aload_n 0, 1) := dk_42 (dk_at dksX7_test_1 4 rfl rfl)
theorem dX7_test_27 : decode cX7_test 27 = .ok (.ldc 138, 2) := dk_18 138 (dk_at dksX7_test_1 5 rfl rfl)
theorem dX7_test_29 : decode cX7_test 29 = .ok (.invokevirtual 100, 3) := dk_182 0 100 (dk_at dksX7_test_1 7 rfl rfl)
theorem dX7_test_32 : decode cX7_test 32 = .ok (.ifCond .eq 18, 3) := dk_153 0 18 (dk_at dksX7_test_1 10 rfl rfl)
theorem dX7_test_35 : decode cX7_test 35 = .ok (.aload_n 2, 1) := dk_44 (dk_at dksX7_test_1 13 rfl rfl)
theorem dX7_test_36 : decode cX7_test 36 = .ok (.getfield 145, 3) := dk_180 0 145 (dk_at dksX7_test_1 14 rfl rfl)
theorem dX7_test_39 : decode cX7_test 39 = .ok (.aload_n 0, 1) := dk_42 (dk_at dksX7_test_1 17 rfl rfl)
theorem dX7_test_40 : decode cX7_test 40 = .ok (.invokevirtual 134, 3) := dk_182 0 134 (dk_at dksX7_test_1 18 rfl rfl)
theorem dX7_test_43 : decode cX7_test 43 = .ok (.invokevirtual 149, 3) := dk_182 0 149 (dk_at dksX7_test_1 21 rfl rfl)
theorem dX7_test_46 : decode cX7_test 46 = .ok (.pop, 1) := dk_87 (dk_at dksX7_test_2 0 rfl rfl)
theorem dX7_test_47 : decode cX7_test 47 = .ok (.goto (-21), 3) := dk_167 255 235 (dk_at dksX7_test_2 1 rfl rfl)
theorem dX7_test_50 : decode cX7_test 50 = .ok (.aload_n 2, 1) := dk_44 (dk_at dksX7_test_2 4 rfl rfl)
theorem dX7_test_51 : decode cX7_test 51 = .ok (.areturn, 1) := dk_176 (dk_at dksX7_test_2 5 rfl rfl)
abbrev cX7_both : ByteArray := prog_17_method_20_code
def yX7_both : MethodName := ⟨RX7, "both", "()LToldTracks$Test;"⟩
def dkwX7_both_2 : List UInt8 := [87, 167, 255, 235, 44, 176]
abbrev dktX7_both_2 : List UInt8 := dkwX7_both_2 ++ []
def dkwX7_both_1 : List UInt8 := [183, 0, 142, 77, 42, 18, 157, 182, 0, 100, 153, 0, 18, 44, 180, 0, 145, 42, 182, 0, 154, 182, 0, 149]
abbrev dktX7_both_1 : List UInt8 := dkwX7_both_1 ++ dktX7_both_2
def dkwX7_both_0 : List UInt8 := [42, 182, 0, 154, 76, 42, 18, 157, 182, 0, 89, 154, 0, 5, 43, 176, 187, 0, 140, 89, 4, 43]
abbrev dktX7_both_0 : List UInt8 := dkwX7_both_0 ++ dktX7_both_1
theorem dksX7_both_0 : cX7_both.data.toList.drop 0 = dktX7_both_0 := by decide +kernel
theorem dksX7_both_1 : cX7_both.data.toList.drop 22 = dktX7_both_1 := dk_seg dksX7_both_0 22 rfl rfl
theorem dksX7_both_2 : cX7_both.data.toList.drop 46 = dktX7_both_2 := dk_seg dksX7_both_1 24 rfl rfl
theorem dX7_both_0 : decode cX7_both 0 = .ok (.aload_n 0, 1) := dk_42 (dk_at dksX7_both_0 0 rfl rfl)
theorem dX7_both_1 : decode cX7_both 1 = .ok (.invokevirtual 154, 3) := dk_182 0 154 (dk_at dksX7_both_0 1 rfl rfl)
theorem dX7_both_4 : decode cX7_both 4 = .ok (.astore_n 1, 1) := dk_76 (dk_at dksX7_both_0 4 rfl rfl)
theorem dX7_both_5 : decode cX7_both 5 = .ok (.aload_n 0, 1) := dk_42 (dk_at dksX7_both_0 5 rfl rfl)
theorem dX7_both_6 : decode cX7_both 6 = .ok (.ldc 157, 2) := dk_18 157 (dk_at dksX7_both_0 6 rfl rfl)
theorem dX7_both_8 : decode cX7_both 8 = .ok (.invokevirtual 89, 3) := dk_182 0 89 (dk_at dksX7_both_0 8 rfl rfl)
theorem dX7_both_11 : decode cX7_both 11 = .ok (.ifCond .ne 5, 3) := dk_154 0 5 (dk_at dksX7_both_0 11 rfl rfl)
theorem dX7_both_14 : decode cX7_both 14 = .ok (.aload_n 1, 1) := dk_43 (dk_at dksX7_both_0 14 rfl rfl)
theorem dX7_both_15 : decode cX7_both 15 = .ok (.areturn, 1) := dk_176 (dk_at dksX7_both_0 15 rfl rfl)
theorem dX7_both_16 : decode cX7_both 16 = .ok (.new 140, 3) := dk_187 0 140 (dk_at dksX7_both_0 16 rfl rfl)
theorem dX7_both_19 : decode cX7_both 19 = .ok (.dup, 1) := dk_89 (dk_at dksX7_both_0 19 rfl rfl)
theorem dX7_both_20 : decode cX7_both 20 = .ok (.iconst 1, 1) := dk_4 (dk_at dksX7_both_0 20 rfl rfl)
theorem dX7_both_21 : decode cX7_both 21 = .ok (.aload_n 1, 1) := dk_43 (dk_at dksX7_both_0 21 rfl rfl)
theorem dX7_both_22 : decode cX7_both 22 = .ok (.invokespecial 142, 3) := dk_183 0 142 (dk_at dksX7_both_1 0 rfl rfl)
theorem dX7_both_25 : decode cX7_both 25 = .ok (.astore_n 2, 1) := dk_77 (dk_at dksX7_both_1 3 rfl rfl)
theorem dX7_both_26 : decode cX7_both 26 = .ok (.aload_n 0, 1) := dk_42 (dk_at dksX7_both_1 4 rfl rfl)
theorem dX7_both_27 : decode cX7_both 27 = .ok (.ldc 157, 2) := dk_18 157 (dk_at dksX7_both_1 5 rfl rfl)
theorem dX7_both_29 : decode cX7_both 29 = .ok (.invokevirtual 100, 3) := dk_182 0 100 (dk_at dksX7_both_1 7 rfl rfl)
theorem dX7_both_32 : decode cX7_both 32 = .ok (.ifCond .eq 18, 3) := dk_153 0 18 (dk_at dksX7_both_1 10 rfl rfl)
theorem dX7_both_35 : decode cX7_both 35 = .ok (.aload_n 2, 1) := dk_44 (dk_at dksX7_both_1 13 rfl rfl)
theorem dX7_both_36 : decode cX7_both 36 = .ok (.getfield 145, 3) := dk_180 0 145 (dk_at dksX7_both_1 14 rfl rfl)
theorem dX7_both_39 : decode cX7_both 39 = .ok (.aload_n 0, 1) := dk_42 (dk_at dksX7_both_1 17 rfl rfl)
theorem dX7_both_40 : decode cX7_both 40 = .ok (.invokevirtual 154, 3) := dk_182 0 154 (dk_at dksX7_both_1 18 rfl rfl)
theorem dX7_both_43 : decode cX7_both 43 = .ok (.invokevirtual 149, 3) := dk_182 0 149 (dk_at dksX7_both_1 21 rfl rfl)
theorem dX7_both_46 : decode cX7_both 46 = .ok (.pop, 1) := dk_87 (dk_at dksX7_both_2 0 rfl rfl)
theorem dX7_both_47 : decode cX7_both 47 = .ok (.goto (-21), 3) := dk_167 255 235 (dk_at dksX7_both_2 1 rfl rfl)
theorem dX7_both_50 : decode cX7_both 50 = .ok (.aload_n 2, 1) := dk_44 (dk_at dksX7_both_2 4 rfl rfl)
theorem dX7_both_51 : decode cX7_both 51 = .ok (.areturn, 1) := dk_176 (dk_at dksX7_both_2 5 rfl rfl)
abbrev cX7_fact : ByteArray := prog_17_method_21_code
def yX7_fact : MethodName := ⟨RX7, "fact", "()LToldTracks$Test;"⟩
def dkwX7_fact_2 : List UInt8 := [153, 0, 12, 44, 185, 0, 167, 1, 0, 167, 0, 4, 44, 176]
abbrev dktX7_fact_2 : List UInt8 := dkwX7_fact_2 ++ []
def dkwX7_fact_1 : List UInt8 := [42, 16, 91, 182, 0, 86, 153, 0, 10, 42, 182, 0, 161, 167, 0, 7, 42, 182, 0, 164, 77, 27]
abbrev dktX7_fact_1 : List UInt8 := dkwX7_fact_1 ++ dktX7_fact_2
def dkwX7_fact_0 : List UInt8 := [3, 60, 42, 18, 159, 182, 0, 100, 153, 0, 16, 27, 154, 0, 7, 4, 167, 0, 4, 3, 60, 167, 255, 237]
abbrev dktX7_fact_0 : List UInt8 := dkwX7_fact_0 ++ dktX7_fact_1
theorem dksX7_fact_0 : cX7_fact.data.toList.drop 0 = dktX7_fact_0 := by decide +kernel
theorem dksX7_fact_1 : cX7_fact.data.toList.drop 24 = dktX7_fact_1 := dk_seg dksX7_fact_0 24 rfl rfl
theorem dksX7_fact_2 : cX7_fact.data.toList.drop 46 = dktX7_fact_2 := dk_seg dksX7_fact_1 22 rfl rfl
theorem dX7_fact_0 : decode cX7_fact 0 = .ok (.iconst 0, 1) := dk_3 (dk_at dksX7_fact_0 0 rfl rfl)
theorem dX7_fact_1 : decode cX7_fact 1 = .ok (.istore_n 1, 1) := dk_60 (dk_at dksX7_fact_0 1 rfl rfl)
theorem dX7_fact_2 : decode cX7_fact 2 = .ok (.aload_n 0, 1) := dk_42 (dk_at dksX7_fact_0 2 rfl rfl)
theorem dX7_fact_3 : decode cX7_fact 3 = .ok (.ldc 159, 2) := dk_18 159 (dk_at dksX7_fact_0 3 rfl rfl)
theorem dX7_fact_5 : decode cX7_fact 5 = .ok (.invokevirtual 100, 3) := dk_182 0 100 (dk_at dksX7_fact_0 5 rfl rfl)
theorem dX7_fact_8 : decode cX7_fact 8 = .ok (.ifCond .eq 16, 3) := dk_153 0 16 (dk_at dksX7_fact_0 8 rfl rfl)
theorem dX7_fact_11 : decode cX7_fact 11 = .ok (.iload_n 1, 1) := dk_27 (dk_at dksX7_fact_0 11 rfl rfl)
theorem dX7_fact_12 : decode cX7_fact 12 = .ok (.ifCond .ne 7, 3) := dk_154 0 7 (dk_at dksX7_fact_0 12 rfl rfl)
theorem dX7_fact_15 : decode cX7_fact 15 = .ok (.iconst 1, 1) := dk_4 (dk_at dksX7_fact_0 15 rfl rfl)
theorem dX7_fact_16 : decode cX7_fact 16 = .ok (.goto 4, 3) := dk_167 0 4 (dk_at dksX7_fact_0 16 rfl rfl)
theorem dX7_fact_19 : decode cX7_fact 19 = .ok (.iconst 0, 1) := dk_3 (dk_at dksX7_fact_0 19 rfl rfl)
theorem dX7_fact_20 : decode cX7_fact 20 = .ok (.istore_n 1, 1) := dk_60 (dk_at dksX7_fact_0 20 rfl rfl)
theorem dX7_fact_21 : decode cX7_fact 21 = .ok (.goto (-19), 3) := dk_167 255 237 (dk_at dksX7_fact_0 21 rfl rfl)
theorem dX7_fact_24 : decode cX7_fact 24 = .ok (.aload_n 0, 1) := dk_42 (dk_at dksX7_fact_1 0 rfl rfl)
theorem dX7_fact_25 : decode cX7_fact 25 = .ok (.bipush 91, 2) := dk_16 91 (dk_at dksX7_fact_1 1 rfl rfl)
theorem dX7_fact_27 : decode cX7_fact 27 = .ok (.invokevirtual 86, 3) := dk_182 0 86 (dk_at dksX7_fact_1 3 rfl rfl)
theorem dX7_fact_30 : decode cX7_fact 30 = .ok (.ifCond .eq 10, 3) := dk_153 0 10 (dk_at dksX7_fact_1 6 rfl rfl)
theorem dX7_fact_33 : decode cX7_fact 33 = .ok (.aload_n 0, 1) := dk_42 (dk_at dksX7_fact_1 9 rfl rfl)
theorem dX7_fact_34 : decode cX7_fact 34 = .ok (.invokevirtual 161, 3) := dk_182 0 161 (dk_at dksX7_fact_1 10 rfl rfl)
theorem dX7_fact_37 : decode cX7_fact 37 = .ok (.goto 7, 3) := dk_167 0 7 (dk_at dksX7_fact_1 13 rfl rfl)
theorem dX7_fact_40 : decode cX7_fact 40 = .ok (.aload_n 0, 1) := dk_42 (dk_at dksX7_fact_1 16 rfl rfl)
theorem dX7_fact_41 : decode cX7_fact 41 = .ok (.invokevirtual 164, 3) := dk_182 0 164 (dk_at dksX7_fact_1 17 rfl rfl)
theorem dX7_fact_44 : decode cX7_fact 44 = .ok (.astore_n 2, 1) := dk_77 (dk_at dksX7_fact_1 20 rfl rfl)
theorem dX7_fact_45 : decode cX7_fact 45 = .ok (.iload_n 1, 1) := dk_27 (dk_at dksX7_fact_1 21 rfl rfl)
theorem dX7_fact_46 : decode cX7_fact 46 = .ok (.ifCond .eq 12, 3) := dk_153 0 12 (dk_at dksX7_fact_2 0 rfl rfl)
theorem dX7_fact_49 : decode cX7_fact 49 = .ok (.aload_n 2, 1) := dk_44 (dk_at dksX7_fact_2 3 rfl rfl)
theorem dX7_fact_50 : decode cX7_fact 50 = .ok (.invokeinterface 167 1, 5) := by decide +kernel
theorem dX7_fact_55 : decode cX7_fact 55 = .ok (.goto 4, 3) := dk_167 0 4 (dk_at dksX7_fact_2 9 rfl rfl)
theorem dX7_fact_58 : decode cX7_fact 58 = .ok (.aload_n 2, 1) := dk_44 (dk_at dksX7_fact_2 12 rfl rfl)
theorem dX7_fact_59 : decode cX7_fact 59 = .ok (.areturn, 1) := dk_176 (dk_at dksX7_fact_2 13 rfl rfl)
abbrev cX7_inner : ByteArray := prog_17_method_22_code
def yX7_inner : MethodName := ⟨RX7, "inner", "()LToldTracks$Test;"⟩
def dkwX7_inner_0 : List UInt8 := [42, 16, 91, 182, 0, 171, 42, 182, 0, 174, 76, 42, 16, 93, 182, 0, 177, 43, 176]
abbrev dktX7_inner_0 : List UInt8 := dkwX7_inner_0 ++ []
theorem dksX7_inner_0 : cX7_inner.data.toList.drop 0 = dktX7_inner_0 := by decide +kernel
theorem dX7_inner_0 : decode cX7_inner 0 = .ok (.aload_n 0, 1) := dk_42 (dk_at dksX7_inner_0 0 rfl rfl)
theorem dX7_inner_1 : decode cX7_inner 1 = .ok (.bipush 91, 2) := dk_16 91 (dk_at dksX7_inner_0 1 rfl rfl)
theorem dX7_inner_3 : decode cX7_inner 3 = .ok (.invokevirtual 171, 3) := dk_182 0 171 (dk_at dksX7_inner_0 3 rfl rfl)
theorem dX7_inner_6 : decode cX7_inner 6 = .ok (.aload_n 0, 1) := dk_42 (dk_at dksX7_inner_0 6 rfl rfl)
theorem dX7_inner_7 : decode cX7_inner 7 = .ok (.invokevirtual 174, 3) := dk_182 0 174 (dk_at dksX7_inner_0 7 rfl rfl)
theorem dX7_inner_10 : decode cX7_inner 10 = .ok (.astore_n 1, 1) := dk_76 (dk_at dksX7_inner_0 10 rfl rfl)
theorem dX7_inner_11 : decode cX7_inner 11 = .ok (.aload_n 0, 1) := dk_42 (dk_at dksX7_inner_0 11 rfl rfl)
theorem dX7_inner_12 : decode cX7_inner 12 = .ok (.bipush 93, 2) := dk_16 93 (dk_at dksX7_inner_0 12 rfl rfl)
theorem dX7_inner_14 : decode cX7_inner 14 = .ok (.invokevirtual 177, 3) := dk_182 0 177 (dk_at dksX7_inner_0 14 rfl rfl)
theorem dX7_inner_17 : decode cX7_inner 17 = .ok (.aload_n 1, 1) := dk_43 (dk_at dksX7_inner_0 17 rfl rfl)
theorem dX7_inner_18 : decode cX7_inner 18 = .ok (.areturn, 1) := dk_176 (dk_at dksX7_inner_0 18 rfl rfl)
abbrev cX7_wordFact : ByteArray := prog_17_method_23_code
def yX7_wordFact : MethodName := ⟨RX7, "wordFact", "()LToldTracks$Test;"⟩
def dkwX7_wordFact_0 : List UInt8 := [42, 18, 180, 182, 0, 100, 153, 0, 13, 187, 0, 182, 89, 183, 0, 184, 167, 0, 7, 42, 182, 0, 185, 176]
abbrev dktX7_wordFact_0 : List UInt8 := dkwX7_wordFact_0 ++ []
theorem dksX7_wordFact_0 : cX7_wordFact.data.toList.drop 0 = dktX7_wordFact_0 := by decide +kernel
theorem dX7_wordFact_0 : decode cX7_wordFact 0 = .ok (.aload_n 0, 1) := dk_42 (dk_at dksX7_wordFact_0 0 rfl rfl)
theorem dX7_wordFact_1 : decode cX7_wordFact 1 = .ok (.ldc 180, 2) := dk_18 180 (dk_at dksX7_wordFact_0 1 rfl rfl)
theorem dX7_wordFact_3 : decode cX7_wordFact 3 = .ok (.invokevirtual 100, 3) := dk_182 0 100 (dk_at dksX7_wordFact_0 3 rfl rfl)
theorem dX7_wordFact_6 : decode cX7_wordFact 6 = .ok (.ifCond .eq 13, 3) := dk_153 0 13 (dk_at dksX7_wordFact_0 6 rfl rfl)
theorem dX7_wordFact_9 : decode cX7_wordFact 9 = .ok (.new 182, 3) := dk_187 0 182 (dk_at dksX7_wordFact_0 9 rfl rfl)
theorem dX7_wordFact_12 : decode cX7_wordFact 12 = .ok (.dup, 1) := dk_89 (dk_at dksX7_wordFact_0 12 rfl rfl)
theorem dX7_wordFact_13 : decode cX7_wordFact 13 = .ok (.invokespecial 184, 3) := dk_183 0 184 (dk_at dksX7_wordFact_0 13 rfl rfl)
theorem dX7_wordFact_16 : decode cX7_wordFact 16 = .ok (.goto 7, 3) := dk_167 0 7 (dk_at dksX7_wordFact_0 16 rfl rfl)
theorem dX7_wordFact_19 : decode cX7_wordFact 19 = .ok (.aload_n 0, 1) := dk_42 (dk_at dksX7_wordFact_0 19 rfl rfl)
theorem dX7_wordFact_20 : decode cX7_wordFact 20 = .ok (.invokevirtual 185, 3) := dk_182 0 185 (dk_at dksX7_wordFact_0 20 rfl rfl)
theorem dX7_wordFact_23 : decode cX7_wordFact 23 = .ok (.areturn, 1) := dk_176 (dk_at dksX7_wordFact_0 23 rfl rfl)
abbrev cX7_against : ByteArray := prog_17_method_24_code
def yX7_against : MethodName := ⟨RX7, "against", "()LToldTracks$Test;"⟩
def dkwX7_against_2 : List UInt8 := [187, 0, 192, 89, 28, 43, 42, 182, 0, 188, 183, 0, 194, 176]
abbrev dktX7_against_2 : List UInt8 := dkwX7_against_2 ++ []
def dkwX7_against_1 : List UInt8 := [16, 61, 182, 0, 86, 154, 0, 8, 42, 182, 0, 96, 191, 42, 180, 0, 53, 61, 42, 3, 181, 0, 29]
abbrev dktX7_against_1 : List UInt8 := dkwX7_against_1 ++ dktX7_against_2
def dkwX7_against_0 : List UInt8 := [42, 182, 0, 188, 76, 42, 16, 60, 182, 0, 86, 154, 0, 26, 42, 16, 62, 182, 0, 86, 154, 0, 17, 42]
abbrev dktX7_against_0 : List UInt8 := dkwX7_against_0 ++ dktX7_against_1
theorem dksX7_against_0 : cX7_against.data.toList.drop 0 = dktX7_against_0 := by decide +kernel
theorem dksX7_against_1 : cX7_against.data.toList.drop 24 = dktX7_against_1 := dk_seg dksX7_against_0 24 rfl rfl
theorem dksX7_against_2 : cX7_against.data.toList.drop 47 = dktX7_against_2 := dk_seg dksX7_against_1 23 rfl rfl
theorem dX7_against_0 : decode cX7_against 0 = .ok (.aload_n 0, 1) := dk_42 (dk_at dksX7_against_0 0 rfl rfl)
theorem dX7_against_1 : decode cX7_against 1 = .ok (.invokevirtual 188, 3) := dk_182 0 188 (dk_at dksX7_against_0 1 rfl rfl)
theorem dX7_against_4 : decode cX7_against 4 = .ok (.astore_n 1, 1) := dk_76 (dk_at dksX7_against_0 4 rfl rfl)
theorem dX7_against_5 : decode cX7_against 5 = .ok (.aload_n 0, 1) := dk_42 (dk_at dksX7_against_0 5 rfl rfl)
theorem dX7_against_6 : decode cX7_against 6 = .ok (.bipush 60, 2) := dk_16 60 (dk_at dksX7_against_0 6 rfl rfl)
theorem dX7_against_8 : decode cX7_against 8 = .ok (.invokevirtual 86, 3) := dk_182 0 86 (dk_at dksX7_against_0 8 rfl rfl)
theorem dX7_against_11 : decode cX7_against 11 = .ok (.ifCond .ne 26, 3) := dk_154 0 26 (dk_at dksX7_against_0 11 rfl rfl)
theorem dX7_against_14 : decode cX7_against 14 = .ok (.aload_n 0, 1) := dk_42 (dk_at dksX7_against_0 14 rfl rfl)
theorem dX7_against_15 : decode cX7_against 15 = .ok (.bipush 62, 2) := dk_16 62 (dk_at dksX7_against_0 15 rfl rfl)
theorem dX7_against_17 : decode cX7_against 17 = .ok (.invokevirtual 86, 3) := dk_182 0 86 (dk_at dksX7_against_0 17 rfl rfl)
theorem dX7_against_20 : decode cX7_against 20 = .ok (.ifCond .ne 17, 3) := dk_154 0 17 (dk_at dksX7_against_0 20 rfl rfl)
theorem dX7_against_23 : decode cX7_against 23 = .ok (.aload_n 0, 1) := dk_42 (dk_at dksX7_against_0 23 rfl rfl)
theorem dX7_against_24 : decode cX7_against 24 = .ok (.bipush 61, 2) := dk_16 61 (dk_at dksX7_against_1 0 rfl rfl)
theorem dX7_against_26 : decode cX7_against 26 = .ok (.invokevirtual 86, 3) := dk_182 0 86 (dk_at dksX7_against_1 2 rfl rfl)
theorem dX7_against_29 : decode cX7_against 29 = .ok (.ifCond .ne 8, 3) := dk_154 0 8 (dk_at dksX7_against_1 5 rfl rfl)
theorem dX7_against_32 : decode cX7_against 32 = .ok (.aload_n 0, 1) := dk_42 (dk_at dksX7_against_1 8 rfl rfl)
theorem dX7_against_33 : decode cX7_against 33 = .ok (.invokevirtual 96, 3) := dk_182 0 96 (dk_at dksX7_against_1 9 rfl rfl)
theorem dX7_against_36 : decode cX7_against 36 = .ok (.athrow, 1) := dk_191 (dk_at dksX7_against_1 12 rfl rfl)
theorem dX7_against_37 : decode cX7_against 37 = .ok (.aload_n 0, 1) := dk_42 (dk_at dksX7_against_1 13 rfl rfl)
theorem dX7_against_38 : decode cX7_against 38 = .ok (.getfield 53, 3) := dk_180 0 53 (dk_at dksX7_against_1 14 rfl rfl)
theorem dX7_against_41 : decode cX7_against 41 = .ok (.istore_n 2, 1) := dk_61 (dk_at dksX7_against_1 17 rfl rfl)
theorem dX7_against_42 : decode cX7_against 42 = .ok (.aload_n 0, 1) := dk_42 (dk_at dksX7_against_1 18 rfl rfl)
theorem dX7_against_43 : decode cX7_against 43 = .ok (.iconst 0, 1) := dk_3 (dk_at dksX7_against_1 19 rfl rfl)
theorem dX7_against_44 : decode cX7_against 44 = .ok (.putfield 29, 3) := dk_181 0 29 (dk_at dksX7_against_1 20 rfl rfl)
theorem dX7_against_47 : decode cX7_against 47 = .ok (.new 192, 3) := dk_187 0 192 (dk_at dksX7_against_2 0 rfl rfl)
theorem dX7_against_50 : decode cX7_against 50 = .ok (.dup, 1) := dk_89 (dk_at dksX7_against_2 3 rfl rfl)
theorem dX7_against_51 : decode cX7_against 51 = .ok (.iload_n 2, 1) := dk_28 (dk_at dksX7_against_2 4 rfl rfl)
theorem dX7_against_52 : decode cX7_against 52 = .ok (.aload_n 1, 1) := dk_43 (dk_at dksX7_against_2 5 rfl rfl)
theorem dX7_against_53 : decode cX7_against 53 = .ok (.aload_n 0, 1) := dk_42 (dk_at dksX7_against_2 6 rfl rfl)
theorem dX7_against_54 : decode cX7_against 54 = .ok (.invokevirtual 188, 3) := dk_182 0 188 (dk_at dksX7_against_2 7 rfl rfl)
theorem dX7_against_57 : decode cX7_against 57 = .ok (.invokespecial 194, 3) := dk_183 0 194 (dk_at dksX7_against_2 10 rfl rfl)
theorem dX7_against_60 : decode cX7_against 60 = .ok (.areturn, 1) := dk_176 (dk_at dksX7_against_2 13 rfl rfl)
abbrev cX7_ship : ByteArray := prog_17_method_34_code
def yX7_ship : MethodName := ⟨RX7, "ship", "(I)V"⟩
def dkwX7_ship_6 : List UInt8 := [182, 0, 149, 87, 177]
abbrev dktX7_ship_6 : List UInt8 := dkwX7_ship_6 ++ []
def dkwX7_ship_5 : List UInt8 := [44, 182, 0, 149, 87, 42, 180, 0, 18, 180, 1, 40, 180, 1, 44, 187, 0, 150, 89, 183, 1, 49]
abbrev dktX7_ship_5 : List UInt8 := dkwX7_ship_5 ++ dktX7_ship_6
def dkwX7_ship_4 : List UInt8 := [19, 1, 36, 182, 0, 236, 44, 42, 3, 16, 40, 182, 0, 216, 181, 1, 38, 42, 180, 0, 18, 180, 1, 12]
abbrev dktX7_ship_4 : List UInt8 := dkwX7_ship_4 ++ dktX7_ship_5
def dkwX7_ship_3 : List UInt8 := [181, 1, 30, 42, 19, 1, 32, 182, 0, 236, 44, 42, 4, 16, 40, 182, 0, 216, 181, 1, 34, 42]
abbrev dktX7_ship_3 : List UInt8 := dkwX7_ship_3 ++ dktX7_ship_4
def dkwX7_ship_2 : List UInt8 := [44, 42, 3, 6, 182, 0, 216, 181, 1, 26, 42, 19, 1, 28, 182, 0, 236, 44, 42, 4, 7, 182, 0, 216]
abbrev dktX7_ship_2 : List UInt8 := dkwX7_ship_2 ++ dktX7_ship_3
def dkwX7_ship_1 : List UInt8 := [182, 1, 18, 42, 180, 0, 18, 180, 1, 12, 182, 1, 15, 183, 1, 21, 77, 42, 19, 1, 24, 182, 0, 236]
abbrev dktX7_ship_1 : List UInt8 := dkwX7_ship_1 ++ dktX7_ship_2
def dkwX7_ship_0 : List UInt8 := [42, 42, 180, 0, 18, 180, 1, 12, 182, 1, 15, 16, 8, 27, 182, 0, 250, 187, 1, 16, 89, 42]
abbrev dktX7_ship_0 : List UInt8 := dkwX7_ship_0 ++ dktX7_ship_1
theorem dksX7_ship_0 : cX7_ship.data.toList.drop 0 = dktX7_ship_0 := by decide +kernel
theorem dksX7_ship_1 : cX7_ship.data.toList.drop 22 = dktX7_ship_1 := dk_seg dksX7_ship_0 22 rfl rfl
theorem dksX7_ship_2 : cX7_ship.data.toList.drop 46 = dktX7_ship_2 := dk_seg dksX7_ship_1 24 rfl rfl
theorem dksX7_ship_3 : cX7_ship.data.toList.drop 70 = dktX7_ship_3 := dk_seg dksX7_ship_2 24 rfl rfl
theorem dksX7_ship_4 : cX7_ship.data.toList.drop 92 = dktX7_ship_4 := dk_seg dksX7_ship_3 22 rfl rfl
theorem dksX7_ship_5 : cX7_ship.data.toList.drop 116 = dktX7_ship_5 := dk_seg dksX7_ship_4 24 rfl rfl
theorem dksX7_ship_6 : cX7_ship.data.toList.drop 138 = dktX7_ship_6 := dk_seg dksX7_ship_5 22 rfl rfl
theorem dX7_ship_0 : decode cX7_ship 0 = .ok (.aload_n 0, 1) := dk_42 (dk_at dksX7_ship_0 0 rfl rfl)
theorem dX7_ship_1 : decode cX7_ship 1 = .ok (.aload_n 0, 1) := dk_42 (dk_at dksX7_ship_0 1 rfl rfl)
theorem dX7_ship_2 : decode cX7_ship 2 = .ok (.getfield 18, 3) := dk_180 0 18 (dk_at dksX7_ship_0 2 rfl rfl)
theorem dX7_ship_5 : decode cX7_ship 5 = .ok (.getfield 268, 3) := dk_180 1 12 (dk_at dksX7_ship_0 5 rfl rfl)
theorem dX7_ship_8 : decode cX7_ship 8 = .ok (.invokevirtual 271, 3) := dk_182 1 15 (dk_at dksX7_ship_0 8 rfl rfl)
theorem dX7_ship_11 : decode cX7_ship 11 = .ok (.bipush 8, 2) := dk_16 8 (dk_at dksX7_ship_0 11 rfl rfl)
theorem dX7_ship_13 : decode cX7_ship 13 = .ok (.iload_n 1, 1) := dk_27 (dk_at dksX7_ship_0 13 rfl rfl)
theorem dX7_ship_14 : decode cX7_ship 14 = .ok (.invokevirtual 250, 3) := dk_182 0 250 (dk_at dksX7_ship_0 14 rfl rfl)
theorem dX7_ship_17 : decode cX7_ship 17 = .ok (.new 272, 3) := dk_187 1 16 (dk_at dksX7_ship_0 17 rfl rfl)
theorem dX7_ship_20 : decode cX7_ship 20 = .ok (.dup, 1) := dk_89 (dk_at dksX7_ship_0 20 rfl rfl)
theorem dX7_ship_21 : decode cX7_ship 21 = .ok (.aload_n 0, 1) := dk_42 (dk_at dksX7_ship_0 21 rfl rfl)
theorem dX7_ship_22 : decode cX7_ship 22 = .ok (.invokevirtual 274, 3) := dk_182 1 18 (dk_at dksX7_ship_1 0 rfl rfl)
theorem dX7_ship_25 : decode cX7_ship 25 = .ok (.aload_n 0, 1) := dk_42 (dk_at dksX7_ship_1 3 rfl rfl)
theorem dX7_ship_26 : decode cX7_ship 26 = .ok (.getfield 18, 3) := dk_180 0 18 (dk_at dksX7_ship_1 4 rfl rfl)
theorem dX7_ship_29 : decode cX7_ship 29 = .ok (.getfield 268, 3) := dk_180 1 12 (dk_at dksX7_ship_1 7 rfl rfl)
theorem dX7_ship_32 : decode cX7_ship 32 = .ok (.invokevirtual 271, 3) := dk_182 1 15 (dk_at dksX7_ship_1 10 rfl rfl)
theorem dX7_ship_35 : decode cX7_ship 35 = .ok (.invokespecial 277, 3) := dk_183 1 21 (dk_at dksX7_ship_1 13 rfl rfl)
theorem dX7_ship_38 : decode cX7_ship 38 = .ok (.astore_n 2, 1) := dk_77 (dk_at dksX7_ship_1 16 rfl rfl)
theorem dX7_ship_39 : decode cX7_ship 39 = .ok (.aload_n 0, 1) := dk_42 (dk_at dksX7_ship_1 17 rfl rfl)
theorem dX7_ship_40 : decode cX7_ship 40 = .ok (.ldc_w 280, 3) := dk_19 1 24 (dk_at dksX7_ship_1 18 rfl rfl)
theorem dX7_ship_43 : decode cX7_ship 43 = .ok (.invokevirtual 236, 3) := dk_182 0 236 (dk_at dksX7_ship_1 21 rfl rfl)
theorem dX7_ship_46 : decode cX7_ship 46 = .ok (.aload_n 2, 1) := dk_44 (dk_at dksX7_ship_2 0 rfl rfl)
theorem dX7_ship_47 : decode cX7_ship 47 = .ok (.aload_n 0, 1) := dk_42 (dk_at dksX7_ship_2 1 rfl rfl)
theorem dX7_ship_48 : decode cX7_ship 48 = .ok (.iconst 0, 1) := dk_3 (dk_at dksX7_ship_2 2 rfl rfl)
theorem dX7_ship_49 : decode cX7_ship 49 = .ok (.iconst 3, 1) := dk_6 (dk_at dksX7_ship_2 3 rfl rfl)
theorem dX7_ship_50 : decode cX7_ship 50 = .ok (.invokevirtual 216, 3) := dk_182 0 216 (dk_at dksX7_ship_2 4 rfl rfl)
theorem dX7_ship_53 : decode cX7_ship 53 = .ok (.putfield 282, 3) := dk_181 1 26 (dk_at dksX7_ship_2 7 rfl rfl)
theorem dX7_ship_56 : decode cX7_ship 56 = .ok (.aload_n 0, 1) := dk_42 (dk_at dksX7_ship_2 10 rfl rfl)
theorem dX7_ship_57 : decode cX7_ship 57 = .ok (.ldc_w 284, 3) := dk_19 1 28 (dk_at dksX7_ship_2 11 rfl rfl)
theorem dX7_ship_60 : decode cX7_ship 60 = .ok (.invokevirtual 236, 3) := dk_182 0 236 (dk_at dksX7_ship_2 14 rfl rfl)
theorem dX7_ship_63 : decode cX7_ship 63 = .ok (.aload_n 2, 1) := dk_44 (dk_at dksX7_ship_2 17 rfl rfl)
theorem dX7_ship_64 : decode cX7_ship 64 = .ok (.aload_n 0, 1) := dk_42 (dk_at dksX7_ship_2 18 rfl rfl)
theorem dX7_ship_65 : decode cX7_ship 65 = .ok (.iconst 1, 1) := dk_4 (dk_at dksX7_ship_2 19 rfl rfl)
theorem dX7_ship_66 : decode cX7_ship 66 = .ok (.iconst 4, 1) := dk_7 (dk_at dksX7_ship_2 20 rfl rfl)
theorem dX7_ship_67 : decode cX7_ship 67 = .ok (.invokevirtual 216, 3) := dk_182 0 216 (dk_at dksX7_ship_2 21 rfl rfl)
theorem dX7_ship_70 : decode cX7_ship 70 = .ok (.putfield 286, 3) := dk_181 1 30 (dk_at dksX7_ship_3 0 rfl rfl)
theorem dX7_ship_73 : decode cX7_ship 73 = .ok (.aload_n 0, 1) := dk_42 (dk_at dksX7_ship_3 3 rfl rfl)
theorem dX7_ship_74 : decode cX7_ship 74 = .ok (.ldc_w 288, 3) := dk_19 1 32 (dk_at dksX7_ship_3 4 rfl rfl)
theorem dX7_ship_77 : decode cX7_ship 77 = .ok (.invokevirtual 236, 3) := dk_182 0 236 (dk_at dksX7_ship_3 7 rfl rfl)
theorem dX7_ship_80 : decode cX7_ship 80 = .ok (.aload_n 2, 1) := dk_44 (dk_at dksX7_ship_3 10 rfl rfl)
theorem dX7_ship_81 : decode cX7_ship 81 = .ok (.aload_n 0, 1) := dk_42 (dk_at dksX7_ship_3 11 rfl rfl)
theorem dX7_ship_82 : decode cX7_ship 82 = .ok (.iconst 1, 1) := dk_4 (dk_at dksX7_ship_3 12 rfl rfl)
theorem dX7_ship_83 : decode cX7_ship 83 = .ok (.bipush 40, 2) := dk_16 40 (dk_at dksX7_ship_3 13 rfl rfl)
theorem dX7_ship_85 : decode cX7_ship 85 = .ok (.invokevirtual 216, 3) := dk_182 0 216 (dk_at dksX7_ship_3 15 rfl rfl)
theorem dX7_ship_88 : decode cX7_ship 88 = .ok (.putfield 290, 3) := dk_181 1 34 (dk_at dksX7_ship_3 18 rfl rfl)
theorem dX7_ship_91 : decode cX7_ship 91 = .ok (.aload_n 0, 1) := dk_42 (dk_at dksX7_ship_3 21 rfl rfl)
theorem dX7_ship_92 : decode cX7_ship 92 = .ok (.ldc_w 292, 3) := dk_19 1 36 (dk_at dksX7_ship_4 0 rfl rfl)
theorem dX7_ship_95 : decode cX7_ship 95 = .ok (.invokevirtual 236, 3) := dk_182 0 236 (dk_at dksX7_ship_4 3 rfl rfl)
theorem dX7_ship_98 : decode cX7_ship 98 = .ok (.aload_n 2, 1) := dk_44 (dk_at dksX7_ship_4 6 rfl rfl)
theorem dX7_ship_99 : decode cX7_ship 99 = .ok (.aload_n 0, 1) := dk_42 (dk_at dksX7_ship_4 7 rfl rfl)
theorem dX7_ship_100 : decode cX7_ship 100 = .ok (.iconst 0, 1) := dk_3 (dk_at dksX7_ship_4 8 rfl rfl)
theorem dX7_ship_101 : decode cX7_ship 101 = .ok (.bipush 40, 2) := dk_16 40 (dk_at dksX7_ship_4 9 rfl rfl)
theorem dX7_ship_103 : decode cX7_ship 103 = .ok (.invokevirtual 216, 3) := dk_182 0 216 (dk_at dksX7_ship_4 11 rfl rfl)
theorem dX7_ship_106 : decode cX7_ship 106 = .ok (.putfield 294, 3) := dk_181 1 38 (dk_at dksX7_ship_4 14 rfl rfl)
theorem dX7_ship_109 : decode cX7_ship 109 = .ok (.aload_n 0, 1) := dk_42 (dk_at dksX7_ship_4 17 rfl rfl)
theorem dX7_ship_110 : decode cX7_ship 110 = .ok (.getfield 18, 3) := dk_180 0 18 (dk_at dksX7_ship_4 18 rfl rfl)
theorem dX7_ship_113 : decode cX7_ship 113 = .ok (.getfield 268, 3) := dk_180 1 12 (dk_at dksX7_ship_4 21 rfl rfl)
theorem dX7_ship_116 : decode cX7_ship 116 = .ok (.aload_n 2, 1) := dk_44 (dk_at dksX7_ship_5 0 rfl rfl)
theorem dX7_ship_117 : decode cX7_ship 117 = .ok (.invokevirtual 149, 3) := dk_182 0 149 (dk_at dksX7_ship_5 1 rfl rfl)
theorem dX7_ship_120 : decode cX7_ship 120 = .ok (.pop, 1) := dk_87 (dk_at dksX7_ship_5 4 rfl rfl)
theorem dX7_ship_121 : decode cX7_ship 121 = .ok (.aload_n 0, 1) := dk_42 (dk_at dksX7_ship_5 5 rfl rfl)
theorem dX7_ship_122 : decode cX7_ship 122 = .ok (.getfield 18, 3) := dk_180 0 18 (dk_at dksX7_ship_5 6 rfl rfl)
theorem dX7_ship_125 : decode cX7_ship 125 = .ok (.getfield 296, 3) := dk_180 1 40 (dk_at dksX7_ship_5 9 rfl rfl)
theorem dX7_ship_128 : decode cX7_ship 128 = .ok (.getfield 300, 3) := dk_180 1 44 (dk_at dksX7_ship_5 12 rfl rfl)
theorem dX7_ship_131 : decode cX7_ship 131 = .ok (.new 150, 3) := dk_187 0 150 (dk_at dksX7_ship_5 15 rfl rfl)
theorem dX7_ship_134 : decode cX7_ship 134 = .ok (.dup, 1) := dk_89 (dk_at dksX7_ship_5 18 rfl rfl)
theorem dX7_ship_135 : decode cX7_ship 135 = .ok (.invokespecial 305, 3) := dk_183 1 49 (dk_at dksX7_ship_5 19 rfl rfl)
theorem dX7_ship_138 : decode cX7_ship 138 = .ok (.invokevirtual 149, 3) := dk_182 0 149 (dk_at dksX7_ship_6 0 rfl rfl)
theorem dX7_ship_141 : decode cX7_ship 141 = .ok (.pop, 1) := dk_87 (dk_at dksX7_ship_6 3 rfl rfl)
theorem dX7_ship_142 : decode cX7_ship 142 = .ok (.return_, 1) := dk_177 (dk_at dksX7_ship_6 4 rfl rfl)
abbrev cX7_newName : ByteArray := prog_17_method_14_code
def yX7_newName : MethodName := ⟨RX7, "newName", "()Ljava/lang/String;"⟩
def dkwX7_newName_1 : List UInt8 := [180, 0, 43, 183, 0, 59, 191, 42, 3, 181, 0, 29, 43, 176]
abbrev dktX7_newName_1 : List UInt8 := dkwX7_newName_1 ++ []
def dkwX7_newName_0 : List UInt8 := [42, 182, 0, 109, 76, 42, 180, 0, 18, 43, 182, 0, 113, 153, 0, 16, 187, 0, 57, 89, 5, 42]
abbrev dktX7_newName_0 : List UInt8 := dkwX7_newName_0 ++ dktX7_newName_1
theorem dksX7_newName_0 : cX7_newName.data.toList.drop 0 = dktX7_newName_0 := by decide +kernel
theorem dksX7_newName_1 : cX7_newName.data.toList.drop 22 = dktX7_newName_1 := dk_seg dksX7_newName_0 22 rfl rfl
theorem dX7_newName_0 : decode cX7_newName 0 = .ok (.aload_n 0, 1) := dk_42 (dk_at dksX7_newName_0 0 rfl rfl)
theorem dX7_newName_1 : decode cX7_newName 1 = .ok (.invokevirtual 109, 3) := dk_182 0 109 (dk_at dksX7_newName_0 1 rfl rfl)
theorem dX7_newName_4 : decode cX7_newName 4 = .ok (.astore_n 1, 1) := dk_76 (dk_at dksX7_newName_0 4 rfl rfl)
theorem dX7_newName_5 : decode cX7_newName 5 = .ok (.aload_n 0, 1) := dk_42 (dk_at dksX7_newName_0 5 rfl rfl)
theorem dX7_newName_6 : decode cX7_newName 6 = .ok (.getfield 18, 3) := dk_180 0 18 (dk_at dksX7_newName_0 6 rfl rfl)
theorem dX7_newName_9 : decode cX7_newName 9 = .ok (.aload_n 1, 1) := dk_43 (dk_at dksX7_newName_0 9 rfl rfl)
theorem dX7_newName_10 : decode cX7_newName 10 = .ok (.invokevirtual 113, 3) := dk_182 0 113 (dk_at dksX7_newName_0 10 rfl rfl)
theorem dX7_newName_13 : decode cX7_newName 13 = .ok (.ifCond .eq 16, 3) := dk_153 0 16 (dk_at dksX7_newName_0 13 rfl rfl)
theorem dX7_newName_16 : decode cX7_newName 16 = .ok (.new 57, 3) := dk_187 0 57 (dk_at dksX7_newName_0 16 rfl rfl)
theorem dX7_newName_19 : decode cX7_newName 19 = .ok (.dup, 1) := dk_89 (dk_at dksX7_newName_0 19 rfl rfl)
theorem dX7_newName_20 : decode cX7_newName 20 = .ok (.iconst 2, 1) := dk_5 (dk_at dksX7_newName_0 20 rfl rfl)
theorem dX7_newName_21 : decode cX7_newName 21 = .ok (.aload_n 0, 1) := dk_42 (dk_at dksX7_newName_0 21 rfl rfl)
theorem dX7_newName_22 : decode cX7_newName 22 = .ok (.getfield 43, 3) := dk_180 0 43 (dk_at dksX7_newName_1 0 rfl rfl)
theorem dX7_newName_25 : decode cX7_newName 25 = .ok (.invokespecial 59, 3) := dk_183 0 59 (dk_at dksX7_newName_1 3 rfl rfl)
theorem dX7_newName_28 : decode cX7_newName 28 = .ok (.athrow, 1) := dk_191 (dk_at dksX7_newName_1 6 rfl rfl)
theorem dX7_newName_29 : decode cX7_newName 29 = .ok (.aload_n 0, 1) := dk_42 (dk_at dksX7_newName_1 7 rfl rfl)
theorem dX7_newName_30 : decode cX7_newName 30 = .ok (.iconst 0, 1) := dk_3 (dk_at dksX7_newName_1 8 rfl rfl)
theorem dX7_newName_31 : decode cX7_newName 31 = .ok (.putfield 29, 3) := dk_181 0 29 (dk_at dksX7_newName_1 9 rfl rfl)
theorem dX7_newName_34 : decode cX7_newName 34 = .ok (.aload_n 1, 1) := dk_43 (dk_at dksX7_newName_1 12 rfl rfl)
theorem dX7_newName_35 : decode cX7_newName 35 = .ok (.areturn, 1) := dk_176 (dk_at dksX7_newName_1 13 rfl rfl)
abbrev cX7_name : ByteArray := prog_17_method_13_code
def yX7_name : MethodName := ⟨RX7, "name", "()Ljava/lang/String;"⟩
def dkwX7_name_1 : List UInt8 := [180, 0, 67, 176]
abbrev dktX7_name_1 : List UInt8 := dkwX7_name_1 ++ []
def dkwX7_name_0 : List UInt8 := [42, 182, 0, 78, 4, 160, 0, 13, 42, 180, 0, 67, 184, 0, 106, 153, 0, 8, 42, 182, 0, 96, 191, 42]
abbrev dktX7_name_0 : List UInt8 := dkwX7_name_0 ++ dktX7_name_1
theorem dksX7_name_0 : cX7_name.data.toList.drop 0 = dktX7_name_0 := by decide +kernel
theorem dksX7_name_1 : cX7_name.data.toList.drop 24 = dktX7_name_1 := dk_seg dksX7_name_0 24 rfl rfl
theorem dX7_name_0 : decode cX7_name 0 = .ok (.aload_n 0, 1) := dk_42 (dk_at dksX7_name_0 0 rfl rfl)
theorem dX7_name_1 : decode cX7_name 1 = .ok (.invokevirtual 78, 3) := dk_182 0 78 (dk_at dksX7_name_0 1 rfl rfl)
theorem dX7_name_4 : decode cX7_name 4 = .ok (.iconst 1, 1) := dk_4 (dk_at dksX7_name_0 4 rfl rfl)
theorem dX7_name_5 : decode cX7_name 5 = .ok (.if_icmp .ne 13, 3) := dk_160 0 13 (dk_at dksX7_name_0 5 rfl rfl)
theorem dX7_name_8 : decode cX7_name 8 = .ok (.aload_n 0, 1) := dk_42 (dk_at dksX7_name_0 8 rfl rfl)
theorem dX7_name_9 : decode cX7_name 9 = .ok (.getfield 67, 3) := dk_180 0 67 (dk_at dksX7_name_0 9 rfl rfl)
theorem dX7_name_12 : decode cX7_name 12 = .ok (.invokestatic 106, 3) := dk_184 0 106 (dk_at dksX7_name_0 12 rfl rfl)
theorem dX7_name_15 : decode cX7_name 15 = .ok (.ifCond .eq 8, 3) := dk_153 0 8 (dk_at dksX7_name_0 15 rfl rfl)
theorem dX7_name_18 : decode cX7_name 18 = .ok (.aload_n 0, 1) := dk_42 (dk_at dksX7_name_0 18 rfl rfl)
theorem dX7_name_19 : decode cX7_name 19 = .ok (.invokevirtual 96, 3) := dk_182 0 96 (dk_at dksX7_name_0 19 rfl rfl)
theorem dX7_name_22 : decode cX7_name 22 = .ok (.athrow, 1) := dk_191 (dk_at dksX7_name_0 22 rfl rfl)
theorem dX7_name_23 : decode cX7_name 23 = .ok (.aload_n 0, 1) := dk_42 (dk_at dksX7_name_0 23 rfl rfl)
theorem dX7_name_24 : decode cX7_name 24 = .ok (.getfield 67, 3) := dk_180 0 67 (dk_at dksX7_name_1 0 rfl rfl)
theorem dX7_name_27 : decode cX7_name 27 = .ok (.areturn, 1) := dk_176 (dk_at dksX7_name_1 3 rfl rfl)
abbrev cX7_says : ByteArray := prog_17_method_35_code
def yX7_says : MethodName := ⟨RX7, "says", "(I)V"⟩
def dkwX7_says_4 : List UInt8 := [42, 3, 4, 182, 0, 216, 4, 160, 0, 7, 4, 167, 0, 4, 3, 183, 1, 67, 182, 1, 70, 87, 177]
abbrev dktX7_says_4 : List UInt8 := dkwX7_says_4 ++ []
def dkwX7_says_3 : List UInt8 := [54, 4, 42, 19, 1, 63, 182, 0, 236, 42, 180, 0, 18, 180, 1, 40, 28, 187, 1, 65, 89, 21, 4, 29]
abbrev dktX7_says_3 : List UInt8 := dkwX7_says_3 ++ dktX7_says_4
def dkwX7_says_2 : List UInt8 := [29, 182, 1, 56, 153, 0, 16, 187, 0, 57, 89, 6, 42, 180, 0, 43, 183, 0, 59, 191, 42, 182, 1, 60]
abbrev dktX7_says_2 : List UInt8 := dkwX7_says_2 ++ dktX7_says_3
def dkwX7_says_1 : List UInt8 := [180, 1, 12, 2, 182, 1, 53, 61, 42, 3, 16, 47, 182, 0, 216, 62, 42, 180, 0, 18, 180, 1, 40, 28]
abbrev dktX7_says_1 : List UInt8 := dkwX7_says_1 ++ dktX7_says_2
def dkwX7_says_0 : List UInt8 := [42, 42, 180, 0, 18, 180, 1, 40, 182, 1, 50, 16, 96, 27, 182, 0, 250, 42, 42, 180, 0, 18]
abbrev dktX7_says_0 : List UInt8 := dkwX7_says_0 ++ dktX7_says_1
theorem dksX7_says_0 : cX7_says.data.toList.drop 0 = dktX7_says_0 := by decide +kernel
theorem dksX7_says_1 : cX7_says.data.toList.drop 22 = dktX7_says_1 := dk_seg dksX7_says_0 22 rfl rfl
theorem dksX7_says_2 : cX7_says.data.toList.drop 46 = dktX7_says_2 := dk_seg dksX7_says_1 24 rfl rfl
theorem dksX7_says_3 : cX7_says.data.toList.drop 70 = dktX7_says_3 := dk_seg dksX7_says_2 24 rfl rfl
theorem dksX7_says_4 : cX7_says.data.toList.drop 94 = dktX7_says_4 := dk_seg dksX7_says_3 24 rfl rfl
theorem dX7_says_0 : decode cX7_says 0 = .ok (.aload_n 0, 1) := dk_42 (dk_at dksX7_says_0 0 rfl rfl)
theorem dX7_says_1 : decode cX7_says 1 = .ok (.aload_n 0, 1) := dk_42 (dk_at dksX7_says_0 1 rfl rfl)
theorem dX7_says_2 : decode cX7_says 2 = .ok (.getfield 18, 3) := dk_180 0 18 (dk_at dksX7_says_0 2 rfl rfl)
theorem dX7_says_5 : decode cX7_says 5 = .ok (.getfield 296, 3) := dk_180 1 40 (dk_at dksX7_says_0 5 rfl rfl)
theorem dX7_says_8 : decode cX7_says 8 = .ok (.invokevirtual 306, 3) := dk_182 1 50 (dk_at dksX7_says_0 8 rfl rfl)
theorem dX7_says_11 : decode cX7_says 11 = .ok (.bipush 96, 2) := dk_16 96 (dk_at dksX7_says_0 11 rfl rfl)
theorem dX7_says_13 : decode cX7_says 13 = .ok (.iload_n 1, 1) := dk_27 (dk_at dksX7_says_0 13 rfl rfl)
theorem dX7_says_14 : decode cX7_says 14 = .ok (.invokevirtual 250, 3) := dk_182 0 250 (dk_at dksX7_says_0 14 rfl rfl)
theorem dX7_says_17 : decode cX7_says 17 = .ok (.aload_n 0, 1) := dk_42 (dk_at dksX7_says_0 17 rfl rfl)
theorem dX7_says_18 : decode cX7_says 18 = .ok (.aload_n 0, 1) := dk_42 (dk_at dksX7_says_0 18 rfl rfl)
theorem dX7_says_19 : decode cX7_says 19 = .ok (.getfield 18, 3) := dk_180 0 18 (dk_at dksX7_says_0 19 rfl rfl)
theorem dX7_says_22 : decode cX7_says 22 = .ok (.getfield 268, 3) := dk_180 1 12 (dk_at dksX7_says_1 0 rfl rfl)
theorem dX7_says_25 : decode cX7_says 25 = .ok (.iconst (-1), 1) := dk_2 (dk_at dksX7_says_1 3 rfl rfl)
theorem dX7_says_26 : decode cX7_says 26 = .ok (.invokevirtual 309, 3) := dk_182 1 53 (dk_at dksX7_says_1 4 rfl rfl)
theorem dX7_says_29 : decode cX7_says 29 = .ok (.istore_n 2, 1) := dk_61 (dk_at dksX7_says_1 7 rfl rfl)
theorem dX7_says_30 : decode cX7_says 30 = .ok (.aload_n 0, 1) := dk_42 (dk_at dksX7_says_1 8 rfl rfl)
theorem dX7_says_31 : decode cX7_says 31 = .ok (.iconst 0, 1) := dk_3 (dk_at dksX7_says_1 9 rfl rfl)
theorem dX7_says_32 : decode cX7_says 32 = .ok (.bipush 47, 2) := dk_16 47 (dk_at dksX7_says_1 10 rfl rfl)
theorem dX7_says_34 : decode cX7_says 34 = .ok (.invokevirtual 216, 3) := dk_182 0 216 (dk_at dksX7_says_1 12 rfl rfl)
theorem dX7_says_37 : decode cX7_says 37 = .ok (.istore_n 3, 1) := dk_62 (dk_at dksX7_says_1 15 rfl rfl)
theorem dX7_says_38 : decode cX7_says 38 = .ok (.aload_n 0, 1) := dk_42 (dk_at dksX7_says_1 16 rfl rfl)
theorem dX7_says_39 : decode cX7_says 39 = .ok (.getfield 18, 3) := dk_180 0 18 (dk_at dksX7_says_1 17 rfl rfl)
theorem dX7_says_42 : decode cX7_says 42 = .ok (.getfield 296, 3) := dk_180 1 40 (dk_at dksX7_says_1 20 rfl rfl)
theorem dX7_says_45 : decode cX7_says 45 = .ok (.iload_n 2, 1) := dk_28 (dk_at dksX7_says_1 23 rfl rfl)
theorem dX7_says_46 : decode cX7_says 46 = .ok (.iload_n 3, 1) := dk_29 (dk_at dksX7_says_2 0 rfl rfl)
theorem dX7_says_47 : decode cX7_says 47 = .ok (.invokevirtual 312, 3) := dk_182 1 56 (dk_at dksX7_says_2 1 rfl rfl)
theorem dX7_says_50 : decode cX7_says 50 = .ok (.ifCond .eq 16, 3) := dk_153 0 16 (dk_at dksX7_says_2 4 rfl rfl)
theorem dX7_says_53 : decode cX7_says 53 = .ok (.new 57, 3) := dk_187 0 57 (dk_at dksX7_says_2 7 rfl rfl)
theorem dX7_says_56 : decode cX7_says 56 = .ok (.dup, 1) := dk_89 (dk_at dksX7_says_2 10 rfl rfl)
theorem dX7_says_57 : decode cX7_says 57 = .ok (.iconst 3, 1) := dk_6 (dk_at dksX7_says_2 11 rfl rfl)
theorem dX7_says_58 : decode cX7_says 58 = .ok (.aload_n 0, 1) := dk_42 (dk_at dksX7_says_2 12 rfl rfl)
theorem dX7_says_59 : decode cX7_says 59 = .ok (.getfield 43, 3) := dk_180 0 43 (dk_at dksX7_says_2 13 rfl rfl)
theorem dX7_says_62 : decode cX7_says 62 = .ok (.invokespecial 59, 3) := dk_183 0 59 (dk_at dksX7_says_2 16 rfl rfl)
theorem dX7_says_65 : decode cX7_says 65 = .ok (.athrow, 1) := dk_191 (dk_at dksX7_says_2 19 rfl rfl)
theorem dX7_says_66 : decode cX7_says 66 = .ok (.aload_n 0, 1) := dk_42 (dk_at dksX7_says_2 20 rfl rfl)
theorem dX7_says_67 : decode cX7_says 67 = .ok (.invokevirtual 316, 3) := dk_182 1 60 (dk_at dksX7_says_2 21 rfl rfl)
theorem dX7_says_70 : decode cX7_says 70 = .ok (.istore 4, 2) := dk_54 4 (dk_at dksX7_says_3 0 rfl rfl)
theorem dX7_says_72 : decode cX7_says 72 = .ok (.aload_n 0, 1) := dk_42 (dk_at dksX7_says_3 2 rfl rfl)
theorem dX7_says_73 : decode cX7_says 73 = .ok (.ldc_w 319, 3) := dk_19 1 63 (dk_at dksX7_says_3 3 rfl rfl)
theorem dX7_says_76 : decode cX7_says 76 = .ok (.invokevirtual 236, 3) := dk_182 0 236 (dk_at dksX7_says_3 6 rfl rfl)
theorem dX7_says_79 : decode cX7_says 79 = .ok (.aload_n 0, 1) := dk_42 (dk_at dksX7_says_3 9 rfl rfl)
theorem dX7_says_80 : decode cX7_says 80 = .ok (.getfield 18, 3) := dk_180 0 18 (dk_at dksX7_says_3 10 rfl rfl)
theorem dX7_says_83 : decode cX7_says 83 = .ok (.getfield 296, 3) := dk_180 1 40 (dk_at dksX7_says_3 13 rfl rfl)
theorem dX7_says_86 : decode cX7_says 86 = .ok (.iload_n 2, 1) := dk_28 (dk_at dksX7_says_3 16 rfl rfl)
theorem dX7_says_87 : decode cX7_says 87 = .ok (.new 321, 3) := dk_187 1 65 (dk_at dksX7_says_3 17 rfl rfl)
theorem dX7_says_90 : decode cX7_says 90 = .ok (.dup, 1) := dk_89 (dk_at dksX7_says_3 20 rfl rfl)
theorem dX7_says_91 : decode cX7_says 91 = .ok (.iload 4, 2) := dk_21 4 (dk_at dksX7_says_3 21 rfl rfl)
theorem dX7_says_93 : decode cX7_says 93 = .ok (.iload_n 3, 1) := dk_29 (dk_at dksX7_says_3 23 rfl rfl)
theorem dX7_says_94 : decode cX7_says 94 = .ok (.aload_n 0, 1) := dk_42 (dk_at dksX7_says_4 0 rfl rfl)
theorem dX7_says_95 : decode cX7_says 95 = .ok (.iconst 0, 1) := dk_3 (dk_at dksX7_says_4 1 rfl rfl)
theorem dX7_says_96 : decode cX7_says 96 = .ok (.iconst 1, 1) := dk_4 (dk_at dksX7_says_4 2 rfl rfl)
theorem dX7_says_97 : decode cX7_says 97 = .ok (.invokevirtual 216, 3) := dk_182 0 216 (dk_at dksX7_says_4 3 rfl rfl)
theorem dX7_says_100 : decode cX7_says 100 = .ok (.iconst 1, 1) := dk_4 (dk_at dksX7_says_4 6 rfl rfl)
theorem dX7_says_101 : decode cX7_says 101 = .ok (.if_icmp .ne 7, 3) := dk_160 0 7 (dk_at dksX7_says_4 7 rfl rfl)
theorem dX7_says_104 : decode cX7_says 104 = .ok (.iconst 1, 1) := dk_4 (dk_at dksX7_says_4 10 rfl rfl)
theorem dX7_says_105 : decode cX7_says 105 = .ok (.goto 4, 3) := dk_167 0 4 (dk_at dksX7_says_4 11 rfl rfl)
theorem dX7_says_108 : decode cX7_says 108 = .ok (.iconst 0, 1) := dk_3 (dk_at dksX7_says_4 14 rfl rfl)
theorem dX7_says_109 : decode cX7_says 109 = .ok (.invokespecial 323, 3) := dk_183 1 67 (dk_at dksX7_says_4 15 rfl rfl)
theorem dX7_says_112 : decode cX7_says 112 = .ok (.invokevirtual 326, 3) := dk_182 1 70 (dk_at dksX7_says_4 18 rfl rfl)
theorem dX7_says_115 : decode cX7_says 115 = .ok (.pop, 1) := dk_87 (dk_at dksX7_says_4 21 rfl rfl)
theorem dX7_says_116 : decode cX7_says 116 = .ok (.return_, 1) := dk_177 (dk_at dksX7_says_4 22 rfl rfl)
abbrev cX7_oneOf : ByteArray := prog_17_method_16_code
def yX7_oneOf : MethodName := ⟨RX7, "oneOf", "(Ljava/util/ArrayList;I)I"⟩
def dkwX7_oneOf_0 : List UInt8 := [42, 43, 28, 182, 0, 123, 62, 42, 3, 181, 0, 29, 29, 172]
abbrev dktX7_oneOf_0 : List UInt8 := dkwX7_oneOf_0 ++ []
theorem dksX7_oneOf_0 : cX7_oneOf.data.toList.drop 0 = dktX7_oneOf_0 := by decide +kernel
theorem dX7_oneOf_0 : decode cX7_oneOf 0 = .ok (.aload_n 0, 1) := dk_42 (dk_at dksX7_oneOf_0 0 rfl rfl)
theorem dX7_oneOf_1 : decode cX7_oneOf 1 = .ok (.aload_n 1, 1) := dk_43 (dk_at dksX7_oneOf_0 1 rfl rfl)
theorem dX7_oneOf_2 : decode cX7_oneOf 2 = .ok (.iload_n 2, 1) := dk_28 (dk_at dksX7_oneOf_0 2 rfl rfl)
theorem dX7_oneOf_3 : decode cX7_oneOf 3 = .ok (.invokevirtual 123, 3) := dk_182 0 123 (dk_at dksX7_oneOf_0 3 rfl rfl)
theorem dX7_oneOf_6 : decode cX7_oneOf 6 = .ok (.istore_n 3, 1) := dk_62 (dk_at dksX7_oneOf_0 6 rfl rfl)
theorem dX7_oneOf_7 : decode cX7_oneOf 7 = .ok (.aload_n 0, 1) := dk_42 (dk_at dksX7_oneOf_0 7 rfl rfl)
theorem dX7_oneOf_8 : decode cX7_oneOf 8 = .ok (.iconst 0, 1) := dk_3 (dk_at dksX7_oneOf_0 8 rfl rfl)
theorem dX7_oneOf_9 : decode cX7_oneOf 9 = .ok (.putfield 29, 3) := dk_181 0 29 (dk_at dksX7_oneOf_0 9 rfl rfl)
theorem dX7_oneOf_12 : decode cX7_oneOf 12 = .ok (.iload_n 3, 1) := dk_29 (dk_at dksX7_oneOf_0 12 rfl rfl)
theorem dX7_oneOf_13 : decode cX7_oneOf 13 = .ok (.ireturn, 1) := dk_172 (dk_at dksX7_oneOf_0 13 rfl rfl)
abbrev cX7_sees : ByteArray := prog_17_method_15_code
def yX7_sees : MethodName := ⟨RX7, "sees", "(Ljava/util/ArrayList;I)I"⟩
def dkwX7_sees_1 : List UInt8 := [89, 6, 42, 180, 0, 43, 183, 0, 59, 191, 45, 180, 0, 120, 172]
abbrev dktX7_sees_1 : List UInt8 := dkwX7_sees_1 ++ []
def dkwX7_sees_0 : List UInt8 := [43, 42, 182, 0, 109, 184, 0, 116, 78, 45, 198, 0, 11, 45, 180, 0, 120, 28, 160, 0, 16, 187, 0, 57]
abbrev dktX7_sees_0 : List UInt8 := dkwX7_sees_0 ++ dktX7_sees_1
theorem dksX7_sees_0 : cX7_sees.data.toList.drop 0 = dktX7_sees_0 := by decide +kernel
theorem dksX7_sees_1 : cX7_sees.data.toList.drop 24 = dktX7_sees_1 := dk_seg dksX7_sees_0 24 rfl rfl
theorem dX7_sees_0 : decode cX7_sees 0 = .ok (.aload_n 1, 1) := dk_43 (dk_at dksX7_sees_0 0 rfl rfl)
theorem dX7_sees_1 : decode cX7_sees 1 = .ok (.aload_n 0, 1) := dk_42 (dk_at dksX7_sees_0 1 rfl rfl)
theorem dX7_sees_2 : decode cX7_sees 2 = .ok (.invokevirtual 109, 3) := dk_182 0 109 (dk_at dksX7_sees_0 2 rfl rfl)
theorem dX7_sees_5 : decode cX7_sees 5 = .ok (.invokestatic 116, 3) := dk_184 0 116 (dk_at dksX7_sees_0 5 rfl rfl)
theorem dX7_sees_8 : decode cX7_sees 8 = .ok (.astore_n 3, 1) := dk_78 (dk_at dksX7_sees_0 8 rfl rfl)
theorem dX7_sees_9 : decode cX7_sees 9 = .ok (.aload_n 3, 1) := dk_45 (dk_at dksX7_sees_0 9 rfl rfl)
theorem dX7_sees_10 : decode cX7_sees 10 = .ok (.ifnull 11, 3) := dk_198 0 11 (dk_at dksX7_sees_0 10 rfl rfl)
theorem dX7_sees_13 : decode cX7_sees 13 = .ok (.aload_n 3, 1) := dk_45 (dk_at dksX7_sees_0 13 rfl rfl)
theorem dX7_sees_14 : decode cX7_sees 14 = .ok (.getfield 120, 3) := dk_180 0 120 (dk_at dksX7_sees_0 14 rfl rfl)
theorem dX7_sees_17 : decode cX7_sees 17 = .ok (.iload_n 2, 1) := dk_28 (dk_at dksX7_sees_0 17 rfl rfl)
theorem dX7_sees_18 : decode cX7_sees 18 = .ok (.if_icmp .ne 16, 3) := dk_160 0 16 (dk_at dksX7_sees_0 18 rfl rfl)
theorem dX7_sees_21 : decode cX7_sees 21 = .ok (.new 57, 3) := dk_187 0 57 (dk_at dksX7_sees_0 21 rfl rfl)
theorem dX7_sees_24 : decode cX7_sees 24 = .ok (.dup, 1) := dk_89 (dk_at dksX7_sees_1 0 rfl rfl)
theorem dX7_sees_25 : decode cX7_sees 25 = .ok (.iconst 3, 1) := dk_6 (dk_at dksX7_sees_1 1 rfl rfl)
theorem dX7_sees_26 : decode cX7_sees 26 = .ok (.aload_n 0, 1) := dk_42 (dk_at dksX7_sees_1 2 rfl rfl)
theorem dX7_sees_27 : decode cX7_sees 27 = .ok (.getfield 43, 3) := dk_180 0 43 (dk_at dksX7_sees_1 3 rfl rfl)
theorem dX7_sees_30 : decode cX7_sees 30 = .ok (.invokespecial 59, 3) := dk_183 0 59 (dk_at dksX7_sees_1 6 rfl rfl)
theorem dX7_sees_33 : decode cX7_sees 33 = .ok (.athrow, 1) := dk_191 (dk_at dksX7_sees_1 9 rfl rfl)
theorem dX7_sees_34 : decode cX7_sees 34 = .ok (.aload_n 3, 1) := dk_45 (dk_at dksX7_sees_1 10 rfl rfl)
theorem dX7_sees_35 : decode cX7_sees 35 = .ok (.getfield 120, 3) := dk_180 0 120 (dk_at dksX7_sees_1 11 rfl rfl)
theorem dX7_sees_38 : decode cX7_sees 38 = .ok (.ireturn, 1) := dk_172 (dk_at dksX7_sees_1 14 rfl rfl)
abbrev cX7_cell : ByteArray := prog_17_method_33_code
def yX7_cell : MethodName := ⟨RX7, "cell", "()I"⟩
def dkwX7_cell_1 : List UInt8 := [180, 0, 18, 27, 42, 3, 42, 180, 0, 18, 180, 1, 7, 4, 100, 182, 0, 216, 182, 1, 10, 172]
abbrev dktX7_cell_1 : List UInt8 := dkwX7_cell_1 ++ []
def dkwX7_cell_0 : List UInt8 := [42, 19, 1, 3, 182, 0, 236, 42, 3, 42, 180, 0, 18, 180, 1, 4, 4, 100, 182, 0, 216, 60, 42]
abbrev dktX7_cell_0 : List UInt8 := dkwX7_cell_0 ++ dktX7_cell_1
theorem dksX7_cell_0 : cX7_cell.data.toList.drop 0 = dktX7_cell_0 := by decide +kernel
theorem dksX7_cell_1 : cX7_cell.data.toList.drop 23 = dktX7_cell_1 := dk_seg dksX7_cell_0 23 rfl rfl
theorem dX7_cell_0 : decode cX7_cell 0 = .ok (.aload_n 0, 1) := dk_42 (dk_at dksX7_cell_0 0 rfl rfl)
theorem dX7_cell_1 : decode cX7_cell 1 = .ok (.ldc_w 259, 3) := dk_19 1 3 (dk_at dksX7_cell_0 1 rfl rfl)
theorem dX7_cell_4 : decode cX7_cell 4 = .ok (.invokevirtual 236, 3) := dk_182 0 236 (dk_at dksX7_cell_0 4 rfl rfl)
theorem dX7_cell_7 : decode cX7_cell 7 = .ok (.aload_n 0, 1) := dk_42 (dk_at dksX7_cell_0 7 rfl rfl)
theorem dX7_cell_8 : decode cX7_cell 8 = .ok (.iconst 0, 1) := dk_3 (dk_at dksX7_cell_0 8 rfl rfl)
theorem dX7_cell_9 : decode cX7_cell 9 = .ok (.aload_n 0, 1) := dk_42 (dk_at dksX7_cell_0 9 rfl rfl)
theorem dX7_cell_10 : decode cX7_cell 10 = .ok (.getfield 18, 3) := dk_180 0 18 (dk_at dksX7_cell_0 10 rfl rfl)
theorem dX7_cell_13 : decode cX7_cell 13 = .ok (.getfield 260, 3) := dk_180 1 4 (dk_at dksX7_cell_0 13 rfl rfl)
theorem dX7_cell_16 : decode cX7_cell 16 = .ok (.iconst 1, 1) := dk_4 (dk_at dksX7_cell_0 16 rfl rfl)
theorem dX7_cell_17 : decode cX7_cell 17 = .ok (.isub, 1) := dk_100 (dk_at dksX7_cell_0 17 rfl rfl)
theorem dX7_cell_18 : decode cX7_cell 18 = .ok (.invokevirtual 216, 3) := dk_182 0 216 (dk_at dksX7_cell_0 18 rfl rfl)
theorem dX7_cell_21 : decode cX7_cell 21 = .ok (.istore_n 1, 1) := dk_60 (dk_at dksX7_cell_0 21 rfl rfl)
theorem dX7_cell_22 : decode cX7_cell 22 = .ok (.aload_n 0, 1) := dk_42 (dk_at dksX7_cell_0 22 rfl rfl)
theorem dX7_cell_23 : decode cX7_cell 23 = .ok (.getfield 18, 3) := dk_180 0 18 (dk_at dksX7_cell_1 0 rfl rfl)
theorem dX7_cell_26 : decode cX7_cell 26 = .ok (.iload_n 1, 1) := dk_27 (dk_at dksX7_cell_1 3 rfl rfl)
theorem dX7_cell_27 : decode cX7_cell 27 = .ok (.aload_n 0, 1) := dk_42 (dk_at dksX7_cell_1 4 rfl rfl)
theorem dX7_cell_28 : decode cX7_cell 28 = .ok (.iconst 0, 1) := dk_3 (dk_at dksX7_cell_1 5 rfl rfl)
theorem dX7_cell_29 : decode cX7_cell 29 = .ok (.aload_n 0, 1) := dk_42 (dk_at dksX7_cell_1 6 rfl rfl)
theorem dX7_cell_30 : decode cX7_cell 30 = .ok (.getfield 18, 3) := dk_180 0 18 (dk_at dksX7_cell_1 7 rfl rfl)
theorem dX7_cell_33 : decode cX7_cell 33 = .ok (.getfield 263, 3) := dk_180 1 7 (dk_at dksX7_cell_1 10 rfl rfl)
theorem dX7_cell_36 : decode cX7_cell 36 = .ok (.iconst 1, 1) := dk_4 (dk_at dksX7_cell_1 13 rfl rfl)
theorem dX7_cell_37 : decode cX7_cell 37 = .ok (.isub, 1) := dk_100 (dk_at dksX7_cell_1 14 rfl rfl)
theorem dX7_cell_38 : decode cX7_cell 38 = .ok (.invokevirtual 216, 3) := dk_182 0 216 (dk_at dksX7_cell_1 15 rfl rfl)
theorem dX7_cell_41 : decode cX7_cell 41 = .ok (.invokevirtual 266, 3) := dk_182 1 10 (dk_at dksX7_cell_1 18 rfl rfl)
theorem dX7_cell_44 : decode cX7_cell 44 = .ok (.ireturn, 1) := dk_172 (dk_at dksX7_cell_1 21 rfl rfl)
abbrev cX7_book : ByteArray := prog_17_method_36_code
def yX7_book : MethodName := ⟨RX7, "book", "(I)V"⟩
def dkwX7_book_3 : List UInt8 := [29, 21, 4, 42, 21, 4, 16, 47, 182, 0, 216, 183, 1, 82, 182, 0, 149, 87, 177]
abbrev dktX7_book_3 : List UInt8 := dkwX7_book_3 ++ []
def dkwX7_book_2 : List UInt8 := [182, 0, 216, 54, 4, 42, 19, 1, 78, 182, 0, 236, 42, 180, 0, 18, 180, 1, 73, 187, 1, 80, 89, 28]
abbrev dktX7_book_2 : List UInt8 := dkwX7_book_2 ++ dktX7_book_3
def dkwX7_book_1 : List UInt8 := [180, 1, 12, 2, 182, 1, 53, 61, 42, 182, 1, 60, 62, 42, 19, 1, 76, 182, 0, 236, 42, 3, 16, 47]
abbrev dktX7_book_1 : List UInt8 := dkwX7_book_1 ++ dktX7_book_2
def dkwX7_book_0 : List UInt8 := [42, 42, 180, 0, 18, 180, 1, 73, 182, 1, 15, 16, 12, 27, 182, 0, 250, 42, 42, 180, 0, 18]
abbrev dktX7_book_0 : List UInt8 := dkwX7_book_0 ++ dktX7_book_1
theorem dksX7_book_0 : cX7_book.data.toList.drop 0 = dktX7_book_0 := by decide +kernel
theorem dksX7_book_1 : cX7_book.data.toList.drop 22 = dktX7_book_1 := dk_seg dksX7_book_0 22 rfl rfl
theorem dksX7_book_2 : cX7_book.data.toList.drop 46 = dktX7_book_2 := dk_seg dksX7_book_1 24 rfl rfl
theorem dksX7_book_3 : cX7_book.data.toList.drop 70 = dktX7_book_3 := dk_seg dksX7_book_2 24 rfl rfl
theorem dX7_book_0 : decode cX7_book 0 = .ok (.aload_n 0, 1) := dk_42 (dk_at dksX7_book_0 0 rfl rfl)
theorem dX7_book_1 : decode cX7_book 1 = .ok (.aload_n 0, 1) := dk_42 (dk_at dksX7_book_0 1 rfl rfl)
theorem dX7_book_2 : decode cX7_book 2 = .ok (.getfield 18, 3) := dk_180 0 18 (dk_at dksX7_book_0 2 rfl rfl)
theorem dX7_book_5 : decode cX7_book 5 = .ok (.getfield 329, 3) := dk_180 1 73 (dk_at dksX7_book_0 5 rfl rfl)
theorem dX7_book_8 : decode cX7_book 8 = .ok (.invokevirtual 271, 3) := dk_182 1 15 (dk_at dksX7_book_0 8 rfl rfl)
theorem dX7_book_11 : decode cX7_book 11 = .ok (.bipush 12, 2) := dk_16 12 (dk_at dksX7_book_0 11 rfl rfl)
theorem dX7_book_13 : decode cX7_book 13 = .ok (.iload_n 1, 1) := dk_27 (dk_at dksX7_book_0 13 rfl rfl)
theorem dX7_book_14 : decode cX7_book 14 = .ok (.invokevirtual 250, 3) := dk_182 0 250 (dk_at dksX7_book_0 14 rfl rfl)
theorem dX7_book_17 : decode cX7_book 17 = .ok (.aload_n 0, 1) := dk_42 (dk_at dksX7_book_0 17 rfl rfl)
theorem dX7_book_18 : decode cX7_book 18 = .ok (.aload_n 0, 1) := dk_42 (dk_at dksX7_book_0 18 rfl rfl)
theorem dX7_book_19 : decode cX7_book 19 = .ok (.getfield 18, 3) := dk_180 0 18 (dk_at dksX7_book_0 19 rfl rfl)
theorem dX7_book_22 : decode cX7_book 22 = .ok (.getfield 268, 3) := dk_180 1 12 (dk_at dksX7_book_1 0 rfl rfl)
theorem dX7_book_25 : decode cX7_book 25 = .ok (.iconst (-1), 1) := dk_2 (dk_at dksX7_book_1 3 rfl rfl)
theorem dX7_book_26 : decode cX7_book 26 = .ok (.invokevirtual 309, 3) := dk_182 1 53 (dk_at dksX7_book_1 4 rfl rfl)
theorem dX7_book_29 : decode cX7_book 29 = .ok (.istore_n 2, 1) := dk_61 (dk_at dksX7_book_1 7 rfl rfl)
theorem dX7_book_30 : decode cX7_book 30 = .ok (.aload_n 0, 1) := dk_42 (dk_at dksX7_book_1 8 rfl rfl)
theorem dX7_book_31 : decode cX7_book 31 = .ok (.invokevirtual 316, 3) := dk_182 1 60 (dk_at dksX7_book_1 9 rfl rfl)
theorem dX7_book_34 : decode cX7_book 34 = .ok (.istore_n 3, 1) := dk_62 (dk_at dksX7_book_1 12 rfl rfl)
theorem dX7_book_35 : decode cX7_book 35 = .ok (.aload_n 0, 1) := dk_42 (dk_at dksX7_book_1 13 rfl rfl)
theorem dX7_book_36 : decode cX7_book 36 = .ok (.ldc_w 332, 3) := dk_19 1 76 (dk_at dksX7_book_1 14 rfl rfl)
theorem dX7_book_39 : decode cX7_book 39 = .ok (.invokevirtual 236, 3) := dk_182 0 236 (dk_at dksX7_book_1 17 rfl rfl)
theorem dX7_book_42 : decode cX7_book 42 = .ok (.aload_n 0, 1) := dk_42 (dk_at dksX7_book_1 20 rfl rfl)
theorem dX7_book_43 : decode cX7_book 43 = .ok (.iconst 0, 1) := dk_3 (dk_at dksX7_book_1 21 rfl rfl)
theorem dX7_book_44 : decode cX7_book 44 = .ok (.bipush 47, 2) := dk_16 47 (dk_at dksX7_book_1 22 rfl rfl)
theorem dX7_book_46 : decode cX7_book 46 = .ok (.invokevirtual 216, 3) := dk_182 0 216 (dk_at dksX7_book_2 0 rfl rfl)
theorem dX7_book_49 : decode cX7_book 49 = .ok (.istore 4, 2) := dk_54 4 (dk_at dksX7_book_2 3 rfl rfl)
theorem dX7_book_51 : decode cX7_book 51 = .ok (.aload_n 0, 1) := dk_42 (dk_at dksX7_book_2 5 rfl rfl)
theorem dX7_book_52 : decode cX7_book 52 = .ok (.ldc_w 334, 3) := dk_19 1 78 (dk_at dksX7_book_2 6 rfl rfl)
theorem dX7_book_55 : decode cX7_book 55 = .ok (.invokevirtual 236, 3) := dk_182 0 236 (dk_at dksX7_book_2 9 rfl rfl)
theorem dX7_book_58 : decode cX7_book 58 = .ok (.aload_n 0, 1) := dk_42 (dk_at dksX7_book_2 12 rfl rfl)
theorem dX7_book_59 : decode cX7_book 59 = .ok (.getfield 18, 3) := dk_180 0 18 (dk_at dksX7_book_2 13 rfl rfl)
theorem dX7_book_62 : decode cX7_book 62 = .ok (.getfield 329, 3) := dk_180 1 73 (dk_at dksX7_book_2 16 rfl rfl)
theorem dX7_book_65 : decode cX7_book 65 = .ok (.new 336, 3) := dk_187 1 80 (dk_at dksX7_book_2 19 rfl rfl)
theorem dX7_book_68 : decode cX7_book 68 = .ok (.dup, 1) := dk_89 (dk_at dksX7_book_2 22 rfl rfl)
theorem dX7_book_69 : decode cX7_book 69 = .ok (.iload_n 2, 1) := dk_28 (dk_at dksX7_book_2 23 rfl rfl)
theorem dX7_book_70 : decode cX7_book 70 = .ok (.iload_n 3, 1) := dk_29 (dk_at dksX7_book_3 0 rfl rfl)
theorem dX7_book_71 : decode cX7_book 71 = .ok (.iload 4, 2) := dk_21 4 (dk_at dksX7_book_3 1 rfl rfl)
theorem dX7_book_73 : decode cX7_book 73 = .ok (.aload_n 0, 1) := dk_42 (dk_at dksX7_book_3 3 rfl rfl)
theorem dX7_book_74 : decode cX7_book 74 = .ok (.iload 4, 2) := dk_21 4 (dk_at dksX7_book_3 4 rfl rfl)
theorem dX7_book_76 : decode cX7_book 76 = .ok (.bipush 47, 2) := dk_16 47 (dk_at dksX7_book_3 6 rfl rfl)
theorem dX7_book_78 : decode cX7_book 78 = .ok (.invokevirtual 216, 3) := dk_182 0 216 (dk_at dksX7_book_3 8 rfl rfl)
theorem dX7_book_81 : decode cX7_book 81 = .ok (.invokespecial 338, 3) := dk_183 1 82 (dk_at dksX7_book_3 11 rfl rfl)
theorem dX7_book_84 : decode cX7_book 84 = .ok (.invokevirtual 149, 3) := dk_182 0 149 (dk_at dksX7_book_3 14 rfl rfl)
theorem dX7_book_87 : decode cX7_book 87 = .ok (.pop, 1) := dk_87 (dk_at dksX7_book_3 17 rfl rfl)
theorem dX7_book_88 : decode cX7_book 88 = .ok (.return_, 1) := dk_177 (dk_at dksX7_book_3 18 rfl rfl)
abbrev cX7_seen : ByteArray := prog_17_method_37_code
def yX7_seen : MethodName := ⟨RX7, "seen", "(I)V"⟩
def dkwX7_seen_2 : List UInt8 := [180, 1, 85, 187, 1, 90, 89, 28, 29, 42, 3, 16, 47, 182, 0, 216, 183, 1, 92, 182, 0, 149, 87, 177]
abbrev dktX7_seen_2 : List UInt8 := dkwX7_seen_2 ++ []
def dkwX7_seen_1 : List UInt8 := [182, 0, 216, 61, 42, 182, 1, 60, 62, 42, 19, 1, 88, 182, 0, 236, 42, 180, 0, 18, 180, 1, 40]
abbrev dktX7_seen_1 : List UInt8 := dkwX7_seen_1 ++ dktX7_seen_2
def dkwX7_seen_0 : List UInt8 := [42, 42, 180, 0, 18, 180, 1, 40, 180, 1, 85, 182, 1, 15, 16, 40, 27, 182, 0, 250, 42, 3, 6]
abbrev dktX7_seen_0 : List UInt8 := dkwX7_seen_0 ++ dktX7_seen_1
theorem dksX7_seen_0 : cX7_seen.data.toList.drop 0 = dktX7_seen_0 := by decide +kernel
theorem dksX7_seen_1 : cX7_seen.data.toList.drop 23 = dktX7_seen_1 := dk_seg dksX7_seen_0 23 rfl rfl
theorem dksX7_seen_2 : cX7_seen.data.toList.drop 46 = dktX7_seen_2 := dk_seg dksX7_seen_1 23 rfl rfl
theorem dX7_seen_0 : decode cX7_seen 0 = .ok (.aload_n 0, 1) := dk_42 (dk_at dksX7_seen_0 0 rfl rfl)
theorem dX7_seen_1 : decode cX7_seen 1 = .ok (.aload_n 0, 1) := dk_42 (dk_at dksX7_seen_0 1 rfl rfl)
theorem dX7_seen_2 : decode cX7_seen 2 = .ok (.getfield 18, 3) := dk_180 0 18 (dk_at dksX7_seen_0 2 rfl rfl)
theorem dX7_seen_5 : decode cX7_seen 5 = .ok (.getfield 296, 3) := dk_180 1 40 (dk_at dksX7_seen_0 5 rfl rfl)
theorem dX7_seen_8 : decode cX7_seen 8 = .ok (.getfield 341, 3) := dk_180 1 85 (dk_at dksX7_seen_0 8 rfl rfl)
theorem dX7_seen_11 : decode cX7_seen 11 = .ok (.invokevirtual 271, 3) := dk_182 1 15 (dk_at dksX7_seen_0 11 rfl rfl)
theorem dX7_seen_14 : decode cX7_seen 14 = .ok (.bipush 40, 2) := dk_16 40 (dk_at dksX7_seen_0 14 rfl rfl)
theorem dX7_seen_16 : decode cX7_seen 16 = .ok (.iload_n 1, 1) := dk_27 (dk_at dksX7_seen_0 16 rfl rfl)
theorem dX7_seen_17 : decode cX7_seen 17 = .ok (.invokevirtual 250, 3) := dk_182 0 250 (dk_at dksX7_seen_0 17 rfl rfl)
theorem dX7_seen_20 : decode cX7_seen 20 = .ok (.aload_n 0, 1) := dk_42 (dk_at dksX7_seen_0 20 rfl rfl)
theorem dX7_seen_21 : decode cX7_seen 21 = .ok (.iconst 0, 1) := dk_3 (dk_at dksX7_seen_0 21 rfl rfl)
theorem dX7_seen_22 : decode cX7_seen 22 = .ok (.iconst 3, 1) := dk_6 (dk_at dksX7_seen_0 22 rfl rfl)
theorem dX7_seen_23 : decode cX7_seen 23 = .ok (.invokevirtual 216, 3) := dk_182 0 216 (dk_at dksX7_seen_1 0 rfl rfl)
theorem dX7_seen_26 : decode cX7_seen 26 = .ok (.istore_n 2, 1) := dk_61 (dk_at dksX7_seen_1 3 rfl rfl)
theorem dX7_seen_27 : decode cX7_seen 27 = .ok (.aload_n 0, 1) := dk_42 (dk_at dksX7_seen_1 4 rfl rfl)
theorem dX7_seen_28 : decode cX7_seen 28 = .ok (.invokevirtual 316, 3) := dk_182 1 60 (dk_at dksX7_seen_1 5 rfl rfl)
theorem dX7_seen_31 : decode cX7_seen 31 = .ok (.istore_n 3, 1) := dk_62 (dk_at dksX7_seen_1 8 rfl rfl)
theorem dX7_seen_32 : decode cX7_seen 32 = .ok (.aload_n 0, 1) := dk_42 (dk_at dksX7_seen_1 9 rfl rfl)
theorem dX7_seen_33 : decode cX7_seen 33 = .ok (.ldc_w 344, 3) := dk_19 1 88 (dk_at dksX7_seen_1 10 rfl rfl)
theorem dX7_seen_36 : decode cX7_seen 36 = .ok (.invokevirtual 236, 3) := dk_182 0 236 (dk_at dksX7_seen_1 13 rfl rfl)
theorem dX7_seen_39 : decode cX7_seen 39 = .ok (.aload_n 0, 1) := dk_42 (dk_at dksX7_seen_1 16 rfl rfl)
theorem dX7_seen_40 : decode cX7_seen 40 = .ok (.getfield 18, 3) := dk_180 0 18 (dk_at dksX7_seen_1 17 rfl rfl)
theorem dX7_seen_43 : decode cX7_seen 43 = .ok (.getfield 296, 3) := dk_180 1 40 (dk_at dksX7_seen_1 20 rfl rfl)
theorem dX7_seen_46 : decode cX7_seen 46 = .ok (.getfield 341, 3) := dk_180 1 85 (dk_at dksX7_seen_2 0 rfl rfl)
theorem dX7_seen_49 : decode cX7_seen 49 = .ok (.new 346, 3) := dk_187 1 90 (dk_at dksX7_seen_2 3 rfl rfl)
theorem dX7_seen_52 : decode cX7_seen 52 = .ok (.dup, 1) := dk_89 (dk_at dksX7_seen_2 6 rfl rfl)
theorem dX7_seen_53 : decode cX7_seen 53 = .ok (.iload_n 2, 1) := dk_28 (dk_at dksX7_seen_2 7 rfl rfl)
theorem dX7_seen_54 : decode cX7_seen 54 = .ok (.iload_n 3, 1) := dk_29 (dk_at dksX7_seen_2 8 rfl rfl)
theorem dX7_seen_55 : decode cX7_seen 55 = .ok (.aload_n 0, 1) := dk_42 (dk_at dksX7_seen_2 9 rfl rfl)
theorem dX7_seen_56 : decode cX7_seen 56 = .ok (.iconst 0, 1) := dk_3 (dk_at dksX7_seen_2 10 rfl rfl)
theorem dX7_seen_57 : decode cX7_seen 57 = .ok (.bipush 47, 2) := dk_16 47 (dk_at dksX7_seen_2 11 rfl rfl)
theorem dX7_seen_59 : decode cX7_seen 59 = .ok (.invokevirtual 216, 3) := dk_182 0 216 (dk_at dksX7_seen_2 13 rfl rfl)
theorem dX7_seen_62 : decode cX7_seen 62 = .ok (.invokespecial 348, 3) := dk_183 1 92 (dk_at dksX7_seen_2 16 rfl rfl)
theorem dX7_seen_65 : decode cX7_seen 65 = .ok (.invokevirtual 149, 3) := dk_182 0 149 (dk_at dksX7_seen_2 19 rfl rfl)
theorem dX7_seen_68 : decode cX7_seen 68 = .ok (.pop, 1) := dk_87 (dk_at dksX7_seen_2 22 rfl rfl)
theorem dX7_seen_69 : decode cX7_seen 69 = .ok (.return_, 1) := dk_177 (dk_at dksX7_seen_2 23 rfl rfl)
theorem q179 : (Jvm.Cond.initialized "ToldTracks$Reader") ∈ lw_all := lw_g (lw_at lw_m1 11 rfl) rfl
theorem q282 : (Jvm.Cond.fieldLink "ToldTracks$Reader" (300 : Nat) "ToldTracks$Told" "says" "Ljava/util/ArrayList;") ∈ lw_all := lw_g (lw_at lw_m1 114 rfl) rfl
theorem q285 : (Jvm.Cond.fieldLink "ToldTracks$Reader" (341 : Nat) "ToldTracks$Told" "seen" "Ljava/util/ArrayList;") ∈ lw_all := lw_g (lw_at lw_m1 117 rfl) rfl
theorem q293 : (Jvm.Cond.fieldLink "ToldTracks$Reader" (260 : Nat) "ToldTracks$Sea" "columns" "I") ∈ lw_all := lw_g (lw_at lw_m1 125 rfl) rfl
theorem q296 : (Jvm.Cond.fieldLink "ToldTracks$Reader" (263 : Nat) "ToldTracks$Sea" "rows" "I") ∈ lw_all := lw_g (lw_at lw_m1 128 rfl) rfl
theorem q298 : (Jvm.Cond.fieldLink "ToldTracks$Reader" (387 : Nat) "ToldTracks$Sea" "statements" "I") ∈ lw_all := lw_g (lw_at lw_m1 130 rfl) rfl
theorem q301 : (Jvm.Cond.fieldLink "ToldTracks$Reader" (384 : Nat) "ToldTracks$Sea" "luck" "I") ∈ lw_all := lw_g (lw_at lw_m1 133 rfl) rfl
theorem q304 : (Jvm.Cond.fieldLink "ToldTracks$Reader" (352 : Nat) "ToldTracks$Sea" "depth" "LToldTracks$Rates;") ∈ lw_all := lw_g (lw_at lw_m1 136 rfl) rfl
theorem q307 : (Jvm.Cond.fieldLink "ToldTracks$Reader" (361 : Nat) "ToldTracks$Sea" "cost" "LToldTracks$Rates;") ∈ lw_all := lw_g (lw_at lw_m1 139 rfl) rfl
theorem q309 : (Jvm.Cond.fieldLink "ToldTracks$Reader" (365 : Nat) "ToldTracks$Sea" "quiets" "Ljava/util/ArrayList;") ∈ lw_all := lw_g (lw_at lw_m1 141 rfl) rfl
theorem q312 : (Jvm.Cond.fieldLink "ToldTracks$Reader" (268 : Nat) "ToldTracks$Sea" "ships" "Ljava/util/ArrayList;") ∈ lw_all := lw_g (lw_at lw_m1 144 rfl) rfl
theorem q316 : (Jvm.Cond.fieldLink "ToldTracks$Reader" (329 : Nat) "ToldTracks$Sea" "books" "Ljava/util/ArrayList;") ∈ lw_all := lw_g (lw_at lw_m1 148 rfl) rfl
theorem q319 : (Jvm.Cond.fieldLink "ToldTracks$Reader" (296 : Nat) "ToldTracks$Sea" "told" "LToldTracks$Told;") ∈ lw_all := lw_g (lw_at lw_m1 151 rfl) rfl
theorem q384 : (Jvm.Cond.fieldLinkNest "ToldTracks$Reader" (39 : Nat) "ToldTracks" "tape" "[C" "ToldTracks") ∈ lw_tbl := lw_at lw_m1 216 rfl
theorem q455 : (Jvm.Cond.instantiable "ToldTracks$Reader" (12 : Nat)) ∈ lw_all := lw_g (lw_at lw_m2 47 rfl) rfl
theorem q457 : (Jvm.Cond.instanceMethod ({ cls := "ToldTracks$Reader", name := "<init>", desc := "(LToldTracks;I)V" } : Jvm.MethodName)) ∈ lw_all := lw_g (lw_at lw_m2 49 rfl) rfl
theorem q458 : (Jvm.Cond.code ({ cls := "ToldTracks$Reader", name := "<init>", desc := "(LToldTracks;I)V" } : Jvm.MethodName) prog_17_method_1_code (3 : Nat) (Option.none : Option Jvm.ClassFile.FieldType)) ∈ lw_all := lw_g (lw_at lw_m2 50 rfl) rfl
theorem q459 : (Jvm.Cond.methodLink "ToldTracks$Reader" (9 : Nat) ({ cls := "java/lang/Object", name := "<init>", desc := "()V" } : Jvm.MethodName)) ∈ lw_all := lw_g (lw_at lw_m2 51 rfl) rfl
theorem q460 : (Jvm.Cond.classLink "ToldTracks$Reader" (15 : Nat) "ToldTracks$Sea") ∈ lw_all := lw_g (lw_at lw_m2 52 rfl) rfl
theorem q461 : (Jvm.Cond.methodLinkNest "ToldTracks$Reader" (17 : Nat) ({ cls := "ToldTracks$Sea", name := "<init>", desc := "()V" } : Jvm.MethodName) "ToldTracks") ∈ lw_tbl := lw_at lw_m2 53 rfl
theorem q462 : (Jvm.Cond.fieldLink "ToldTracks$Reader" (26 : Nat) "ToldTracks$Reader" "size" "I") ∈ lw_all := lw_g (lw_at lw_m2 54 rfl) rfl
theorem q463 : (Jvm.Cond.fieldLink "ToldTracks$Reader" (18 : Nat) "ToldTracks$Reader" "h" "LToldTracks$Sea;") ∈ lw_all := lw_g (lw_at lw_m2 55 rfl) rfl
theorem q464 : (Jvm.Cond.fieldLink "ToldTracks$Reader" (36 : Nat) "ToldTracks$Reader" "at" "I") ∈ lw_all := lw_g (lw_at lw_m2 56 rfl) rfl
theorem q465 : (Jvm.Cond.fieldLink "ToldTracks$Reader" (22 : Nat) "ToldTracks$Reader" "behind" "I") ∈ lw_all := lw_g (lw_at lw_m2 57 rfl) rfl
theorem q466 : (Jvm.Cond.fieldLink "ToldTracks$Reader" (43 : Nat) "ToldTracks$Reader" "place" "I") ∈ lw_all := lw_g (lw_at lw_m2 58 rfl) rfl
theorem q467 : (Jvm.Cond.fieldLink "ToldTracks$Reader" (75 : Nat) "ToldTracks$Reader" "number" "I") ∈ lw_all := lw_g (lw_at lw_m2 59 rfl) rfl
theorem q468 : (Jvm.Cond.fieldLink "ToldTracks$Reader" (33 : Nat) "ToldTracks$Reader" "what" "I") ∈ lw_all := lw_g (lw_at lw_m2 60 rfl) rfl
theorem q469 : (Jvm.Cond.fieldLink "ToldTracks$Reader" (127 : Nat) "ToldTracks$Reader" "open" "I") ∈ lw_all := lw_g (lw_at lw_m2 61 rfl) rfl
theorem q470 : (Jvm.Cond.fieldLink "ToldTracks$Reader" (29 : Nat) "ToldTracks$Reader" "isSeen" "Z") ∈ lw_all := lw_g (lw_at lw_m2 62 rfl) rfl
theorem q471 : (Jvm.Cond.fieldLink "ToldTracks$Reader" (53 : Nat) "ToldTracks$Reader" "sign" "C") ∈ lw_all := lw_g (lw_at lw_m2 63 rfl) rfl
theorem q472 : (Jvm.Cond.fieldLink "ToldTracks$Reader" (67 : Nat) "ToldTracks$Reader" "word" "Ljava/lang/String;") ∈ lw_all := lw_g (lw_at lw_m2 64 rfl) rfl
theorem q473 : (Jvm.Cond.fieldLink "ToldTracks$Reader" (3 : Nat) "ToldTracks$Reader" "this$0" "LToldTracks;") ∈ lw_all := lw_g (lw_at lw_m2 65 rfl) rfl
theorem q474 : (Jvm.Cond.laysFinal "ToldTracks$Reader" "ToldTracks$Reader" "size" "I") ∈ lw_all := lw_g (lw_at lw_m2 66 rfl) rfl
theorem q475 : (Jvm.Cond.soleField "ToldTracks$Reader" "size") ∈ lw_all := lw_g (lw_at lw_m2 67 rfl) rfl
theorem q476 : (Jvm.Cond.laysFinal "ToldTracks$Reader" "ToldTracks$Reader" "h" "LToldTracks$Sea;") ∈ lw_all := lw_g (lw_at lw_m2 68 rfl) rfl
theorem q477 : (Jvm.Cond.soleField "ToldTracks$Reader" "h") ∈ lw_all := lw_g (lw_at lw_m2 69 rfl) rfl
theorem q478 : (Jvm.Cond.lays "ToldTracks$Reader" "ToldTracks$Reader" "at" "I") ∈ lw_all := lw_g (lw_at lw_m2 70 rfl) rfl
theorem q479 : (Jvm.Cond.soleField "ToldTracks$Reader" "at") ∈ lw_all := lw_g (lw_at lw_m2 71 rfl) rfl
theorem q480 : (Jvm.Cond.lays "ToldTracks$Reader" "ToldTracks$Reader" "behind" "I") ∈ lw_all := lw_g (lw_at lw_m2 72 rfl) rfl
theorem q481 : (Jvm.Cond.soleField "ToldTracks$Reader" "behind") ∈ lw_all := lw_g (lw_at lw_m2 73 rfl) rfl
theorem q482 : (Jvm.Cond.lays "ToldTracks$Reader" "ToldTracks$Reader" "place" "I") ∈ lw_all := lw_g (lw_at lw_m2 74 rfl) rfl
theorem q483 : (Jvm.Cond.soleField "ToldTracks$Reader" "place") ∈ lw_all := lw_g (lw_at lw_m2 75 rfl) rfl
theorem q484 : (Jvm.Cond.lays "ToldTracks$Reader" "ToldTracks$Reader" "number" "I") ∈ lw_all := lw_g (lw_at lw_m2 76 rfl) rfl
theorem q485 : (Jvm.Cond.soleField "ToldTracks$Reader" "number") ∈ lw_all := lw_g (lw_at lw_m2 77 rfl) rfl
theorem q486 : (Jvm.Cond.lays "ToldTracks$Reader" "ToldTracks$Reader" "what" "I") ∈ lw_all := lw_g (lw_at lw_m2 78 rfl) rfl
theorem q487 : (Jvm.Cond.soleField "ToldTracks$Reader" "what") ∈ lw_all := lw_g (lw_at lw_m2 79 rfl) rfl
theorem q488 : (Jvm.Cond.lays "ToldTracks$Reader" "ToldTracks$Reader" "open" "I") ∈ lw_all := lw_g (lw_at lw_m2 80 rfl) rfl
theorem q489 : (Jvm.Cond.soleField "ToldTracks$Reader" "open") ∈ lw_all := lw_g (lw_at lw_m2 81 rfl) rfl
theorem q490 : (Jvm.Cond.lays "ToldTracks$Reader" "ToldTracks$Reader" "isSeen" "Z") ∈ lw_all := lw_g (lw_at lw_m2 82 rfl) rfl
theorem q491 : (Jvm.Cond.soleField "ToldTracks$Reader" "isSeen") ∈ lw_all := lw_g (lw_at lw_m2 83 rfl) rfl
theorem q492 : (Jvm.Cond.lays "ToldTracks$Reader" "ToldTracks$Reader" "sign" "C") ∈ lw_all := lw_g (lw_at lw_m2 84 rfl) rfl
theorem q493 : (Jvm.Cond.soleField "ToldTracks$Reader" "sign") ∈ lw_all := lw_g (lw_at lw_m2 85 rfl) rfl
theorem q494 : (Jvm.Cond.lays "ToldTracks$Reader" "ToldTracks$Reader" "word" "Ljava/lang/String;") ∈ lw_all := lw_g (lw_at lw_m2 86 rfl) rfl
theorem q495 : (Jvm.Cond.soleField "ToldTracks$Reader" "word") ∈ lw_all := lw_g (lw_at lw_m2 87 rfl) rfl
theorem q496 : (Jvm.Cond.laysFinal "ToldTracks$Reader" "ToldTracks$Reader" "this$0" "LToldTracks;") ∈ lw_all := lw_g (lw_at lw_m2 88 rfl) rfl
theorem q497 : (Jvm.Cond.soleField "ToldTracks$Reader" "this$0") ∈ lw_all := lw_g (lw_at lw_m2 89 rfl) rfl
theorem q498 : (Jvm.Cond.superclass "ToldTracks$Reader" "java/lang/Object") ∈ lw_all := lw_g (lw_at lw_m2 90 rfl) rfl
theorem q500 : (Jvm.Cond.instanceMethod ({ cls := "ToldTracks$Reader", name := "text", desc := "()LToldTracks$Sea;" } : Jvm.MethodName)) ∈ lw_all := lw_g (lw_at lw_m2 92 rfl) rfl
theorem q501 : (Jvm.Cond.selects "ToldTracks$Reader" ({ cls := "ToldTracks$Reader", name := "text", desc := "()LToldTracks$Sea;" } : Jvm.MethodName) ({ cls := "ToldTracks$Reader", name := "text", desc := "()LToldTracks$Sea;" } : Jvm.MethodName)) ∈ lw_all := lw_g (lw_at lw_m2 93 rfl) rfl
theorem q502 : (Jvm.Cond.code ({ cls := "ToldTracks$Reader", name := "text", desc := "()LToldTracks$Sea;" } : Jvm.MethodName) prog_17_method_39_code (1 : Nat) (Option.some (Jvm.ClassFile.FieldType.object "ToldTracks$Sea"))) ∈ lw_all := lw_g (lw_at lw_m2 94 rfl) rfl
theorem q503 : (Jvm.Cond.stringRef "ToldTracks$Reader" (386 : Nat) "size") ∈ lw_tbl := lw_at lw_m2 95 rfl
theorem q504 : (Jvm.Cond.methodLink "ToldTracks$Reader" (236 : Nat) ({ cls := "ToldTracks$Reader", name := "asks", desc := "(Ljava/lang/String;)V" } : Jvm.MethodName)) ∈ lw_all := lw_g (lw_at lw_m2 96 rfl) rfl
theorem q505 : (Jvm.Cond.privateMethod ({ cls := "ToldTracks$Reader", name := "asks", desc := "(Ljava/lang/String;)V" } : Jvm.MethodName)) ∈ lw_tbl := lw_at lw_m2 97 rfl
theorem q506 : (Jvm.Cond.instanceMethod ({ cls := "ToldTracks$Reader", name := "asks", desc := "(Ljava/lang/String;)V" } : Jvm.MethodName)) ∈ lw_all := lw_g (lw_at lw_m2 98 rfl) rfl
theorem q507 : (Jvm.Cond.code ({ cls := "ToldTracks$Reader", name := "asks", desc := "(Ljava/lang/String;)V" } : Jvm.MethodName) prog_17_method_11_code (2 : Nat) (Option.none : Option Jvm.ClassFile.FieldType)) ∈ lw_all := lw_g (lw_at lw_m2 99 rfl) rfl
theorem q508 : (Jvm.Cond.methodLink "ToldTracks$Reader" (100 : Nat) ({ cls := "ToldTracks$Reader", name := "takes", desc := "(Ljava/lang/String;)Z" } : Jvm.MethodName)) ∈ lw_all := lw_g (lw_at lw_m2 100 rfl) rfl
theorem q509 : (Jvm.Cond.privateMethod ({ cls := "ToldTracks$Reader", name := "takes", desc := "(Ljava/lang/String;)Z" } : Jvm.MethodName)) ∈ lw_tbl := lw_at lw_m2 101 rfl
theorem q510 : (Jvm.Cond.instanceMethod ({ cls := "ToldTracks$Reader", name := "takes", desc := "(Ljava/lang/String;)Z" } : Jvm.MethodName)) ∈ lw_all := lw_g (lw_at lw_m2 102 rfl) rfl
theorem q511 : (Jvm.Cond.code ({ cls := "ToldTracks$Reader", name := "takes", desc := "(Ljava/lang/String;)Z" } : Jvm.MethodName) prog_17_method_9_code (2 : Nat) (Option.some Jvm.ClassFile.FieldType.boolean)) ∈ lw_all := lw_g (lw_at lw_m2 103 rfl) rfl
theorem q512 : (Jvm.Cond.methodLink "ToldTracks$Reader" (89 : Nat) ({ cls := "ToldTracks$Reader", name := "isWord", desc := "(Ljava/lang/String;)Z" } : Jvm.MethodName)) ∈ lw_all := lw_g (lw_at lw_m2 104 rfl) rfl
theorem q513 : (Jvm.Cond.privateMethod ({ cls := "ToldTracks$Reader", name := "isWord", desc := "(Ljava/lang/String;)Z" } : Jvm.MethodName)) ∈ lw_tbl := lw_at lw_m2 105 rfl
theorem q514 : (Jvm.Cond.instanceMethod ({ cls := "ToldTracks$Reader", name := "isWord", desc := "(Ljava/lang/String;)Z" } : Jvm.MethodName)) ∈ lw_all := lw_g (lw_at lw_m2 106 rfl) rfl
theorem q515 : (Jvm.Cond.code ({ cls := "ToldTracks$Reader", name := "isWord", desc := "(Ljava/lang/String;)Z" } : Jvm.MethodName) prog_17_method_7_code (2 : Nat) (Option.some Jvm.ClassFile.FieldType.boolean)) ∈ lw_all := lw_g (lw_at lw_m2 107 rfl) rfl
theorem q516 : (Jvm.Cond.methodLink "ToldTracks$Reader" (78 : Nat) ({ cls := "ToldTracks$Reader", name := "see", desc := "()I" } : Jvm.MethodName)) ∈ lw_all := lw_g (lw_at lw_m2 108 rfl) rfl
theorem q517 : (Jvm.Cond.privateMethod ({ cls := "ToldTracks$Reader", name := "see", desc := "()I" } : Jvm.MethodName)) ∈ lw_tbl := lw_at lw_m2 109 rfl
theorem q518 : (Jvm.Cond.instanceMethod ({ cls := "ToldTracks$Reader", name := "see", desc := "()I" } : Jvm.MethodName)) ∈ lw_all := lw_g (lw_at lw_m2 110 rfl) rfl
theorem q519 : (Jvm.Cond.code ({ cls := "ToldTracks$Reader", name := "see", desc := "()I" } : Jvm.MethodName) prog_17_method_4_code (4 : Nat) (Option.some Jvm.ClassFile.FieldType.int)) ∈ lw_all := lw_g (lw_at lw_m2 111 rfl) rfl
theorem q520 : (Jvm.Cond.methodLink "ToldTracks$Reader" (46 : Nat) ({ cls := "ToldTracks$Reader", name := "isLetter", desc := "(C)Z" } : Jvm.MethodName)) ∈ lw_all := lw_g (lw_at lw_m2 112 rfl) rfl
theorem q521 : (Jvm.Cond.privateMethod ({ cls := "ToldTracks$Reader", name := "isLetter", desc := "(C)Z" } : Jvm.MethodName)) ∈ lw_tbl := lw_at lw_m2 113 rfl
theorem q522 : (Jvm.Cond.instanceMethod ({ cls := "ToldTracks$Reader", name := "isLetter", desc := "(C)Z" } : Jvm.MethodName)) ∈ lw_all := lw_g (lw_at lw_m2 114 rfl) rfl
theorem q523 : (Jvm.Cond.code ({ cls := "ToldTracks$Reader", name := "isLetter", desc := "(C)Z" } : Jvm.MethodName) prog_17_method_2_code (2 : Nat) (Option.some Jvm.ClassFile.FieldType.boolean)) ∈ lw_all := lw_g (lw_at lw_m2 115 rfl) rfl
theorem q524 : (Jvm.Cond.methodLink "ToldTracks$Reader" (50 : Nat) ({ cls := "ToldTracks$Reader", name := "isDigit", desc := "(C)Z" } : Jvm.MethodName)) ∈ lw_all := lw_g (lw_at lw_m2 116 rfl) rfl
theorem q525 : (Jvm.Cond.privateMethod ({ cls := "ToldTracks$Reader", name := "isDigit", desc := "(C)Z" } : Jvm.MethodName)) ∈ lw_tbl := lw_at lw_m2 117 rfl
theorem q526 : (Jvm.Cond.instanceMethod ({ cls := "ToldTracks$Reader", name := "isDigit", desc := "(C)Z" } : Jvm.MethodName)) ∈ lw_all := lw_g (lw_at lw_m2 118 rfl) rfl
theorem q527 : (Jvm.Cond.code ({ cls := "ToldTracks$Reader", name := "isDigit", desc := "(C)Z" } : Jvm.MethodName) prog_17_method_3_code (2 : Nat) (Option.some Jvm.ClassFile.FieldType.boolean)) ∈ lw_all := lw_g (lw_at lw_m2 119 rfl) rfl
theorem q528 : (Jvm.Cond.classLink "ToldTracks$Reader" (57 : Nat) "ToldTracks$Fault") ∈ lw_all := lw_g (lw_at lw_m2 120 rfl) rfl
theorem q565 : (Jvm.Cond.methodLink "ToldTracks$Reader" (59 : Nat) ({ cls := "ToldTracks$Fault", name := "<init>", desc := "(II)V" } : Jvm.MethodName)) ∈ lw_all := lw_g (lw_at lw_m2 157 rfl) rfl
theorem q593 : (Jvm.Cond.classLink "ToldTracks$Reader" (62 : Nat) "java/lang/String") ∈ lw_all := lw_g (lw_at lw_m2 185 rfl) rfl
theorem q595 : (Jvm.Cond.methodLink "ToldTracks$Reader" (64 : Nat) ({ cls := "java/lang/String", name := "<init>", desc := "([CII)V" } : Jvm.MethodName)) ∈ lw_all := lw_g (lw_at lw_m2 187 rfl) rfl
theorem q669 : (Jvm.Cond.methodLinkNest "ToldTracks$Reader" (71 : Nat) ({ cls := "ToldTracks", name := "digitsOf", desc := "(Ljava/lang/String;)I" } : Jvm.MethodName) "ToldTracks") ∈ lw_tbl := lw_at lw_m3 21 rfl
theorem q704 : (Jvm.Cond.methodLink "ToldTracks$Reader" (82 : Nat) ({ cls := "java/lang/String", name := "equals", desc := "(Ljava/lang/Object;)Z" } : Jvm.MethodName)) ∈ lw_all := lw_g (lw_at lw_m3 56 rfl) rfl
theorem q712 : (Jvm.Cond.methodLink "ToldTracks$Reader" (96 : Nat) ({ cls := "ToldTracks$Reader", name := "wrong", desc := "()LToldTracks$Fault;" } : Jvm.MethodName)) ∈ lw_all := lw_g (lw_at lw_m3 64 rfl) rfl
theorem q713 : (Jvm.Cond.privateMethod ({ cls := "ToldTracks$Reader", name := "wrong", desc := "()LToldTracks$Fault;" } : Jvm.MethodName)) ∈ lw_tbl := lw_at lw_m3 65 rfl
theorem q714 : (Jvm.Cond.instanceMethod ({ cls := "ToldTracks$Reader", name := "wrong", desc := "()LToldTracks$Fault;" } : Jvm.MethodName)) ∈ lw_all := lw_g (lw_at lw_m3 66 rfl) rfl
theorem q715 : (Jvm.Cond.code ({ cls := "ToldTracks$Reader", name := "wrong", desc := "()LToldTracks$Fault;" } : Jvm.MethodName) prog_17_method_5_code (1 : Nat) (Option.some (Jvm.ClassFile.FieldType.object "ToldTracks$Fault"))) ∈ lw_all := lw_g (lw_at lw_m3 67 rfl) rfl
theorem q716 : (Jvm.Cond.methodLink "ToldTracks$Reader" (216 : Nat) ({ cls := "ToldTracks$Reader", name := "number", desc := "(II)I" } : Jvm.MethodName)) ∈ lw_all := lw_g (lw_at lw_m3 68 rfl) rfl
theorem q717 : (Jvm.Cond.privateMethod ({ cls := "ToldTracks$Reader", name := "number", desc := "(II)I" } : Jvm.MethodName)) ∈ lw_tbl := lw_at lw_m3 69 rfl
theorem q718 : (Jvm.Cond.instanceMethod ({ cls := "ToldTracks$Reader", name := "number", desc := "(II)I" } : Jvm.MethodName)) ∈ lw_all := lw_g (lw_at lw_m3 70 rfl) rfl
theorem q719 : (Jvm.Cond.code ({ cls := "ToldTracks$Reader", name := "number", desc := "(II)I" } : Jvm.MethodName) prog_17_method_12_code (3 : Nat) (Option.some Jvm.ClassFile.FieldType.int)) ∈ lw_all := lw_g (lw_at lw_m3 71 rfl) rfl
theorem q720 : (Jvm.Cond.methodLinkNest "ToldTracks$Reader" (102 : Nat) ({ cls := "ToldTracks", name := "isIn", desc := "(JJJ)Z" } : Jvm.MethodName) "ToldTracks") ∈ lw_tbl := lw_at lw_m3 72 rfl
theorem q721 : (Jvm.Cond.methodLink "ToldTracks$Reader" (130 : Nat) ({ cls := "ToldTracks$Reader", name := "asks", desc := "(C)V" } : Jvm.MethodName)) ∈ lw_all := lw_g (lw_at lw_m3 73 rfl) rfl
theorem q722 : (Jvm.Cond.privateMethod ({ cls := "ToldTracks$Reader", name := "asks", desc := "(C)V" } : Jvm.MethodName)) ∈ lw_tbl := lw_at lw_m3 74 rfl
theorem q723 : (Jvm.Cond.instanceMethod ({ cls := "ToldTracks$Reader", name := "asks", desc := "(C)V" } : Jvm.MethodName)) ∈ lw_all := lw_g (lw_at lw_m3 75 rfl) rfl
theorem q724 : (Jvm.Cond.code ({ cls := "ToldTracks$Reader", name := "asks", desc := "(C)V" } : Jvm.MethodName) prog_17_method_10_code (2 : Nat) (Option.none : Option Jvm.ClassFile.FieldType)) ∈ lw_all := lw_g (lw_at lw_m3 76 rfl) rfl
theorem q725 : (Jvm.Cond.methodLink "ToldTracks$Reader" (93 : Nat) ({ cls := "ToldTracks$Reader", name := "takes", desc := "(C)Z" } : Jvm.MethodName)) ∈ lw_all := lw_g (lw_at lw_m3 77 rfl) rfl
theorem q726 : (Jvm.Cond.privateMethod ({ cls := "ToldTracks$Reader", name := "takes", desc := "(C)Z" } : Jvm.MethodName)) ∈ lw_tbl := lw_at lw_m3 78 rfl
theorem q727 : (Jvm.Cond.instanceMethod ({ cls := "ToldTracks$Reader", name := "takes", desc := "(C)Z" } : Jvm.MethodName)) ∈ lw_all := lw_g (lw_at lw_m3 79 rfl) rfl
theorem q728 : (Jvm.Cond.code ({ cls := "ToldTracks$Reader", name := "takes", desc := "(C)Z" } : Jvm.MethodName) prog_17_method_8_code (2 : Nat) (Option.some Jvm.ClassFile.FieldType.boolean)) ∈ lw_all := lw_g (lw_at lw_m3 80 rfl) rfl
theorem q729 : (Jvm.Cond.methodLink "ToldTracks$Reader" (86 : Nat) ({ cls := "ToldTracks$Reader", name := "isSign", desc := "(C)Z" } : Jvm.MethodName)) ∈ lw_all := lw_g (lw_at lw_m3 81 rfl) rfl
theorem q730 : (Jvm.Cond.privateMethod ({ cls := "ToldTracks$Reader", name := "isSign", desc := "(C)Z" } : Jvm.MethodName)) ∈ lw_tbl := lw_at lw_m3 82 rfl
theorem q731 : (Jvm.Cond.instanceMethod ({ cls := "ToldTracks$Reader", name := "isSign", desc := "(C)Z" } : Jvm.MethodName)) ∈ lw_all := lw_g (lw_at lw_m3 83 rfl) rfl
theorem q732 : (Jvm.Cond.code ({ cls := "ToldTracks$Reader", name := "isSign", desc := "(C)Z" } : Jvm.MethodName) prog_17_method_6_code (2 : Nat) (Option.some Jvm.ClassFile.FieldType.boolean)) ∈ lw_all := lw_g (lw_at lw_m3 84 rfl) rfl
theorem q733 : (Jvm.Cond.methodLink "ToldTracks$Reader" (390 : Nat) ({ cls := "ToldTracks$Reader", name := "statement", desc := "()V" } : Jvm.MethodName)) ∈ lw_all := lw_g (lw_at lw_m3 85 rfl) rfl
theorem q734 : (Jvm.Cond.privateMethod ({ cls := "ToldTracks$Reader", name := "statement", desc := "()V" } : Jvm.MethodName)) ∈ lw_tbl := lw_at lw_m3 86 rfl
theorem q735 : (Jvm.Cond.instanceMethod ({ cls := "ToldTracks$Reader", name := "statement", desc := "()V" } : Jvm.MethodName)) ∈ lw_all := lw_g (lw_at lw_m3 87 rfl) rfl
theorem q736 : (Jvm.Cond.code ({ cls := "ToldTracks$Reader", name := "statement", desc := "()V" } : Jvm.MethodName) prog_17_method_38_code (2 : Nat) (Option.none : Option Jvm.ClassFile.FieldType)) ∈ lw_all := lw_g (lw_at lw_m3 88 rfl) rfl
theorem q737 : (Jvm.Cond.stringRef "ToldTracks$Reader" (350 : Nat) "depth") ∈ lw_tbl := lw_at lw_m3 89 rfl
theorem q738 : (Jvm.Cond.methodLink "ToldTracks$Reader" (355 : Nat) ({ cls := "ToldTracks$Reader", name := "rate", desc := "(LToldTracks$Rates;I)V" } : Jvm.MethodName)) ∈ lw_all := lw_g (lw_at lw_m3 90 rfl) rfl
theorem q739 : (Jvm.Cond.privateMethod ({ cls := "ToldTracks$Reader", name := "rate", desc := "(LToldTracks$Rates;I)V" } : Jvm.MethodName)) ∈ lw_tbl := lw_at lw_m3 91 rfl
theorem q740 : (Jvm.Cond.instanceMethod ({ cls := "ToldTracks$Reader", name := "rate", desc := "(LToldTracks$Rates;I)V" } : Jvm.MethodName)) ∈ lw_all := lw_g (lw_at lw_m3 92 rfl) rfl
theorem q741 : (Jvm.Cond.code ({ cls := "ToldTracks$Reader", name := "rate", desc := "(LToldTracks$Rates;I)V" } : Jvm.MethodName) prog_17_method_32_code (4 : Nat) (Option.none : Option Jvm.ClassFile.FieldType)) ∈ lw_all := lw_g (lw_at lw_m3 93 rfl) rfl
theorem q742 : (Jvm.Cond.methodLink "ToldTracks$Reader" (246 : Nat) ({ cls := "ToldTracks$Rates", name := "size", desc := "()I" } : Jvm.MethodName)) ∈ lw_all := lw_g (lw_at lw_m3 94 rfl) rfl
theorem q750 : (Jvm.Cond.methodLink "ToldTracks$Reader" (250 : Nat) ({ cls := "ToldTracks$Reader", name := "space", desc := "(III)V" } : Jvm.MethodName)) ∈ lw_all := lw_g (lw_at lw_m3 102 rfl) rfl
theorem q751 : (Jvm.Cond.privateMethod ({ cls := "ToldTracks$Reader", name := "space", desc := "(III)V" } : Jvm.MethodName)) ∈ lw_tbl := lw_at lw_m3 103 rfl
theorem q752 : (Jvm.Cond.instanceMethod ({ cls := "ToldTracks$Reader", name := "space", desc := "(III)V" } : Jvm.MethodName)) ∈ lw_all := lw_g (lw_at lw_m3 104 rfl) rfl
theorem q753 : (Jvm.Cond.code ({ cls := "ToldTracks$Reader", name := "space", desc := "(III)V" } : Jvm.MethodName) prog_17_method_30_code (4 : Nat) (Option.none : Option Jvm.ClassFile.FieldType)) ∈ lw_all := lw_g (lw_at lw_m3 105 rfl) rfl
theorem q754 : (Jvm.Cond.methodLink "ToldTracks$Reader" (188 : Nat) ({ cls := "ToldTracks$Reader", name := "sum", desc := "()LToldTracks$Sum;" } : Jvm.MethodName)) ∈ lw_all := lw_g (lw_at lw_m3 106 rfl) rfl
theorem q755 : (Jvm.Cond.privateMethod ({ cls := "ToldTracks$Reader", name := "sum", desc := "()LToldTracks$Sum;" } : Jvm.MethodName)) ∈ lw_tbl := lw_at lw_m3 107 rfl
theorem q756 : (Jvm.Cond.instanceMethod ({ cls := "ToldTracks$Reader", name := "sum", desc := "()LToldTracks$Sum;" } : Jvm.MethodName)) ∈ lw_all := lw_g (lw_at lw_m3 108 rfl) rfl
theorem q757 : (Jvm.Cond.code ({ cls := "ToldTracks$Reader", name := "sum", desc := "()LToldTracks$Sum;" } : Jvm.MethodName) prog_17_method_25_code (4 : Nat) (Option.some (Jvm.ClassFile.FieldType.object "ToldTracks$Sum"))) ∈ lw_all := lw_g (lw_at lw_m3 109 rfl) rfl
theorem q758 : (Jvm.Cond.methodLink "ToldTracks$Reader" (197 : Nat) ({ cls := "ToldTracks$Reader", name := "product", desc := "()LToldTracks$Sum;" } : Jvm.MethodName)) ∈ lw_all := lw_g (lw_at lw_m3 110 rfl) rfl
theorem q759 : (Jvm.Cond.privateMethod ({ cls := "ToldTracks$Reader", name := "product", desc := "()LToldTracks$Sum;" } : Jvm.MethodName)) ∈ lw_tbl := lw_at lw_m3 111 rfl
theorem q760 : (Jvm.Cond.instanceMethod ({ cls := "ToldTracks$Reader", name := "product", desc := "()LToldTracks$Sum;" } : Jvm.MethodName)) ∈ lw_all := lw_g (lw_at lw_m3 112 rfl) rfl
theorem q761 : (Jvm.Cond.code ({ cls := "ToldTracks$Reader", name := "product", desc := "()LToldTracks$Sum;" } : Jvm.MethodName) prog_17_method_27_code (4 : Nat) (Option.some (Jvm.ClassFile.FieldType.object "ToldTracks$Sum"))) ∈ lw_all := lw_g (lw_at lw_m3 113 rfl) rfl
theorem q762 : (Jvm.Cond.methodLink "ToldTracks$Reader" (207 : Nat) ({ cls := "ToldTracks$Reader", name := "part", desc := "()LToldTracks$Sum;" } : Jvm.MethodName)) ∈ lw_all := lw_g (lw_at lw_m3 114 rfl) rfl
theorem q763 : (Jvm.Cond.privateMethod ({ cls := "ToldTracks$Reader", name := "part", desc := "()LToldTracks$Sum;" } : Jvm.MethodName)) ∈ lw_tbl := lw_at lw_m3 115 rfl
theorem q764 : (Jvm.Cond.instanceMethod ({ cls := "ToldTracks$Reader", name := "part", desc := "()LToldTracks$Sum;" } : Jvm.MethodName)) ∈ lw_all := lw_g (lw_at lw_m3 116 rfl) rfl
theorem q765 : (Jvm.Cond.code ({ cls := "ToldTracks$Reader", name := "part", desc := "()LToldTracks$Sum;" } : Jvm.MethodName) prog_17_method_28_code (2 : Nat) (Option.some (Jvm.ClassFile.FieldType.object "ToldTracks$Sum"))) ∈ lw_all := lw_g (lw_at lw_m3 117 rfl) rfl
theorem q766 : (Jvm.Cond.classLink "ToldTracks$Reader" (214 : Nat) "ToldTracks$Plain") ∈ lw_all := lw_g (lw_at lw_m3 118 rfl) rfl
theorem q768 : (Jvm.Cond.methodLink "ToldTracks$Reader" (219 : Nat) ({ cls := "ToldTracks$Plain", name := "<init>", desc := "(I)V" } : Jvm.MethodName)) ∈ lw_all := lw_g (lw_at lw_m3 120 rfl) rfl
theorem q776 : (Jvm.Cond.methodLink "ToldTracks$Reader" (222 : Nat) ({ cls := "ToldTracks$Reader", name := "wordPart", desc := "()LToldTracks$Sum;" } : Jvm.MethodName)) ∈ lw_all := lw_g (lw_at lw_m3 128 rfl) rfl
theorem q777 : (Jvm.Cond.privateMethod ({ cls := "ToldTracks$Reader", name := "wordPart", desc := "()LToldTracks$Sum;" } : Jvm.MethodName)) ∈ lw_tbl := lw_at lw_m3 129 rfl
theorem q778 : (Jvm.Cond.instanceMethod ({ cls := "ToldTracks$Reader", name := "wordPart", desc := "()LToldTracks$Sum;" } : Jvm.MethodName)) ∈ lw_all := lw_g (lw_at lw_m3 130 rfl) rfl
theorem q779 : (Jvm.Cond.code ({ cls := "ToldTracks$Reader", name := "wordPart", desc := "()LToldTracks$Sum;" } : Jvm.MethodName) prog_17_method_29_code (4 : Nat) (Option.some (Jvm.ClassFile.FieldType.object "ToldTracks$Sum"))) ∈ lw_all := lw_g (lw_at lw_m3 131 rfl) rfl
theorem q780 : (Jvm.Cond.fieldLinkNest "ToldTracks$Reader" (225 : Nat) "ToldTracks$Asked" "WORDS" "[Ljava/lang/String;" "ToldTracks") ∈ lw_tbl := lw_at lw_m3 132 rfl
theorem q782 : (Jvm.Cond.classLink "ToldTracks$Reader" (226 : Nat) "ToldTracks$Asked") ∈ lw_all := lw_g (lw_at lw_m3 134 rfl) rfl
theorem q784 : (Jvm.Cond.methodLink "ToldTracks$Reader" (231 : Nat) ({ cls := "ToldTracks$Asked", name := "<init>", desc := "(I)V" } : Jvm.MethodName)) ∈ lw_all := lw_g (lw_at lw_m3 136 rfl) rfl
theorem q792 : (Jvm.Cond.stringRef "ToldTracks$Reader" (232 : Nat) "min") ∈ lw_tbl := lw_at lw_m3 144 rfl
theorem q793 : (Jvm.Cond.stringRef "ToldTracks$Reader" (234 : Nat) "max") ∈ lw_tbl := lw_at lw_m3 145 rfl
theorem q794 : (Jvm.Cond.methodLink "ToldTracks$Reader" (171 : Nat) ({ cls := "ToldTracks$Reader", name := "opens", desc := "(C)V" } : Jvm.MethodName)) ∈ lw_all := lw_g (lw_at lw_m3 146 rfl) rfl
theorem q795 : (Jvm.Cond.privateMethod ({ cls := "ToldTracks$Reader", name := "opens", desc := "(C)V" } : Jvm.MethodName)) ∈ lw_tbl := lw_at lw_m3 147 rfl
theorem q796 : (Jvm.Cond.instanceMethod ({ cls := "ToldTracks$Reader", name := "opens", desc := "(C)V" } : Jvm.MethodName)) ∈ lw_all := lw_g (lw_at lw_m3 148 rfl) rfl
theorem q797 : (Jvm.Cond.code ({ cls := "ToldTracks$Reader", name := "opens", desc := "(C)V" } : Jvm.MethodName) prog_17_method_17_code (2 : Nat) (Option.none : Option Jvm.ClassFile.FieldType)) ∈ lw_all := lw_g (lw_at lw_m3 149 rfl) rfl
theorem q798 : (Jvm.Cond.methodLink "ToldTracks$Reader" (177 : Nat) ({ cls := "ToldTracks$Reader", name := "closes", desc := "(C)V" } : Jvm.MethodName)) ∈ lw_all := lw_g (lw_at lw_m3 150 rfl) rfl
theorem q799 : (Jvm.Cond.privateMethod ({ cls := "ToldTracks$Reader", name := "closes", desc := "(C)V" } : Jvm.MethodName)) ∈ lw_tbl := lw_at lw_m3 151 rfl
theorem q800 : (Jvm.Cond.instanceMethod ({ cls := "ToldTracks$Reader", name := "closes", desc := "(C)V" } : Jvm.MethodName)) ∈ lw_all := lw_g (lw_at lw_m3 152 rfl) rfl
theorem q801 : (Jvm.Cond.code ({ cls := "ToldTracks$Reader", name := "closes", desc := "(C)V" } : Jvm.MethodName) prog_17_method_18_code (2 : Nat) (Option.none : Option Jvm.ClassFile.FieldType)) ∈ lw_all := lw_g (lw_at lw_m3 153 rfl) rfl
theorem q802 : (Jvm.Cond.classLink "ToldTracks$Reader" (239 : Nat) "ToldTracks$Ends") ∈ lw_all := lw_g (lw_at lw_m3 154 rfl) rfl
theorem q804 : (Jvm.Cond.methodLink "ToldTracks$Reader" (241 : Nat) ({ cls := "ToldTracks$Ends", name := "<init>", desc := "(ZLToldTracks$Sum;LToldTracks$Sum;)V" } : Jvm.MethodName)) ∈ lw_all := lw_g (lw_at lw_m3 156 rfl) rfl
theorem q818 : (Jvm.Cond.methodLink "ToldTracks$Reader" (210 : Nat) ({ cls := "ToldTracks$Reader", name := "isProduct", desc := "()Z" } : Jvm.MethodName)) ∈ lw_all := lw_g (lw_at lw_m3 170 rfl) rfl
theorem q819 : (Jvm.Cond.privateMethod ({ cls := "ToldTracks$Reader", name := "isProduct", desc := "()Z" } : Jvm.MethodName)) ∈ lw_tbl := lw_at lw_m3 171 rfl
theorem q820 : (Jvm.Cond.instanceMethod ({ cls := "ToldTracks$Reader", name := "isProduct", desc := "()Z" } : Jvm.MethodName)) ∈ lw_all := lw_g (lw_at lw_m3 172 rfl) rfl
theorem q821 : (Jvm.Cond.code ({ cls := "ToldTracks$Reader", name := "isProduct", desc := "()Z" } : Jvm.MethodName) prog_17_method_26_code (1 : Nat) (Option.some Jvm.ClassFile.FieldType.boolean)) ∈ lw_all := lw_g (lw_at lw_m3 173 rfl) rfl
theorem q822 : (Jvm.Cond.classLink "ToldTracks$Reader" (200 : Nat) "ToldTracks$Chain") ∈ lw_all := lw_g (lw_at lw_m3 174 rfl) rfl
theorem q824 : (Jvm.Cond.methodLinkNest "ToldTracks$Reader" (202 : Nat) ({ cls := "ToldTracks$Chain", name := "<init>", desc := "()V" } : Jvm.MethodName) "ToldTracks") ∈ lw_tbl := lw_at lw_m3 176 rfl
theorem q860 : (Jvm.Cond.methodLink "ToldTracks$Reader" (203 : Nat) ({ cls := "ToldTracks$Chain", name := "comes", desc := "(CLToldTracks$Sum;)V" } : Jvm.MethodName)) ∈ lw_all := lw_g (lw_at lw_m3 212 rfl) rfl
theorem q964 : (Jvm.Cond.selects "ToldTracks$Reader" ({ cls := "java/lang/Object", name := "getClass", desc := "()Ljava/lang/Class;" } : Jvm.MethodName) ({ cls := "java/lang/Object", name := "getClass", desc := "()Ljava/lang/Class;" } : Jvm.MethodName)) ∈ lw_all := lw_g (lw_at lw_m4 76 rfl) rfl
theorem q987 : (Jvm.Cond.methodLink "ToldTracks$Reader" (254 : Nat) ({ cls := "ToldTracks$Reader", name := "when", desc := "()LToldTracks$Test;" } : Jvm.MethodName)) ∈ lw_all := lw_g (lw_at lw_m4 99 rfl) rfl
theorem q988 : (Jvm.Cond.privateMethod ({ cls := "ToldTracks$Reader", name := "when", desc := "()LToldTracks$Test;" } : Jvm.MethodName)) ∈ lw_tbl := lw_at lw_m4 100 rfl
theorem q989 : (Jvm.Cond.instanceMethod ({ cls := "ToldTracks$Reader", name := "when", desc := "()LToldTracks$Test;" } : Jvm.MethodName)) ∈ lw_all := lw_g (lw_at lw_m4 101 rfl) rfl
theorem q990 : (Jvm.Cond.code ({ cls := "ToldTracks$Reader", name := "when", desc := "()LToldTracks$Test;" } : Jvm.MethodName) prog_17_method_31_code (1 : Nat) (Option.some (Jvm.ClassFile.FieldType.object "ToldTracks$Test"))) ∈ lw_all := lw_g (lw_at lw_m4 102 rfl) rfl
theorem q991 : (Jvm.Cond.stringRef "ToldTracks$Reader" (244 : Nat) "when") ∈ lw_tbl := lw_at lw_m4 103 rfl
theorem q992 : (Jvm.Cond.methodLink "ToldTracks$Reader" (174 : Nat) ({ cls := "ToldTracks$Reader", name := "test", desc := "()LToldTracks$Test;" } : Jvm.MethodName)) ∈ lw_all := lw_g (lw_at lw_m4 104 rfl) rfl
theorem q993 : (Jvm.Cond.privateMethod ({ cls := "ToldTracks$Reader", name := "test", desc := "()LToldTracks$Test;" } : Jvm.MethodName)) ∈ lw_tbl := lw_at lw_m4 105 rfl
theorem q994 : (Jvm.Cond.instanceMethod ({ cls := "ToldTracks$Reader", name := "test", desc := "()LToldTracks$Test;" } : Jvm.MethodName)) ∈ lw_all := lw_g (lw_at lw_m4 106 rfl) rfl
theorem q995 : (Jvm.Cond.code ({ cls := "ToldTracks$Reader", name := "test", desc := "()LToldTracks$Test;" } : Jvm.MethodName) prog_17_method_19_code (3 : Nat) (Option.some (Jvm.ClassFile.FieldType.object "ToldTracks$Test"))) ∈ lw_all := lw_g (lw_at lw_m4 107 rfl) rfl
theorem q996 : (Jvm.Cond.methodLink "ToldTracks$Reader" (134 : Nat) ({ cls := "ToldTracks$Reader", name := "both", desc := "()LToldTracks$Test;" } : Jvm.MethodName)) ∈ lw_all := lw_g (lw_at lw_m4 108 rfl) rfl
theorem q997 : (Jvm.Cond.privateMethod ({ cls := "ToldTracks$Reader", name := "both", desc := "()LToldTracks$Test;" } : Jvm.MethodName)) ∈ lw_tbl := lw_at lw_m4 109 rfl
theorem q998 : (Jvm.Cond.instanceMethod ({ cls := "ToldTracks$Reader", name := "both", desc := "()LToldTracks$Test;" } : Jvm.MethodName)) ∈ lw_all := lw_g (lw_at lw_m4 110 rfl) rfl
theorem q999 : (Jvm.Cond.code ({ cls := "ToldTracks$Reader", name := "both", desc := "()LToldTracks$Test;" } : Jvm.MethodName) prog_17_method_20_code (3 : Nat) (Option.some (Jvm.ClassFile.FieldType.object "ToldTracks$Test"))) ∈ lw_all := lw_g (lw_at lw_m4 111 rfl) rfl
theorem q1000 : (Jvm.Cond.methodLink "ToldTracks$Reader" (154 : Nat) ({ cls := "ToldTracks$Reader", name := "fact", desc := "()LToldTracks$Test;" } : Jvm.MethodName)) ∈ lw_all := lw_g (lw_at lw_m4 112 rfl) rfl
theorem q1001 : (Jvm.Cond.privateMethod ({ cls := "ToldTracks$Reader", name := "fact", desc := "()LToldTracks$Test;" } : Jvm.MethodName)) ∈ lw_tbl := lw_at lw_m4 113 rfl
theorem q1002 : (Jvm.Cond.instanceMethod ({ cls := "ToldTracks$Reader", name := "fact", desc := "()LToldTracks$Test;" } : Jvm.MethodName)) ∈ lw_all := lw_g (lw_at lw_m4 114 rfl) rfl
theorem q1003 : (Jvm.Cond.code ({ cls := "ToldTracks$Reader", name := "fact", desc := "()LToldTracks$Test;" } : Jvm.MethodName) prog_17_method_21_code (3 : Nat) (Option.some (Jvm.ClassFile.FieldType.object "ToldTracks$Test"))) ∈ lw_all := lw_g (lw_at lw_m4 115 rfl) rfl
theorem q1004 : (Jvm.Cond.stringRef "ToldTracks$Reader" (159 : Nat) "not") ∈ lw_tbl := lw_at lw_m4 116 rfl
theorem q1005 : (Jvm.Cond.methodLink "ToldTracks$Reader" (161 : Nat) ({ cls := "ToldTracks$Reader", name := "inner", desc := "()LToldTracks$Test;" } : Jvm.MethodName)) ∈ lw_all := lw_g (lw_at lw_m4 117 rfl) rfl
theorem q1006 : (Jvm.Cond.privateMethod ({ cls := "ToldTracks$Reader", name := "inner", desc := "()LToldTracks$Test;" } : Jvm.MethodName)) ∈ lw_tbl := lw_at lw_m4 118 rfl
theorem q1007 : (Jvm.Cond.instanceMethod ({ cls := "ToldTracks$Reader", name := "inner", desc := "()LToldTracks$Test;" } : Jvm.MethodName)) ∈ lw_all := lw_g (lw_at lw_m4 119 rfl) rfl
theorem q1008 : (Jvm.Cond.code ({ cls := "ToldTracks$Reader", name := "inner", desc := "()LToldTracks$Test;" } : Jvm.MethodName) prog_17_method_22_code (2 : Nat) (Option.some (Jvm.ClassFile.FieldType.object "ToldTracks$Test"))) ∈ lw_all := lw_g (lw_at lw_m4 120 rfl) rfl
theorem q1009 : (Jvm.Cond.methodLink "ToldTracks$Reader" (164 : Nat) ({ cls := "ToldTracks$Reader", name := "wordFact", desc := "()LToldTracks$Test;" } : Jvm.MethodName)) ∈ lw_all := lw_g (lw_at lw_m4 121 rfl) rfl
theorem q1010 : (Jvm.Cond.privateMethod ({ cls := "ToldTracks$Reader", name := "wordFact", desc := "()LToldTracks$Test;" } : Jvm.MethodName)) ∈ lw_tbl := lw_at lw_m4 122 rfl
theorem q1011 : (Jvm.Cond.instanceMethod ({ cls := "ToldTracks$Reader", name := "wordFact", desc := "()LToldTracks$Test;" } : Jvm.MethodName)) ∈ lw_all := lw_g (lw_at lw_m4 123 rfl) rfl
theorem q1012 : (Jvm.Cond.code ({ cls := "ToldTracks$Reader", name := "wordFact", desc := "()LToldTracks$Test;" } : Jvm.MethodName) prog_17_method_23_code (1 : Nat) (Option.some (Jvm.ClassFile.FieldType.object "ToldTracks$Test"))) ∈ lw_all := lw_g (lw_at lw_m4 124 rfl) rfl
theorem q1013 : (Jvm.Cond.stringRef "ToldTracks$Reader" (180 : Nat) "all") ∈ lw_tbl := lw_at lw_m4 125 rfl
theorem q1014 : (Jvm.Cond.classLink "ToldTracks$Reader" (182 : Nat) "ToldTracks$Always") ∈ lw_all := lw_g (lw_at lw_m4 126 rfl) rfl
theorem q1016 : (Jvm.Cond.methodLinkNest "ToldTracks$Reader" (184 : Nat) ({ cls := "ToldTracks$Always", name := "<init>", desc := "()V" } : Jvm.MethodName) "ToldTracks") ∈ lw_tbl := lw_at lw_m4 128 rfl
theorem q1021 : (Jvm.Cond.methodLink "ToldTracks$Reader" (185 : Nat) ({ cls := "ToldTracks$Reader", name := "against", desc := "()LToldTracks$Test;" } : Jvm.MethodName)) ∈ lw_all := lw_g (lw_at lw_m4 133 rfl) rfl
theorem q1022 : (Jvm.Cond.privateMethod ({ cls := "ToldTracks$Reader", name := "against", desc := "()LToldTracks$Test;" } : Jvm.MethodName)) ∈ lw_tbl := lw_at lw_m4 134 rfl
theorem q1023 : (Jvm.Cond.instanceMethod ({ cls := "ToldTracks$Reader", name := "against", desc := "()LToldTracks$Test;" } : Jvm.MethodName)) ∈ lw_all := lw_g (lw_at lw_m4 135 rfl) rfl
theorem q1024 : (Jvm.Cond.code ({ cls := "ToldTracks$Reader", name := "against", desc := "()LToldTracks$Test;" } : Jvm.MethodName) prog_17_method_24_code (3 : Nat) (Option.some (Jvm.ClassFile.FieldType.object "ToldTracks$Test"))) ∈ lw_all := lw_g (lw_at lw_m4 136 rfl) rfl
theorem q1025 : (Jvm.Cond.classLink "ToldTracks$Reader" (192 : Nat) "ToldTracks$Against") ∈ lw_all := lw_g (lw_at lw_m4 137 rfl) rfl
theorem q1027 : (Jvm.Cond.methodLink "ToldTracks$Reader" (194 : Nat) ({ cls := "ToldTracks$Against", name := "<init>", desc := "(CLToldTracks$Sum;LToldTracks$Sum;)V" } : Jvm.MethodName)) ∈ lw_all := lw_g (lw_at lw_m4 139 rfl) rfl
theorem q1041 : (Jvm.Cond.interfaceEntry "ToldTracks$Reader" (167 : Nat)) ∈ lw_tbl := lw_at lw_m4 153 rfl
theorem q1042 : (Jvm.Cond.methodLink "ToldTracks$Reader" (167 : Nat) ({ cls := "ToldTracks$Test", name := "not", desc := "()LToldTracks$Test;" } : Jvm.MethodName)) ∈ lw_all := lw_g (lw_at lw_m4 154 rfl) rfl
theorem q1070 : (Jvm.Cond.stringRef "ToldTracks$Reader" (157 : Nat) "and") ∈ lw_tbl := lw_at lw_m4 182 rfl
theorem q1071 : (Jvm.Cond.classLink "ToldTracks$Reader" (140 : Nat) "ToldTracks$Several") ∈ lw_all := lw_g (lw_at lw_m4 183 rfl) rfl
theorem q1073 : (Jvm.Cond.methodLink "ToldTracks$Reader" (142 : Nat) ({ cls := "ToldTracks$Several", name := "<init>", desc := "(ZLToldTracks$Test;)V" } : Jvm.MethodName)) ∈ lw_all := lw_g (lw_at lw_m4 185 rfl) rfl
theorem q1082 : (Jvm.Cond.fieldLinkNest "ToldTracks$Reader" (145 : Nat) "ToldTracks$Several" "tests" "Ljava/util/ArrayList;" "ToldTracks") ∈ lw_tbl := lw_at lw_m4 194 rfl
theorem q1088 : (Jvm.Cond.methodLink "ToldTracks$Reader" (149 : Nat) ({ cls := "java/util/ArrayList", name := "add", desc := "(Ljava/lang/Object;)Z" } : Jvm.MethodName)) ∈ lw_all := lw_g (lw_at lw_m4 200 rfl) rfl
theorem q1089 : (Jvm.Cond.stringRef "ToldTracks$Reader" (138 : Nat) "or") ∈ lw_tbl := lw_at lw_m4 201 rfl
theorem q1090 : (Jvm.Cond.methodLink "ToldTracks$Reader" (256 : Nat) ({ cls := "ToldTracks$Rates", name := "add", desc := "(LToldTracks$Sum;LToldTracks$Test;)V" } : Jvm.MethodName)) ∈ lw_all := lw_g (lw_at lw_m4 202 rfl) rfl
theorem q1095 : (Jvm.Cond.stringRef "ToldTracks$Reader" (359 : Nat) "cost") ∈ lw_tbl := lw_at lw_m4 207 rfl
theorem q1096 : (Jvm.Cond.stringRef "ToldTracks$Reader" (363 : Nat) "quiet") ∈ lw_tbl := lw_at lw_m4 208 rfl
theorem q1097 : (Jvm.Cond.methodLink "ToldTracks$Reader" (271 : Nat) ({ cls := "java/util/ArrayList", name := "size", desc := "()I" } : Jvm.MethodName)) ∈ lw_all := lw_g (lw_at lw_m4 209 rfl) rfl
theorem q1098 : (Jvm.Cond.stringRef "ToldTracks$Reader" (368 : Nat) "ship") ∈ lw_tbl := lw_at lw_m4 210 rfl
theorem q1099 : (Jvm.Cond.methodLink "ToldTracks$Reader" (370 : Nat) ({ cls := "ToldTracks$Reader", name := "ship", desc := "(I)V" } : Jvm.MethodName)) ∈ lw_all := lw_g (lw_at lw_m4 211 rfl) rfl
theorem q1100 : (Jvm.Cond.privateMethod ({ cls := "ToldTracks$Reader", name := "ship", desc := "(I)V" } : Jvm.MethodName)) ∈ lw_tbl := lw_at lw_m4 212 rfl
theorem q1101 : (Jvm.Cond.instanceMethod ({ cls := "ToldTracks$Reader", name := "ship", desc := "(I)V" } : Jvm.MethodName)) ∈ lw_all := lw_g (lw_at lw_m4 213 rfl) rfl
theorem q1102 : (Jvm.Cond.code ({ cls := "ToldTracks$Reader", name := "ship", desc := "(I)V" } : Jvm.MethodName) prog_17_method_34_code (3 : Nat) (Option.none : Option Jvm.ClassFile.FieldType)) ∈ lw_all := lw_g (lw_at lw_m4 214 rfl) rfl
theorem q1103 : (Jvm.Cond.classLink "ToldTracks$Reader" (272 : Nat) "ToldTracks$Ship") ∈ lw_all := lw_g (lw_at lw_m4 215 rfl) rfl
theorem q1105 : (Jvm.Cond.methodLink "ToldTracks$Reader" (274 : Nat) ({ cls := "ToldTracks$Reader", name := "newName", desc := "()Ljava/lang/String;" } : Jvm.MethodName)) ∈ lw_all := lw_g (lw_at lw_m4 217 rfl) rfl
theorem q1106 : (Jvm.Cond.privateMethod ({ cls := "ToldTracks$Reader", name := "newName", desc := "()Ljava/lang/String;" } : Jvm.MethodName)) ∈ lw_tbl := lw_at lw_m4 218 rfl
theorem q1107 : (Jvm.Cond.instanceMethod ({ cls := "ToldTracks$Reader", name := "newName", desc := "()Ljava/lang/String;" } : Jvm.MethodName)) ∈ lw_all := lw_g (lw_at lw_m4 219 rfl) rfl
theorem q1108 : (Jvm.Cond.code ({ cls := "ToldTracks$Reader", name := "newName", desc := "()Ljava/lang/String;" } : Jvm.MethodName) prog_17_method_14_code (2 : Nat) (Option.some (Jvm.ClassFile.FieldType.object "java/lang/String"))) ∈ lw_all := lw_g (lw_at lw_m4 220 rfl) rfl
theorem q1109 : (Jvm.Cond.methodLink "ToldTracks$Reader" (109 : Nat) ({ cls := "ToldTracks$Reader", name := "name", desc := "()Ljava/lang/String;" } : Jvm.MethodName)) ∈ lw_all := lw_g (lw_at lw_m4 221 rfl) rfl
theorem q1110 : (Jvm.Cond.privateMethod ({ cls := "ToldTracks$Reader", name := "name", desc := "()Ljava/lang/String;" } : Jvm.MethodName)) ∈ lw_tbl := lw_at lw_m4 222 rfl
theorem q1111 : (Jvm.Cond.instanceMethod ({ cls := "ToldTracks$Reader", name := "name", desc := "()Ljava/lang/String;" } : Jvm.MethodName)) ∈ lw_all := lw_g (lw_at lw_m4 223 rfl) rfl
theorem q1112 : (Jvm.Cond.code ({ cls := "ToldTracks$Reader", name := "name", desc := "()Ljava/lang/String;" } : Jvm.MethodName) prog_17_method_13_code (1 : Nat) (Option.some (Jvm.ClassFile.FieldType.object "java/lang/String"))) ∈ lw_all := lw_g (lw_at lw_m4 224 rfl) rfl
theorem q1113 : (Jvm.Cond.methodLinkNest "ToldTracks$Reader" (106 : Nat) ({ cls := "ToldTracks", name := "isOwn", desc := "(Ljava/lang/String;)Z" } : Jvm.MethodName) "ToldTracks") ∈ lw_tbl := lw_at lw_m4 225 rfl
theorem q1119 : (Jvm.Cond.methodLink "ToldTracks$Reader" (113 : Nat) ({ cls := "ToldTracks$Sea", name := "knows", desc := "(Ljava/lang/String;)Z" } : Jvm.MethodName)) ∈ lw_all := lw_g (lw_at lw_m4 231 rfl) rfl
theorem q1140 : (Jvm.Cond.methodLink "ToldTracks$Reader" (277 : Nat) ({ cls := "ToldTracks$Ship", name := "<init>", desc := "(Ljava/lang/String;I)V" } : Jvm.MethodName)) ∈ lw_all := lw_g (lw_at lw_m5 12 rfl) rfl
theorem q1148 : (Jvm.Cond.fieldLink "ToldTracks$Reader" (282 : Nat) "ToldTracks$Ship" "look" "I") ∈ lw_all := lw_g (lw_at lw_m5 20 rfl) rfl
theorem q1150 : (Jvm.Cond.fieldLink "ToldTracks$Reader" (286 : Nat) "ToldTracks$Ship" "speed" "I") ∈ lw_all := lw_g (lw_at lw_m5 22 rfl) rfl
theorem q1155 : (Jvm.Cond.fieldLink "ToldTracks$Reader" (290 : Nat) "ToldTracks$Ship" "draft" "I") ∈ lw_all := lw_g (lw_at lw_m5 27 rfl) rfl
theorem q1158 : (Jvm.Cond.fieldLink "ToldTracks$Reader" (294 : Nat) "ToldTracks$Ship" "load" "I") ∈ lw_all := lw_g (lw_at lw_m5 30 rfl) rfl
theorem q1166 : (Jvm.Cond.fieldLink "ToldTracks$Reader" (120 : Nat) "ToldTracks$Named" "number" "I") ∈ lw_all := lw_g (lw_at lw_m5 38 rfl) rfl
theorem q1180 : (Jvm.Cond.stringRef "ToldTracks$Reader" (280 : Nat) "look") ∈ lw_tbl := lw_at lw_m5 52 rfl
theorem q1181 : (Jvm.Cond.stringRef "ToldTracks$Reader" (284 : Nat) "speed") ∈ lw_tbl := lw_at lw_m5 53 rfl
theorem q1182 : (Jvm.Cond.stringRef "ToldTracks$Reader" (288 : Nat) "draft") ∈ lw_tbl := lw_at lw_m5 54 rfl
theorem q1183 : (Jvm.Cond.stringRef "ToldTracks$Reader" (292 : Nat) "load") ∈ lw_tbl := lw_at lw_m5 55 rfl
theorem q1184 : (Jvm.Cond.classLink "ToldTracks$Reader" (150 : Nat) "java/util/ArrayList") ∈ lw_all := lw_g (lw_at lw_m5 56 rfl) rfl
theorem q1185 : (Jvm.Cond.methodLink "ToldTracks$Reader" (305 : Nat) ({ cls := "java/util/ArrayList", name := "<init>", desc := "()V" } : Jvm.MethodName)) ∈ lw_all := lw_g (lw_at lw_m5 57 rfl) rfl
theorem q1186 : (Jvm.Cond.stringRef "ToldTracks$Reader" (372 : Nat) "says") ∈ lw_tbl := lw_at lw_m5 58 rfl
theorem q1187 : (Jvm.Cond.methodLink "ToldTracks$Reader" (373 : Nat) ({ cls := "ToldTracks$Reader", name := "says", desc := "(I)V" } : Jvm.MethodName)) ∈ lw_all := lw_g (lw_at lw_m5 59 rfl) rfl
theorem q1188 : (Jvm.Cond.privateMethod ({ cls := "ToldTracks$Reader", name := "says", desc := "(I)V" } : Jvm.MethodName)) ∈ lw_tbl := lw_at lw_m5 60 rfl
theorem q1189 : (Jvm.Cond.instanceMethod ({ cls := "ToldTracks$Reader", name := "says", desc := "(I)V" } : Jvm.MethodName)) ∈ lw_all := lw_g (lw_at lw_m5 61 rfl) rfl
theorem q1190 : (Jvm.Cond.code ({ cls := "ToldTracks$Reader", name := "says", desc := "(I)V" } : Jvm.MethodName) prog_17_method_35_code (5 : Nat) (Option.none : Option Jvm.ClassFile.FieldType)) ∈ lw_all := lw_g (lw_at lw_m5 62 rfl) rfl
theorem q1191 : (Jvm.Cond.methodLink "ToldTracks$Reader" (306 : Nat) ({ cls := "ToldTracks$Told", name := "many", desc := "()I" } : Jvm.MethodName)) ∈ lw_all := lw_g (lw_at lw_m5 63 rfl) rfl
theorem q1197 : (Jvm.Cond.methodLink "ToldTracks$Reader" (309 : Nat) ({ cls := "ToldTracks$Reader", name := "oneOf", desc := "(Ljava/util/ArrayList;I)I" } : Jvm.MethodName)) ∈ lw_all := lw_g (lw_at lw_m5 69 rfl) rfl
theorem q1198 : (Jvm.Cond.privateMethod ({ cls := "ToldTracks$Reader", name := "oneOf", desc := "(Ljava/util/ArrayList;I)I" } : Jvm.MethodName)) ∈ lw_tbl := lw_at lw_m5 70 rfl
theorem q1199 : (Jvm.Cond.instanceMethod ({ cls := "ToldTracks$Reader", name := "oneOf", desc := "(Ljava/util/ArrayList;I)I" } : Jvm.MethodName)) ∈ lw_all := lw_g (lw_at lw_m5 71 rfl) rfl
theorem q1200 : (Jvm.Cond.code ({ cls := "ToldTracks$Reader", name := "oneOf", desc := "(Ljava/util/ArrayList;I)I" } : Jvm.MethodName) prog_17_method_16_code (4 : Nat) (Option.some Jvm.ClassFile.FieldType.int)) ∈ lw_all := lw_g (lw_at lw_m5 72 rfl) rfl
theorem q1201 : (Jvm.Cond.methodLink "ToldTracks$Reader" (123 : Nat) ({ cls := "ToldTracks$Reader", name := "sees", desc := "(Ljava/util/ArrayList;I)I" } : Jvm.MethodName)) ∈ lw_all := lw_g (lw_at lw_m5 73 rfl) rfl
theorem q1202 : (Jvm.Cond.privateMethod ({ cls := "ToldTracks$Reader", name := "sees", desc := "(Ljava/util/ArrayList;I)I" } : Jvm.MethodName)) ∈ lw_tbl := lw_at lw_m5 74 rfl
theorem q1203 : (Jvm.Cond.instanceMethod ({ cls := "ToldTracks$Reader", name := "sees", desc := "(Ljava/util/ArrayList;I)I" } : Jvm.MethodName)) ∈ lw_all := lw_g (lw_at lw_m5 75 rfl) rfl
theorem q1204 : (Jvm.Cond.code ({ cls := "ToldTracks$Reader", name := "sees", desc := "(Ljava/util/ArrayList;I)I" } : Jvm.MethodName) prog_17_method_15_code (4 : Nat) (Option.some Jvm.ClassFile.FieldType.int)) ∈ lw_all := lw_g (lw_at lw_m5 76 rfl) rfl
theorem q1205 : (Jvm.Cond.methodLinkNest "ToldTracks$Reader" (116 : Nat) ({ cls := "ToldTracks", name := "named", desc := "(Ljava/util/ArrayList;Ljava/lang/String;)LToldTracks$Named;" } : Jvm.MethodName) "ToldTracks") ∈ lw_tbl := lw_at lw_m5 77 rfl
theorem q1206 : (Jvm.Cond.methodLink "ToldTracks$Reader" (312 : Nat) ({ cls := "ToldTracks$Told", name := "has", desc := "(II)Z" } : Jvm.MethodName)) ∈ lw_all := lw_g (lw_at lw_m5 78 rfl) rfl
theorem q1215 : (Jvm.Cond.methodLink "ToldTracks$Reader" (316 : Nat) ({ cls := "ToldTracks$Reader", name := "cell", desc := "()I" } : Jvm.MethodName)) ∈ lw_all := lw_g (lw_at lw_m5 87 rfl) rfl
theorem q1216 : (Jvm.Cond.privateMethod ({ cls := "ToldTracks$Reader", name := "cell", desc := "()I" } : Jvm.MethodName)) ∈ lw_tbl := lw_at lw_m5 88 rfl
theorem q1217 : (Jvm.Cond.instanceMethod ({ cls := "ToldTracks$Reader", name := "cell", desc := "()I" } : Jvm.MethodName)) ∈ lw_all := lw_g (lw_at lw_m5 89 rfl) rfl
theorem q1218 : (Jvm.Cond.code ({ cls := "ToldTracks$Reader", name := "cell", desc := "()I" } : Jvm.MethodName) prog_17_method_33_code (2 : Nat) (Option.some Jvm.ClassFile.FieldType.int)) ∈ lw_all := lw_g (lw_at lw_m5 90 rfl) rfl
theorem q1219 : (Jvm.Cond.stringRef "ToldTracks$Reader" (259 : Nat) "at") ∈ lw_tbl := lw_at lw_m5 91 rfl
theorem q1220 : (Jvm.Cond.methodLink "ToldTracks$Reader" (266 : Nat) ({ cls := "ToldTracks$Sea", name := "at", desc := "(II)I" } : Jvm.MethodName)) ∈ lw_all := lw_g (lw_at lw_m5 92 rfl) rfl
theorem q1225 : (Jvm.Cond.stringRef "ToldTracks$Reader" (319 : Nat) "laden") ∈ lw_tbl := lw_at lw_m5 97 rfl
theorem q1226 : (Jvm.Cond.classLink "ToldTracks$Reader" (321 : Nat) "ToldTracks$Saying") ∈ lw_all := lw_g (lw_at lw_m5 98 rfl) rfl
theorem q1228 : (Jvm.Cond.methodLink "ToldTracks$Reader" (323 : Nat) ({ cls := "ToldTracks$Saying", name := "<init>", desc := "(IIZ)V" } : Jvm.MethodName)) ∈ lw_all := lw_g (lw_at lw_m5 100 rfl) rfl
theorem q1259 : (Jvm.Cond.methodLink "ToldTracks$Reader" (326 : Nat) ({ cls := "ToldTracks$Told", name := "add", desc := "(ILToldTracks$Saying;)I" } : Jvm.MethodName)) ∈ lw_all := lw_g (lw_at lw_m5 131 rfl) rfl
theorem q1272 : (Jvm.Cond.stringRef "ToldTracks$Reader" (375 : Nat) "book") ∈ lw_tbl := lw_at lw_m5 144 rfl
theorem q1273 : (Jvm.Cond.methodLink "ToldTracks$Reader" (377 : Nat) ({ cls := "ToldTracks$Reader", name := "book", desc := "(I)V" } : Jvm.MethodName)) ∈ lw_all := lw_g (lw_at lw_m5 145 rfl) rfl
theorem q1274 : (Jvm.Cond.privateMethod ({ cls := "ToldTracks$Reader", name := "book", desc := "(I)V" } : Jvm.MethodName)) ∈ lw_tbl := lw_at lw_m5 146 rfl
theorem q1275 : (Jvm.Cond.instanceMethod ({ cls := "ToldTracks$Reader", name := "book", desc := "(I)V" } : Jvm.MethodName)) ∈ lw_all := lw_g (lw_at lw_m5 147 rfl) rfl
theorem q1276 : (Jvm.Cond.code ({ cls := "ToldTracks$Reader", name := "book", desc := "(I)V" } : Jvm.MethodName) prog_17_method_36_code (5 : Nat) (Option.none : Option Jvm.ClassFile.FieldType)) ∈ lw_all := lw_g (lw_at lw_m5 148 rfl) rfl
theorem q1277 : (Jvm.Cond.stringRef "ToldTracks$Reader" (332 : Nat) "from") ∈ lw_tbl := lw_at lw_m5 149 rfl
theorem q1278 : (Jvm.Cond.stringRef "ToldTracks$Reader" (334 : Nat) "to") ∈ lw_tbl := lw_at lw_m5 150 rfl
theorem q1279 : (Jvm.Cond.classLink "ToldTracks$Reader" (336 : Nat) "ToldTracks$Book") ∈ lw_all := lw_g (lw_at lw_m5 151 rfl) rfl
theorem q1281 : (Jvm.Cond.methodLink "ToldTracks$Reader" (338 : Nat) ({ cls := "ToldTracks$Book", name := "<init>", desc := "(IIII)V" } : Jvm.MethodName)) ∈ lw_all := lw_g (lw_at lw_m5 153 rfl) rfl
theorem q1303 : (Jvm.Cond.stringRef "ToldTracks$Reader" (379 : Nat) "seen") ∈ lw_tbl := lw_at lw_m5 175 rfl
theorem q1304 : (Jvm.Cond.methodLink "ToldTracks$Reader" (380 : Nat) ({ cls := "ToldTracks$Reader", name := "seen", desc := "(I)V" } : Jvm.MethodName)) ∈ lw_all := lw_g (lw_at lw_m5 176 rfl) rfl
theorem q1305 : (Jvm.Cond.privateMethod ({ cls := "ToldTracks$Reader", name := "seen", desc := "(I)V" } : Jvm.MethodName)) ∈ lw_tbl := lw_at lw_m5 177 rfl
theorem q1306 : (Jvm.Cond.instanceMethod ({ cls := "ToldTracks$Reader", name := "seen", desc := "(I)V" } : Jvm.MethodName)) ∈ lw_all := lw_g (lw_at lw_m5 178 rfl) rfl
theorem q1307 : (Jvm.Cond.code ({ cls := "ToldTracks$Reader", name := "seen", desc := "(I)V" } : Jvm.MethodName) prog_17_method_37_code (4 : Nat) (Option.none : Option Jvm.ClassFile.FieldType)) ∈ lw_all := lw_g (lw_at lw_m5 179 rfl) rfl
theorem q1308 : (Jvm.Cond.stringRef "ToldTracks$Reader" (344 : Nat) "hour") ∈ lw_tbl := lw_at lw_m5 180 rfl
theorem q1309 : (Jvm.Cond.classLink "ToldTracks$Reader" (346 : Nat) "ToldTracks$Sighting") ∈ lw_all := lw_g (lw_at lw_m5 181 rfl) rfl
theorem q1311 : (Jvm.Cond.methodLink "ToldTracks$Reader" (348 : Nat) ({ cls := "ToldTracks$Sighting", name := "<init>", desc := "(III)V" } : Jvm.MethodName)) ∈ lw_all := lw_g (lw_at lw_m5 183 rfl) rfl
theorem q1328 : (Jvm.Cond.stringRef "ToldTracks$Reader" (382 : Nat) "luck") ∈ lw_tbl := lw_at lw_m5 200 rfl
theorem q2842 : (Jvm.Cond.castable "ToldTracks$Reader" "java/lang/Object") ∈ lw_tbl := lw_at lw_m12 34 rfl
theorem in_X7 : ∀ w ∈ wsX70, w ∈ lw_all := lw_in wsX70 [474, 476, 478, 480, 482, 484, 486, 488, 490, 492, 494, 496] (by decide +kernel) (by decide +kernel)
/-! ToldTracks$Fault -/
def RX8 : String := "ToldTracks$Fault"
def TX8 : u_T := fun k => match k with
  | 0 => ("java/lang/Throwable", "cause", "Ljava/lang/Throwable;", false)
  | 1 => ("java/lang/Throwable", "stackTrace", "[Ljava/lang/StackTraceElement;", false)
  | 2 => ("java/lang/Throwable", "suppressedExceptions", "Ljava/util/List;", false)
  | 3 => ("java/lang/Throwable", "detailMessage", "Ljava/lang/String;", false)
  | 4 => ("java/lang/Throwable", "backtrace", "Ljava/lang/Object;", false)
  | 5 => ("java/lang/Throwable", "depth", "I", false)
  | 6 => ("ToldTracks$Fault", "kind", "I", true)
  | _ => ("ToldTracks$Fault", "place", "I", true)
def tyX8 : Nat → FieldType := fun k => match k with
  | 0 => .object "java/lang/Throwable"
  | 1 => .array (.object "java/lang/StackTraceElement")
  | 2 => .object "java/util/List"
  | 3 => .object "java/lang/String"
  | 4 => .object "java/lang/Object"
  | 5 => .int
  | 6 => .int
  | _ => .int
abbrev wsX80 : List Cond := u_ws RX8 TX8 8
theorem nmX8 : ∀ a, a < 8 → ∀ b, b < 8 → a ≠ b → (TX8 a).2.1 ≠ (TX8 b).2.1 := by decide +kernel
theorem tyX8_ok : ∀ k, k < 8 → parseFieldDescriptor (TX8 k).2.2.1 = some (tyX8 k) := by decide +kernel
abbrev cX8_init : ByteArray := prog_10_method_1_code
def yX8_init : MethodName := ⟨RX8, "<init>", "(II)V"⟩
def dkwX8_init_0 : List UInt8 := [42, 183, 0, 1, 42, 27, 181, 0, 7, 42, 28, 181, 0, 13, 177]
abbrev dktX8_init_0 : List UInt8 := dkwX8_init_0 ++ []
theorem dksX8_init_0 : cX8_init.data.toList.drop 0 = dktX8_init_0 := by decide +kernel
theorem dX8_init_0 : decode cX8_init 0 = .ok (.aload_n 0, 1) := dk_42 (dk_at dksX8_init_0 0 rfl rfl)
theorem dX8_init_1 : decode cX8_init 1 = .ok (.invokespecial 1, 3) := dk_183 0 1 (dk_at dksX8_init_0 1 rfl rfl)
theorem dX8_init_4 : decode cX8_init 4 = .ok (.aload_n 0, 1) := dk_42 (dk_at dksX8_init_0 4 rfl rfl)
theorem dX8_init_5 : decode cX8_init 5 = .ok (.iload_n 1, 1) := dk_27 (dk_at dksX8_init_0 5 rfl rfl)
theorem dX8_init_6 : decode cX8_init 6 = .ok (.putfield 7, 3) := dk_181 0 7 (dk_at dksX8_init_0 6 rfl rfl)
theorem dX8_init_9 : decode cX8_init 9 = .ok (.aload_n 0, 1) := dk_42 (dk_at dksX8_init_0 9 rfl rfl)
theorem dX8_init_10 : decode cX8_init 10 = .ok (.iload_n 2, 1) := dk_28 (dk_at dksX8_init_0 10 rfl rfl)
theorem dX8_init_11 : decode cX8_init 11 = .ok (.putfield 13, 3) := dk_181 0 13 (dk_at dksX8_init_0 11 rfl rfl)
theorem dX8_init_14 : decode cX8_init 14 = .ok (.return_, 1) := dk_177 (dk_at dksX8_init_0 14 rfl rfl)
theorem q182 : (Jvm.Cond.initialized "ToldTracks$Fault") ∈ lw_all := lw_g (lw_at lw_m1 14 rfl) rfl
theorem q529 : (Jvm.Cond.instantiable "ToldTracks$Fault" (8 : Nat)) ∈ lw_all := lw_g (lw_at lw_m2 121 rfl) rfl
theorem q530 : (Jvm.Cond.castable "ToldTracks$Fault" "ToldTracks$Fault") ∈ lw_tbl := lw_at lw_m2 122 rfl
theorem q535 : (Jvm.Cond.selects "ToldTracks$Fault" ({ cls := "java/lang/Throwable", name := "fillInStackTrace", desc := "(I)Ljava/lang/Throwable;" } : Jvm.MethodName) ({ cls := "java/lang/Throwable", name := "fillInStackTrace", desc := "(I)Ljava/lang/Throwable;" } : Jvm.MethodName)) ∈ lw_all := lw_g (lw_at lw_m2 127 rfl) rfl
theorem q536 : (Jvm.Cond.selects "ToldTracks$Fault" ({ cls := "java/lang/Throwable", name := "fillInStackTrace", desc := "()Ljava/lang/Throwable;" } : Jvm.MethodName) ({ cls := "java/lang/Throwable", name := "fillInStackTrace", desc := "()Ljava/lang/Throwable;" } : Jvm.MethodName)) ∈ lw_all := lw_g (lw_at lw_m2 128 rfl) rfl
theorem q537 : (Jvm.Cond.lays "ToldTracks$Fault" "java/lang/Throwable" "cause" "Ljava/lang/Throwable;") ∈ lw_all := lw_g (lw_at lw_m2 129 rfl) rfl
theorem q539 : (Jvm.Cond.lays "ToldTracks$Fault" "java/lang/Throwable" "stackTrace" "[Ljava/lang/StackTraceElement;") ∈ lw_all := lw_g (lw_at lw_m2 131 rfl) rfl
theorem q541 : (Jvm.Cond.lays "ToldTracks$Fault" "java/lang/Throwable" "suppressedExceptions" "Ljava/util/List;") ∈ lw_all := lw_g (lw_at lw_m2 133 rfl) rfl
theorem q543 : (Jvm.Cond.lays "ToldTracks$Fault" "java/lang/Throwable" "detailMessage" "Ljava/lang/String;") ∈ lw_all := lw_g (lw_at lw_m2 135 rfl) rfl
theorem q545 : (Jvm.Cond.lays "ToldTracks$Fault" "java/lang/Throwable" "backtrace" "Ljava/lang/Object;") ∈ lw_all := lw_g (lw_at lw_m2 137 rfl) rfl
theorem q566 : (Jvm.Cond.instanceMethod ({ cls := "ToldTracks$Fault", name := "<init>", desc := "(II)V" } : Jvm.MethodName)) ∈ lw_all := lw_g (lw_at lw_m2 158 rfl) rfl
theorem q567 : (Jvm.Cond.code ({ cls := "ToldTracks$Fault", name := "<init>", desc := "(II)V" } : Jvm.MethodName) prog_10_method_1_code (3 : Nat) (Option.none : Option Jvm.ClassFile.FieldType)) ∈ lw_all := lw_g (lw_at lw_m2 159 rfl) rfl
theorem q568 : (Jvm.Cond.methodLink "ToldTracks$Fault" (1 : Nat) ({ cls := "java/lang/Exception", name := "<init>", desc := "()V" } : Jvm.MethodName)) ∈ lw_all := lw_g (lw_at lw_m2 160 rfl) rfl
theorem q572 : (Jvm.Cond.fieldLink "ToldTracks$Fault" (7 : Nat) "ToldTracks$Fault" "kind" "I") ∈ lw_all := lw_g (lw_at lw_m2 164 rfl) rfl
theorem q574 : (Jvm.Cond.fieldLink "ToldTracks$Fault" (13 : Nat) "ToldTracks$Fault" "place" "I") ∈ lw_all := lw_g (lw_at lw_m2 166 rfl) rfl
theorem q580 : (Jvm.Cond.laysFinal "ToldTracks$Fault" "ToldTracks$Fault" "kind" "I") ∈ lw_all := lw_g (lw_at lw_m2 172 rfl) rfl
theorem q581 : (Jvm.Cond.soleField "ToldTracks$Fault" "kind") ∈ lw_all := lw_g (lw_at lw_m2 173 rfl) rfl
theorem q582 : (Jvm.Cond.laysFinal "ToldTracks$Fault" "ToldTracks$Fault" "place" "I") ∈ lw_all := lw_g (lw_at lw_m2 174 rfl) rfl
theorem q583 : (Jvm.Cond.soleField "ToldTracks$Fault" "place") ∈ lw_all := lw_g (lw_at lw_m2 175 rfl) rfl
theorem q588 : (Jvm.Cond.lays "ToldTracks$Fault" "java/lang/Throwable" "depth" "I") ∈ lw_all := lw_g (lw_at lw_m2 180 rfl) rfl
theorem q591 : (Jvm.Cond.superclass "ToldTracks$Fault" "java/lang/Exception") ∈ lw_all := lw_g (lw_at lw_m2 183 rfl) rfl
theorem q958 : (Jvm.Cond.selects "ToldTracks$Fault" ({ cls := "java/lang/Object", name := "getClass", desc := "()Ljava/lang/Class;" } : Jvm.MethodName) ({ cls := "java/lang/Object", name := "getClass", desc := "()Ljava/lang/Class;" } : Jvm.MethodName)) ∈ lw_all := lw_g (lw_at lw_m4 70 rfl) rfl
theorem q2843 : (Jvm.Cond.castable "ToldTracks$Fault" "java/lang/Object") ∈ lw_tbl := lw_at lw_m12 35 rfl
theorem in_X8 : ∀ w ∈ wsX80, w ∈ lw_all := lw_in wsX80 [537, 539, 541, 543, 545, 588, 580, 582] (by decide +kernel) (by decide +kernel)
/-! ToldTracks$Plain -/
def RX9 : String := "ToldTracks$Plain"
def TX9 : u_T := fun k => match k with
  | _ => ("ToldTracks$Plain", "v", "I", true)
def tyX9 : Nat → FieldType := fun k => match k with
  | _ => .int
abbrev wsX90 : List Cond := u_ws RX9 TX9 1
theorem nmX9 : ∀ a, a < 1 → ∀ b, b < 1 → a ≠ b → (TX9 a).2.1 ≠ (TX9 b).2.1 := by decide +kernel
theorem tyX9_ok : ∀ k, k < 1 → parseFieldDescriptor (TX9 k).2.2.1 = some (tyX9 k) := by decide +kernel
abbrev cX9_init : ByteArray := prog_15_method_1_code
def yX9_init : MethodName := ⟨RX9, "<init>", "(I)V"⟩
def dkwX9_init_0 : List UInt8 := [42, 183, 0, 1, 42, 27, 181, 0, 7, 177]
abbrev dktX9_init_0 : List UInt8 := dkwX9_init_0 ++ []
theorem dksX9_init_0 : cX9_init.data.toList.drop 0 = dktX9_init_0 := by decide +kernel
theorem dX9_init_0 : decode cX9_init 0 = .ok (.aload_n 0, 1) := dk_42 (dk_at dksX9_init_0 0 rfl rfl)
theorem dX9_init_1 : decode cX9_init 1 = .ok (.invokespecial 1, 3) := dk_183 0 1 (dk_at dksX9_init_0 1 rfl rfl)
theorem dX9_init_4 : decode cX9_init 4 = .ok (.aload_n 0, 1) := dk_42 (dk_at dksX9_init_0 4 rfl rfl)
theorem dX9_init_5 : decode cX9_init 5 = .ok (.iload_n 1, 1) := dk_27 (dk_at dksX9_init_0 5 rfl rfl)
theorem dX9_init_6 : decode cX9_init 6 = .ok (.putfield 7, 3) := dk_181 0 7 (dk_at dksX9_init_0 6 rfl rfl)
theorem dX9_init_9 : decode cX9_init 9 = .ok (.return_, 1) := dk_177 (dk_at dksX9_init_0 9 rfl rfl)
abbrev cX9_of : ByteArray := prog_15_method_2_code
def yX9_of : MethodName := ⟨RX9, "of", "(LToldTracks$Asking;)J"⟩
def dkwX9_of_0 : List UInt8 := [42, 180, 0, 7, 133, 173]
abbrev dktX9_of_0 : List UInt8 := dkwX9_of_0 ++ []
theorem dksX9_of_0 : cX9_of.data.toList.drop 0 = dktX9_of_0 := by decide +kernel
theorem dX9_of_0 : decode cX9_of 0 = .ok (.aload_n 0, 1) := dk_42 (dk_at dksX9_of_0 0 rfl rfl)
theorem dX9_of_1 : decode cX9_of 1 = .ok (.getfield 7, 3) := dk_180 0 7 (dk_at dksX9_of_0 1 rfl rfl)
theorem dX9_of_4 : decode cX9_of 4 = .ok (.i2l, 1) := dk_133 (dk_at dksX9_of_0 4 rfl rfl)
theorem dX9_of_5 : decode cX9_of 5 = .ok (.lreturn, 1) := dk_173 (dk_at dksX9_of_0 5 rfl rfl)
theorem q187 : (Jvm.Cond.initialized "ToldTracks$Plain") ∈ lw_all := lw_g (lw_at lw_m1 19 rfl) rfl
theorem q767 : (Jvm.Cond.instantiable "ToldTracks$Plain" (1 : Nat)) ∈ lw_all := lw_g (lw_at lw_m3 119 rfl) rfl
theorem q769 : (Jvm.Cond.instanceMethod ({ cls := "ToldTracks$Plain", name := "<init>", desc := "(I)V" } : Jvm.MethodName)) ∈ lw_all := lw_g (lw_at lw_m3 121 rfl) rfl
theorem q770 : (Jvm.Cond.code ({ cls := "ToldTracks$Plain", name := "<init>", desc := "(I)V" } : Jvm.MethodName) prog_15_method_1_code (2 : Nat) (Option.none : Option Jvm.ClassFile.FieldType)) ∈ lw_all := lw_g (lw_at lw_m3 122 rfl) rfl
theorem q771 : (Jvm.Cond.methodLink "ToldTracks$Plain" (1 : Nat) ({ cls := "java/lang/Object", name := "<init>", desc := "()V" } : Jvm.MethodName)) ∈ lw_all := lw_g (lw_at lw_m3 123 rfl) rfl
theorem q772 : (Jvm.Cond.fieldLink "ToldTracks$Plain" (7 : Nat) "ToldTracks$Plain" "v" "I") ∈ lw_all := lw_g (lw_at lw_m3 124 rfl) rfl
theorem q773 : (Jvm.Cond.laysFinal "ToldTracks$Plain" "ToldTracks$Plain" "v" "I") ∈ lw_all := lw_g (lw_at lw_m3 125 rfl) rfl
theorem q774 : (Jvm.Cond.soleField "ToldTracks$Plain" "v") ∈ lw_all := lw_g (lw_at lw_m3 126 rfl) rfl
theorem q775 : (Jvm.Cond.superclass "ToldTracks$Plain" "java/lang/Object") ∈ lw_all := lw_g (lw_at lw_m3 127 rfl) rfl
theorem q962 : (Jvm.Cond.selects "ToldTracks$Plain" ({ cls := "java/lang/Object", name := "getClass", desc := "()Ljava/lang/Class;" } : Jvm.MethodName) ({ cls := "java/lang/Object", name := "getClass", desc := "()Ljava/lang/Class;" } : Jvm.MethodName)) ∈ lw_all := lw_g (lw_at lw_m4 74 rfl) rfl
theorem q1384 : (Jvm.Cond.castable "ToldTracks$Plain" "ToldTracks$Sum") ∈ lw_tbl := lw_at lw_m6 16 rfl
theorem q1385 : (Jvm.Cond.selects "ToldTracks$Plain" ({ cls := "ToldTracks$Sum", name := "of", desc := "(LToldTracks$Asking;)J" } : Jvm.MethodName) ({ cls := "ToldTracks$Plain", name := "of", desc := "(LToldTracks$Asking;)J" } : Jvm.MethodName)) ∈ lw_all := lw_g (lw_at lw_m6 17 rfl) rfl
theorem q1386 : (Jvm.Cond.unhidden "ToldTracks$Plain" "of" "(LToldTracks$Asking;)J") ∈ lw_tbl := lw_at lw_m6 18 rfl
theorem q1387 : (Jvm.Cond.instanceMethod ({ cls := "ToldTracks$Plain", name := "of", desc := "(LToldTracks$Asking;)J" } : Jvm.MethodName)) ∈ lw_all := lw_g (lw_at lw_m6 19 rfl) rfl
theorem q1388 : (Jvm.Cond.publicMethod ({ cls := "ToldTracks$Plain", name := "of", desc := "(LToldTracks$Asking;)J" } : Jvm.MethodName)) ∈ lw_tbl := lw_at lw_m6 20 rfl
theorem q1389 : (Jvm.Cond.code ({ cls := "ToldTracks$Plain", name := "of", desc := "(LToldTracks$Asking;)J" } : Jvm.MethodName) prog_15_method_2_code (2 : Nat) (Option.some Jvm.ClassFile.FieldType.long)) ∈ lw_all := lw_g (lw_at lw_m6 21 rfl) rfl
theorem q2844 : (Jvm.Cond.castable "ToldTracks$Plain" "java/lang/Object") ∈ lw_tbl := lw_at lw_m12 36 rfl
theorem in_X9 : ∀ w ∈ wsX90, w ∈ lw_all := lw_in wsX90 [773] (by decide +kernel) (by decide +kernel)
/-! ToldTracks$Asked -/
def RX10 : String := "ToldTracks$Asked"
def TX10 : u_T := fun k => match k with
  | _ => ("ToldTracks$Asked", "which", "I", true)
def tyX10 : Nat → FieldType := fun k => match k with
  | _ => .int
abbrev wsX100 : List Cond := u_ws RX10 TX10 1
theorem nmX10 : ∀ a, a < 1 → ∀ b, b < 1 → a ≠ b → (TX10 a).2.1 ≠ (TX10 b).2.1 := by decide +kernel
theorem tyX10_ok : ∀ k, k < 1 → parseFieldDescriptor (TX10 k).2.2.1 = some (tyX10 k) := by decide +kernel
abbrev cX10_init : ByteArray := prog_4_method_1_code
def yX10_init : MethodName := ⟨RX10, "<init>", "(I)V"⟩
def dkwX10_init_0 : List UInt8 := [42, 183, 0, 1, 42, 27, 181, 0, 7, 177]
abbrev dktX10_init_0 : List UInt8 := dkwX10_init_0 ++ []
theorem dksX10_init_0 : cX10_init.data.toList.drop 0 = dktX10_init_0 := by decide +kernel
theorem dX10_init_0 : decode cX10_init 0 = .ok (.aload_n 0, 1) := dk_42 (dk_at dksX10_init_0 0 rfl rfl)
theorem dX10_init_1 : decode cX10_init 1 = .ok (.invokespecial 1, 3) := dk_183 0 1 (dk_at dksX10_init_0 1 rfl rfl)
theorem dX10_init_4 : decode cX10_init 4 = .ok (.aload_n 0, 1) := dk_42 (dk_at dksX10_init_0 4 rfl rfl)
theorem dX10_init_5 : decode cX10_init 5 = .ok (.iload_n 1, 1) := dk_27 (dk_at dksX10_init_0 5 rfl rfl)
theorem dX10_init_6 : decode cX10_init 6 = .ok (.putfield 7, 3) := dk_181 0 7 (dk_at dksX10_init_0 6 rfl rfl)
theorem dX10_init_9 : decode cX10_init 9 = .ok (.return_, 1) := dk_177 (dk_at dksX10_init_0 9 rfl rfl)
abbrev cX10_of : ByteArray := prog_4_method_2_code
def yX10_of : MethodName := ⟨RX10, "of", "(LToldTracks$Asking;)J"⟩
def dkwX10_of_0 : List UInt8 := [43, 180, 0, 13, 42, 180, 0, 7, 47, 173]
abbrev dktX10_of_0 : List UInt8 := dkwX10_of_0 ++ []
theorem dksX10_of_0 : cX10_of.data.toList.drop 0 = dktX10_of_0 := by decide +kernel
theorem dX10_of_0 : decode cX10_of 0 = .ok (.aload_n 1, 1) := dk_43 (dk_at dksX10_of_0 0 rfl rfl)
theorem dX10_of_1 : decode cX10_of 1 = .ok (.getfield 13, 3) := dk_180 0 13 (dk_at dksX10_of_0 1 rfl rfl)
theorem dX10_of_4 : decode cX10_of 4 = .ok (.aload_n 0, 1) := dk_42 (dk_at dksX10_of_0 4 rfl rfl)
theorem dX10_of_5 : decode cX10_of 5 = .ok (.getfield 7, 3) := dk_180 0 7 (dk_at dksX10_of_0 5 rfl rfl)
theorem dX10_of_8 : decode cX10_of 8 = .ok (.laload, 1) := dk_47 (dk_at dksX10_of_0 8 rfl rfl)
theorem dX10_of_9 : decode cX10_of 9 = .ok (.lreturn, 1) := dk_173 (dk_at dksX10_of_0 9 rfl rfl)
theorem q188 : (Jvm.Cond.initialized "ToldTracks$Asked") ∈ lw_all := lw_g (lw_at lw_m1 20 rfl) rfl
theorem q359 : (Jvm.Cond.fieldLink "ToldTracks$Asked" (13 : Nat) "ToldTracks$Asking" "told" "[J") ∈ lw_all := lw_g (lw_at lw_m1 191 rfl) rfl
theorem q781 : (Jvm.Cond.laysStatic "ToldTracks$Asked" "WORDS" "[Ljava/lang/String;") ∈ lw_tbl := lw_at lw_m3 133 rfl
theorem q783 : (Jvm.Cond.instantiable "ToldTracks$Asked" (1 : Nat)) ∈ lw_all := lw_g (lw_at lw_m3 135 rfl) rfl
theorem q785 : (Jvm.Cond.instanceMethod ({ cls := "ToldTracks$Asked", name := "<init>", desc := "(I)V" } : Jvm.MethodName)) ∈ lw_all := lw_g (lw_at lw_m3 137 rfl) rfl
theorem q786 : (Jvm.Cond.code ({ cls := "ToldTracks$Asked", name := "<init>", desc := "(I)V" } : Jvm.MethodName) prog_4_method_1_code (2 : Nat) (Option.none : Option Jvm.ClassFile.FieldType)) ∈ lw_all := lw_g (lw_at lw_m3 138 rfl) rfl
theorem q787 : (Jvm.Cond.methodLink "ToldTracks$Asked" (1 : Nat) ({ cls := "java/lang/Object", name := "<init>", desc := "()V" } : Jvm.MethodName)) ∈ lw_all := lw_g (lw_at lw_m3 139 rfl) rfl
theorem q788 : (Jvm.Cond.fieldLink "ToldTracks$Asked" (7 : Nat) "ToldTracks$Asked" "which" "I") ∈ lw_all := lw_g (lw_at lw_m3 140 rfl) rfl
theorem q789 : (Jvm.Cond.laysFinal "ToldTracks$Asked" "ToldTracks$Asked" "which" "I") ∈ lw_all := lw_g (lw_at lw_m3 141 rfl) rfl
theorem q790 : (Jvm.Cond.soleField "ToldTracks$Asked" "which") ∈ lw_all := lw_g (lw_at lw_m3 142 rfl) rfl
theorem q791 : (Jvm.Cond.superclass "ToldTracks$Asked" "java/lang/Object") ∈ lw_all := lw_g (lw_at lw_m3 143 rfl) rfl
theorem q953 : (Jvm.Cond.selects "ToldTracks$Asked" ({ cls := "java/lang/Object", name := "getClass", desc := "()Ljava/lang/Class;" } : Jvm.MethodName) ({ cls := "java/lang/Object", name := "getClass", desc := "()Ljava/lang/Class;" } : Jvm.MethodName)) ∈ lw_all := lw_g (lw_at lw_m4 65 rfl) rfl
theorem q1360 : (Jvm.Cond.castable "ToldTracks$Asked" "ToldTracks$Sum") ∈ lw_tbl := lw_at lw_m5 232 rfl
theorem q1361 : (Jvm.Cond.selects "ToldTracks$Asked" ({ cls := "ToldTracks$Sum", name := "of", desc := "(LToldTracks$Asking;)J" } : Jvm.MethodName) ({ cls := "ToldTracks$Asked", name := "of", desc := "(LToldTracks$Asking;)J" } : Jvm.MethodName)) ∈ lw_all := lw_g (lw_at lw_m5 233 rfl) rfl
theorem q1362 : (Jvm.Cond.unhidden "ToldTracks$Asked" "of" "(LToldTracks$Asking;)J") ∈ lw_tbl := lw_at lw_m5 234 rfl
theorem q1363 : (Jvm.Cond.instanceMethod ({ cls := "ToldTracks$Asked", name := "of", desc := "(LToldTracks$Asking;)J" } : Jvm.MethodName)) ∈ lw_all := lw_g (lw_at lw_m5 235 rfl) rfl
theorem q1364 : (Jvm.Cond.publicMethod ({ cls := "ToldTracks$Asked", name := "of", desc := "(LToldTracks$Asking;)J" } : Jvm.MethodName)) ∈ lw_tbl := lw_at lw_m5 236 rfl
theorem q1365 : (Jvm.Cond.code ({ cls := "ToldTracks$Asked", name := "of", desc := "(LToldTracks$Asking;)J" } : Jvm.MethodName) prog_4_method_2_code (2 : Nat) (Option.some Jvm.ClassFile.FieldType.long)) ∈ lw_all := lw_g (lw_at lw_m5 237 rfl) rfl
theorem q2845 : (Jvm.Cond.castable "ToldTracks$Asked" "java/lang/Object") ∈ lw_tbl := lw_at lw_m12 37 rfl
theorem q2874 : (Jvm.Cond.stringRef "ToldTracks$Asked" (21 : Nat) "column") ∈ lw_tbl := lw_at lw_m12 66 rfl
theorem q2875 : (Jvm.Cond.stringRef "ToldTracks$Asked" (23 : Nat) "row") ∈ lw_tbl := lw_at lw_m12 67 rfl
theorem q2876 : (Jvm.Cond.stringRef "ToldTracks$Asked" (25 : Nat) "hour") ∈ lw_tbl := lw_at lw_m12 68 rfl
theorem q2877 : (Jvm.Cond.stringRef "ToldTracks$Asked" (27 : Nat) "depth") ∈ lw_tbl := lw_at lw_m12 69 rfl
theorem in_X10 : ∀ w ∈ wsX100, w ∈ lw_all := lw_in wsX100 [789] (by decide +kernel) (by decide +kernel)
/-! ToldTracks$Ends -/
def RX11 : String := "ToldTracks$Ends"
def TX11 : u_T := fun k => match k with
  | 0 => ("ToldTracks$Ends", "least", "Z", true)
  | 1 => ("ToldTracks$Ends", "a", "LToldTracks$Sum;", true)
  | _ => ("ToldTracks$Ends", "b", "LToldTracks$Sum;", true)
def tyX11 : Nat → FieldType := fun k => match k with
  | 0 => .boolean
  | 1 => .object "ToldTracks$Sum"
  | _ => .object "ToldTracks$Sum"
abbrev wsX110 : List Cond := u_ws RX11 TX11 3
theorem nmX11 : ∀ a, a < 3 → ∀ b, b < 3 → a ≠ b → (TX11 a).2.1 ≠ (TX11 b).2.1 := by decide +kernel
theorem tyX11_ok : ∀ k, k < 3 → parseFieldDescriptor (TX11 k).2.2.1 = some (tyX11 k) := by decide +kernel
abbrev cX11_init : ByteArray := prog_8_method_1_code
def yX11_init : MethodName := ⟨RX11, "<init>", "(ZLToldTracks$Sum;LToldTracks$Sum;)V"⟩
def dkwX11_init_0 : List UInt8 := [42, 183, 0, 1, 42, 27, 181, 0, 7, 42, 44, 181, 0, 13, 42, 45, 181, 0, 17, 177]
abbrev dktX11_init_0 : List UInt8 := dkwX11_init_0 ++ []
theorem dksX11_init_0 : cX11_init.data.toList.drop 0 = dktX11_init_0 := by decide +kernel
theorem dX11_init_0 : decode cX11_init 0 = .ok (.aload_n 0, 1) := dk_42 (dk_at dksX11_init_0 0 rfl rfl)
theorem dX11_init_1 : decode cX11_init 1 = .ok (.invokespecial 1, 3) := dk_183 0 1 (dk_at dksX11_init_0 1 rfl rfl)
theorem dX11_init_4 : decode cX11_init 4 = .ok (.aload_n 0, 1) := dk_42 (dk_at dksX11_init_0 4 rfl rfl)
theorem dX11_init_5 : decode cX11_init 5 = .ok (.iload_n 1, 1) := dk_27 (dk_at dksX11_init_0 5 rfl rfl)
theorem dX11_init_6 : decode cX11_init 6 = .ok (.putfield 7, 3) := dk_181 0 7 (dk_at dksX11_init_0 6 rfl rfl)
theorem dX11_init_9 : decode cX11_init 9 = .ok (.aload_n 0, 1) := dk_42 (dk_at dksX11_init_0 9 rfl rfl)
theorem dX11_init_10 : decode cX11_init 10 = .ok (.aload_n 2, 1) := dk_44 (dk_at dksX11_init_0 10 rfl rfl)
theorem dX11_init_11 : decode cX11_init 11 = .ok (.putfield 13, 3) := dk_181 0 13 (dk_at dksX11_init_0 11 rfl rfl)
theorem dX11_init_14 : decode cX11_init 14 = .ok (.aload_n 0, 1) := dk_42 (dk_at dksX11_init_0 14 rfl rfl)
theorem dX11_init_15 : decode cX11_init 15 = .ok (.aload_n 3, 1) := dk_45 (dk_at dksX11_init_0 15 rfl rfl)
theorem dX11_init_16 : decode cX11_init 16 = .ok (.putfield 17, 3) := dk_181 0 17 (dk_at dksX11_init_0 16 rfl rfl)
theorem dX11_init_19 : decode cX11_init 19 = .ok (.return_, 1) := dk_177 (dk_at dksX11_init_0 19 rfl rfl)
abbrev cX11_of : ByteArray := prog_8_method_2_code
def yX11_of : MethodName := ⟨RX11, "of", "(LToldTracks$Asking;)J"⟩
def dkwX11_of_2 : List UInt8 := [180, 0, 17, 43, 185, 0, 20, 2, 0, 184, 0, 32, 173]
abbrev dktX11_of_2 : List UInt8 := dkwX11_of_2 ++ []
def dkwX11_of_1 : List UInt8 := [185, 0, 20, 2, 0, 184, 0, 26, 167, 0, 26, 42, 180, 0, 13, 43, 185, 0, 20, 2, 0, 42]
abbrev dktX11_of_1 : List UInt8 := dkwX11_of_1 ++ dktX11_of_2
def dkwX11_of_0 : List UInt8 := [42, 180, 0, 7, 153, 0, 29, 42, 180, 0, 13, 43, 185, 0, 20, 2, 0, 42, 180, 0, 17, 43]
abbrev dktX11_of_0 : List UInt8 := dkwX11_of_0 ++ dktX11_of_1
theorem dksX11_of_0 : cX11_of.data.toList.drop 0 = dktX11_of_0 := by decide +kernel
theorem dksX11_of_1 : cX11_of.data.toList.drop 22 = dktX11_of_1 := dk_seg dksX11_of_0 22 rfl rfl
theorem dksX11_of_2 : cX11_of.data.toList.drop 44 = dktX11_of_2 := dk_seg dksX11_of_1 22 rfl rfl
theorem dX11_of_0 : decode cX11_of 0 = .ok (.aload_n 0, 1) := dk_42 (dk_at dksX11_of_0 0 rfl rfl)
theorem dX11_of_1 : decode cX11_of 1 = .ok (.getfield 7, 3) := dk_180 0 7 (dk_at dksX11_of_0 1 rfl rfl)
theorem dX11_of_4 : decode cX11_of 4 = .ok (.ifCond .eq 29, 3) := dk_153 0 29 (dk_at dksX11_of_0 4 rfl rfl)
theorem dX11_of_7 : decode cX11_of 7 = .ok (.aload_n 0, 1) := dk_42 (dk_at dksX11_of_0 7 rfl rfl)
theorem dX11_of_8 : decode cX11_of 8 = .ok (.getfield 13, 3) := dk_180 0 13 (dk_at dksX11_of_0 8 rfl rfl)
theorem dX11_of_11 : decode cX11_of 11 = .ok (.aload_n 1, 1) := dk_43 (dk_at dksX11_of_0 11 rfl rfl)
theorem dX11_of_12 : decode cX11_of 12 = .ok (.invokeinterface 20 2, 5) := by decide +kernel
theorem dX11_of_17 : decode cX11_of 17 = .ok (.aload_n 0, 1) := dk_42 (dk_at dksX11_of_0 17 rfl rfl)
theorem dX11_of_18 : decode cX11_of 18 = .ok (.getfield 17, 3) := dk_180 0 17 (dk_at dksX11_of_0 18 rfl rfl)
theorem dX11_of_21 : decode cX11_of 21 = .ok (.aload_n 1, 1) := dk_43 (dk_at dksX11_of_0 21 rfl rfl)
theorem dX11_of_22 : decode cX11_of 22 = .ok (.invokeinterface 20 2, 5) := by decide +kernel
theorem dX11_of_27 : decode cX11_of 27 = .ok (.invokestatic 26, 3) := dk_184 0 26 (dk_at dksX11_of_1 5 rfl rfl)
theorem dX11_of_30 : decode cX11_of 30 = .ok (.goto 26, 3) := dk_167 0 26 (dk_at dksX11_of_1 8 rfl rfl)
theorem dX11_of_33 : decode cX11_of 33 = .ok (.aload_n 0, 1) := dk_42 (dk_at dksX11_of_1 11 rfl rfl)
theorem dX11_of_34 : decode cX11_of 34 = .ok (.getfield 13, 3) := dk_180 0 13 (dk_at dksX11_of_1 12 rfl rfl)
theorem dX11_of_37 : decode cX11_of 37 = .ok (.aload_n 1, 1) := dk_43 (dk_at dksX11_of_1 15 rfl rfl)
theorem dX11_of_38 : decode cX11_of 38 = .ok (.invokeinterface 20 2, 5) := by decide +kernel
theorem dX11_of_43 : decode cX11_of 43 = .ok (.aload_n 0, 1) := dk_42 (dk_at dksX11_of_1 21 rfl rfl)
theorem dX11_of_44 : decode cX11_of 44 = .ok (.getfield 17, 3) := dk_180 0 17 (dk_at dksX11_of_2 0 rfl rfl)
theorem dX11_of_47 : decode cX11_of 47 = .ok (.aload_n 1, 1) := dk_43 (dk_at dksX11_of_2 3 rfl rfl)
theorem dX11_of_48 : decode cX11_of 48 = .ok (.invokeinterface 20 2, 5) := by decide +kernel
theorem dX11_of_53 : decode cX11_of 53 = .ok (.invokestatic 32, 3) := dk_184 0 32 (dk_at dksX11_of_2 9 rfl rfl)
theorem dX11_of_56 : decode cX11_of 56 = .ok (.lreturn, 1) := dk_173 (dk_at dksX11_of_2 12 rfl rfl)
theorem q189 : (Jvm.Cond.initialized "ToldTracks$Ends") ∈ lw_all := lw_g (lw_at lw_m1 21 rfl) rfl
theorem q803 : (Jvm.Cond.instantiable "ToldTracks$Ends" (3 : Nat)) ∈ lw_all := lw_g (lw_at lw_m3 155 rfl) rfl
theorem q805 : (Jvm.Cond.instanceMethod ({ cls := "ToldTracks$Ends", name := "<init>", desc := "(ZLToldTracks$Sum;LToldTracks$Sum;)V" } : Jvm.MethodName)) ∈ lw_all := lw_g (lw_at lw_m3 157 rfl) rfl
theorem q806 : (Jvm.Cond.code ({ cls := "ToldTracks$Ends", name := "<init>", desc := "(ZLToldTracks$Sum;LToldTracks$Sum;)V" } : Jvm.MethodName) prog_8_method_1_code (4 : Nat) (Option.none : Option Jvm.ClassFile.FieldType)) ∈ lw_all := lw_g (lw_at lw_m3 158 rfl) rfl
theorem q807 : (Jvm.Cond.methodLink "ToldTracks$Ends" (1 : Nat) ({ cls := "java/lang/Object", name := "<init>", desc := "()V" } : Jvm.MethodName)) ∈ lw_all := lw_g (lw_at lw_m3 159 rfl) rfl
theorem q808 : (Jvm.Cond.fieldLink "ToldTracks$Ends" (7 : Nat) "ToldTracks$Ends" "least" "Z") ∈ lw_all := lw_g (lw_at lw_m3 160 rfl) rfl
theorem q809 : (Jvm.Cond.fieldLink "ToldTracks$Ends" (13 : Nat) "ToldTracks$Ends" "a" "LToldTracks$Sum;") ∈ lw_all := lw_g (lw_at lw_m3 161 rfl) rfl
theorem q810 : (Jvm.Cond.fieldLink "ToldTracks$Ends" (17 : Nat) "ToldTracks$Ends" "b" "LToldTracks$Sum;") ∈ lw_all := lw_g (lw_at lw_m3 162 rfl) rfl
theorem q811 : (Jvm.Cond.laysFinal "ToldTracks$Ends" "ToldTracks$Ends" "least" "Z") ∈ lw_all := lw_g (lw_at lw_m3 163 rfl) rfl
theorem q812 : (Jvm.Cond.soleField "ToldTracks$Ends" "least") ∈ lw_all := lw_g (lw_at lw_m3 164 rfl) rfl
theorem q813 : (Jvm.Cond.laysFinal "ToldTracks$Ends" "ToldTracks$Ends" "a" "LToldTracks$Sum;") ∈ lw_all := lw_g (lw_at lw_m3 165 rfl) rfl
theorem q814 : (Jvm.Cond.soleField "ToldTracks$Ends" "a") ∈ lw_all := lw_g (lw_at lw_m3 166 rfl) rfl
theorem q815 : (Jvm.Cond.laysFinal "ToldTracks$Ends" "ToldTracks$Ends" "b" "LToldTracks$Sum;") ∈ lw_all := lw_g (lw_at lw_m3 167 rfl) rfl
theorem q816 : (Jvm.Cond.soleField "ToldTracks$Ends" "b") ∈ lw_all := lw_g (lw_at lw_m3 168 rfl) rfl
theorem q817 : (Jvm.Cond.superclass "ToldTracks$Ends" "java/lang/Object") ∈ lw_all := lw_g (lw_at lw_m3 169 rfl) rfl
theorem q957 : (Jvm.Cond.selects "ToldTracks$Ends" ({ cls := "java/lang/Object", name := "getClass", desc := "()Ljava/lang/Class;" } : Jvm.MethodName) ({ cls := "java/lang/Object", name := "getClass", desc := "()Ljava/lang/Class;" } : Jvm.MethodName)) ∈ lw_all := lw_g (lw_at lw_m4 69 rfl) rfl
theorem q1376 : (Jvm.Cond.castable "ToldTracks$Ends" "ToldTracks$Sum") ∈ lw_tbl := lw_at lw_m6 8 rfl
theorem q1377 : (Jvm.Cond.selects "ToldTracks$Ends" ({ cls := "ToldTracks$Sum", name := "of", desc := "(LToldTracks$Asking;)J" } : Jvm.MethodName) ({ cls := "ToldTracks$Ends", name := "of", desc := "(LToldTracks$Asking;)J" } : Jvm.MethodName)) ∈ lw_all := lw_g (lw_at lw_m6 9 rfl) rfl
theorem q1378 : (Jvm.Cond.unhidden "ToldTracks$Ends" "of" "(LToldTracks$Asking;)J") ∈ lw_tbl := lw_at lw_m6 10 rfl
theorem q1379 : (Jvm.Cond.instanceMethod ({ cls := "ToldTracks$Ends", name := "of", desc := "(LToldTracks$Asking;)J" } : Jvm.MethodName)) ∈ lw_all := lw_g (lw_at lw_m6 11 rfl) rfl
theorem q1380 : (Jvm.Cond.publicMethod ({ cls := "ToldTracks$Ends", name := "of", desc := "(LToldTracks$Asking;)J" } : Jvm.MethodName)) ∈ lw_tbl := lw_at lw_m6 12 rfl
theorem q1381 : (Jvm.Cond.code ({ cls := "ToldTracks$Ends", name := "of", desc := "(LToldTracks$Asking;)J" } : Jvm.MethodName) prog_8_method_2_code (2 : Nat) (Option.some Jvm.ClassFile.FieldType.long)) ∈ lw_all := lw_g (lw_at lw_m6 13 rfl) rfl
theorem q1382 : (Jvm.Cond.interfaceEntry "ToldTracks$Ends" (20 : Nat)) ∈ lw_tbl := lw_at lw_m6 14 rfl
theorem q1383 : (Jvm.Cond.methodLink "ToldTracks$Ends" (20 : Nat) ({ cls := "ToldTracks$Sum", name := "of", desc := "(LToldTracks$Asking;)J" } : Jvm.MethodName)) ∈ lw_all := lw_g (lw_at lw_m6 15 rfl) rfl
theorem q1390 : (Jvm.Cond.methodLink "ToldTracks$Ends" (26 : Nat) ({ cls := "java/lang/Math", name := "min", desc := "(JJ)J" } : Jvm.MethodName)) ∈ lw_all := lw_g (lw_at lw_m6 22 rfl) rfl
theorem q1393 : (Jvm.Cond.methodLink "ToldTracks$Ends" (32 : Nat) ({ cls := "java/lang/Math", name := "max", desc := "(JJ)J" } : Jvm.MethodName)) ∈ lw_all := lw_g (lw_at lw_m6 25 rfl) rfl
theorem q2846 : (Jvm.Cond.castable "ToldTracks$Ends" "java/lang/Object") ∈ lw_tbl := lw_at lw_m12 38 rfl
theorem in_X11 : ∀ w ∈ wsX110, w ∈ lw_all := lw_in wsX110 [811, 813, 815] (by decide +kernel) (by decide +kernel)
/-! ToldTracks$Chain -/
def RX12 : String := "ToldTracks$Chain"
def TX12 : u_T := fun k => match k with
  | 0 => ("ToldTracks$Chain", "parts", "Ljava/util/ArrayList;", true)
  | _ => ("ToldTracks$Chain", "signs", "Ljava/lang/StringBuilder;", true)
def tyX12 : Nat → FieldType := fun k => match k with
  | 0 => .object "java/util/ArrayList"
  | _ => .object "java/lang/StringBuilder"
abbrev wsX120 : List Cond := u_ws RX12 TX12 2
theorem nmX12 : ∀ a, a < 2 → ∀ b, b < 2 → a ≠ b → (TX12 a).2.1 ≠ (TX12 b).2.1 := by decide +kernel
theorem tyX12_ok : ∀ k, k < 2 → parseFieldDescriptor (TX12 k).2.2.1 = some (tyX12 k) := by decide +kernel
abbrev cX12_init : ByteArray := prog_7_method_1_code
def yX12_init : MethodName := ⟨RX12, "<init>", "()V"⟩
def dkwX12_init_1 : List UInt8 := [181, 0, 19, 177]
abbrev dktX12_init_1 : List UInt8 := dkwX12_init_1 ++ []
def dkwX12_init_0 : List UInt8 := [42, 183, 0, 1, 42, 187, 0, 7, 89, 183, 0, 9, 181, 0, 10, 42, 187, 0, 16, 89, 183, 0, 18]
abbrev dktX12_init_0 : List UInt8 := dkwX12_init_0 ++ dktX12_init_1
theorem dksX12_init_0 : cX12_init.data.toList.drop 0 = dktX12_init_0 := by decide +kernel
theorem dksX12_init_1 : cX12_init.data.toList.drop 23 = dktX12_init_1 := dk_seg dksX12_init_0 23 rfl rfl
theorem dX12_init_0 : decode cX12_init 0 = .ok (.aload_n 0, 1) := dk_42 (dk_at dksX12_init_0 0 rfl rfl)
theorem dX12_init_1 : decode cX12_init 1 = .ok (.invokespecial 1, 3) := dk_183 0 1 (dk_at dksX12_init_0 1 rfl rfl)
theorem dX12_init_4 : decode cX12_init 4 = .ok (.aload_n 0, 1) := dk_42 (dk_at dksX12_init_0 4 rfl rfl)
theorem dX12_init_5 : decode cX12_init 5 = .ok (.new 7, 3) := dk_187 0 7 (dk_at dksX12_init_0 5 rfl rfl)
theorem dX12_init_8 : decode cX12_init 8 = .ok (.dup, 1) := dk_89 (dk_at dksX12_init_0 8 rfl rfl)
theorem dX12_init_9 : decode cX12_init 9 = .ok (.invokespecial 9, 3) := dk_183 0 9 (dk_at dksX12_init_0 9 rfl rfl)
theorem dX12_init_12 : decode cX12_init 12 = .ok (.putfield 10, 3) := dk_181 0 10 (dk_at dksX12_init_0 12 rfl rfl)
theorem dX12_init_15 : decode cX12_init 15 = .ok (.aload_n 0, 1) := dk_42 (dk_at dksX12_init_0 15 rfl rfl)
theorem dX12_init_16 : decode cX12_init 16 = .ok (.new 16, 3) := dk_187 0 16 (dk_at dksX12_init_0 16 rfl rfl)
theorem dX12_init_19 : decode cX12_init 19 = .ok (.dup, 1) := dk_89 (dk_at dksX12_init_0 19 rfl rfl)
theorem dX12_init_20 : decode cX12_init 20 = .ok (.invokespecial 18, 3) := dk_183 0 18 (dk_at dksX12_init_0 20 rfl rfl)
theorem dX12_init_23 : decode cX12_init 23 = .ok (.putfield 19, 3) := dk_181 0 19 (dk_at dksX12_init_1 0 rfl rfl)
theorem dX12_init_26 : decode cX12_init 26 = .ok (.return_, 1) := dk_177 (dk_at dksX12_init_1 3 rfl rfl)
abbrev cX12_comes : ByteArray := prog_7_method_2_code
def yX12_comes : MethodName := ⟨RX12, "comes", "(CLToldTracks$Sum;)V"⟩
def dkwX12_comes_0 : List UInt8 := [42, 180, 0, 19, 27, 182, 0, 23, 87, 42, 180, 0, 10, 44, 182, 0, 27, 87, 177]
abbrev dktX12_comes_0 : List UInt8 := dkwX12_comes_0 ++ []
theorem dksX12_comes_0 : cX12_comes.data.toList.drop 0 = dktX12_comes_0 := by decide +kernel
theorem dX12_comes_0 : decode cX12_comes 0 = .ok (.aload_n 0, 1) := dk_42 (dk_at dksX12_comes_0 0 rfl rfl)
theorem dX12_comes_1 : decode cX12_comes 1 = .ok (.getfield 19, 3) := dk_180 0 19 (dk_at dksX12_comes_0 1 rfl rfl)
theorem dX12_comes_4 : decode cX12_comes 4 = .ok (.iload_n 1, 1) := dk_27 (dk_at dksX12_comes_0 4 rfl rfl)
theorem dX12_comes_5 : decode cX12_comes 5 = .ok (.invokevirtual 23, 3) := dk_182 0 23 (dk_at dksX12_comes_0 5 rfl rfl)
theorem dX12_comes_8 : decode cX12_comes 8 = .ok (.pop, 1) := dk_87 (dk_at dksX12_comes_0 8 rfl rfl)
theorem dX12_comes_9 : decode cX12_comes 9 = .ok (.aload_n 0, 1) := dk_42 (dk_at dksX12_comes_0 9 rfl rfl)
theorem dX12_comes_10 : decode cX12_comes 10 = .ok (.getfield 10, 3) := dk_180 0 10 (dk_at dksX12_comes_0 10 rfl rfl)
theorem dX12_comes_13 : decode cX12_comes 13 = .ok (.aload_n 2, 1) := dk_44 (dk_at dksX12_comes_0 13 rfl rfl)
theorem dX12_comes_14 : decode cX12_comes 14 = .ok (.invokevirtual 27, 3) := dk_182 0 27 (dk_at dksX12_comes_0 14 rfl rfl)
theorem dX12_comes_17 : decode cX12_comes 17 = .ok (.pop, 1) := dk_87 (dk_at dksX12_comes_0 17 rfl rfl)
theorem dX12_comes_18 : decode cX12_comes 18 = .ok (.return_, 1) := dk_177 (dk_at dksX12_comes_0 18 rfl rfl)
abbrev cX12_of : ByteArray := prog_7_method_4_code
def yX12_of : MethodName := ⟨RX12, "of", "(LToldTracks$Asking;)J"⟩
def dkwX12_of_3 : List UInt8 := [32, 173]
abbrev dktX12_of_3 : List UInt8 := dkwX12_of_3 ++ []
def dkwX12_of_2 : List UInt8 := [21, 4, 182, 0, 46, 192, 0, 50, 43, 185, 0, 52, 2, 0, 184, 0, 64, 65, 132, 4, 1, 167, 255, 209]
abbrev dktX12_of_2 : List UInt8 := dkwX12_of_2 ++ dktX12_of_3
def dkwX12_of_1 : List UInt8 := [180, 0, 10, 182, 0, 56, 162, 0, 41, 42, 180, 0, 19, 21, 4, 182, 0, 60, 32, 42, 180, 0, 10]
abbrev dktX12_of_1 : List UInt8 := dkwX12_of_1 ++ dktX12_of_2
def dkwX12_of_0 : List UInt8 := [42, 180, 0, 10, 3, 182, 0, 46, 192, 0, 50, 43, 185, 0, 52, 2, 0, 65, 4, 54, 4, 21, 4, 42]
abbrev dktX12_of_0 : List UInt8 := dkwX12_of_0 ++ dktX12_of_1
theorem dksX12_of_0 : cX12_of.data.toList.drop 0 = dktX12_of_0 := by decide +kernel
theorem dksX12_of_1 : cX12_of.data.toList.drop 24 = dktX12_of_1 := dk_seg dksX12_of_0 24 rfl rfl
theorem dksX12_of_2 : cX12_of.data.toList.drop 47 = dktX12_of_2 := dk_seg dksX12_of_1 23 rfl rfl
theorem dksX12_of_3 : cX12_of.data.toList.drop 71 = dktX12_of_3 := dk_seg dksX12_of_2 24 rfl rfl
theorem dX12_of_0 : decode cX12_of 0 = .ok (.aload_n 0, 1) := dk_42 (dk_at dksX12_of_0 0 rfl rfl)
theorem dX12_of_1 : decode cX12_of 1 = .ok (.getfield 10, 3) := dk_180 0 10 (dk_at dksX12_of_0 1 rfl rfl)
theorem dX12_of_4 : decode cX12_of 4 = .ok (.iconst 0, 1) := dk_3 (dk_at dksX12_of_0 4 rfl rfl)
theorem dX12_of_5 : decode cX12_of 5 = .ok (.invokevirtual 46, 3) := dk_182 0 46 (dk_at dksX12_of_0 5 rfl rfl)
theorem dX12_of_8 : decode cX12_of 8 = .ok (.checkcast 50, 3) := dk_192 0 50 (dk_at dksX12_of_0 8 rfl rfl)
theorem dX12_of_11 : decode cX12_of 11 = .ok (.aload_n 1, 1) := dk_43 (dk_at dksX12_of_0 11 rfl rfl)
theorem dX12_of_12 : decode cX12_of 12 = .ok (.invokeinterface 52 2, 5) := by decide +kernel
theorem dX12_of_17 : decode cX12_of 17 = .ok (.lstore_n 2, 1) := dk_65 (dk_at dksX12_of_0 17 rfl rfl)
theorem dX12_of_18 : decode cX12_of 18 = .ok (.iconst 1, 1) := dk_4 (dk_at dksX12_of_0 18 rfl rfl)
theorem dX12_of_19 : decode cX12_of 19 = .ok (.istore 4, 2) := dk_54 4 (dk_at dksX12_of_0 19 rfl rfl)
theorem dX12_of_21 : decode cX12_of 21 = .ok (.iload 4, 2) := dk_21 4 (dk_at dksX12_of_0 21 rfl rfl)
theorem dX12_of_23 : decode cX12_of 23 = .ok (.aload_n 0, 1) := dk_42 (dk_at dksX12_of_0 23 rfl rfl)
theorem dX12_of_24 : decode cX12_of 24 = .ok (.getfield 10, 3) := dk_180 0 10 (dk_at dksX12_of_1 0 rfl rfl)
theorem dX12_of_27 : decode cX12_of 27 = .ok (.invokevirtual 56, 3) := dk_182 0 56 (dk_at dksX12_of_1 3 rfl rfl)
theorem dX12_of_30 : decode cX12_of 30 = .ok (.if_icmp .ge 41, 3) := dk_162 0 41 (dk_at dksX12_of_1 6 rfl rfl)
theorem dX12_of_33 : decode cX12_of 33 = .ok (.aload_n 0, 1) := dk_42 (dk_at dksX12_of_1 9 rfl rfl)
theorem dX12_of_34 : decode cX12_of 34 = .ok (.getfield 19, 3) := dk_180 0 19 (dk_at dksX12_of_1 10 rfl rfl)
theorem dX12_of_37 : decode cX12_of 37 = .ok (.iload 4, 2) := dk_21 4 (dk_at dksX12_of_1 13 rfl rfl)
theorem dX12_of_39 : decode cX12_of 39 = .ok (.invokevirtual 60, 3) := dk_182 0 60 (dk_at dksX12_of_1 15 rfl rfl)
theorem dX12_of_42 : decode cX12_of 42 = .ok (.lload_n 2, 1) := dk_32 (dk_at dksX12_of_1 18 rfl rfl)
theorem dX12_of_43 : decode cX12_of 43 = .ok (.aload_n 0, 1) := dk_42 (dk_at dksX12_of_1 19 rfl rfl)
theorem dX12_of_44 : decode cX12_of 44 = .ok (.getfield 10, 3) := dk_180 0 10 (dk_at dksX12_of_1 20 rfl rfl)
theorem dX12_of_47 : decode cX12_of 47 = .ok (.iload 4, 2) := dk_21 4 (dk_at dksX12_of_2 0 rfl rfl)
theorem dX12_of_49 : decode cX12_of 49 = .ok (.invokevirtual 46, 3) := dk_182 0 46 (dk_at dksX12_of_2 2 rfl rfl)
theorem dX12_of_52 : decode cX12_of 52 = .ok (.checkcast 50, 3) := dk_192 0 50 (dk_at dksX12_of_2 5 rfl rfl)
theorem dX12_of_55 : decode cX12_of 55 = .ok (.aload_n 1, 1) := dk_43 (dk_at dksX12_of_2 8 rfl rfl)
theorem dX12_of_56 : decode cX12_of 56 = .ok (.invokeinterface 52 2, 5) := by decide +kernel
theorem dX12_of_61 : decode cX12_of 61 = .ok (.invokestatic 64, 3) := dk_184 0 64 (dk_at dksX12_of_2 14 rfl rfl)
theorem dX12_of_64 : decode cX12_of 64 = .ok (.lstore_n 2, 1) := dk_65 (dk_at dksX12_of_2 17 rfl rfl)
theorem dX12_of_65 : decode cX12_of 65 = .ok (.iinc 4 1, 3) := dk_132 4 1 (dk_at dksX12_of_2 18 rfl rfl)
theorem dX12_of_68 : decode cX12_of 68 = .ok (.goto (-47), 3) := dk_167 255 209 (dk_at dksX12_of_2 21 rfl rfl)
theorem dX12_of_71 : decode cX12_of 71 = .ok (.lload_n 2, 1) := dk_32 (dk_at dksX12_of_3 0 rfl rfl)
theorem dX12_of_72 : decode cX12_of 72 = .ok (.lreturn, 1) := dk_173 (dk_at dksX12_of_3 1 rfl rfl)
abbrev cX12_joined : ByteArray := prog_7_method_3_code
def yX12_joined : MethodName := ⟨RX12, "joined", "(CJJ)J"⟩
def dkwX12_joined_4 : List UInt8 := [33, 184, 0, 43, 173]
abbrev dktX12_joined_4 : List UInt8 := dkwX12_joined_4 ++ []
def dkwX12_joined_3 : List UInt8 := [154, 0, 7, 9, 167, 0, 8, 31, 33, 184, 0, 37, 173, 33, 9, 148, 154, 0, 7, 9, 167, 0, 8, 31]
abbrev dktX12_joined_3 : List UInt8 := dkwX12_joined_3 ++ dktX12_joined_4
def dkwX12_joined_2 : List UInt8 := [31, 33, 97, 184, 0, 31, 173, 31, 33, 101, 184, 0, 31, 173, 31, 33, 105, 184, 0, 31, 173, 33, 9, 148]
abbrev dktX12_joined_2 : List UInt8 := dkwX12_joined_2 ++ dktX12_joined_3
def dkwX12_joined_1 : List UInt8 := [170, 0, 0, 0, 0, 0, 76, 0, 0, 0, 42, 0, 0, 0, 47, 0, 0, 0, 53, 0, 0, 0, 39, 0, 0, 0, 76, 0, 0, 0, 46, 0, 0, 0, 76, 0, 0, 0, 60]
abbrev dktX12_joined_1 : List UInt8 := dkwX12_joined_1 ++ dktX12_joined_2
def dkwX12_joined_0 : List UInt8 := [26]
abbrev dktX12_joined_0 : List UInt8 := dkwX12_joined_0 ++ dktX12_joined_1
theorem dksX12_joined_0 : cX12_joined.data.toList.drop 0 = dktX12_joined_0 := by decide +kernel
theorem dksX12_joined_1 : cX12_joined.data.toList.drop 1 = dktX12_joined_1 := dk_seg dksX12_joined_0 1 rfl rfl
theorem dksX12_joined_2 : cX12_joined.data.toList.drop 40 = dktX12_joined_2 := dk_seg dksX12_joined_1 39 rfl rfl
theorem dksX12_joined_3 : cX12_joined.data.toList.drop 64 = dktX12_joined_3 := dk_seg dksX12_joined_2 24 rfl rfl
theorem dksX12_joined_4 : cX12_joined.data.toList.drop 88 = dktX12_joined_4 := dk_seg dksX12_joined_3 24 rfl rfl
theorem dX12_joined_0 : decode cX12_joined 0 = .ok (.iload_n 0, 1) := dk_26 (dk_at dksX12_joined_0 0 rfl rfl)
theorem dX12_joined_1 : decode cX12_joined 1 = .ok (.tableswitch 76 42 47 #[53, 39, 76, 46, 76, 60], 39) := by decide +kernel
theorem dX12_joined_40 : decode cX12_joined 40 = .ok (.lload_n 1, 1) := dk_31 (dk_at dksX12_joined_2 0 rfl rfl)
theorem dX12_joined_41 : decode cX12_joined 41 = .ok (.lload_n 3, 1) := dk_33 (dk_at dksX12_joined_2 1 rfl rfl)
theorem dX12_joined_42 : decode cX12_joined 42 = .ok (.ladd, 1) := dk_97 (dk_at dksX12_joined_2 2 rfl rfl)
theorem dX12_joined_43 : decode cX12_joined 43 = .ok (.invokestatic 31, 3) := dk_184 0 31 (dk_at dksX12_joined_2 3 rfl rfl)
theorem dX12_joined_46 : decode cX12_joined 46 = .ok (.lreturn, 1) := dk_173 (dk_at dksX12_joined_2 6 rfl rfl)
theorem dX12_joined_47 : decode cX12_joined 47 = .ok (.lload_n 1, 1) := dk_31 (dk_at dksX12_joined_2 7 rfl rfl)
theorem dX12_joined_48 : decode cX12_joined 48 = .ok (.lload_n 3, 1) := dk_33 (dk_at dksX12_joined_2 8 rfl rfl)
theorem dX12_joined_49 : decode cX12_joined 49 = .ok (.lsub, 1) := dk_101 (dk_at dksX12_joined_2 9 rfl rfl)
theorem dX12_joined_50 : decode cX12_joined 50 = .ok (.invokestatic 31, 3) := dk_184 0 31 (dk_at dksX12_joined_2 10 rfl rfl)
theorem dX12_joined_53 : decode cX12_joined 53 = .ok (.lreturn, 1) := dk_173 (dk_at dksX12_joined_2 13 rfl rfl)
theorem dX12_joined_54 : decode cX12_joined 54 = .ok (.lload_n 1, 1) := dk_31 (dk_at dksX12_joined_2 14 rfl rfl)
theorem dX12_joined_55 : decode cX12_joined 55 = .ok (.lload_n 3, 1) := dk_33 (dk_at dksX12_joined_2 15 rfl rfl)
theorem dX12_joined_56 : decode cX12_joined 56 = .ok (.lmul, 1) := dk_105 (dk_at dksX12_joined_2 16 rfl rfl)
theorem dX12_joined_57 : decode cX12_joined 57 = .ok (.invokestatic 31, 3) := dk_184 0 31 (dk_at dksX12_joined_2 17 rfl rfl)
theorem dX12_joined_60 : decode cX12_joined 60 = .ok (.lreturn, 1) := dk_173 (dk_at dksX12_joined_2 20 rfl rfl)
theorem dX12_joined_61 : decode cX12_joined 61 = .ok (.lload_n 3, 1) := dk_33 (dk_at dksX12_joined_2 21 rfl rfl)
theorem dX12_joined_62 : decode cX12_joined 62 = .ok (.lconst 0, 1) := dk_9 (dk_at dksX12_joined_2 22 rfl rfl)
theorem dX12_joined_63 : decode cX12_joined 63 = .ok (.lcmp, 1) := dk_148 (dk_at dksX12_joined_2 23 rfl rfl)
theorem dX12_joined_64 : decode cX12_joined 64 = .ok (.ifCond .ne 7, 3) := dk_154 0 7 (dk_at dksX12_joined_3 0 rfl rfl)
theorem dX12_joined_67 : decode cX12_joined 67 = .ok (.lconst 0, 1) := dk_9 (dk_at dksX12_joined_3 3 rfl rfl)
theorem dX12_joined_68 : decode cX12_joined 68 = .ok (.goto 8, 3) := dk_167 0 8 (dk_at dksX12_joined_3 4 rfl rfl)
theorem dX12_joined_71 : decode cX12_joined 71 = .ok (.lload_n 1, 1) := dk_31 (dk_at dksX12_joined_3 7 rfl rfl)
theorem dX12_joined_72 : decode cX12_joined 72 = .ok (.lload_n 3, 1) := dk_33 (dk_at dksX12_joined_3 8 rfl rfl)
theorem dX12_joined_73 : decode cX12_joined 73 = .ok (.invokestatic 37, 3) := dk_184 0 37 (dk_at dksX12_joined_3 9 rfl rfl)
theorem dX12_joined_76 : decode cX12_joined 76 = .ok (.lreturn, 1) := dk_173 (dk_at dksX12_joined_3 12 rfl rfl)
theorem dX12_joined_77 : decode cX12_joined 77 = .ok (.lload_n 3, 1) := dk_33 (dk_at dksX12_joined_3 13 rfl rfl)
theorem dX12_joined_78 : decode cX12_joined 78 = .ok (.lconst 0, 1) := dk_9 (dk_at dksX12_joined_3 14 rfl rfl)
theorem dX12_joined_79 : decode cX12_joined 79 = .ok (.lcmp, 1) := dk_148 (dk_at dksX12_joined_3 15 rfl rfl)
theorem dX12_joined_80 : decode cX12_joined 80 = .ok (.ifCond .ne 7, 3) := dk_154 0 7 (dk_at dksX12_joined_3 16 rfl rfl)
theorem dX12_joined_83 : decode cX12_joined 83 = .ok (.lconst 0, 1) := dk_9 (dk_at dksX12_joined_3 19 rfl rfl)
theorem dX12_joined_84 : decode cX12_joined 84 = .ok (.goto 8, 3) := dk_167 0 8 (dk_at dksX12_joined_3 20 rfl rfl)
theorem dX12_joined_87 : decode cX12_joined 87 = .ok (.lload_n 1, 1) := dk_31 (dk_at dksX12_joined_3 23 rfl rfl)
theorem dX12_joined_88 : decode cX12_joined 88 = .ok (.lload_n 3, 1) := dk_33 (dk_at dksX12_joined_4 0 rfl rfl)
theorem dX12_joined_89 : decode cX12_joined 89 = .ok (.invokestatic 43, 3) := dk_184 0 43 (dk_at dksX12_joined_4 1 rfl rfl)
theorem dX12_joined_92 : decode cX12_joined 92 = .ok (.lreturn, 1) := dk_173 (dk_at dksX12_joined_4 4 rfl rfl)
theorem q190 : (Jvm.Cond.initialized "ToldTracks$Chain") ∈ lw_all := lw_g (lw_at lw_m1 22 rfl) rfl
theorem q823 : (Jvm.Cond.instantiable "ToldTracks$Chain" (2 : Nat)) ∈ lw_all := lw_g (lw_at lw_m3 175 rfl) rfl
theorem q825 : (Jvm.Cond.instanceMethod ({ cls := "ToldTracks$Chain", name := "<init>", desc := "()V" } : Jvm.MethodName)) ∈ lw_all := lw_g (lw_at lw_m3 177 rfl) rfl
theorem q826 : (Jvm.Cond.code ({ cls := "ToldTracks$Chain", name := "<init>", desc := "()V" } : Jvm.MethodName) prog_7_method_1_code (1 : Nat) (Option.none : Option Jvm.ClassFile.FieldType)) ∈ lw_all := lw_g (lw_at lw_m3 178 rfl) rfl
theorem q827 : (Jvm.Cond.methodLink "ToldTracks$Chain" (1 : Nat) ({ cls := "java/lang/Object", name := "<init>", desc := "()V" } : Jvm.MethodName)) ∈ lw_all := lw_g (lw_at lw_m3 179 rfl) rfl
theorem q828 : (Jvm.Cond.classLink "ToldTracks$Chain" (7 : Nat) "java/util/ArrayList") ∈ lw_all := lw_g (lw_at lw_m3 180 rfl) rfl
theorem q829 : (Jvm.Cond.methodLink "ToldTracks$Chain" (9 : Nat) ({ cls := "java/util/ArrayList", name := "<init>", desc := "()V" } : Jvm.MethodName)) ∈ lw_all := lw_g (lw_at lw_m3 181 rfl) rfl
theorem q830 : (Jvm.Cond.classLink "ToldTracks$Chain" (16 : Nat) "java/lang/StringBuilder") ∈ lw_all := lw_g (lw_at lw_m3 182 rfl) rfl
theorem q832 : (Jvm.Cond.methodLink "ToldTracks$Chain" (18 : Nat) ({ cls := "java/lang/StringBuilder", name := "<init>", desc := "()V" } : Jvm.MethodName)) ∈ lw_all := lw_g (lw_at lw_m3 184 rfl) rfl
theorem q853 : (Jvm.Cond.fieldLink "ToldTracks$Chain" (10 : Nat) "ToldTracks$Chain" "parts" "Ljava/util/ArrayList;") ∈ lw_all := lw_g (lw_at lw_m3 205 rfl) rfl
theorem q854 : (Jvm.Cond.fieldLink "ToldTracks$Chain" (19 : Nat) "ToldTracks$Chain" "signs" "Ljava/lang/StringBuilder;") ∈ lw_all := lw_g (lw_at lw_m3 206 rfl) rfl
theorem q855 : (Jvm.Cond.laysFinal "ToldTracks$Chain" "ToldTracks$Chain" "parts" "Ljava/util/ArrayList;") ∈ lw_all := lw_g (lw_at lw_m3 207 rfl) rfl
theorem q856 : (Jvm.Cond.soleField "ToldTracks$Chain" "parts") ∈ lw_all := lw_g (lw_at lw_m3 208 rfl) rfl
theorem q857 : (Jvm.Cond.laysFinal "ToldTracks$Chain" "ToldTracks$Chain" "signs" "Ljava/lang/StringBuilder;") ∈ lw_all := lw_g (lw_at lw_m3 209 rfl) rfl
theorem q858 : (Jvm.Cond.soleField "ToldTracks$Chain" "signs") ∈ lw_all := lw_g (lw_at lw_m3 210 rfl) rfl
theorem q859 : (Jvm.Cond.superclass "ToldTracks$Chain" "java/lang/Object") ∈ lw_all := lw_g (lw_at lw_m3 211 rfl) rfl
theorem q861 : (Jvm.Cond.instanceMethod ({ cls := "ToldTracks$Chain", name := "comes", desc := "(CLToldTracks$Sum;)V" } : Jvm.MethodName)) ∈ lw_all := lw_g (lw_at lw_m3 213 rfl) rfl
theorem q862 : (Jvm.Cond.selects "ToldTracks$Chain" ({ cls := "ToldTracks$Chain", name := "comes", desc := "(CLToldTracks$Sum;)V" } : Jvm.MethodName) ({ cls := "ToldTracks$Chain", name := "comes", desc := "(CLToldTracks$Sum;)V" } : Jvm.MethodName)) ∈ lw_all := lw_g (lw_at lw_m3 214 rfl) rfl
theorem q863 : (Jvm.Cond.code ({ cls := "ToldTracks$Chain", name := "comes", desc := "(CLToldTracks$Sum;)V" } : Jvm.MethodName) prog_7_method_2_code (3 : Nat) (Option.none : Option Jvm.ClassFile.FieldType)) ∈ lw_all := lw_g (lw_at lw_m3 215 rfl) rfl
theorem q864 : (Jvm.Cond.methodLink "ToldTracks$Chain" (23 : Nat) ({ cls := "java/lang/StringBuilder", name := "append", desc := "(C)Ljava/lang/StringBuilder;" } : Jvm.MethodName)) ∈ lw_all := lw_g (lw_at lw_m3 216 rfl) rfl
theorem q927 : (Jvm.Cond.methodLink "ToldTracks$Chain" (27 : Nat) ({ cls := "java/util/ArrayList", name := "add", desc := "(Ljava/lang/Object;)Z" } : Jvm.MethodName)) ∈ lw_all := lw_g (lw_at lw_m4 39 rfl) rfl
theorem q956 : (Jvm.Cond.selects "ToldTracks$Chain" ({ cls := "java/lang/Object", name := "getClass", desc := "()Ljava/lang/Class;" } : Jvm.MethodName) ({ cls := "java/lang/Object", name := "getClass", desc := "()Ljava/lang/Class;" } : Jvm.MethodName)) ∈ lw_all := lw_g (lw_at lw_m4 68 rfl) rfl
theorem q1366 : (Jvm.Cond.castable "ToldTracks$Chain" "ToldTracks$Sum") ∈ lw_tbl := lw_at lw_m5 238 rfl
theorem q1367 : (Jvm.Cond.selects "ToldTracks$Chain" ({ cls := "ToldTracks$Sum", name := "of", desc := "(LToldTracks$Asking;)J" } : Jvm.MethodName) ({ cls := "ToldTracks$Chain", name := "of", desc := "(LToldTracks$Asking;)J" } : Jvm.MethodName)) ∈ lw_all := lw_g (lw_at lw_m5 239 rfl) rfl
theorem q1368 : (Jvm.Cond.unhidden "ToldTracks$Chain" "of" "(LToldTracks$Asking;)J") ∈ lw_tbl := lw_at lw_m6 0 rfl
theorem q1369 : (Jvm.Cond.instanceMethod ({ cls := "ToldTracks$Chain", name := "of", desc := "(LToldTracks$Asking;)J" } : Jvm.MethodName)) ∈ lw_all := lw_g (lw_at lw_m6 1 rfl) rfl
theorem q1370 : (Jvm.Cond.publicMethod ({ cls := "ToldTracks$Chain", name := "of", desc := "(LToldTracks$Asking;)J" } : Jvm.MethodName)) ∈ lw_tbl := lw_at lw_m6 2 rfl
theorem q1371 : (Jvm.Cond.code ({ cls := "ToldTracks$Chain", name := "of", desc := "(LToldTracks$Asking;)J" } : Jvm.MethodName) prog_7_method_4_code (5 : Nat) (Option.some Jvm.ClassFile.FieldType.long)) ∈ lw_all := lw_g (lw_at lw_m6 3 rfl) rfl
theorem q1372 : (Jvm.Cond.methodLink "ToldTracks$Chain" (46 : Nat) ({ cls := "java/util/ArrayList", name := "get", desc := "(I)Ljava/lang/Object;" } : Jvm.MethodName)) ∈ lw_all := lw_g (lw_at lw_m6 4 rfl) rfl
theorem q1373 : (Jvm.Cond.classLink "ToldTracks$Chain" (50 : Nat) "ToldTracks$Sum") ∈ lw_all := lw_g (lw_at lw_m6 5 rfl) rfl
theorem q1374 : (Jvm.Cond.interfaceEntry "ToldTracks$Chain" (52 : Nat)) ∈ lw_tbl := lw_at lw_m6 6 rfl
theorem q1375 : (Jvm.Cond.methodLink "ToldTracks$Chain" (52 : Nat) ({ cls := "ToldTracks$Sum", name := "of", desc := "(LToldTracks$Asking;)J" } : Jvm.MethodName)) ∈ lw_all := lw_g (lw_at lw_m6 7 rfl) rfl
theorem q1396 : (Jvm.Cond.methodLink "ToldTracks$Chain" (56 : Nat) ({ cls := "java/util/ArrayList", name := "size", desc := "()I" } : Jvm.MethodName)) ∈ lw_all := lw_g (lw_at lw_m6 28 rfl) rfl
theorem q1397 : (Jvm.Cond.methodLink "ToldTracks$Chain" (60 : Nat) ({ cls := "java/lang/StringBuilder", name := "charAt", desc := "(I)C" } : Jvm.MethodName)) ∈ lw_all := lw_g (lw_at lw_m6 29 rfl) rfl
theorem q1407 : (Jvm.Cond.methodLink "ToldTracks$Chain" (64 : Nat) ({ cls := "ToldTracks$Chain", name := "joined", desc := "(CJJ)J" } : Jvm.MethodName)) ∈ lw_all := lw_g (lw_at lw_m6 39 rfl) rfl
theorem q1408 : (Jvm.Cond.static ({ cls := "ToldTracks$Chain", name := "joined", desc := "(CJJ)J" } : Jvm.MethodName)) ∈ lw_all := lw_g (lw_at lw_m6 40 rfl) rfl
theorem q1409 : (Jvm.Cond.code ({ cls := "ToldTracks$Chain", name := "joined", desc := "(CJJ)J" } : Jvm.MethodName) prog_7_method_3_code (5 : Nat) (Option.some Jvm.ClassFile.FieldType.long)) ∈ lw_all := lw_g (lw_at lw_m6 41 rfl) rfl
theorem q1410 : (Jvm.Cond.methodLinkNest "ToldTracks$Chain" (31 : Nat) ({ cls := "ToldTracks", name := "clip", desc := "(J)J" } : Jvm.MethodName) "ToldTracks") ∈ lw_tbl := lw_at lw_m6 42 rfl
theorem q1417 : (Jvm.Cond.methodLink "ToldTracks$Chain" (37 : Nat) ({ cls := "java/lang/Math", name := "floorDiv", desc := "(JJ)J" } : Jvm.MethodName)) ∈ lw_all := lw_g (lw_at lw_m6 49 rfl) rfl
theorem q1420 : (Jvm.Cond.methodLink "ToldTracks$Chain" (43 : Nat) ({ cls := "java/lang/Math", name := "floorMod", desc := "(JJ)J" } : Jvm.MethodName)) ∈ lw_all := lw_g (lw_at lw_m6 52 rfl) rfl
theorem q2847 : (Jvm.Cond.castable "ToldTracks$Chain" "java/lang/Object") ∈ lw_tbl := lw_at lw_m12 39 rfl
theorem in_X12 : ∀ w ∈ wsX120, w ∈ lw_all := lw_in wsX120 [855, 857] (by decide +kernel) (by decide +kernel)
/-! ToldTracks$Always -/
def RX13 : String := "ToldTracks$Always"
abbrev cX13_init : ByteArray := prog_3_method_1_code
def yX13_init : MethodName := ⟨RX13, "<init>", "()V"⟩
theorem dX13_init_0 : decode cX13_init 0 = .ok (.aload_n 0, 1) := by decide +kernel
theorem dX13_init_1 : decode cX13_init 1 = .ok (.invokespecial 1, 3) := by decide +kernel
theorem dX13_init_4 : decode cX13_init 4 = .ok (.return_, 1) := by decide +kernel
abbrev cX13_holds : ByteArray := prog_3_method_2_code
def yX13_holds : MethodName := ⟨RX13, "holds", "(LToldTracks$Asking;)Z"⟩
theorem dX13_holds_0 : decode cX13_holds 0 = .ok (.iconst 1, 1) := by decide +kernel
theorem dX13_holds_1 : decode cX13_holds 1 = .ok (.ireturn, 1) := by decide +kernel
theorem q197 : (Jvm.Cond.initialized "ToldTracks$Always") ∈ lw_all := lw_g (lw_at lw_m1 29 rfl) rfl
theorem q952 : (Jvm.Cond.selects "ToldTracks$Always" ({ cls := "java/lang/Object", name := "getClass", desc := "()Ljava/lang/Class;" } : Jvm.MethodName) ({ cls := "java/lang/Object", name := "getClass", desc := "()Ljava/lang/Class;" } : Jvm.MethodName)) ∈ lw_all := lw_g (lw_at lw_m4 64 rfl) rfl
theorem q1015 : (Jvm.Cond.instantiable "ToldTracks$Always" (0 : Nat)) ∈ lw_all := lw_g (lw_at lw_m4 127 rfl) rfl
theorem q1017 : (Jvm.Cond.instanceMethod ({ cls := "ToldTracks$Always", name := "<init>", desc := "()V" } : Jvm.MethodName)) ∈ lw_all := lw_g (lw_at lw_m4 129 rfl) rfl
theorem q1018 : (Jvm.Cond.code ({ cls := "ToldTracks$Always", name := "<init>", desc := "()V" } : Jvm.MethodName) prog_3_method_1_code (1 : Nat) (Option.none : Option Jvm.ClassFile.FieldType)) ∈ lw_all := lw_g (lw_at lw_m4 130 rfl) rfl
theorem q1019 : (Jvm.Cond.methodLink "ToldTracks$Always" (1 : Nat) ({ cls := "java/lang/Object", name := "<init>", desc := "()V" } : Jvm.MethodName)) ∈ lw_all := lw_g (lw_at lw_m4 131 rfl) rfl
theorem q1020 : (Jvm.Cond.superclass "ToldTracks$Always" "java/lang/Object") ∈ lw_all := lw_g (lw_at lw_m4 132 rfl) rfl
theorem q1060 : (Jvm.Cond.castable "ToldTracks$Always" "ToldTracks$Test") ∈ lw_tbl := lw_at lw_m4 172 rfl
theorem q1061 : (Jvm.Cond.unhidden "ToldTracks$Always" "not" "()LToldTracks$Test;") ∈ lw_tbl := lw_at lw_m4 173 rfl
theorem q1423 : (Jvm.Cond.selects "ToldTracks$Always" ({ cls := "ToldTracks$Test", name := "holds", desc := "(LToldTracks$Asking;)Z" } : Jvm.MethodName) ({ cls := "ToldTracks$Always", name := "holds", desc := "(LToldTracks$Asking;)Z" } : Jvm.MethodName)) ∈ lw_all := lw_g (lw_at lw_m6 55 rfl) rfl
theorem q1424 : (Jvm.Cond.unhidden "ToldTracks$Always" "holds" "(LToldTracks$Asking;)Z") ∈ lw_tbl := lw_at lw_m6 56 rfl
theorem q1425 : (Jvm.Cond.instanceMethod ({ cls := "ToldTracks$Always", name := "holds", desc := "(LToldTracks$Asking;)Z" } : Jvm.MethodName)) ∈ lw_all := lw_g (lw_at lw_m6 57 rfl) rfl
theorem q1426 : (Jvm.Cond.publicMethod ({ cls := "ToldTracks$Always", name := "holds", desc := "(LToldTracks$Asking;)Z" } : Jvm.MethodName)) ∈ lw_tbl := lw_at lw_m6 58 rfl
theorem q1427 : (Jvm.Cond.code ({ cls := "ToldTracks$Always", name := "holds", desc := "(LToldTracks$Asking;)Z" } : Jvm.MethodName) prog_3_method_2_code (2 : Nat) (Option.some Jvm.ClassFile.FieldType.boolean)) ∈ lw_all := lw_g (lw_at lw_m6 59 rfl) rfl
theorem q2849 : (Jvm.Cond.castable "ToldTracks$Always" "java/lang/Object") ∈ lw_tbl := lw_at lw_m12 41 rfl
/-! ToldTracks$Against -/
def RX14 : String := "ToldTracks$Against"
def TX14 : u_T := fun k => match k with
  | 0 => ("ToldTracks$Against", "sign", "C", true)
  | 1 => ("ToldTracks$Against", "a", "LToldTracks$Sum;", true)
  | _ => ("ToldTracks$Against", "b", "LToldTracks$Sum;", true)
def tyX14 : Nat → FieldType := fun k => match k with
  | 0 => .char
  | 1 => .object "ToldTracks$Sum"
  | _ => .object "ToldTracks$Sum"
abbrev wsX140 : List Cond := u_ws RX14 TX14 3
theorem nmX14 : ∀ a, a < 3 → ∀ b, b < 3 → a ≠ b → (TX14 a).2.1 ≠ (TX14 b).2.1 := by decide +kernel
theorem tyX14_ok : ∀ k, k < 3 → parseFieldDescriptor (TX14 k).2.2.1 = some (tyX14 k) := by decide +kernel
abbrev cX14_init : ByteArray := prog_2_method_1_code
def yX14_init : MethodName := ⟨RX14, "<init>", "(CLToldTracks$Sum;LToldTracks$Sum;)V"⟩
def dkwX14_init_0 : List UInt8 := [42, 183, 0, 1, 42, 27, 181, 0, 7, 42, 44, 181, 0, 13, 42, 45, 181, 0, 17, 177]
abbrev dktX14_init_0 : List UInt8 := dkwX14_init_0 ++ []
theorem dksX14_init_0 : cX14_init.data.toList.drop 0 = dktX14_init_0 := by decide +kernel
theorem dX14_init_0 : decode cX14_init 0 = .ok (.aload_n 0, 1) := dk_42 (dk_at dksX14_init_0 0 rfl rfl)
theorem dX14_init_1 : decode cX14_init 1 = .ok (.invokespecial 1, 3) := dk_183 0 1 (dk_at dksX14_init_0 1 rfl rfl)
theorem dX14_init_4 : decode cX14_init 4 = .ok (.aload_n 0, 1) := dk_42 (dk_at dksX14_init_0 4 rfl rfl)
theorem dX14_init_5 : decode cX14_init 5 = .ok (.iload_n 1, 1) := dk_27 (dk_at dksX14_init_0 5 rfl rfl)
theorem dX14_init_6 : decode cX14_init 6 = .ok (.putfield 7, 3) := dk_181 0 7 (dk_at dksX14_init_0 6 rfl rfl)
theorem dX14_init_9 : decode cX14_init 9 = .ok (.aload_n 0, 1) := dk_42 (dk_at dksX14_init_0 9 rfl rfl)
theorem dX14_init_10 : decode cX14_init 10 = .ok (.aload_n 2, 1) := dk_44 (dk_at dksX14_init_0 10 rfl rfl)
theorem dX14_init_11 : decode cX14_init 11 = .ok (.putfield 13, 3) := dk_181 0 13 (dk_at dksX14_init_0 11 rfl rfl)
theorem dX14_init_14 : decode cX14_init 14 = .ok (.aload_n 0, 1) := dk_42 (dk_at dksX14_init_0 14 rfl rfl)
theorem dX14_init_15 : decode cX14_init 15 = .ok (.aload_n 3, 1) := dk_45 (dk_at dksX14_init_0 15 rfl rfl)
theorem dX14_init_16 : decode cX14_init 16 = .ok (.putfield 17, 3) := dk_181 0 17 (dk_at dksX14_init_0 16 rfl rfl)
theorem dX14_init_19 : decode cX14_init 19 = .ok (.return_, 1) := dk_177 (dk_at dksX14_init_0 19 rfl rfl)
abbrev cX14_holds : ByteArray := prog_2_method_2_code
def yX14_holds : MethodName := ⟨RX14, "holds", "(LToldTracks$Asking;)Z"⟩
def dkwX14_holds_3 : List UInt8 := [22, 4, 148, 154, 0, 7, 4, 167, 0, 4, 3, 172]
abbrev dktX14_holds_3 : List UInt8 := dkwX14_holds_3 ++ []
def dkwX14_holds_2 : List UInt8 := [180, 0, 7, 16, 62, 160, 0, 18, 32, 22, 4, 148, 158, 0, 7, 4, 167, 0, 19, 3, 167, 0, 15, 32]
abbrev dktX14_holds_2 : List UInt8 := dkwX14_holds_2 ++ dktX14_holds_3
def dkwX14_holds_1 : List UInt8 := [180, 0, 7, 16, 60, 160, 0, 18, 32, 22, 4, 148, 156, 0, 7, 4, 167, 0, 43, 3, 167, 0, 39, 42]
abbrev dktX14_holds_1 : List UInt8 := dkwX14_holds_1 ++ dktX14_holds_2
def dkwX14_holds_0 : List UInt8 := [42, 180, 0, 13, 43, 185, 0, 20, 2, 0, 65, 42, 180, 0, 17, 43, 185, 0, 20, 2, 0, 55, 4, 42]
abbrev dktX14_holds_0 : List UInt8 := dkwX14_holds_0 ++ dktX14_holds_1
theorem dksX14_holds_0 : cX14_holds.data.toList.drop 0 = dktX14_holds_0 := by decide +kernel
theorem dksX14_holds_1 : cX14_holds.data.toList.drop 24 = dktX14_holds_1 := dk_seg dksX14_holds_0 24 rfl rfl
theorem dksX14_holds_2 : cX14_holds.data.toList.drop 48 = dktX14_holds_2 := dk_seg dksX14_holds_1 24 rfl rfl
theorem dksX14_holds_3 : cX14_holds.data.toList.drop 72 = dktX14_holds_3 := dk_seg dksX14_holds_2 24 rfl rfl
theorem dX14_holds_0 : decode cX14_holds 0 = .ok (.aload_n 0, 1) := dk_42 (dk_at dksX14_holds_0 0 rfl rfl)
theorem dX14_holds_1 : decode cX14_holds 1 = .ok (.getfield 13, 3) := dk_180 0 13 (dk_at dksX14_holds_0 1 rfl rfl)
theorem dX14_holds_4 : decode cX14_holds 4 = .ok (.aload_n 1, 1) := dk_43 (dk_at dksX14_holds_0 4 rfl rfl)
theorem dX14_holds_5 : decode cX14_holds 5 = .ok (.invokeinterface 20 2, 5) := by decide +kernel
theorem dX14_holds_10 : decode cX14_holds 10 = .ok (.lstore_n 2, 1) := dk_65 (dk_at dksX14_holds_0 10 rfl rfl)
theorem dX14_holds_11 : decode cX14_holds 11 = .ok (.aload_n 0, 1) := dk_42 (dk_at dksX14_holds_0 11 rfl rfl)
theorem dX14_holds_12 : decode cX14_holds 12 = .ok (.getfield 17, 3) := dk_180 0 17 (dk_at dksX14_holds_0 12 rfl rfl)
theorem dX14_holds_15 : decode cX14_holds 15 = .ok (.aload_n 1, 1) := dk_43 (dk_at dksX14_holds_0 15 rfl rfl)
theorem dX14_holds_16 : decode cX14_holds 16 = .ok (.invokeinterface 20 2, 5) := by decide +kernel
theorem dX14_holds_21 : decode cX14_holds 21 = .ok (.lstore 4, 2) := dk_55 4 (dk_at dksX14_holds_0 21 rfl rfl)
theorem dX14_holds_23 : decode cX14_holds 23 = .ok (.aload_n 0, 1) := dk_42 (dk_at dksX14_holds_0 23 rfl rfl)
theorem dX14_holds_24 : decode cX14_holds 24 = .ok (.getfield 7, 3) := dk_180 0 7 (dk_at dksX14_holds_1 0 rfl rfl)
theorem dX14_holds_27 : decode cX14_holds 27 = .ok (.bipush 60, 2) := dk_16 60 (dk_at dksX14_holds_1 3 rfl rfl)
theorem dX14_holds_29 : decode cX14_holds 29 = .ok (.if_icmp .ne 18, 3) := dk_160 0 18 (dk_at dksX14_holds_1 5 rfl rfl)
theorem dX14_holds_32 : decode cX14_holds 32 = .ok (.lload_n 2, 1) := dk_32 (dk_at dksX14_holds_1 8 rfl rfl)
theorem dX14_holds_33 : decode cX14_holds 33 = .ok (.lload 4, 2) := dk_22 4 (dk_at dksX14_holds_1 9 rfl rfl)
theorem dX14_holds_35 : decode cX14_holds 35 = .ok (.lcmp, 1) := dk_148 (dk_at dksX14_holds_1 11 rfl rfl)
theorem dX14_holds_36 : decode cX14_holds 36 = .ok (.ifCond .ge 7, 3) := dk_156 0 7 (dk_at dksX14_holds_1 12 rfl rfl)
theorem dX14_holds_39 : decode cX14_holds 39 = .ok (.iconst 1, 1) := dk_4 (dk_at dksX14_holds_1 15 rfl rfl)
theorem dX14_holds_40 : decode cX14_holds 40 = .ok (.goto 43, 3) := dk_167 0 43 (dk_at dksX14_holds_1 16 rfl rfl)
theorem dX14_holds_43 : decode cX14_holds 43 = .ok (.iconst 0, 1) := dk_3 (dk_at dksX14_holds_1 19 rfl rfl)
theorem dX14_holds_44 : decode cX14_holds 44 = .ok (.goto 39, 3) := dk_167 0 39 (dk_at dksX14_holds_1 20 rfl rfl)
theorem dX14_holds_47 : decode cX14_holds 47 = .ok (.aload_n 0, 1) := dk_42 (dk_at dksX14_holds_1 23 rfl rfl)
theorem dX14_holds_48 : decode cX14_holds 48 = .ok (.getfield 7, 3) := dk_180 0 7 (dk_at dksX14_holds_2 0 rfl rfl)
theorem dX14_holds_51 : decode cX14_holds 51 = .ok (.bipush 62, 2) := dk_16 62 (dk_at dksX14_holds_2 3 rfl rfl)
theorem dX14_holds_53 : decode cX14_holds 53 = .ok (.if_icmp .ne 18, 3) := dk_160 0 18 (dk_at dksX14_holds_2 5 rfl rfl)
theorem dX14_holds_56 : decode cX14_holds 56 = .ok (.lload_n 2, 1) := dk_32 (dk_at dksX14_holds_2 8 rfl rfl)
theorem dX14_holds_57 : decode cX14_holds 57 = .ok (.lload 4, 2) := dk_22 4 (dk_at dksX14_holds_2 9 rfl rfl)
theorem dX14_holds_59 : decode cX14_holds 59 = .ok (.lcmp, 1) := dk_148 (dk_at dksX14_holds_2 11 rfl rfl)
theorem dX14_holds_60 : decode cX14_holds 60 = .ok (.ifCond .le 7, 3) := dk_158 0 7 (dk_at dksX14_holds_2 12 rfl rfl)
theorem dX14_holds_63 : decode cX14_holds 63 = .ok (.iconst 1, 1) := dk_4 (dk_at dksX14_holds_2 15 rfl rfl)
theorem dX14_holds_64 : decode cX14_holds 64 = .ok (.goto 19, 3) := dk_167 0 19 (dk_at dksX14_holds_2 16 rfl rfl)
theorem dX14_holds_67 : decode cX14_holds 67 = .ok (.iconst 0, 1) := dk_3 (dk_at dksX14_holds_2 19 rfl rfl)
theorem dX14_holds_68 : decode cX14_holds 68 = .ok (.goto 15, 3) := dk_167 0 15 (dk_at dksX14_holds_2 20 rfl rfl)
theorem dX14_holds_71 : decode cX14_holds 71 = .ok (.lload_n 2, 1) := dk_32 (dk_at dksX14_holds_2 23 rfl rfl)
theorem dX14_holds_72 : decode cX14_holds 72 = .ok (.lload 4, 2) := dk_22 4 (dk_at dksX14_holds_3 0 rfl rfl)
theorem dX14_holds_74 : decode cX14_holds 74 = .ok (.lcmp, 1) := dk_148 (dk_at dksX14_holds_3 2 rfl rfl)
theorem dX14_holds_75 : decode cX14_holds 75 = .ok (.ifCond .ne 7, 3) := dk_154 0 7 (dk_at dksX14_holds_3 3 rfl rfl)
theorem dX14_holds_78 : decode cX14_holds 78 = .ok (.iconst 1, 1) := dk_4 (dk_at dksX14_holds_3 6 rfl rfl)
theorem dX14_holds_79 : decode cX14_holds 79 = .ok (.goto 4, 3) := dk_167 0 4 (dk_at dksX14_holds_3 7 rfl rfl)
theorem dX14_holds_82 : decode cX14_holds 82 = .ok (.iconst 0, 1) := dk_3 (dk_at dksX14_holds_3 10 rfl rfl)
theorem dX14_holds_83 : decode cX14_holds 83 = .ok (.ireturn, 1) := dk_172 (dk_at dksX14_holds_3 11 rfl rfl)
theorem q198 : (Jvm.Cond.initialized "ToldTracks$Against") ∈ lw_all := lw_g (lw_at lw_m1 30 rfl) rfl
theorem q951 : (Jvm.Cond.selects "ToldTracks$Against" ({ cls := "java/lang/Object", name := "getClass", desc := "()Ljava/lang/Class;" } : Jvm.MethodName) ({ cls := "java/lang/Object", name := "getClass", desc := "()Ljava/lang/Class;" } : Jvm.MethodName)) ∈ lw_all := lw_g (lw_at lw_m4 63 rfl) rfl
theorem q1026 : (Jvm.Cond.instantiable "ToldTracks$Against" (3 : Nat)) ∈ lw_all := lw_g (lw_at lw_m4 138 rfl) rfl
theorem q1028 : (Jvm.Cond.instanceMethod ({ cls := "ToldTracks$Against", name := "<init>", desc := "(CLToldTracks$Sum;LToldTracks$Sum;)V" } : Jvm.MethodName)) ∈ lw_all := lw_g (lw_at lw_m4 140 rfl) rfl
theorem q1029 : (Jvm.Cond.code ({ cls := "ToldTracks$Against", name := "<init>", desc := "(CLToldTracks$Sum;LToldTracks$Sum;)V" } : Jvm.MethodName) prog_2_method_1_code (4 : Nat) (Option.none : Option Jvm.ClassFile.FieldType)) ∈ lw_all := lw_g (lw_at lw_m4 141 rfl) rfl
theorem q1030 : (Jvm.Cond.methodLink "ToldTracks$Against" (1 : Nat) ({ cls := "java/lang/Object", name := "<init>", desc := "()V" } : Jvm.MethodName)) ∈ lw_all := lw_g (lw_at lw_m4 142 rfl) rfl
theorem q1031 : (Jvm.Cond.fieldLink "ToldTracks$Against" (7 : Nat) "ToldTracks$Against" "sign" "C") ∈ lw_all := lw_g (lw_at lw_m4 143 rfl) rfl
theorem q1032 : (Jvm.Cond.fieldLink "ToldTracks$Against" (13 : Nat) "ToldTracks$Against" "a" "LToldTracks$Sum;") ∈ lw_all := lw_g (lw_at lw_m4 144 rfl) rfl
theorem q1033 : (Jvm.Cond.fieldLink "ToldTracks$Against" (17 : Nat) "ToldTracks$Against" "b" "LToldTracks$Sum;") ∈ lw_all := lw_g (lw_at lw_m4 145 rfl) rfl
theorem q1034 : (Jvm.Cond.laysFinal "ToldTracks$Against" "ToldTracks$Against" "sign" "C") ∈ lw_all := lw_g (lw_at lw_m4 146 rfl) rfl
theorem q1035 : (Jvm.Cond.soleField "ToldTracks$Against" "sign") ∈ lw_all := lw_g (lw_at lw_m4 147 rfl) rfl
theorem q1036 : (Jvm.Cond.laysFinal "ToldTracks$Against" "ToldTracks$Against" "a" "LToldTracks$Sum;") ∈ lw_all := lw_g (lw_at lw_m4 148 rfl) rfl
theorem q1037 : (Jvm.Cond.soleField "ToldTracks$Against" "a") ∈ lw_all := lw_g (lw_at lw_m4 149 rfl) rfl
theorem q1038 : (Jvm.Cond.laysFinal "ToldTracks$Against" "ToldTracks$Against" "b" "LToldTracks$Sum;") ∈ lw_all := lw_g (lw_at lw_m4 150 rfl) rfl
theorem q1039 : (Jvm.Cond.soleField "ToldTracks$Against" "b") ∈ lw_all := lw_g (lw_at lw_m4 151 rfl) rfl
theorem q1040 : (Jvm.Cond.superclass "ToldTracks$Against" "java/lang/Object") ∈ lw_all := lw_g (lw_at lw_m4 152 rfl) rfl
theorem q1045 : (Jvm.Cond.castable "ToldTracks$Against" "ToldTracks$Test") ∈ lw_tbl := lw_at lw_m4 157 rfl
theorem q1046 : (Jvm.Cond.unhidden "ToldTracks$Against" "not" "()LToldTracks$Test;") ∈ lw_tbl := lw_at lw_m4 158 rfl
theorem q1351 : (Jvm.Cond.selects "ToldTracks$Against" ({ cls := "ToldTracks$Test", name := "holds", desc := "(LToldTracks$Asking;)Z" } : Jvm.MethodName) ({ cls := "ToldTracks$Against", name := "holds", desc := "(LToldTracks$Asking;)Z" } : Jvm.MethodName)) ∈ lw_all := lw_g (lw_at lw_m5 223 rfl) rfl
theorem q1352 : (Jvm.Cond.unhidden "ToldTracks$Against" "holds" "(LToldTracks$Asking;)Z") ∈ lw_tbl := lw_at lw_m5 224 rfl
theorem q1353 : (Jvm.Cond.instanceMethod ({ cls := "ToldTracks$Against", name := "holds", desc := "(LToldTracks$Asking;)Z" } : Jvm.MethodName)) ∈ lw_all := lw_g (lw_at lw_m5 225 rfl) rfl
theorem q1354 : (Jvm.Cond.publicMethod ({ cls := "ToldTracks$Against", name := "holds", desc := "(LToldTracks$Asking;)Z" } : Jvm.MethodName)) ∈ lw_tbl := lw_at lw_m5 226 rfl
theorem q1355 : (Jvm.Cond.code ({ cls := "ToldTracks$Against", name := "holds", desc := "(LToldTracks$Asking;)Z" } : Jvm.MethodName) prog_2_method_2_code (6 : Nat) (Option.some Jvm.ClassFile.FieldType.boolean)) ∈ lw_all := lw_g (lw_at lw_m5 227 rfl) rfl
theorem q1356 : (Jvm.Cond.interfaceEntry "ToldTracks$Against" (20 : Nat)) ∈ lw_tbl := lw_at lw_m5 228 rfl
theorem q1357 : (Jvm.Cond.methodLink "ToldTracks$Against" (20 : Nat) ({ cls := "ToldTracks$Sum", name := "of", desc := "(LToldTracks$Asking;)J" } : Jvm.MethodName)) ∈ lw_all := lw_g (lw_at lw_m5 229 rfl) rfl
theorem q2850 : (Jvm.Cond.castable "ToldTracks$Against" "java/lang/Object") ∈ lw_tbl := lw_at lw_m12 42 rfl
theorem in_X14 : ∀ w ∈ wsX140, w ∈ lw_all := lw_in wsX140 [1034, 1036, 1038] (by decide +kernel) (by decide +kernel)
/-! ToldTracks$Not -/
def RX15 : String := "ToldTracks$Not"
def TX15 : u_T := fun k => match k with
  | _ => ("ToldTracks$Not", "test", "LToldTracks$Test;", true)
def tyX15 : Nat → FieldType := fun k => match k with
  | _ => .object "ToldTracks$Test"
abbrev wsX150 : List Cond := u_ws RX15 TX15 1
theorem nmX15 : ∀ a, a < 1 → ∀ b, b < 1 → a ≠ b → (TX15 a).2.1 ≠ (TX15 b).2.1 := by decide +kernel
theorem tyX15_ok : ∀ k, k < 1 → parseFieldDescriptor (TX15 k).2.2.1 = some (tyX15 k) := by decide +kernel
abbrev cX15_init : ByteArray := prog_12_method_1_code
def yX15_init : MethodName := ⟨RX15, "<init>", "(LToldTracks$Test;)V"⟩
def dkwX15_init_0 : List UInt8 := [42, 183, 0, 1, 42, 43, 181, 0, 7, 177]
abbrev dktX15_init_0 : List UInt8 := dkwX15_init_0 ++ []
theorem dksX15_init_0 : cX15_init.data.toList.drop 0 = dktX15_init_0 := by decide +kernel
theorem dX15_init_0 : decode cX15_init 0 = .ok (.aload_n 0, 1) := dk_42 (dk_at dksX15_init_0 0 rfl rfl)
theorem dX15_init_1 : decode cX15_init 1 = .ok (.invokespecial 1, 3) := dk_183 0 1 (dk_at dksX15_init_0 1 rfl rfl)
theorem dX15_init_4 : decode cX15_init 4 = .ok (.aload_n 0, 1) := dk_42 (dk_at dksX15_init_0 4 rfl rfl)
theorem dX15_init_5 : decode cX15_init 5 = .ok (.aload_n 1, 1) := dk_43 (dk_at dksX15_init_0 5 rfl rfl)
theorem dX15_init_6 : decode cX15_init 6 = .ok (.putfield 7, 3) := dk_181 0 7 (dk_at dksX15_init_0 6 rfl rfl)
theorem dX15_init_9 : decode cX15_init 9 = .ok (.return_, 1) := dk_177 (dk_at dksX15_init_0 9 rfl rfl)
abbrev cX15_not : ByteArray := prog_12_method_3_code
def yX15_not : MethodName := ⟨RX15, "not", "()LToldTracks$Test;"⟩
theorem dX15_not_0 : decode cX15_not 0 = .ok (.aload_n 0, 1) := by decide +kernel
theorem dX15_not_1 : decode cX15_not 1 = .ok (.getfield 7, 3) := by decide +kernel
theorem dX15_not_4 : decode cX15_not 4 = .ok (.areturn, 1) := by decide +kernel
abbrev cX15_holds : ByteArray := prog_12_method_2_code
def yX15_holds : MethodName := ⟨RX15, "holds", "(LToldTracks$Asking;)Z"⟩
def dkwX15_holds_0 : List UInt8 := [42, 180, 0, 7, 43, 185, 0, 13, 2, 0, 154, 0, 7, 4, 167, 0, 4, 3, 172]
abbrev dktX15_holds_0 : List UInt8 := dkwX15_holds_0 ++ []
theorem dksX15_holds_0 : cX15_holds.data.toList.drop 0 = dktX15_holds_0 := by decide +kernel
theorem dX15_holds_0 : decode cX15_holds 0 = .ok (.aload_n 0, 1) := dk_42 (dk_at dksX15_holds_0 0 rfl rfl)
theorem dX15_holds_1 : decode cX15_holds 1 = .ok (.getfield 7, 3) := dk_180 0 7 (dk_at dksX15_holds_0 1 rfl rfl)
theorem dX15_holds_4 : decode cX15_holds 4 = .ok (.aload_n 1, 1) := dk_43 (dk_at dksX15_holds_0 4 rfl rfl)
theorem dX15_holds_5 : decode cX15_holds 5 = .ok (.invokeinterface 13 2, 5) := by decide +kernel
theorem dX15_holds_10 : decode cX15_holds 10 = .ok (.ifCond .ne 7, 3) := dk_154 0 7 (dk_at dksX15_holds_0 10 rfl rfl)
theorem dX15_holds_13 : decode cX15_holds 13 = .ok (.iconst 1, 1) := dk_4 (dk_at dksX15_holds_0 13 rfl rfl)
theorem dX15_holds_14 : decode cX15_holds 14 = .ok (.goto 4, 3) := dk_167 0 4 (dk_at dksX15_holds_0 14 rfl rfl)
theorem dX15_holds_17 : decode cX15_holds 17 = .ok (.iconst 0, 1) := dk_3 (dk_at dksX15_holds_0 17 rfl rfl)
theorem dX15_holds_18 : decode cX15_holds 18 = .ok (.ireturn, 1) := dk_172 (dk_at dksX15_holds_0 18 rfl rfl)
theorem q199 : (Jvm.Cond.initialized "ToldTracks$Not") ∈ lw_all := lw_g (lw_at lw_m1 31 rfl) rfl
theorem q959 : (Jvm.Cond.selects "ToldTracks$Not" ({ cls := "java/lang/Object", name := "getClass", desc := "()Ljava/lang/Class;" } : Jvm.MethodName) ({ cls := "java/lang/Object", name := "getClass", desc := "()Ljava/lang/Class;" } : Jvm.MethodName)) ∈ lw_all := lw_g (lw_at lw_m4 71 rfl) rfl
theorem q1051 : (Jvm.Cond.instantiable "ToldTracks$Not" (1 : Nat)) ∈ lw_all := lw_g (lw_at lw_m4 163 rfl) rfl
theorem q1053 : (Jvm.Cond.instanceMethod ({ cls := "ToldTracks$Not", name := "<init>", desc := "(LToldTracks$Test;)V" } : Jvm.MethodName)) ∈ lw_all := lw_g (lw_at lw_m4 165 rfl) rfl
theorem q1054 : (Jvm.Cond.code ({ cls := "ToldTracks$Not", name := "<init>", desc := "(LToldTracks$Test;)V" } : Jvm.MethodName) prog_12_method_1_code (2 : Nat) (Option.none : Option Jvm.ClassFile.FieldType)) ∈ lw_all := lw_g (lw_at lw_m4 166 rfl) rfl
theorem q1055 : (Jvm.Cond.methodLink "ToldTracks$Not" (1 : Nat) ({ cls := "java/lang/Object", name := "<init>", desc := "()V" } : Jvm.MethodName)) ∈ lw_all := lw_g (lw_at lw_m4 167 rfl) rfl
theorem q1056 : (Jvm.Cond.fieldLink "ToldTracks$Not" (7 : Nat) "ToldTracks$Not" "test" "LToldTracks$Test;") ∈ lw_all := lw_g (lw_at lw_m4 168 rfl) rfl
theorem q1057 : (Jvm.Cond.laysFinal "ToldTracks$Not" "ToldTracks$Not" "test" "LToldTracks$Test;") ∈ lw_all := lw_g (lw_at lw_m4 169 rfl) rfl
theorem q1058 : (Jvm.Cond.soleField "ToldTracks$Not" "test") ∈ lw_all := lw_g (lw_at lw_m4 170 rfl) rfl
theorem q1059 : (Jvm.Cond.superclass "ToldTracks$Not" "java/lang/Object") ∈ lw_all := lw_g (lw_at lw_m4 171 rfl) rfl
theorem q1062 : (Jvm.Cond.castable "ToldTracks$Not" "ToldTracks$Test") ∈ lw_tbl := lw_at lw_m4 174 rfl
theorem q1063 : (Jvm.Cond.selects "ToldTracks$Not" ({ cls := "ToldTracks$Test", name := "not", desc := "()LToldTracks$Test;" } : Jvm.MethodName) ({ cls := "ToldTracks$Not", name := "not", desc := "()LToldTracks$Test;" } : Jvm.MethodName)) ∈ lw_all := lw_g (lw_at lw_m4 175 rfl) rfl
theorem q1064 : (Jvm.Cond.unhidden "ToldTracks$Not" "not" "()LToldTracks$Test;") ∈ lw_tbl := lw_at lw_m4 176 rfl
theorem q1065 : (Jvm.Cond.instanceMethod ({ cls := "ToldTracks$Not", name := "not", desc := "()LToldTracks$Test;" } : Jvm.MethodName)) ∈ lw_all := lw_g (lw_at lw_m4 177 rfl) rfl
theorem q1066 : (Jvm.Cond.publicMethod ({ cls := "ToldTracks$Not", name := "not", desc := "()LToldTracks$Test;" } : Jvm.MethodName)) ∈ lw_tbl := lw_at lw_m4 178 rfl
theorem q1067 : (Jvm.Cond.code ({ cls := "ToldTracks$Not", name := "not", desc := "()LToldTracks$Test;" } : Jvm.MethodName) prog_12_method_3_code (1 : Nat) (Option.some (Jvm.ClassFile.FieldType.object "ToldTracks$Test"))) ∈ lw_all := lw_g (lw_at lw_m4 179 rfl) rfl
theorem q1428 : (Jvm.Cond.selects "ToldTracks$Not" ({ cls := "ToldTracks$Test", name := "holds", desc := "(LToldTracks$Asking;)Z" } : Jvm.MethodName) ({ cls := "ToldTracks$Not", name := "holds", desc := "(LToldTracks$Asking;)Z" } : Jvm.MethodName)) ∈ lw_all := lw_g (lw_at lw_m6 60 rfl) rfl
theorem q1429 : (Jvm.Cond.unhidden "ToldTracks$Not" "holds" "(LToldTracks$Asking;)Z") ∈ lw_tbl := lw_at lw_m6 61 rfl
theorem q1430 : (Jvm.Cond.instanceMethod ({ cls := "ToldTracks$Not", name := "holds", desc := "(LToldTracks$Asking;)Z" } : Jvm.MethodName)) ∈ lw_all := lw_g (lw_at lw_m6 62 rfl) rfl
theorem q1431 : (Jvm.Cond.publicMethod ({ cls := "ToldTracks$Not", name := "holds", desc := "(LToldTracks$Asking;)Z" } : Jvm.MethodName)) ∈ lw_tbl := lw_at lw_m6 63 rfl
theorem q1432 : (Jvm.Cond.code ({ cls := "ToldTracks$Not", name := "holds", desc := "(LToldTracks$Asking;)Z" } : Jvm.MethodName) prog_12_method_2_code (2 : Nat) (Option.some Jvm.ClassFile.FieldType.boolean)) ∈ lw_all := lw_g (lw_at lw_m6 64 rfl) rfl
theorem q1433 : (Jvm.Cond.interfaceEntry "ToldTracks$Not" (13 : Nat)) ∈ lw_tbl := lw_at lw_m6 65 rfl
theorem q1434 : (Jvm.Cond.methodLink "ToldTracks$Not" (13 : Nat) ({ cls := "ToldTracks$Test", name := "holds", desc := "(LToldTracks$Asking;)Z" } : Jvm.MethodName)) ∈ lw_all := lw_g (lw_at lw_m6 66 rfl) rfl
theorem q2851 : (Jvm.Cond.castable "ToldTracks$Not" "java/lang/Object") ∈ lw_tbl := lw_at lw_m12 43 rfl
theorem in_X15 : ∀ w ∈ wsX150, w ∈ lw_all := lw_in wsX150 [1057] (by decide +kernel) (by decide +kernel)
/-! ToldTracks$Several -/
def RX16 : String := "ToldTracks$Several"
def TX16 : u_T := fun k => match k with
  | 0 => ("ToldTracks$Several", "all", "Z", true)
  | _ => ("ToldTracks$Several", "tests", "Ljava/util/ArrayList;", true)
def tyX16 : Nat → FieldType := fun k => match k with
  | 0 => .boolean
  | _ => .object "java/util/ArrayList"
abbrev wsX160 : List Cond := u_ws RX16 TX16 2
theorem nmX16 : ∀ a, a < 2 → ∀ b, b < 2 → a ≠ b → (TX16 a).2.1 ≠ (TX16 b).2.1 := by decide +kernel
theorem tyX16_ok : ∀ k, k < 2 → parseFieldDescriptor (TX16 k).2.2.1 = some (tyX16 k) := by decide +kernel
abbrev cX16_init : ByteArray := prog_20_method_1_code
def yX16_init : MethodName := ⟨RX16, "<init>", "(ZLToldTracks$Test;)V"⟩
def dkwX16_init_1 : List UInt8 := [44, 182, 0, 20, 87, 177]
abbrev dktX16_init_1 : List UInt8 := dkwX16_init_1 ++ []
def dkwX16_init_0 : List UInt8 := [42, 183, 0, 1, 42, 187, 0, 7, 89, 183, 0, 9, 181, 0, 10, 42, 27, 181, 0, 16, 42, 180, 0, 10]
abbrev dktX16_init_0 : List UInt8 := dkwX16_init_0 ++ dktX16_init_1
theorem dksX16_init_0 : cX16_init.data.toList.drop 0 = dktX16_init_0 := by decide +kernel
theorem dksX16_init_1 : cX16_init.data.toList.drop 24 = dktX16_init_1 := dk_seg dksX16_init_0 24 rfl rfl
theorem dX16_init_0 : decode cX16_init 0 = .ok (.aload_n 0, 1) := dk_42 (dk_at dksX16_init_0 0 rfl rfl)
theorem dX16_init_1 : decode cX16_init 1 = .ok (.invokespecial 1, 3) := dk_183 0 1 (dk_at dksX16_init_0 1 rfl rfl)
theorem dX16_init_4 : decode cX16_init 4 = .ok (.aload_n 0, 1) := dk_42 (dk_at dksX16_init_0 4 rfl rfl)
theorem dX16_init_5 : decode cX16_init 5 = .ok (.new 7, 3) := dk_187 0 7 (dk_at dksX16_init_0 5 rfl rfl)
theorem dX16_init_8 : decode cX16_init 8 = .ok (.dup, 1) := dk_89 (dk_at dksX16_init_0 8 rfl rfl)
theorem dX16_init_9 : decode cX16_init 9 = .ok (.invokespecial 9, 3) := dk_183 0 9 (dk_at dksX16_init_0 9 rfl rfl)
theorem dX16_init_12 : decode cX16_init 12 = .ok (.putfield 10, 3) := dk_181 0 10 (dk_at dksX16_init_0 12 rfl rfl)
theorem dX16_init_15 : decode cX16_init 15 = .ok (.aload_n 0, 1) := dk_42 (dk_at dksX16_init_0 15 rfl rfl)
theorem dX16_init_16 : decode cX16_init 16 = .ok (.iload_n 1, 1) := dk_27 (dk_at dksX16_init_0 16 rfl rfl)
theorem dX16_init_17 : decode cX16_init 17 = .ok (.putfield 16, 3) := dk_181 0 16 (dk_at dksX16_init_0 17 rfl rfl)
theorem dX16_init_20 : decode cX16_init 20 = .ok (.aload_n 0, 1) := dk_42 (dk_at dksX16_init_0 20 rfl rfl)
theorem dX16_init_21 : decode cX16_init 21 = .ok (.getfield 10, 3) := dk_180 0 10 (dk_at dksX16_init_0 21 rfl rfl)
theorem dX16_init_24 : decode cX16_init 24 = .ok (.aload_n 2, 1) := dk_44 (dk_at dksX16_init_1 0 rfl rfl)
theorem dX16_init_25 : decode cX16_init 25 = .ok (.invokevirtual 20, 3) := dk_182 0 20 (dk_at dksX16_init_1 1 rfl rfl)
theorem dX16_init_28 : decode cX16_init 28 = .ok (.pop, 1) := dk_87 (dk_at dksX16_init_1 4 rfl rfl)
theorem dX16_init_29 : decode cX16_init 29 = .ok (.return_, 1) := dk_177 (dk_at dksX16_init_1 5 rfl rfl)
abbrev cX16_holds : ByteArray := prog_20_method_2_code
def yX16_holds : MethodName := ⟨RX16, "holds", "(LToldTracks$Asking;)Z"⟩
def dkwX16_holds_2 : List UInt8 := [3, 172, 132, 2, 1, 167, 255, 205, 42, 180, 0, 16, 172]
abbrev dktX16_holds_2 : List UInt8 := dkwX16_holds_2 ++ []
def dkwX16_holds_1 : List UInt8 := [43, 185, 0, 34, 2, 0, 42, 180, 0, 16, 159, 0, 16, 42, 180, 0, 16, 154, 0, 7, 4, 167, 0, 4]
abbrev dktX16_holds_1 : List UInt8 := dkwX16_holds_1 ++ dktX16_holds_2
def dkwX16_holds_0 : List UInt8 := [3, 61, 28, 42, 180, 0, 10, 182, 0, 24, 162, 0, 46, 42, 180, 0, 10, 28, 182, 0, 28, 192, 0, 32]
abbrev dktX16_holds_0 : List UInt8 := dkwX16_holds_0 ++ dktX16_holds_1
theorem dksX16_holds_0 : cX16_holds.data.toList.drop 0 = dktX16_holds_0 := by decide +kernel
theorem dksX16_holds_1 : cX16_holds.data.toList.drop 24 = dktX16_holds_1 := dk_seg dksX16_holds_0 24 rfl rfl
theorem dksX16_holds_2 : cX16_holds.data.toList.drop 48 = dktX16_holds_2 := dk_seg dksX16_holds_1 24 rfl rfl
theorem dX16_holds_0 : decode cX16_holds 0 = .ok (.iconst 0, 1) := dk_3 (dk_at dksX16_holds_0 0 rfl rfl)
theorem dX16_holds_1 : decode cX16_holds 1 = .ok (.istore_n 2, 1) := dk_61 (dk_at dksX16_holds_0 1 rfl rfl)
theorem dX16_holds_2 : decode cX16_holds 2 = .ok (.iload_n 2, 1) := dk_28 (dk_at dksX16_holds_0 2 rfl rfl)
theorem dX16_holds_3 : decode cX16_holds 3 = .ok (.aload_n 0, 1) := dk_42 (dk_at dksX16_holds_0 3 rfl rfl)
theorem dX16_holds_4 : decode cX16_holds 4 = .ok (.getfield 10, 3) := dk_180 0 10 (dk_at dksX16_holds_0 4 rfl rfl)
theorem dX16_holds_7 : decode cX16_holds 7 = .ok (.invokevirtual 24, 3) := dk_182 0 24 (dk_at dksX16_holds_0 7 rfl rfl)
theorem dX16_holds_10 : decode cX16_holds 10 = .ok (.if_icmp .ge 46, 3) := dk_162 0 46 (dk_at dksX16_holds_0 10 rfl rfl)
theorem dX16_holds_13 : decode cX16_holds 13 = .ok (.aload_n 0, 1) := dk_42 (dk_at dksX16_holds_0 13 rfl rfl)
theorem dX16_holds_14 : decode cX16_holds 14 = .ok (.getfield 10, 3) := dk_180 0 10 (dk_at dksX16_holds_0 14 rfl rfl)
theorem dX16_holds_17 : decode cX16_holds 17 = .ok (.iload_n 2, 1) := dk_28 (dk_at dksX16_holds_0 17 rfl rfl)
theorem dX16_holds_18 : decode cX16_holds 18 = .ok (.invokevirtual 28, 3) := dk_182 0 28 (dk_at dksX16_holds_0 18 rfl rfl)
theorem dX16_holds_21 : decode cX16_holds 21 = .ok (.checkcast 32, 3) := dk_192 0 32 (dk_at dksX16_holds_0 21 rfl rfl)
theorem dX16_holds_24 : decode cX16_holds 24 = .ok (.aload_n 1, 1) := dk_43 (dk_at dksX16_holds_1 0 rfl rfl)
theorem dX16_holds_25 : decode cX16_holds 25 = .ok (.invokeinterface 34 2, 5) := by decide +kernel
theorem dX16_holds_30 : decode cX16_holds 30 = .ok (.aload_n 0, 1) := dk_42 (dk_at dksX16_holds_1 6 rfl rfl)
theorem dX16_holds_31 : decode cX16_holds 31 = .ok (.getfield 16, 3) := dk_180 0 16 (dk_at dksX16_holds_1 7 rfl rfl)
theorem dX16_holds_34 : decode cX16_holds 34 = .ok (.if_icmp .eq 16, 3) := dk_159 0 16 (dk_at dksX16_holds_1 10 rfl rfl)
theorem dX16_holds_37 : decode cX16_holds 37 = .ok (.aload_n 0, 1) := dk_42 (dk_at dksX16_holds_1 13 rfl rfl)
theorem dX16_holds_38 : decode cX16_holds 38 = .ok (.getfield 16, 3) := dk_180 0 16 (dk_at dksX16_holds_1 14 rfl rfl)
theorem dX16_holds_41 : decode cX16_holds 41 = .ok (.ifCond .ne 7, 3) := dk_154 0 7 (dk_at dksX16_holds_1 17 rfl rfl)
theorem dX16_holds_44 : decode cX16_holds 44 = .ok (.iconst 1, 1) := dk_4 (dk_at dksX16_holds_1 20 rfl rfl)
theorem dX16_holds_45 : decode cX16_holds 45 = .ok (.goto 4, 3) := dk_167 0 4 (dk_at dksX16_holds_1 21 rfl rfl)
theorem dX16_holds_48 : decode cX16_holds 48 = .ok (.iconst 0, 1) := dk_3 (dk_at dksX16_holds_2 0 rfl rfl)
theorem dX16_holds_49 : decode cX16_holds 49 = .ok (.ireturn, 1) := dk_172 (dk_at dksX16_holds_2 1 rfl rfl)
theorem dX16_holds_50 : decode cX16_holds 50 = .ok (.iinc 2 1, 3) := dk_132 2 1 (dk_at dksX16_holds_2 2 rfl rfl)
theorem dX16_holds_53 : decode cX16_holds 53 = .ok (.goto (-51), 3) := dk_167 255 205 (dk_at dksX16_holds_2 5 rfl rfl)
theorem dX16_holds_56 : decode cX16_holds 56 = .ok (.aload_n 0, 1) := dk_42 (dk_at dksX16_holds_2 8 rfl rfl)
theorem dX16_holds_57 : decode cX16_holds 57 = .ok (.getfield 16, 3) := dk_180 0 16 (dk_at dksX16_holds_2 9 rfl rfl)
theorem dX16_holds_60 : decode cX16_holds 60 = .ok (.ireturn, 1) := dk_172 (dk_at dksX16_holds_2 12 rfl rfl)
theorem q200 : (Jvm.Cond.initialized "ToldTracks$Several") ∈ lw_all := lw_g (lw_at lw_m1 32 rfl) rfl
theorem q967 : (Jvm.Cond.selects "ToldTracks$Several" ({ cls := "java/lang/Object", name := "getClass", desc := "()Ljava/lang/Class;" } : Jvm.MethodName) ({ cls := "java/lang/Object", name := "getClass", desc := "()Ljava/lang/Class;" } : Jvm.MethodName)) ∈ lw_all := lw_g (lw_at lw_m4 79 rfl) rfl
theorem q1068 : (Jvm.Cond.castable "ToldTracks$Several" "ToldTracks$Test") ∈ lw_tbl := lw_at lw_m4 180 rfl
theorem q1069 : (Jvm.Cond.unhidden "ToldTracks$Several" "not" "()LToldTracks$Test;") ∈ lw_tbl := lw_at lw_m4 181 rfl
theorem q1072 : (Jvm.Cond.instantiable "ToldTracks$Several" (2 : Nat)) ∈ lw_all := lw_g (lw_at lw_m4 184 rfl) rfl
theorem q1074 : (Jvm.Cond.instanceMethod ({ cls := "ToldTracks$Several", name := "<init>", desc := "(ZLToldTracks$Test;)V" } : Jvm.MethodName)) ∈ lw_all := lw_g (lw_at lw_m4 186 rfl) rfl
theorem q1075 : (Jvm.Cond.code ({ cls := "ToldTracks$Several", name := "<init>", desc := "(ZLToldTracks$Test;)V" } : Jvm.MethodName) prog_20_method_1_code (3 : Nat) (Option.none : Option Jvm.ClassFile.FieldType)) ∈ lw_all := lw_g (lw_at lw_m4 187 rfl) rfl
theorem q1076 : (Jvm.Cond.methodLink "ToldTracks$Several" (1 : Nat) ({ cls := "java/lang/Object", name := "<init>", desc := "()V" } : Jvm.MethodName)) ∈ lw_all := lw_g (lw_at lw_m4 188 rfl) rfl
theorem q1077 : (Jvm.Cond.classLink "ToldTracks$Several" (7 : Nat) "java/util/ArrayList") ∈ lw_all := lw_g (lw_at lw_m4 189 rfl) rfl
theorem q1078 : (Jvm.Cond.methodLink "ToldTracks$Several" (9 : Nat) ({ cls := "java/util/ArrayList", name := "<init>", desc := "()V" } : Jvm.MethodName)) ∈ lw_all := lw_g (lw_at lw_m4 190 rfl) rfl
theorem q1079 : (Jvm.Cond.methodLink "ToldTracks$Several" (20 : Nat) ({ cls := "java/util/ArrayList", name := "add", desc := "(Ljava/lang/Object;)Z" } : Jvm.MethodName)) ∈ lw_all := lw_g (lw_at lw_m4 191 rfl) rfl
theorem q1080 : (Jvm.Cond.fieldLink "ToldTracks$Several" (16 : Nat) "ToldTracks$Several" "all" "Z") ∈ lw_all := lw_g (lw_at lw_m4 192 rfl) rfl
theorem q1081 : (Jvm.Cond.fieldLink "ToldTracks$Several" (10 : Nat) "ToldTracks$Several" "tests" "Ljava/util/ArrayList;") ∈ lw_all := lw_g (lw_at lw_m4 193 rfl) rfl
theorem q1083 : (Jvm.Cond.laysFinal "ToldTracks$Several" "ToldTracks$Several" "all" "Z") ∈ lw_all := lw_g (lw_at lw_m4 195 rfl) rfl
theorem q1084 : (Jvm.Cond.soleField "ToldTracks$Several" "all") ∈ lw_all := lw_g (lw_at lw_m4 196 rfl) rfl
theorem q1085 : (Jvm.Cond.laysFinal "ToldTracks$Several" "ToldTracks$Several" "tests" "Ljava/util/ArrayList;") ∈ lw_all := lw_g (lw_at lw_m4 197 rfl) rfl
theorem q1086 : (Jvm.Cond.soleField "ToldTracks$Several" "tests") ∈ lw_all := lw_g (lw_at lw_m4 198 rfl) rfl
theorem q1087 : (Jvm.Cond.superclass "ToldTracks$Several" "java/lang/Object") ∈ lw_all := lw_g (lw_at lw_m4 199 rfl) rfl
theorem q1435 : (Jvm.Cond.selects "ToldTracks$Several" ({ cls := "ToldTracks$Test", name := "holds", desc := "(LToldTracks$Asking;)Z" } : Jvm.MethodName) ({ cls := "ToldTracks$Several", name := "holds", desc := "(LToldTracks$Asking;)Z" } : Jvm.MethodName)) ∈ lw_all := lw_g (lw_at lw_m6 67 rfl) rfl
theorem q1436 : (Jvm.Cond.unhidden "ToldTracks$Several" "holds" "(LToldTracks$Asking;)Z") ∈ lw_tbl := lw_at lw_m6 68 rfl
theorem q1437 : (Jvm.Cond.instanceMethod ({ cls := "ToldTracks$Several", name := "holds", desc := "(LToldTracks$Asking;)Z" } : Jvm.MethodName)) ∈ lw_all := lw_g (lw_at lw_m6 69 rfl) rfl
theorem q1438 : (Jvm.Cond.publicMethod ({ cls := "ToldTracks$Several", name := "holds", desc := "(LToldTracks$Asking;)Z" } : Jvm.MethodName)) ∈ lw_tbl := lw_at lw_m6 70 rfl
theorem q1439 : (Jvm.Cond.code ({ cls := "ToldTracks$Several", name := "holds", desc := "(LToldTracks$Asking;)Z" } : Jvm.MethodName) prog_20_method_2_code (3 : Nat) (Option.some Jvm.ClassFile.FieldType.boolean)) ∈ lw_all := lw_g (lw_at lw_m6 71 rfl) rfl
theorem q1440 : (Jvm.Cond.methodLink "ToldTracks$Several" (24 : Nat) ({ cls := "java/util/ArrayList", name := "size", desc := "()I" } : Jvm.MethodName)) ∈ lw_all := lw_g (lw_at lw_m6 72 rfl) rfl
theorem q1441 : (Jvm.Cond.methodLink "ToldTracks$Several" (28 : Nat) ({ cls := "java/util/ArrayList", name := "get", desc := "(I)Ljava/lang/Object;" } : Jvm.MethodName)) ∈ lw_all := lw_g (lw_at lw_m6 73 rfl) rfl
theorem q1442 : (Jvm.Cond.classLink "ToldTracks$Several" (32 : Nat) "ToldTracks$Test") ∈ lw_all := lw_g (lw_at lw_m6 74 rfl) rfl
theorem q1443 : (Jvm.Cond.interfaceEntry "ToldTracks$Several" (34 : Nat)) ∈ lw_tbl := lw_at lw_m6 75 rfl
theorem q1444 : (Jvm.Cond.methodLink "ToldTracks$Several" (34 : Nat) ({ cls := "ToldTracks$Test", name := "holds", desc := "(LToldTracks$Asking;)Z" } : Jvm.MethodName)) ∈ lw_all := lw_g (lw_at lw_m6 76 rfl) rfl
theorem q2852 : (Jvm.Cond.castable "ToldTracks$Several" "java/lang/Object") ∈ lw_tbl := lw_at lw_m12 44 rfl
theorem in_X16 : ∀ w ∈ wsX160, w ∈ lw_all := lw_in wsX160 [1083, 1085] (by decide +kernel) (by decide +kernel)
/-! ToldTracks$Named -/
def RX17 : String := "ToldTracks$Named"
abbrev cX17_init : ByteArray := prog_11_method_1_code
def yX17_init : MethodName := ⟨RX17, "<init>", "(Ljava/lang/String;I)V"⟩
def dkwX17_init_0 : List UInt8 := [42, 183, 0, 1, 42, 43, 181, 0, 7, 42, 28, 181, 0, 13, 177]
abbrev dktX17_init_0 : List UInt8 := dkwX17_init_0 ++ []
theorem dksX17_init_0 : cX17_init.data.toList.drop 0 = dktX17_init_0 := by decide +kernel
theorem dX17_init_0 : decode cX17_init 0 = .ok (.aload_n 0, 1) := dk_42 (dk_at dksX17_init_0 0 rfl rfl)
theorem dX17_init_1 : decode cX17_init 1 = .ok (.invokespecial 1, 3) := dk_183 0 1 (dk_at dksX17_init_0 1 rfl rfl)
theorem dX17_init_4 : decode cX17_init 4 = .ok (.aload_n 0, 1) := dk_42 (dk_at dksX17_init_0 4 rfl rfl)
theorem dX17_init_5 : decode cX17_init 5 = .ok (.aload_n 1, 1) := dk_43 (dk_at dksX17_init_0 5 rfl rfl)
theorem dX17_init_6 : decode cX17_init 6 = .ok (.putfield 7, 3) := dk_181 0 7 (dk_at dksX17_init_0 6 rfl rfl)
theorem dX17_init_9 : decode cX17_init 9 = .ok (.aload_n 0, 1) := dk_42 (dk_at dksX17_init_0 9 rfl rfl)
theorem dX17_init_10 : decode cX17_init 10 = .ok (.iload_n 2, 1) := dk_28 (dk_at dksX17_init_0 10 rfl rfl)
theorem dX17_init_11 : decode cX17_init 11 = .ok (.putfield 13, 3) := dk_181 0 13 (dk_at dksX17_init_0 11 rfl rfl)
theorem dX17_init_14 : decode cX17_init 14 = .ok (.return_, 1) := dk_177 (dk_at dksX17_init_0 14 rfl rfl)
theorem q201 : (Jvm.Cond.initialized "ToldTracks$Named") ∈ lw_all := lw_g (lw_at lw_m1 33 rfl) rfl
theorem q1144 : (Jvm.Cond.instanceMethod ({ cls := "ToldTracks$Named", name := "<init>", desc := "(Ljava/lang/String;I)V" } : Jvm.MethodName)) ∈ lw_all := lw_g (lw_at lw_m5 16 rfl) rfl
theorem q1145 : (Jvm.Cond.code ({ cls := "ToldTracks$Named", name := "<init>", desc := "(Ljava/lang/String;I)V" } : Jvm.MethodName) prog_11_method_1_code (3 : Nat) (Option.none : Option Jvm.ClassFile.FieldType)) ∈ lw_all := lw_g (lw_at lw_m5 17 rfl) rfl
theorem q1146 : (Jvm.Cond.methodLink "ToldTracks$Named" (1 : Nat) ({ cls := "java/lang/Object", name := "<init>", desc := "()V" } : Jvm.MethodName)) ∈ lw_all := lw_g (lw_at lw_m5 18 rfl) rfl
theorem q1159 : (Jvm.Cond.fieldLink "ToldTracks$Named" (7 : Nat) "ToldTracks$Named" "name" "Ljava/lang/String;") ∈ lw_all := lw_g (lw_at lw_m5 31 rfl) rfl
theorem q1163 : (Jvm.Cond.fieldLink "ToldTracks$Named" (13 : Nat) "ToldTracks$Named" "number" "I") ∈ lw_all := lw_g (lw_at lw_m5 35 rfl) rfl
theorem q1176 : (Jvm.Cond.soleField "ToldTracks$Named" "name") ∈ lw_all := lw_g (lw_at lw_m5 48 rfl) rfl
theorem q1178 : (Jvm.Cond.soleField "ToldTracks$Named" "number") ∈ lw_all := lw_g (lw_at lw_m5 50 rfl) rfl
/-! ToldTracks$Ship -/
def RX18 : String := "ToldTracks$Ship"
def TX18 : u_T := fun k => match k with
  | 0 => ("ToldTracks$Named", "name", "Ljava/lang/String;", true)
  | 1 => ("ToldTracks$Named", "number", "I", true)
  | 2 => ("ToldTracks$Ship", "look", "I", false)
  | 3 => ("ToldTracks$Ship", "speed", "I", false)
  | 4 => ("ToldTracks$Ship", "draft", "I", false)
  | _ => ("ToldTracks$Ship", "load", "I", false)
def tyX18 : Nat → FieldType := fun k => match k with
  | 0 => .object "java/lang/String"
  | 1 => .int
  | 2 => .int
  | 3 => .int
  | 4 => .int
  | _ => .int
abbrev wsX180 : List Cond := u_ws RX18 TX18 6
theorem nmX18 : ∀ a, a < 6 → ∀ b, b < 6 → a ≠ b → (TX18 a).2.1 ≠ (TX18 b).2.1 := by decide +kernel
theorem tyX18_ok : ∀ k, k < 6 → parseFieldDescriptor (TX18 k).2.2.1 = some (tyX18 k) := by decide +kernel
abbrev cX18_init : ByteArray := prog_21_method_1_code
def yX18_init : MethodName := ⟨RX18, "<init>", "(Ljava/lang/String;I)V"⟩
def dkwX18_init_0 : List UInt8 := [42, 43, 28, 183, 0, 1, 177]
abbrev dktX18_init_0 : List UInt8 := dkwX18_init_0 ++ []
theorem dksX18_init_0 : cX18_init.data.toList.drop 0 = dktX18_init_0 := by decide +kernel
theorem dX18_init_0 : decode cX18_init 0 = .ok (.aload_n 0, 1) := dk_42 (dk_at dksX18_init_0 0 rfl rfl)
theorem dX18_init_1 : decode cX18_init 1 = .ok (.aload_n 1, 1) := dk_43 (dk_at dksX18_init_0 1 rfl rfl)
theorem dX18_init_2 : decode cX18_init 2 = .ok (.iload_n 2, 1) := dk_28 (dk_at dksX18_init_0 2 rfl rfl)
theorem dX18_init_3 : decode cX18_init 3 = .ok (.invokespecial 1, 3) := dk_183 0 1 (dk_at dksX18_init_0 3 rfl rfl)
theorem dX18_init_6 : decode cX18_init 6 = .ok (.return_, 1) := dk_177 (dk_at dksX18_init_0 6 rfl rfl)
theorem q202 : (Jvm.Cond.initialized "ToldTracks$Ship") ∈ lw_all := lw_g (lw_at lw_m1 34 rfl) rfl
theorem q968 : (Jvm.Cond.selects "ToldTracks$Ship" ({ cls := "java/lang/Object", name := "getClass", desc := "()Ljava/lang/Class;" } : Jvm.MethodName) ({ cls := "java/lang/Object", name := "getClass", desc := "()Ljava/lang/Class;" } : Jvm.MethodName)) ∈ lw_all := lw_g (lw_at lw_m4 80 rfl) rfl
theorem q1104 : (Jvm.Cond.instantiable "ToldTracks$Ship" (6 : Nat)) ∈ lw_all := lw_g (lw_at lw_m4 216 rfl) rfl
theorem q1141 : (Jvm.Cond.instanceMethod ({ cls := "ToldTracks$Ship", name := "<init>", desc := "(Ljava/lang/String;I)V" } : Jvm.MethodName)) ∈ lw_all := lw_g (lw_at lw_m5 13 rfl) rfl
theorem q1142 : (Jvm.Cond.code ({ cls := "ToldTracks$Ship", name := "<init>", desc := "(Ljava/lang/String;I)V" } : Jvm.MethodName) prog_21_method_1_code (3 : Nat) (Option.none : Option Jvm.ClassFile.FieldType)) ∈ lw_all := lw_g (lw_at lw_m5 14 rfl) rfl
theorem q1143 : (Jvm.Cond.methodLink "ToldTracks$Ship" (1 : Nat) ({ cls := "ToldTracks$Named", name := "<init>", desc := "(Ljava/lang/String;I)V" } : Jvm.MethodName)) ∈ lw_all := lw_g (lw_at lw_m5 15 rfl) rfl
theorem q1162 : (Jvm.Cond.sameField "ToldTracks$Ship" "ToldTracks$Named" "name" "Ljava/lang/String;") ∈ lw_all := lw_g (lw_at lw_m5 34 rfl) rfl
theorem q1165 : (Jvm.Cond.sameField "ToldTracks$Ship" "ToldTracks$Named" "number" "I") ∈ lw_all := lw_g (lw_at lw_m5 37 rfl) rfl
theorem q1167 : (Jvm.Cond.lays "ToldTracks$Ship" "ToldTracks$Ship" "look" "I") ∈ lw_all := lw_g (lw_at lw_m5 39 rfl) rfl
theorem q1168 : (Jvm.Cond.soleField "ToldTracks$Ship" "look") ∈ lw_all := lw_g (lw_at lw_m5 40 rfl) rfl
theorem q1169 : (Jvm.Cond.lays "ToldTracks$Ship" "ToldTracks$Ship" "speed" "I") ∈ lw_all := lw_g (lw_at lw_m5 41 rfl) rfl
theorem q1170 : (Jvm.Cond.soleField "ToldTracks$Ship" "speed") ∈ lw_all := lw_g (lw_at lw_m5 42 rfl) rfl
theorem q1171 : (Jvm.Cond.lays "ToldTracks$Ship" "ToldTracks$Ship" "draft" "I") ∈ lw_all := lw_g (lw_at lw_m5 43 rfl) rfl
theorem q1172 : (Jvm.Cond.soleField "ToldTracks$Ship" "draft") ∈ lw_all := lw_g (lw_at lw_m5 44 rfl) rfl
theorem q1173 : (Jvm.Cond.lays "ToldTracks$Ship" "ToldTracks$Ship" "load" "I") ∈ lw_all := lw_g (lw_at lw_m5 45 rfl) rfl
theorem q1174 : (Jvm.Cond.soleField "ToldTracks$Ship" "load") ∈ lw_all := lw_g (lw_at lw_m5 46 rfl) rfl
theorem q1175 : (Jvm.Cond.laysFinal "ToldTracks$Ship" "ToldTracks$Named" "name" "Ljava/lang/String;") ∈ lw_all := lw_g (lw_at lw_m5 47 rfl) rfl
theorem q1177 : (Jvm.Cond.laysFinal "ToldTracks$Ship" "ToldTracks$Named" "number" "I") ∈ lw_all := lw_g (lw_at lw_m5 49 rfl) rfl
theorem q1179 : (Jvm.Cond.superclass "ToldTracks$Ship" "ToldTracks$Named") ∈ lw_all := lw_g (lw_at lw_m5 51 rfl) rfl
theorem q2830 : (Jvm.Cond.castable "ToldTracks$Ship" "ToldTracks$Named") ∈ lw_tbl := lw_at lw_m12 22 rfl
theorem q2853 : (Jvm.Cond.castable "ToldTracks$Ship" "java/lang/Object") ∈ lw_tbl := lw_at lw_m12 45 rfl
theorem in_X18 : ∀ w ∈ wsX180, w ∈ lw_all := lw_in wsX180 [1175, 1177, 1167, 1169, 1171, 1173] (by decide +kernel) (by decide +kernel)
/-! ToldTracks$Fact -/
def RX19 : String := "ToldTracks$Fact"
abbrev cX19_init : ByteArray := prog_9_method_1_code
def yX19_init : MethodName := ⟨RX19, "<init>", "(II)V"⟩
def dkwX19_init_0 : List UInt8 := [42, 183, 0, 1, 42, 27, 181, 0, 7, 42, 28, 181, 0, 13, 177]
abbrev dktX19_init_0 : List UInt8 := dkwX19_init_0 ++ []
theorem dksX19_init_0 : cX19_init.data.toList.drop 0 = dktX19_init_0 := by decide +kernel
theorem dX19_init_0 : decode cX19_init 0 = .ok (.aload_n 0, 1) := dk_42 (dk_at dksX19_init_0 0 rfl rfl)
theorem dX19_init_1 : decode cX19_init 1 = .ok (.invokespecial 1, 3) := dk_183 0 1 (dk_at dksX19_init_0 1 rfl rfl)
theorem dX19_init_4 : decode cX19_init 4 = .ok (.aload_n 0, 1) := dk_42 (dk_at dksX19_init_0 4 rfl rfl)
theorem dX19_init_5 : decode cX19_init 5 = .ok (.iload_n 1, 1) := dk_27 (dk_at dksX19_init_0 5 rfl rfl)
theorem dX19_init_6 : decode cX19_init 6 = .ok (.putfield 7, 3) := dk_181 0 7 (dk_at dksX19_init_0 6 rfl rfl)
theorem dX19_init_9 : decode cX19_init 9 = .ok (.aload_n 0, 1) := dk_42 (dk_at dksX19_init_0 9 rfl rfl)
theorem dX19_init_10 : decode cX19_init 10 = .ok (.iload_n 2, 1) := dk_28 (dk_at dksX19_init_0 10 rfl rfl)
theorem dX19_init_11 : decode cX19_init 11 = .ok (.putfield 13, 3) := dk_181 0 13 (dk_at dksX19_init_0 11 rfl rfl)
theorem dX19_init_14 : decode cX19_init 14 = .ok (.return_, 1) := dk_177 (dk_at dksX19_init_0 14 rfl rfl)
theorem q204 : (Jvm.Cond.initialized "ToldTracks$Fact") ∈ lw_all := lw_g (lw_at lw_m1 36 rfl) rfl
theorem q1232 : (Jvm.Cond.instanceMethod ({ cls := "ToldTracks$Fact", name := "<init>", desc := "(II)V" } : Jvm.MethodName)) ∈ lw_all := lw_g (lw_at lw_m5 104 rfl) rfl
theorem q1233 : (Jvm.Cond.code ({ cls := "ToldTracks$Fact", name := "<init>", desc := "(II)V" } : Jvm.MethodName) prog_9_method_1_code (3 : Nat) (Option.none : Option Jvm.ClassFile.FieldType)) ∈ lw_all := lw_g (lw_at lw_m5 105 rfl) rfl
theorem q1234 : (Jvm.Cond.methodLink "ToldTracks$Fact" (1 : Nat) ({ cls := "java/lang/Object", name := "<init>", desc := "()V" } : Jvm.MethodName)) ∈ lw_all := lw_g (lw_at lw_m5 106 rfl) rfl
theorem q1237 : (Jvm.Cond.fieldLink "ToldTracks$Fact" (7 : Nat) "ToldTracks$Fact" "cell" "I") ∈ lw_all := lw_g (lw_at lw_m5 109 rfl) rfl
theorem q1245 : (Jvm.Cond.fieldLink "ToldTracks$Fact" (13 : Nat) "ToldTracks$Fact" "hour" "I") ∈ lw_all := lw_g (lw_at lw_m5 117 rfl) rfl
theorem q1255 : (Jvm.Cond.soleField "ToldTracks$Fact" "cell") ∈ lw_all := lw_g (lw_at lw_m5 127 rfl) rfl
theorem q1257 : (Jvm.Cond.soleField "ToldTracks$Fact" "hour") ∈ lw_all := lw_g (lw_at lw_m5 129 rfl) rfl
theorem q1526 : (Jvm.Cond.declares ({ cls := "ToldTracks$Fact", name := "isSaid", desc := "()Z" } : Jvm.MethodName)) ∈ lw_tbl := lw_at lw_m6 158 rfl
theorem q1527 : (Jvm.Cond.sameMethod "ToldTracks$Fact" "ToldTracks$Fact" "isSaid" "()Z") ∈ lw_all := lw_g (lw_at lw_m6 159 rfl) rfl
theorem q1542 : (Jvm.Cond.declares ({ cls := "ToldTracks$Fact", name := "isSound", desc := "(LToldTracks$Sea;LToldTracks$Ship;)Z" } : Jvm.MethodName)) ∈ lw_tbl := lw_at lw_m6 174 rfl
theorem q1543 : (Jvm.Cond.sameMethod "ToldTracks$Fact" "ToldTracks$Fact" "isSound" "(LToldTracks$Sea;LToldTracks$Ship;)Z") ∈ lw_all := lw_g (lw_at lw_m6 175 rfl) rfl
/-! ToldTracks$Saying -/
def RX20 : String := "ToldTracks$Saying"
def TX20 : u_T := fun k => match k with
  | 0 => ("ToldTracks$Fact", "cell", "I", true)
  | 1 => ("ToldTracks$Fact", "hour", "I", true)
  | _ => ("ToldTracks$Saying", "laden", "Z", true)
def tyX20 : Nat → FieldType := fun k => match k with
  | 0 => .int
  | 1 => .int
  | _ => .boolean
abbrev wsX200 : List Cond := u_ws RX20 TX20 3
theorem nmX20 : ∀ a, a < 3 → ∀ b, b < 3 → a ≠ b → (TX20 a).2.1 ≠ (TX20 b).2.1 := by decide +kernel
theorem tyX20_ok : ∀ k, k < 3 → parseFieldDescriptor (TX20 k).2.2.1 = some (tyX20 k) := by decide +kernel
abbrev cX20_init : ByteArray := prog_18_method_1_code
def yX20_init : MethodName := ⟨RX20, "<init>", "(IIZ)V"⟩
def dkwX20_init_0 : List UInt8 := [42, 27, 28, 183, 0, 1, 42, 29, 181, 0, 7, 177]
abbrev dktX20_init_0 : List UInt8 := dkwX20_init_0 ++ []
theorem dksX20_init_0 : cX20_init.data.toList.drop 0 = dktX20_init_0 := by decide +kernel
theorem dX20_init_0 : decode cX20_init 0 = .ok (.aload_n 0, 1) := dk_42 (dk_at dksX20_init_0 0 rfl rfl)
theorem dX20_init_1 : decode cX20_init 1 = .ok (.iload_n 1, 1) := dk_27 (dk_at dksX20_init_0 1 rfl rfl)
theorem dX20_init_2 : decode cX20_init 2 = .ok (.iload_n 2, 1) := dk_28 (dk_at dksX20_init_0 2 rfl rfl)
theorem dX20_init_3 : decode cX20_init 3 = .ok (.invokespecial 1, 3) := dk_183 0 1 (dk_at dksX20_init_0 3 rfl rfl)
theorem dX20_init_6 : decode cX20_init 6 = .ok (.aload_n 0, 1) := dk_42 (dk_at dksX20_init_0 6 rfl rfl)
theorem dX20_init_7 : decode cX20_init 7 = .ok (.iload_n 3, 1) := dk_29 (dk_at dksX20_init_0 7 rfl rfl)
theorem dX20_init_8 : decode cX20_init 8 = .ok (.putfield 7, 3) := dk_181 0 7 (dk_at dksX20_init_0 8 rfl rfl)
theorem dX20_init_11 : decode cX20_init 11 = .ok (.return_, 1) := dk_177 (dk_at dksX20_init_0 11 rfl rfl)
abbrev cX20_isSaid : ByteArray := prog_18_method_2_code
def yX20_isSaid : MethodName := ⟨RX20, "isSaid", "()Z"⟩
theorem dX20_isSaid_0 : decode cX20_isSaid 0 = .ok (.iconst 1, 1) := by decide +kernel
theorem dX20_isSaid_1 : decode cX20_isSaid 1 = .ok (.ireturn, 1) := by decide +kernel
abbrev cX20_isSound : ByteArray := prog_18_method_3_code
def yX20_isSound : MethodName := ⟨RX20, "isSound", "(LToldTracks$Sea;LToldTracks$Ship;)Z"⟩
def dkwX20_isSound_1 : List UInt8 := [167, 0, 4, 3, 96, 161, 0, 7, 4, 167, 0, 4, 3, 172]
abbrev dktX20_isSound_1 : List UInt8 := dkwX20_isSound_1 ++ []
def dkwX20_isSound_0 : List UInt8 := [43, 180, 0, 13, 42, 180, 0, 19, 46, 44, 180, 0, 23, 42, 180, 0, 7, 153, 0, 10, 44, 180, 0, 28]
abbrev dktX20_isSound_0 : List UInt8 := dkwX20_isSound_0 ++ dktX20_isSound_1
theorem dksX20_isSound_0 : cX20_isSound.data.toList.drop 0 = dktX20_isSound_0 := by decide +kernel
theorem dksX20_isSound_1 : cX20_isSound.data.toList.drop 24 = dktX20_isSound_1 := dk_seg dksX20_isSound_0 24 rfl rfl
theorem dX20_isSound_0 : decode cX20_isSound 0 = .ok (.aload_n 1, 1) := dk_43 (dk_at dksX20_isSound_0 0 rfl rfl)
theorem dX20_isSound_1 : decode cX20_isSound 1 = .ok (.getfield 13, 3) := dk_180 0 13 (dk_at dksX20_isSound_0 1 rfl rfl)
theorem dX20_isSound_4 : decode cX20_isSound 4 = .ok (.aload_n 0, 1) := dk_42 (dk_at dksX20_isSound_0 4 rfl rfl)
theorem dX20_isSound_5 : decode cX20_isSound 5 = .ok (.getfield 19, 3) := dk_180 0 19 (dk_at dksX20_isSound_0 5 rfl rfl)
theorem dX20_isSound_8 : decode cX20_isSound 8 = .ok (.iaload, 1) := dk_46 (dk_at dksX20_isSound_0 8 rfl rfl)
theorem dX20_isSound_9 : decode cX20_isSound 9 = .ok (.aload_n 2, 1) := dk_44 (dk_at dksX20_isSound_0 9 rfl rfl)
theorem dX20_isSound_10 : decode cX20_isSound 10 = .ok (.getfield 23, 3) := dk_180 0 23 (dk_at dksX20_isSound_0 10 rfl rfl)
theorem dX20_isSound_13 : decode cX20_isSound 13 = .ok (.aload_n 0, 1) := dk_42 (dk_at dksX20_isSound_0 13 rfl rfl)
theorem dX20_isSound_14 : decode cX20_isSound 14 = .ok (.getfield 7, 3) := dk_180 0 7 (dk_at dksX20_isSound_0 14 rfl rfl)
theorem dX20_isSound_17 : decode cX20_isSound 17 = .ok (.ifCond .eq 10, 3) := dk_153 0 10 (dk_at dksX20_isSound_0 17 rfl rfl)
theorem dX20_isSound_20 : decode cX20_isSound 20 = .ok (.aload_n 2, 1) := dk_44 (dk_at dksX20_isSound_0 20 rfl rfl)
theorem dX20_isSound_21 : decode cX20_isSound 21 = .ok (.getfield 28, 3) := dk_180 0 28 (dk_at dksX20_isSound_0 21 rfl rfl)
theorem dX20_isSound_24 : decode cX20_isSound 24 = .ok (.goto 4, 3) := dk_167 0 4 (dk_at dksX20_isSound_1 0 rfl rfl)
theorem dX20_isSound_27 : decode cX20_isSound 27 = .ok (.iconst 0, 1) := dk_3 (dk_at dksX20_isSound_1 3 rfl rfl)
theorem dX20_isSound_28 : decode cX20_isSound 28 = .ok (.iadd, 1) := dk_96 (dk_at dksX20_isSound_1 4 rfl rfl)
theorem dX20_isSound_29 : decode cX20_isSound 29 = .ok (.if_icmp .lt 7, 3) := dk_161 0 7 (dk_at dksX20_isSound_1 5 rfl rfl)
theorem dX20_isSound_32 : decode cX20_isSound 32 = .ok (.iconst 1, 1) := dk_4 (dk_at dksX20_isSound_1 8 rfl rfl)
theorem dX20_isSound_33 : decode cX20_isSound 33 = .ok (.goto 4, 3) := dk_167 0 4 (dk_at dksX20_isSound_1 9 rfl rfl)
theorem dX20_isSound_36 : decode cX20_isSound 36 = .ok (.iconst 0, 1) := dk_3 (dk_at dksX20_isSound_1 12 rfl rfl)
theorem dX20_isSound_37 : decode cX20_isSound 37 = .ok (.ireturn, 1) := dk_172 (dk_at dksX20_isSound_1 13 rfl rfl)
theorem q205 : (Jvm.Cond.initialized "ToldTracks$Saying") ∈ lw_all := lw_g (lw_at lw_m1 37 rfl) rfl
theorem q321 : (Jvm.Cond.fieldLink "ToldTracks$Saying" (13 : Nat) "ToldTracks$Sea" "depths" "[I") ∈ lw_all := lw_g (lw_at lw_m1 153 rfl) rfl
theorem q965 : (Jvm.Cond.selects "ToldTracks$Saying" ({ cls := "java/lang/Object", name := "getClass", desc := "()Ljava/lang/Class;" } : Jvm.MethodName) ({ cls := "java/lang/Object", name := "getClass", desc := "()Ljava/lang/Class;" } : Jvm.MethodName)) ∈ lw_all := lw_g (lw_at lw_m4 77 rfl) rfl
theorem q1151 : (Jvm.Cond.fieldLink "ToldTracks$Saying" (23 : Nat) "ToldTracks$Ship" "draft" "I") ∈ lw_all := lw_g (lw_at lw_m5 23 rfl) rfl
theorem q1156 : (Jvm.Cond.fieldLink "ToldTracks$Saying" (28 : Nat) "ToldTracks$Ship" "load" "I") ∈ lw_all := lw_g (lw_at lw_m5 28 rfl) rfl
theorem q1227 : (Jvm.Cond.instantiable "ToldTracks$Saying" (3 : Nat)) ∈ lw_all := lw_g (lw_at lw_m5 99 rfl) rfl
theorem q1229 : (Jvm.Cond.instanceMethod ({ cls := "ToldTracks$Saying", name := "<init>", desc := "(IIZ)V" } : Jvm.MethodName)) ∈ lw_all := lw_g (lw_at lw_m5 101 rfl) rfl
theorem q1230 : (Jvm.Cond.code ({ cls := "ToldTracks$Saying", name := "<init>", desc := "(IIZ)V" } : Jvm.MethodName) prog_18_method_1_code (4 : Nat) (Option.none : Option Jvm.ClassFile.FieldType)) ∈ lw_all := lw_g (lw_at lw_m5 102 rfl) rfl
theorem q1231 : (Jvm.Cond.methodLink "ToldTracks$Saying" (1 : Nat) ({ cls := "ToldTracks$Fact", name := "<init>", desc := "(II)V" } : Jvm.MethodName)) ∈ lw_all := lw_g (lw_at lw_m5 103 rfl) rfl
theorem q1235 : (Jvm.Cond.fieldLink "ToldTracks$Saying" (7 : Nat) "ToldTracks$Saying" "laden" "Z") ∈ lw_all := lw_g (lw_at lw_m5 107 rfl) rfl
theorem q1238 : (Jvm.Cond.fieldLink "ToldTracks$Saying" (19 : Nat) "ToldTracks$Saying" "cell" "I") ∈ lw_all := lw_g (lw_at lw_m5 110 rfl) rfl
theorem q1239 : (Jvm.Cond.sameField "ToldTracks$Saying" "ToldTracks$Fact" "cell" "I") ∈ lw_all := lw_g (lw_at lw_m5 111 rfl) rfl
theorem q1247 : (Jvm.Cond.sameField "ToldTracks$Saying" "ToldTracks$Fact" "hour" "I") ∈ lw_all := lw_g (lw_at lw_m5 119 rfl) rfl
theorem q1252 : (Jvm.Cond.laysFinal "ToldTracks$Saying" "ToldTracks$Saying" "laden" "Z") ∈ lw_all := lw_g (lw_at lw_m5 124 rfl) rfl
theorem q1253 : (Jvm.Cond.soleField "ToldTracks$Saying" "laden") ∈ lw_all := lw_g (lw_at lw_m5 125 rfl) rfl
theorem q1254 : (Jvm.Cond.laysFinal "ToldTracks$Saying" "ToldTracks$Fact" "cell" "I") ∈ lw_all := lw_g (lw_at lw_m5 126 rfl) rfl
theorem q1256 : (Jvm.Cond.laysFinal "ToldTracks$Saying" "ToldTracks$Fact" "hour" "I") ∈ lw_all := lw_g (lw_at lw_m5 128 rfl) rfl
theorem q1258 : (Jvm.Cond.superclass "ToldTracks$Saying" "ToldTracks$Fact") ∈ lw_all := lw_g (lw_at lw_m5 130 rfl) rfl
theorem q1528 : (Jvm.Cond.selects "ToldTracks$Saying" ({ cls := "ToldTracks$Fact", name := "isSaid", desc := "()Z" } : Jvm.MethodName) ({ cls := "ToldTracks$Saying", name := "isSaid", desc := "()Z" } : Jvm.MethodName)) ∈ lw_all := lw_g (lw_at lw_m6 160 rfl) rfl
theorem q1529 : (Jvm.Cond.instanceMethod ({ cls := "ToldTracks$Saying", name := "isSaid", desc := "()Z" } : Jvm.MethodName)) ∈ lw_all := lw_g (lw_at lw_m6 161 rfl) rfl
theorem q1530 : (Jvm.Cond.code ({ cls := "ToldTracks$Saying", name := "isSaid", desc := "()Z" } : Jvm.MethodName) prog_18_method_2_code (1 : Nat) (Option.some Jvm.ClassFile.FieldType.boolean)) ∈ lw_all := lw_g (lw_at lw_m6 162 rfl) rfl
theorem q1544 : (Jvm.Cond.selects "ToldTracks$Saying" ({ cls := "ToldTracks$Fact", name := "isSound", desc := "(LToldTracks$Sea;LToldTracks$Ship;)Z" } : Jvm.MethodName) ({ cls := "ToldTracks$Saying", name := "isSound", desc := "(LToldTracks$Sea;LToldTracks$Ship;)Z" } : Jvm.MethodName)) ∈ lw_all := lw_g (lw_at lw_m6 176 rfl) rfl
theorem q1545 : (Jvm.Cond.instanceMethod ({ cls := "ToldTracks$Saying", name := "isSound", desc := "(LToldTracks$Sea;LToldTracks$Ship;)Z" } : Jvm.MethodName)) ∈ lw_all := lw_g (lw_at lw_m6 177 rfl) rfl
theorem q1546 : (Jvm.Cond.code ({ cls := "ToldTracks$Saying", name := "isSound", desc := "(LToldTracks$Sea;LToldTracks$Ship;)Z" } : Jvm.MethodName) prog_18_method_3_code (3 : Nat) (Option.some Jvm.ClassFile.FieldType.boolean)) ∈ lw_all := lw_g (lw_at lw_m6 178 rfl) rfl
theorem q2827 : (Jvm.Cond.selects "ToldTracks$Saying" ({ cls := "ToldTracks$Saying", name := "isSound", desc := "(LToldTracks$Sea;LToldTracks$Ship;)Z" } : Jvm.MethodName) ({ cls := "ToldTracks$Saying", name := "isSound", desc := "(LToldTracks$Sea;LToldTracks$Ship;)Z" } : Jvm.MethodName)) ∈ lw_all := lw_g (lw_at lw_m12 19 rfl) rfl
theorem q2831 : (Jvm.Cond.castable "ToldTracks$Saying" "ToldTracks$Fact") ∈ lw_tbl := lw_at lw_m12 23 rfl
theorem q2854 : (Jvm.Cond.castable "ToldTracks$Saying" "java/lang/Object") ∈ lw_tbl := lw_at lw_m12 46 rfl
theorem in_X20 : ∀ w ∈ wsX200, w ∈ lw_all := lw_in wsX200 [1254, 1256, 1252] (by decide +kernel) (by decide +kernel)
/-! ToldTracks$Book -/
def RX21 : String := "ToldTracks$Book"
def TX21 : u_T := fun k => match k with
  | 0 => ("ToldTracks$Book", "ship", "I", true)
  | 1 => ("ToldTracks$Book", "cell", "I", true)
  | 2 => ("ToldTracks$Book", "from", "I", true)
  | _ => ("ToldTracks$Book", "to", "I", true)
def tyX21 : Nat → FieldType := fun k => match k with
  | 0 => .int
  | 1 => .int
  | 2 => .int
  | _ => .int
abbrev wsX210 : List Cond := u_ws RX21 TX21 4
theorem nmX21 : ∀ a, a < 4 → ∀ b, b < 4 → a ≠ b → (TX21 a).2.1 ≠ (TX21 b).2.1 := by decide +kernel
theorem tyX21_ok : ∀ k, k < 4 → parseFieldDescriptor (TX21 k).2.2.1 = some (tyX21 k) := by decide +kernel
abbrev cX21_init : ByteArray := prog_6_method_1_code
def yX21_init : MethodName := ⟨RX21, "<init>", "(IIII)V"⟩
def dkwX21_init_1 : List UInt8 := [181, 0, 19, 177]
abbrev dktX21_init_1 : List UInt8 := dkwX21_init_1 ++ []
def dkwX21_init_0 : List UInt8 := [42, 183, 0, 1, 42, 27, 181, 0, 7, 42, 28, 181, 0, 13, 42, 29, 181, 0, 16, 42, 21, 4]
abbrev dktX21_init_0 : List UInt8 := dkwX21_init_0 ++ dktX21_init_1
theorem dksX21_init_0 : cX21_init.data.toList.drop 0 = dktX21_init_0 := by decide +kernel
theorem dksX21_init_1 : cX21_init.data.toList.drop 22 = dktX21_init_1 := dk_seg dksX21_init_0 22 rfl rfl
theorem dX21_init_0 : decode cX21_init 0 = .ok (.aload_n 0, 1) := dk_42 (dk_at dksX21_init_0 0 rfl rfl)
theorem dX21_init_1 : decode cX21_init 1 = .ok (.invokespecial 1, 3) := dk_183 0 1 (dk_at dksX21_init_0 1 rfl rfl)
theorem dX21_init_4 : decode cX21_init 4 = .ok (.aload_n 0, 1) := dk_42 (dk_at dksX21_init_0 4 rfl rfl)
theorem dX21_init_5 : decode cX21_init 5 = .ok (.iload_n 1, 1) := dk_27 (dk_at dksX21_init_0 5 rfl rfl)
theorem dX21_init_6 : decode cX21_init 6 = .ok (.putfield 7, 3) := dk_181 0 7 (dk_at dksX21_init_0 6 rfl rfl)
theorem dX21_init_9 : decode cX21_init 9 = .ok (.aload_n 0, 1) := dk_42 (dk_at dksX21_init_0 9 rfl rfl)
theorem dX21_init_10 : decode cX21_init 10 = .ok (.iload_n 2, 1) := dk_28 (dk_at dksX21_init_0 10 rfl rfl)
theorem dX21_init_11 : decode cX21_init 11 = .ok (.putfield 13, 3) := dk_181 0 13 (dk_at dksX21_init_0 11 rfl rfl)
theorem dX21_init_14 : decode cX21_init 14 = .ok (.aload_n 0, 1) := dk_42 (dk_at dksX21_init_0 14 rfl rfl)
theorem dX21_init_15 : decode cX21_init 15 = .ok (.iload_n 3, 1) := dk_29 (dk_at dksX21_init_0 15 rfl rfl)
theorem dX21_init_16 : decode cX21_init 16 = .ok (.putfield 16, 3) := dk_181 0 16 (dk_at dksX21_init_0 16 rfl rfl)
theorem dX21_init_19 : decode cX21_init 19 = .ok (.aload_n 0, 1) := dk_42 (dk_at dksX21_init_0 19 rfl rfl)
theorem dX21_init_20 : decode cX21_init 20 = .ok (.iload 4, 2) := dk_21 4 (dk_at dksX21_init_0 20 rfl rfl)
theorem dX21_init_22 : decode cX21_init 22 = .ok (.putfield 19, 3) := dk_181 0 19 (dk_at dksX21_init_1 0 rfl rfl)
theorem dX21_init_25 : decode cX21_init 25 = .ok (.return_, 1) := dk_177 (dk_at dksX21_init_1 3 rfl rfl)
theorem q206 : (Jvm.Cond.initialized "ToldTracks$Book") ∈ lw_all := lw_g (lw_at lw_m1 38 rfl) rfl
theorem q955 : (Jvm.Cond.selects "ToldTracks$Book" ({ cls := "java/lang/Object", name := "getClass", desc := "()Ljava/lang/Class;" } : Jvm.MethodName) ({ cls := "java/lang/Object", name := "getClass", desc := "()Ljava/lang/Class;" } : Jvm.MethodName)) ∈ lw_all := lw_g (lw_at lw_m4 67 rfl) rfl
theorem q1280 : (Jvm.Cond.instantiable "ToldTracks$Book" (4 : Nat)) ∈ lw_all := lw_g (lw_at lw_m5 152 rfl) rfl
theorem q1282 : (Jvm.Cond.instanceMethod ({ cls := "ToldTracks$Book", name := "<init>", desc := "(IIII)V" } : Jvm.MethodName)) ∈ lw_all := lw_g (lw_at lw_m5 154 rfl) rfl
theorem q1283 : (Jvm.Cond.code ({ cls := "ToldTracks$Book", name := "<init>", desc := "(IIII)V" } : Jvm.MethodName) prog_6_method_1_code (5 : Nat) (Option.none : Option Jvm.ClassFile.FieldType)) ∈ lw_all := lw_g (lw_at lw_m5 155 rfl) rfl
theorem q1284 : (Jvm.Cond.methodLink "ToldTracks$Book" (1 : Nat) ({ cls := "java/lang/Object", name := "<init>", desc := "()V" } : Jvm.MethodName)) ∈ lw_all := lw_g (lw_at lw_m5 156 rfl) rfl
theorem q1285 : (Jvm.Cond.fieldLink "ToldTracks$Book" (7 : Nat) "ToldTracks$Book" "ship" "I") ∈ lw_all := lw_g (lw_at lw_m5 157 rfl) rfl
theorem q1288 : (Jvm.Cond.fieldLink "ToldTracks$Book" (13 : Nat) "ToldTracks$Book" "cell" "I") ∈ lw_all := lw_g (lw_at lw_m5 160 rfl) rfl
theorem q1290 : (Jvm.Cond.fieldLink "ToldTracks$Book" (16 : Nat) "ToldTracks$Book" "from" "I") ∈ lw_all := lw_g (lw_at lw_m5 162 rfl) rfl
theorem q1292 : (Jvm.Cond.fieldLink "ToldTracks$Book" (19 : Nat) "ToldTracks$Book" "to" "I") ∈ lw_all := lw_g (lw_at lw_m5 164 rfl) rfl
theorem q1294 : (Jvm.Cond.laysFinal "ToldTracks$Book" "ToldTracks$Book" "ship" "I") ∈ lw_all := lw_g (lw_at lw_m5 166 rfl) rfl
theorem q1295 : (Jvm.Cond.soleField "ToldTracks$Book" "ship") ∈ lw_all := lw_g (lw_at lw_m5 167 rfl) rfl
theorem q1296 : (Jvm.Cond.laysFinal "ToldTracks$Book" "ToldTracks$Book" "cell" "I") ∈ lw_all := lw_g (lw_at lw_m5 168 rfl) rfl
theorem q1297 : (Jvm.Cond.soleField "ToldTracks$Book" "cell") ∈ lw_all := lw_g (lw_at lw_m5 169 rfl) rfl
theorem q1298 : (Jvm.Cond.laysFinal "ToldTracks$Book" "ToldTracks$Book" "from" "I") ∈ lw_all := lw_g (lw_at lw_m5 170 rfl) rfl
theorem q1299 : (Jvm.Cond.soleField "ToldTracks$Book" "from") ∈ lw_all := lw_g (lw_at lw_m5 171 rfl) rfl
theorem q1300 : (Jvm.Cond.laysFinal "ToldTracks$Book" "ToldTracks$Book" "to" "I") ∈ lw_all := lw_g (lw_at lw_m5 172 rfl) rfl
theorem q1301 : (Jvm.Cond.soleField "ToldTracks$Book" "to") ∈ lw_all := lw_g (lw_at lw_m5 173 rfl) rfl
theorem q1302 : (Jvm.Cond.superclass "ToldTracks$Book" "java/lang/Object") ∈ lw_all := lw_g (lw_at lw_m5 174 rfl) rfl
theorem q2855 : (Jvm.Cond.castable "ToldTracks$Book" "java/lang/Object") ∈ lw_tbl := lw_at lw_m12 47 rfl
theorem in_X21 : ∀ w ∈ wsX210, w ∈ lw_all := lw_in wsX210 [1294, 1296, 1298, 1300] (by decide +kernel) (by decide +kernel)
/-! ToldTracks$Sighting -/
def RX22 : String := "ToldTracks$Sighting"
def TX22 : u_T := fun k => match k with
  | 0 => ("ToldTracks$Sighting", "look", "I", true)
  | 1 => ("ToldTracks$Sighting", "cell", "I", true)
  | _ => ("ToldTracks$Sighting", "hour", "I", true)
def tyX22 : Nat → FieldType := fun k => match k with
  | 0 => .int
  | 1 => .int
  | _ => .int
abbrev wsX220 : List Cond := u_ws RX22 TX22 3
theorem nmX22 : ∀ a, a < 3 → ∀ b, b < 3 → a ≠ b → (TX22 a).2.1 ≠ (TX22 b).2.1 := by decide +kernel
theorem tyX22_ok : ∀ k, k < 3 → parseFieldDescriptor (TX22 k).2.2.1 = some (tyX22 k) := by decide +kernel
abbrev cX22_init : ByteArray := prog_22_method_1_code
def yX22_init : MethodName := ⟨RX22, "<init>", "(III)V"⟩
def dkwX22_init_0 : List UInt8 := [42, 183, 0, 1, 42, 27, 181, 0, 7, 42, 28, 181, 0, 13, 42, 29, 181, 0, 16, 177]
abbrev dktX22_init_0 : List UInt8 := dkwX22_init_0 ++ []
theorem dksX22_init_0 : cX22_init.data.toList.drop 0 = dktX22_init_0 := by decide +kernel
theorem dX22_init_0 : decode cX22_init 0 = .ok (.aload_n 0, 1) := dk_42 (dk_at dksX22_init_0 0 rfl rfl)
theorem dX22_init_1 : decode cX22_init 1 = .ok (.invokespecial 1, 3) := dk_183 0 1 (dk_at dksX22_init_0 1 rfl rfl)
theorem dX22_init_4 : decode cX22_init 4 = .ok (.aload_n 0, 1) := dk_42 (dk_at dksX22_init_0 4 rfl rfl)
theorem dX22_init_5 : decode cX22_init 5 = .ok (.iload_n 1, 1) := dk_27 (dk_at dksX22_init_0 5 rfl rfl)
theorem dX22_init_6 : decode cX22_init 6 = .ok (.putfield 7, 3) := dk_181 0 7 (dk_at dksX22_init_0 6 rfl rfl)
theorem dX22_init_9 : decode cX22_init 9 = .ok (.aload_n 0, 1) := dk_42 (dk_at dksX22_init_0 9 rfl rfl)
theorem dX22_init_10 : decode cX22_init 10 = .ok (.iload_n 2, 1) := dk_28 (dk_at dksX22_init_0 10 rfl rfl)
theorem dX22_init_11 : decode cX22_init 11 = .ok (.putfield 13, 3) := dk_181 0 13 (dk_at dksX22_init_0 11 rfl rfl)
theorem dX22_init_14 : decode cX22_init 14 = .ok (.aload_n 0, 1) := dk_42 (dk_at dksX22_init_0 14 rfl rfl)
theorem dX22_init_15 : decode cX22_init 15 = .ok (.iload_n 3, 1) := dk_29 (dk_at dksX22_init_0 15 rfl rfl)
theorem dX22_init_16 : decode cX22_init 16 = .ok (.putfield 16, 3) := dk_181 0 16 (dk_at dksX22_init_0 16 rfl rfl)
theorem dX22_init_19 : decode cX22_init 19 = .ok (.return_, 1) := dk_177 (dk_at dksX22_init_0 19 rfl rfl)
theorem q207 : (Jvm.Cond.initialized "ToldTracks$Sighting") ∈ lw_all := lw_g (lw_at lw_m1 39 rfl) rfl
theorem q969 : (Jvm.Cond.selects "ToldTracks$Sighting" ({ cls := "java/lang/Object", name := "getClass", desc := "()Ljava/lang/Class;" } : Jvm.MethodName) ({ cls := "java/lang/Object", name := "getClass", desc := "()Ljava/lang/Class;" } : Jvm.MethodName)) ∈ lw_all := lw_g (lw_at lw_m4 81 rfl) rfl
theorem q1310 : (Jvm.Cond.instantiable "ToldTracks$Sighting" (3 : Nat)) ∈ lw_all := lw_g (lw_at lw_m5 182 rfl) rfl
theorem q1312 : (Jvm.Cond.instanceMethod ({ cls := "ToldTracks$Sighting", name := "<init>", desc := "(III)V" } : Jvm.MethodName)) ∈ lw_all := lw_g (lw_at lw_m5 184 rfl) rfl
theorem q1313 : (Jvm.Cond.code ({ cls := "ToldTracks$Sighting", name := "<init>", desc := "(III)V" } : Jvm.MethodName) prog_22_method_1_code (4 : Nat) (Option.none : Option Jvm.ClassFile.FieldType)) ∈ lw_all := lw_g (lw_at lw_m5 185 rfl) rfl
theorem q1314 : (Jvm.Cond.methodLink "ToldTracks$Sighting" (1 : Nat) ({ cls := "java/lang/Object", name := "<init>", desc := "()V" } : Jvm.MethodName)) ∈ lw_all := lw_g (lw_at lw_m5 186 rfl) rfl
theorem q1315 : (Jvm.Cond.fieldLink "ToldTracks$Sighting" (7 : Nat) "ToldTracks$Sighting" "look" "I") ∈ lw_all := lw_g (lw_at lw_m5 187 rfl) rfl
theorem q1317 : (Jvm.Cond.fieldLink "ToldTracks$Sighting" (13 : Nat) "ToldTracks$Sighting" "cell" "I") ∈ lw_all := lw_g (lw_at lw_m5 189 rfl) rfl
theorem q1319 : (Jvm.Cond.fieldLink "ToldTracks$Sighting" (16 : Nat) "ToldTracks$Sighting" "hour" "I") ∈ lw_all := lw_g (lw_at lw_m5 191 rfl) rfl
theorem q1321 : (Jvm.Cond.laysFinal "ToldTracks$Sighting" "ToldTracks$Sighting" "look" "I") ∈ lw_all := lw_g (lw_at lw_m5 193 rfl) rfl
theorem q1322 : (Jvm.Cond.soleField "ToldTracks$Sighting" "look") ∈ lw_all := lw_g (lw_at lw_m5 194 rfl) rfl
theorem q1323 : (Jvm.Cond.laysFinal "ToldTracks$Sighting" "ToldTracks$Sighting" "cell" "I") ∈ lw_all := lw_g (lw_at lw_m5 195 rfl) rfl
theorem q1324 : (Jvm.Cond.soleField "ToldTracks$Sighting" "cell") ∈ lw_all := lw_g (lw_at lw_m5 196 rfl) rfl
theorem q1325 : (Jvm.Cond.laysFinal "ToldTracks$Sighting" "ToldTracks$Sighting" "hour" "I") ∈ lw_all := lw_g (lw_at lw_m5 197 rfl) rfl
theorem q1326 : (Jvm.Cond.soleField "ToldTracks$Sighting" "hour") ∈ lw_all := lw_g (lw_at lw_m5 198 rfl) rfl
theorem q1327 : (Jvm.Cond.superclass "ToldTracks$Sighting" "java/lang/Object") ∈ lw_all := lw_g (lw_at lw_m5 199 rfl) rfl
theorem q2856 : (Jvm.Cond.castable "ToldTracks$Sighting" "java/lang/Object") ∈ lw_tbl := lw_at lw_m12 48 rfl
theorem in_X22 : ∀ w ∈ wsX220, w ∈ lw_all := lw_in wsX220 [1321, 1323, 1325] (by decide +kernel) (by decide +kernel)
/-! ToldTracks$Voyage -/
def RX23 : String := "ToldTracks$Voyage"
def TX23 : u_T := fun k => match k with
  | 0 => ("ToldTracks$Voyage", "ship", "LToldTracks$Ship;", true)
  | 1 => ("ToldTracks$Voyage", "says", "Ljava/util/ArrayList;", true)
  | 2 => ("ToldTracks$Voyage", "books", "Ljava/util/ArrayList;", true)
  | 3 => ("ToldTracks$Voyage", "facts", "Ljava/util/ArrayList;", true)
  | 4 => ("ToldTracks$Voyage", "kept", "Ljava/util/ArrayList;", true)
  | 5 => ("ToldTracks$Voyage", "isWritten", "Z", false)
  | 6 => ("ToldTracks$Voyage", "keeps", "I", false)
  | _ => ("ToldTracks$Voyage", "this$0", "LToldTracks;", true)
def tyX23 : Nat → FieldType := fun k => match k with
  | 0 => .object "ToldTracks$Ship"
  | 1 => .object "java/util/ArrayList"
  | 2 => .object "java/util/ArrayList"
  | 3 => .object "java/util/ArrayList"
  | 4 => .object "java/util/ArrayList"
  | 5 => .boolean
  | 6 => .int
  | _ => .object "ToldTracks"
abbrev wsX230 : List Cond := u_ws RX23 TX23 8
theorem nmX23 : ∀ a, a < 8 → ∀ b, b < 8 → a ≠ b → (TX23 a).2.1 ≠ (TX23 b).2.1 := by decide +kernel
theorem tyX23_ok : ∀ k, k < 8 → parseFieldDescriptor (TX23 k).2.2.1 = some (tyX23 k) := by decide +kernel
abbrev cX23_init : ByteArray := prog_26_method_1_code
def yX23_init : MethodName := ⟨RX23, "<init>", "(LToldTracks;LToldTracks$Ship;)V"⟩
def dkwX23_init_4 : List UInt8 := [182, 0, 56, 181, 0, 60, 42, 180, 0, 60, 153, 0, 7, 42, 182, 0, 64, 177]
abbrev dktX23_init_4 : List UInt8 := dkwX23_init_4 ++ []
def dkwX23_init_3 : List UInt8 := [16, 48, 162, 0, 14, 42, 29, 182, 0, 52, 132, 3, 1, 167, 255, 242, 42, 43, 44, 42, 180, 0, 18]
abbrev dktX23_init_3 : List UInt8 := dkwX23_init_3 ++ dktX23_init_4
def dkwX23_init_2 : List UInt8 := [43, 180, 0, 32, 180, 0, 36, 44, 180, 0, 41, 182, 0, 47, 192, 0, 15, 181, 0, 51, 3, 62, 29]
abbrev dktX23_init_2 : List UInt8 := dkwX23_init_2 ++ dktX23_init_3
def dkwX23_init_1 : List UInt8 := [89, 183, 0, 17, 181, 0, 22, 42, 187, 0, 15, 89, 183, 0, 17, 181, 0, 25, 42, 44, 181, 0, 28, 42]
abbrev dktX23_init_1 : List UInt8 := dkwX23_init_1 ++ dktX23_init_2
def dkwX23_init_0 : List UInt8 := [42, 43, 181, 0, 3, 42, 183, 0, 9, 42, 187, 0, 15, 89, 183, 0, 17, 181, 0, 18, 42, 187, 0, 15]
abbrev dktX23_init_0 : List UInt8 := dkwX23_init_0 ++ dktX23_init_1
theorem dksX23_init_0 : cX23_init.data.toList.drop 0 = dktX23_init_0 := by decide +kernel
theorem dksX23_init_1 : cX23_init.data.toList.drop 24 = dktX23_init_1 := dk_seg dksX23_init_0 24 rfl rfl
theorem dksX23_init_2 : cX23_init.data.toList.drop 48 = dktX23_init_2 := dk_seg dksX23_init_1 24 rfl rfl
theorem dksX23_init_3 : cX23_init.data.toList.drop 71 = dktX23_init_3 := dk_seg dksX23_init_2 23 rfl rfl
theorem dksX23_init_4 : cX23_init.data.toList.drop 94 = dktX23_init_4 := dk_seg dksX23_init_3 23 rfl rfl
theorem dX23_init_0 : decode cX23_init 0 = .ok (.aload_n 0, 1) := dk_42 (dk_at dksX23_init_0 0 rfl rfl)
theorem dX23_init_1 : decode cX23_init 1 = .ok (.aload_n 1, 1) := dk_43 (dk_at dksX23_init_0 1 rfl rfl)
theorem dX23_init_2 : decode cX23_init 2 = .ok (.putfield 3, 3) := dk_181 0 3 (dk_at dksX23_init_0 2 rfl rfl)
theorem dX23_init_5 : decode cX23_init 5 = .ok (.aload_n 0, 1) := dk_42 (dk_at dksX23_init_0 5 rfl rfl)
theorem dX23_init_6 : decode cX23_init 6 = .ok (.invokespecial 9, 3) := dk_183 0 9 (dk_at dksX23_init_0 6 rfl rfl)
theorem dX23_init_9 : decode cX23_init 9 = .ok (.aload_n 0, 1) := dk_42 (dk_at dksX23_init_0 9 rfl rfl)
theorem dX23_init_10 : decode cX23_init 10 = .ok (.new 15, 3) := dk_187 0 15 (dk_at dksX23_init_0 10 rfl rfl)
theorem dX23_init_13 : decode cX23_init 13 = .ok (.dup, 1) := dk_89 (dk_at dksX23_init_0 13 rfl rfl)
theorem dX23_init_14 : decode cX23_init 14 = .ok (.invokespecial 17, 3) := dk_183 0 17 (dk_at dksX23_init_0 14 rfl rfl)
theorem dX23_init_17 : decode cX23_init 17 = .ok (.putfield 18, 3) := dk_181 0 18 (dk_at dksX23_init_0 17 rfl rfl)
theorem dX23_init_20 : decode cX23_init 20 = .ok (.aload_n 0, 1) := dk_42 (dk_at dksX23_init_0 20 rfl rfl)
theorem dX23_init_21 : decode cX23_init 21 = .ok (.new 15, 3) := dk_187 0 15 (dk_at dksX23_init_0 21 rfl rfl)
theorem dX23_init_24 : decode cX23_init 24 = .ok (.dup, 1) := dk_89 (dk_at dksX23_init_1 0 rfl rfl)
theorem dX23_init_25 : decode cX23_init 25 = .ok (.invokespecial 17, 3) := dk_183 0 17 (dk_at dksX23_init_1 1 rfl rfl)
theorem dX23_init_28 : decode cX23_init 28 = .ok (.putfield 22, 3) := dk_181 0 22 (dk_at dksX23_init_1 4 rfl rfl)
theorem dX23_init_31 : decode cX23_init 31 = .ok (.aload_n 0, 1) := dk_42 (dk_at dksX23_init_1 7 rfl rfl)
theorem dX23_init_32 : decode cX23_init 32 = .ok (.new 15, 3) := dk_187 0 15 (dk_at dksX23_init_1 8 rfl rfl)
theorem dX23_init_35 : decode cX23_init 35 = .ok (.dup, 1) := dk_89 (dk_at dksX23_init_1 11 rfl rfl)
theorem dX23_init_36 : decode cX23_init 36 = .ok (.invokespecial 17, 3) := dk_183 0 17 (dk_at dksX23_init_1 12 rfl rfl)
theorem dX23_init_39 : decode cX23_init 39 = .ok (.putfield 25, 3) := dk_181 0 25 (dk_at dksX23_init_1 15 rfl rfl)
theorem dX23_init_42 : decode cX23_init 42 = .ok (.aload_n 0, 1) := dk_42 (dk_at dksX23_init_1 18 rfl rfl)
theorem dX23_init_43 : decode cX23_init 43 = .ok (.aload_n 2, 1) := dk_44 (dk_at dksX23_init_1 19 rfl rfl)
theorem dX23_init_44 : decode cX23_init 44 = .ok (.putfield 28, 3) := dk_181 0 28 (dk_at dksX23_init_1 20 rfl rfl)
theorem dX23_init_47 : decode cX23_init 47 = .ok (.aload_n 0, 1) := dk_42 (dk_at dksX23_init_1 23 rfl rfl)
theorem dX23_init_48 : decode cX23_init 48 = .ok (.aload_n 1, 1) := dk_43 (dk_at dksX23_init_2 0 rfl rfl)
theorem dX23_init_49 : decode cX23_init 49 = .ok (.getfield 32, 3) := dk_180 0 32 (dk_at dksX23_init_2 1 rfl rfl)
theorem dX23_init_52 : decode cX23_init 52 = .ok (.getfield 36, 3) := dk_180 0 36 (dk_at dksX23_init_2 4 rfl rfl)
theorem dX23_init_55 : decode cX23_init 55 = .ok (.aload_n 2, 1) := dk_44 (dk_at dksX23_init_2 7 rfl rfl)
theorem dX23_init_56 : decode cX23_init 56 = .ok (.getfield 41, 3) := dk_180 0 41 (dk_at dksX23_init_2 8 rfl rfl)
theorem dX23_init_59 : decode cX23_init 59 = .ok (.invokevirtual 47, 3) := dk_182 0 47 (dk_at dksX23_init_2 11 rfl rfl)
theorem dX23_init_62 : decode cX23_init 62 = .ok (.checkcast 15, 3) := dk_192 0 15 (dk_at dksX23_init_2 14 rfl rfl)
theorem dX23_init_65 : decode cX23_init 65 = .ok (.putfield 51, 3) := dk_181 0 51 (dk_at dksX23_init_2 17 rfl rfl)
theorem dX23_init_68 : decode cX23_init 68 = .ok (.iconst 0, 1) := dk_3 (dk_at dksX23_init_2 20 rfl rfl)
theorem dX23_init_69 : decode cX23_init 69 = .ok (.istore_n 3, 1) := dk_62 (dk_at dksX23_init_2 21 rfl rfl)
theorem dX23_init_70 : decode cX23_init 70 = .ok (.iload_n 3, 1) := dk_29 (dk_at dksX23_init_2 22 rfl rfl)
theorem dX23_init_71 : decode cX23_init 71 = .ok (.bipush 48, 2) := dk_16 48 (dk_at dksX23_init_3 0 rfl rfl)
theorem dX23_init_73 : decode cX23_init 73 = .ok (.if_icmp .ge 14, 3) := dk_162 0 14 (dk_at dksX23_init_3 2 rfl rfl)
theorem dX23_init_76 : decode cX23_init 76 = .ok (.aload_n 0, 1) := dk_42 (dk_at dksX23_init_3 5 rfl rfl)
theorem dX23_init_77 : decode cX23_init 77 = .ok (.iload_n 3, 1) := dk_29 (dk_at dksX23_init_3 6 rfl rfl)
theorem dX23_init_78 : decode cX23_init 78 = .ok (.invokevirtual 52, 3) := dk_182 0 52 (dk_at dksX23_init_3 7 rfl rfl)
theorem dX23_init_81 : decode cX23_init 81 = .ok (.iinc 3 1, 3) := dk_132 3 1 (dk_at dksX23_init_3 10 rfl rfl)
theorem dX23_init_84 : decode cX23_init 84 = .ok (.goto (-14), 3) := dk_167 255 242 (dk_at dksX23_init_3 13 rfl rfl)
theorem dX23_init_87 : decode cX23_init 87 = .ok (.aload_n 0, 1) := dk_42 (dk_at dksX23_init_3 16 rfl rfl)
theorem dX23_init_88 : decode cX23_init 88 = .ok (.aload_n 1, 1) := dk_43 (dk_at dksX23_init_3 17 rfl rfl)
theorem dX23_init_89 : decode cX23_init 89 = .ok (.aload_n 2, 1) := dk_44 (dk_at dksX23_init_3 18 rfl rfl)
theorem dX23_init_90 : decode cX23_init 90 = .ok (.aload_n 0, 1) := dk_42 (dk_at dksX23_init_3 19 rfl rfl)
theorem dX23_init_91 : decode cX23_init 91 = .ok (.getfield 18, 3) := dk_180 0 18 (dk_at dksX23_init_3 20 rfl rfl)
theorem dX23_init_94 : decode cX23_init 94 = .ok (.invokevirtual 56, 3) := dk_182 0 56 (dk_at dksX23_init_4 0 rfl rfl)
theorem dX23_init_97 : decode cX23_init 97 = .ok (.putfield 60, 3) := dk_181 0 60 (dk_at dksX23_init_4 3 rfl rfl)
theorem dX23_init_100 : decode cX23_init 100 = .ok (.aload_n 0, 1) := dk_42 (dk_at dksX23_init_4 6 rfl rfl)
theorem dX23_init_101 : decode cX23_init 101 = .ok (.getfield 60, 3) := dk_180 0 60 (dk_at dksX23_init_4 7 rfl rfl)
theorem dX23_init_104 : decode cX23_init 104 = .ok (.ifCond .eq 7, 3) := dk_153 0 7 (dk_at dksX23_init_4 10 rfl rfl)
theorem dX23_init_107 : decode cX23_init 107 = .ok (.aload_n 0, 1) := dk_42 (dk_at dksX23_init_4 13 rfl rfl)
theorem dX23_init_108 : decode cX23_init 108 = .ok (.invokevirtual 64, 3) := dk_182 0 64 (dk_at dksX23_init_4 14 rfl rfl)
theorem dX23_init_111 : decode cX23_init 111 = .ok (.return_, 1) := dk_177 (dk_at dksX23_init_4 17 rfl rfl)
