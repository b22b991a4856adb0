set_option maxRecDepth 100000
/-! small rows that the printed walks use -/
theorem gW_st {ζ : Type} {X : gX} {G : gG ζ} {fin : Outcome × ζ} {z : ζ} {pc : Nat} {lv : List (Nat × Value)} {st st' : List Value} (e : st = st') (k : gW X G fin z pc lv st') : gW X G fin z pc lv st := e ▸ k
theorem g_ne {x c : Int32} (h : ¬ x = c) (n : Int) (hc : c.toInt = n) : x.toInt ≠ n := fun e => h (Int32.toInt_inj.mp (e.trans hc.symm))
theorem g_zretc {ζ : Type} {X : gX} {G : gG ζ} {z : ζ} {cc : ByteArray} {nL fr lo pc : Nat} {own : String} {lv : List (Nat × Value)} (C : gC X cc nL (some .boolean) own fr lo) (hle : ∀ y : ζ, G.2.2.2.1 y y) {r : Int32} {r0 : Int32 × ζ} (hd : decode cc pc = .ok (.ireturn, 1)) (hz : r = 0 ∨ r = 1) (h : some (r, z) = some r0) : gW X G (.returned (some (.int r0.1)), r0.2) z pc lv [.int r] := g_zret C hle hd (by rw [if_pos hz]; exact h)
theorem gk_bipush_6 : (Int8.ofInt (6)).toInt32 = (6 : Int32) := by decide
theorem gk_bipush_8 : (Int8.ofInt (8)).toInt32 = (8 : Int32) := by decide
theorem gk_bipush_9 : (Int8.ofInt (9)).toInt32 = (9 : Int32) := by decide
theorem gk_bipush_10 : (Int8.ofInt (10)).toInt32 = (10 : Int32) := by decide
theorem gk_bipush_11 : (Int8.ofInt (11)).toInt32 = (11 : Int32) := by decide
theorem gk_bipush_12 : (Int8.ofInt (12)).toInt32 = (12 : Int32) := by decide
theorem gk_bipush_13 : (Int8.ofInt (13)).toInt32 = (13 : Int32) := by decide
theorem gk_bipush_14 : (Int8.ofInt (14)).toInt32 = (14 : Int32) := by decide
theorem gk_bipush_15 : (Int8.ofInt (15)).toInt32 = (15 : Int32) := by decide
theorem gk_bipush_16 : (Int8.ofInt (16)).toInt32 = (16 : Int32) := by decide
theorem gk_bipush_17 : (Int8.ofInt (17)).toInt32 = (17 : Int32) := by decide
theorem gk_bipush_18 : (Int8.ofInt (18)).toInt32 = (18 : Int32) := by decide
theorem gk_bipush_19 : (Int8.ofInt (19)).toInt32 = (19 : Int32) := by decide
theorem gk_bipush_20 : (Int8.ofInt (20)).toInt32 = (20 : Int32) := by decide
theorem gk_bipush_21 : (Int8.ofInt (21)).toInt32 = (21 : Int32) := by decide
theorem gk_bipush_22 : (Int8.ofInt (22)).toInt32 = (22 : Int32) := by decide
theorem gk_bipush_24 : (Int8.ofInt (24)).toInt32 = (24 : Int32) := by decide
theorem gk_bipush_29 : (Int8.ofInt (29)).toInt32 = (29 : Int32) := by decide
theorem gk_bipush_30 : (Int8.ofInt (30)).toInt32 = (30 : Int32) := by decide
theorem gk_bipush_32 : (Int8.ofInt (32)).toInt32 = (32 : Int32) := by decide
theorem gk_bipush_37 : (Int8.ofInt (37)).toInt32 = (37 : Int32) := by decide
theorem gk_bipush_40 : (Int8.ofInt (40)).toInt32 = (40 : Int32) := by decide
theorem gk_bipush_41 : (Int8.ofInt (41)).toInt32 = (41 : Int32) := by decide
theorem gk_bipush_42 : (Int8.ofInt (42)).toInt32 = (42 : Int32) := by decide
theorem gk_bipush_43 : (Int8.ofInt (43)).toInt32 = (43 : Int32) := by decide
theorem gk_bipush_44 : (Int8.ofInt (44)).toInt32 = (44 : Int32) := by decide
theorem gk_bipush_45 : (Int8.ofInt (45)).toInt32 = (45 : Int32) := by decide
theorem gk_bipush_47 : (Int8.ofInt (47)).toInt32 = (47 : Int32) := by decide
theorem gk_bipush_48 : (Int8.ofInt (48)).toInt32 = (48 : Int32) := by decide
theorem gk_bipush_49 : (Int8.ofInt (49)).toInt32 = (49 : Int32) := by decide
theorem gk_bipush_50 : (Int8.ofInt (50)).toInt32 = (50 : Int32) := by decide
theorem gk_bipush_57 : (Int8.ofInt (57)).toInt32 = (57 : Int32) := by decide
theorem gk_bipush_59 : (Int8.ofInt (59)).toInt32 = (59 : Int32) := by decide
theorem gk_bipush_60 : (Int8.ofInt (60)).toInt32 = (60 : Int32) := by decide
theorem gk_bipush_61 : (Int8.ofInt (61)).toInt32 = (61 : Int32) := by decide
theorem gk_bipush_62 : (Int8.ofInt (62)).toInt32 = (62 : Int32) := by decide
theorem gk_bipush_91 : (Int8.ofInt (91)).toInt32 = (91 : Int32) := by decide
theorem gk_bipush_93 : (Int8.ofInt (93)).toInt32 = (93 : Int32) := by decide
theorem gk_bipush_96 : (Int8.ofInt (96)).toInt32 = (96 : Int32) := by decide
theorem gk_bipush_97 : (Int8.ofInt (97)).toInt32 = (97 : Int32) := by decide
theorem gk_bipush_99 : (Int8.ofInt (99)).toInt32 = (99 : Int32) := by decide
theorem gk_bipush_100 : (Int8.ofInt (100)).toInt32 = (100 : Int32) := by decide
theorem gk_bipush_122 : (Int8.ofInt (122)).toInt32 = (122 : Int32) := by decide
theorem gk_iconst_m1 : Int32.ofInt (-1) = (-1 : Int32) := by decide
theorem gk_iconst_0 : Int32.ofInt (0) = (0 : Int32) := by decide
theorem gk_iconst_1 : Int32.ofInt (1) = (1 : Int32) := by decide
theorem gk_iconst_2 : Int32.ofInt (2) = (2 : Int32) := by decide
theorem gk_iconst_3 : Int32.ofInt (3) = (3 : Int32) := by decide
theorem gk_iconst_4 : Int32.ofInt (4) = (4 : Int32) := by decide
theorem gk_iconst_5 : Int32.ofInt (5) = (5 : Int32) := by decide
theorem gk_inc_m8 (x : Int32) : x + Int32.ofInt (-8) = x + (-8 : Int32) := by rw [show Int32.ofInt (-8) = (-8 : Int32) from by decide]
theorem gk_inc_m1 (x : Int32) : x + Int32.ofInt (-1) = x + (-1 : Int32) := by rw [show Int32.ofInt (-1) = (-1 : Int32) from by decide]
theorem gk_inc_1 (x : Int32) : x + Int32.ofInt (1) = x + (1 : Int32) := by rw [show Int32.ofInt (1) = (1 : Int32) from by decide]
theorem gk_inc_3 (x : Int32) : x + Int32.ofInt (3) = x + (3 : Int32) := by rw [show Int32.ofInt (3) = (3 : Int32) from by decide]
theorem gk_inc_4 (x : Int32) : x + Int32.ofInt (4) = x + (4 : Int32) := by rw [show Int32.ofInt (4) = (4 : Int32) from by decide]
theorem gk_lconst_0 : Int64.ofNat ((0 : Fin 2) : Nat) = (0 : Int64) := by decide
theorem gk_lconst_1 : Int64.ofNat ((1 : Fin 2) : Nat) = (1 : Int64) := by decide
theorem gk_sipush_241 : (Int16.ofInt (241)).toInt32 = (241 : Int32) := by decide
theorem gk_sipush_255 : (Int16.ofInt (255)).toInt32 = (255 : Int32) := by decide
theorem gk_sipush_256 : (Int16.ofInt (256)).toInt32 = (256 : Int32) := by decide
theorem gk_sipush_384 : (Int16.ofInt (384)).toInt32 = (384 : Int32) := by decide
theorem gk_sipush_1000 : (Int16.ofInt (1000)).toInt32 = (1000 : Int32) := by decide
theorem gk_sipush_1800 : (Int16.ofInt (1800)).toInt32 = (1800 : Int32) := by decide
theorem gk_sipush_12288 : (Int16.ofInt (12288)).toInt32 = (12288 : Int32) := by decide
