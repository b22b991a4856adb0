set_option maxRecDepth 100000
def mo_ruleOf_b55 : Nat → Int32 → Int32 → Int32 → mm_S → Option (Int32 × mm_S)
  | 0, _, _, _, _ => none
  | n + 1, x1, x5, x6, z => mm_gI 12 z (fun v1 => mm_lI 15 (((3 : Int32) * v1) + x1) z (fun v2 => if (x5 + v2) ≤ x6 then (some ((-1 : Int32), z)) else (mm_lI 17 x6 z (fun v3 => mm_lI 18 x6 z (fun v4 => g_call (mo_works v3 v4 z) (fun v6 z5 => if (lg_cmp v6 (1 : Int64)) = 0 then (some (x6, z5)) else ((mo_ruleOf_b55 n) x1 x5 (x6 + (1 : Int32)) z5)))))))
theorem wk_ruleOf_b55 {X : gX} {E : mm_E} {r : Int32 × mm_S} (C : gC X cX6_ruleOf 7 (some .int) RX6 3 74) (M : mm_C X E) : ∀ (n : Nat) (x1 : Int32) (x5 : Int32) (x6 : Int32) (z : mm_S), mo_ruleOf_b55 n x1 x5 x6 z = some r → gW X (mm_G E) (.returned (some (.int r.1)), r.2) z 55 [(0, .ref E.2.2.1), (1, .int x1), (5, .int x5), (6, .int x6)] [] := by
  intro n
  induction n with
  | zero =>
    intro x1 x5 x6 z h
    have h : (none : Option (Int32 × mm_S)) = some r := h
    cases h
  | succ n ih =>
    intro x1 x5 x6 z h
    rw [mo_ruleOf_b55] at h
    refine g_iload C dX6_ruleOf_55 3 rfl ?_
    refine g_iload C dX6_ruleOf_57 2 rfl ?_
    refine g_aload_n C dX6_ruleOf_59 rfl 0 rfl ?_
    refine mm_getA C M 15 (Nat.le_of_ble_eq_true rfl) (Nat.le_of_ble_eq_true rfl) q2018 rfl dX6_ruleOf_60 ?_
    refine g_iconst C dX6_ruleOf_63 gk_iconst_3 ?_
    refine g_aload_n C dX6_ruleOf_64 rfl 0 rfl ?_
    refine mm_getI C M 12 (Nat.le_of_ble_eq_true rfl) (Nat.le_of_ble_eq_true rfl) q2015 rfl dX6_ruleOf_65 h (fun v1 h => ?_)
    refine g_imul C dX6_ruleOf_68 ?_
    refine g_iload_n C dX6_ruleOf_69 rfl 1 rfl ?_
    refine g_iadd C dX6_ruleOf_70 ?_
    refine mm_ldI C M 15 (Nat.le_of_ble_eq_true rfl) rfl dX6_ruleOf_71 h (fun v2 h => ?_)
    refine g_iadd C dX6_ruleOf_72 ?_
    refine g_icmp_ge C dX6_ruleOf_73 rfl h (fun h => ?_) (fun h => ?_)
    · refine g_iconst C dX6_ruleOf_108 gk_iconst_m1 ?_
      exact g_iret C (fun _ => trivial) dX6_ruleOf_109 h
    · refine g_aload_n C dX6_ruleOf_76 rfl 0 rfl ?_
      refine g_aload_n C dX6_ruleOf_77 rfl 0 rfl ?_
      refine mm_getA C M 17 (Nat.le_of_ble_eq_true rfl) (Nat.le_of_ble_eq_true rfl) q2020 rfl dX6_ruleOf_78 ?_
      refine g_iload C dX6_ruleOf_81 3 rfl ?_
      refine mm_ldI C M 17 (Nat.le_of_ble_eq_true rfl) rfl dX6_ruleOf_83 h (fun v3 h => ?_)
      refine g_aload_n C dX6_ruleOf_84 rfl 0 rfl ?_
      refine mm_getA C M 18 (Nat.le_of_ble_eq_true rfl) (Nat.le_of_ble_eq_true rfl) q2021 rfl dX6_ruleOf_85 ?_
      refine g_iload C dX6_ruleOf_88 3 rfl ?_
      refine mm_ldI C M 18 (Nat.le_of_ble_eq_true rfl) rfl dX6_ruleOf_90 h (fun v4 h => ?_)
      obtain ⟨v6, z5, e, h⟩ := g_callE h
      refine mm_callV C M 2 [.int v3, .int v4] (st := []) (v := some (.long v6)) (z' := z5) (fun l => ct_works l v3 v4 z v6 z5 e) (lw_V q2462 q2464 qs120 q178 q2465) rfl rfl rfl (Nat.le_of_ble_eq_true rfl) (Nat.le_of_ble_eq_true rfl) (Nat.le_of_ble_eq_true rfl) dX6_ruleOf_91 ?_
      refine gW_st (st' := [.long v6]) rfl ?_
      refine g_lconst C dX6_ruleOf_94 gk_lconst_1 ?_
      refine g_lcmp C dX6_ruleOf_95 ?_
      refine g_if_ne C dX6_ruleOf_96 rfl h (fun h => ?_) (fun h => ?_)
      · refine g_iinc [(6, .int (x6 + (1 : Int32))), (0, .ref E.2.2.1), (1, .int x1), (5, .int x5)] C dX6_ruleOf_102 (j := 3) rfl (gk_inc_1 _) (Nat.le_of_ble_eq_true rfl) rfl ?_
        refine g_goto C dX6_ruleOf_105 rfl ?_
        exact g_sub [(0, .ref E.2.2.1), (1, .int x1), (5, .int x5), (6, .int (x6 + (1 : Int32)))] [1, 2, 3, 0] rfl (ih x1 x5 (x6 + (1 : Int32)) z5 h)
      · refine g_iload C dX6_ruleOf_99 3 rfl ?_
        exact g_iret C (fun _ => trivial) dX6_ruleOf_101 h
def mo_ruleOf (x1 : Int32) (x2 : Int32) (x3 : Int32) (x4 : Int32) (z : mm_S) : Option (Int32 × mm_S) := g_call (mo_columnOf x2 z) (fun v2 z1 => mm_sI 54 (1 : Int32) v2 z1 (fun z3 => g_call (mo_rowOf x2 z3) (fun v5 z4 => mm_sI 54 (2 : Int32) v5 z4 (fun z6 => mm_sI 54 (3 : Int32) x3 z6 (fun z7 => mm_sI 54 (4 : Int32) x4 z7 (fun z8 => mm_gI 12 z8 (fun v9 => g_call (mo_firstRule x1 z8) (fun v11 z10 => mo_ruleOf_b55 g_fu x1 (((30 : Int32) * v9) + v11) (((30 : Int32) * v9) + v11) z10))))))))
theorem wk_ruleOf {X : gX} {E : mm_E} {r : Int32 × mm_S} (C : gC X cX6_ruleOf 7 (some .int) RX6 3 74) (M : mm_C X E) (x1 : Int32) (x2 : Int32) (x3 : Int32) (x4 : Int32) (z : mm_S) (h : mo_ruleOf x1 x2 x3 x4 z = some r) : gW X (mm_G E) (.returned (some (.int r.1)), r.2) z 0 [(0, .ref E.2.2.1), (1, .int x1), (2, .int x2), (3, .int x3), (4, .int x4)] [] := by
  unfold mo_ruleOf at h
  refine g_aload_n C dX6_ruleOf_0 rfl 0 rfl ?_
  refine mm_getA C M 54 (Nat.le_of_ble_eq_true rfl) (Nat.le_of_ble_eq_true rfl) q2057 rfl dX6_ruleOf_1 ?_
  refine g_iconst C dX6_ruleOf_4 gk_iconst_1 ?_
  refine g_aload_n C dX6_ruleOf_5 rfl 0 rfl ?_
  refine g_iload_n C dX6_ruleOf_6 rfl 2 rfl ?_
  obtain ⟨v2, z1, e, h⟩ := g_callE h
  refine mm_callV C M 1 [.int x2] (st := [.int (1 : Int32), .ref (E.2.2.2.1 54)]) (v := some (.int v2)) (z' := z1) (fun l => ct_columnOf l x2 z v2 z1 e) (lw_V q2454 q2456 qs118 q178 q2457) rfl rfl rfl (Nat.le_of_ble_eq_true rfl) (Nat.le_of_ble_eq_true rfl) (Nat.le_of_ble_eq_true rfl) dX6_ruleOf_7 ?_
  refine gW_st (st' := [.int v2, .int (1 : Int32), .ref (E.2.2.2.1 54)]) rfl ?_
  refine mm_stI C M 54 (Nat.le_of_ble_eq_true rfl) rfl dX6_ruleOf_10 h (fun z3 h => ?_)
  refine g_aload_n C dX6_ruleOf_11 rfl 0 rfl ?_
  refine mm_getA C M 54 (Nat.le_of_ble_eq_true rfl) (Nat.le_of_ble_eq_true rfl) q2057 rfl dX6_ruleOf_12 ?_
  refine g_iconst C dX6_ruleOf_15 gk_iconst_2 ?_
  refine g_aload_n C dX6_ruleOf_16 rfl 0 rfl ?_
  refine g_iload_n C dX6_ruleOf_17 rfl 2 rfl ?_
  obtain ⟨v5, z4, e, h⟩ := g_callE h
  refine mm_callV C M 1 [.int x2] (st := [.int (2 : Int32), .ref (E.2.2.2.1 54)]) (v := some (.int v5)) (z' := z4) (fun l => ct_rowOf l x2 z3 v5 z4 e) (lw_V q2458 q2460 qs119 q178 q2461) rfl rfl rfl (Nat.le_of_ble_eq_true rfl) (Nat.le_of_ble_eq_true rfl) (Nat.le_of_ble_eq_true rfl) dX6_ruleOf_18 ?_
  refine gW_st (st' := [.int v5, .int (2 : Int32), .ref (E.2.2.2.1 54)]) rfl ?_
  refine mm_stI C M 54 (Nat.le_of_ble_eq_true rfl) rfl dX6_ruleOf_21 h (fun z6 h => ?_)
  refine g_aload_n C dX6_ruleOf_22 rfl 0 rfl ?_
  refine mm_getA C M 54 (Nat.le_of_ble_eq_true rfl) (Nat.le_of_ble_eq_true rfl) q2057 rfl dX6_ruleOf_23 ?_
  refine g_iconst C dX6_ruleOf_26 gk_iconst_3 ?_
  refine g_iload_n C dX6_ruleOf_27 rfl 3 rfl ?_
  refine mm_stI C M 54 (Nat.le_of_ble_eq_true rfl) rfl dX6_ruleOf_28 h (fun z7 h => ?_)
  refine g_aload_n C dX6_ruleOf_29 rfl 0 rfl ?_
  refine mm_getA C M 54 (Nat.le_of_ble_eq_true rfl) (Nat.le_of_ble_eq_true rfl) q2057 rfl dX6_ruleOf_30 ?_
  refine g_iconst C dX6_ruleOf_33 gk_iconst_4 ?_
  refine g_iload C dX6_ruleOf_34 4 rfl ?_
  refine mm_stI C M 54 (Nat.le_of_ble_eq_true rfl) rfl dX6_ruleOf_36 h (fun z8 h => ?_)
  refine g_bipush C dX6_ruleOf_37 gk_bipush_30 ?_
  refine g_aload_n C dX6_ruleOf_39 rfl 0 rfl ?_
  refine mm_getI C M 12 (Nat.le_of_ble_eq_true rfl) (Nat.le_of_ble_eq_true rfl) q2015 rfl dX6_ruleOf_40 h (fun v9 h => ?_)
  refine g_imul C dX6_ruleOf_43 ?_
  refine g_iload_n C dX6_ruleOf_44 rfl 1 rfl ?_
  obtain ⟨v11, z10, e, h⟩ := g_callE h
  refine mm_callS C M 1 [.int x1] (st := [.int ((30 : Int32) * v9)]) (v := some (.int v11)) (z' := z10) (fun l => ct_firstRule l x1 z8 v11 z10 e) (lw_S q2328 q2329 q178 q2330) rfl rfl rfl (Nat.le_of_ble_eq_true rfl) (Nat.le_of_ble_eq_true rfl) (Nat.le_of_ble_eq_true rfl) dX6_ruleOf_45 ?_
  refine gW_st (st' := [.int v11, .int ((30 : Int32) * v9)]) rfl ?_
  refine g_iadd C dX6_ruleOf_48 ?_
  refine g_istore [(5, .int (((30 : Int32) * v9) + v11)), (0, .ref E.2.2.1), (1, .int x1), (2, .int x2), (3, .int x3), (4, .int x4)] C dX6_ruleOf_49 (Nat.le_of_ble_eq_true rfl) rfl ?_
  refine g_iload C dX6_ruleOf_51 0 rfl ?_
  refine g_istore [(6, .int (((30 : Int32) * v9) + v11)), (5, .int (((30 : Int32) * v9) + v11)), (0, .ref E.2.2.1), (1, .int x1), (2, .int x2), (3, .int x3), (4, .int x4)] C dX6_ruleOf_53 (Nat.le_of_ble_eq_true rfl) rfl ?_
  exact g_sub [(0, .ref E.2.2.1), (1, .int x1), (5, .int (((30 : Int32) * v9) + v11)), (6, .int (((30 : Int32) * v9) + v11))] [2, 3, 1, 0] rfl (wk_ruleOf_b55 C M g_fu x1 (((30 : Int32) * v9) + v11) (((30 : Int32) * v9) + v11) z10 h)
theorem ct_ruleOf (l : Launch) (x1 : Int32) (x2 : Int32) (x3 : Int32) (x4 : Int32) (z : mm_S) (r : Int32) (z' : mm_S) (h : mo_ruleOf x1 x2 x3 x4 z = some (r, z')) : mm_MetV l yX6_ruleOf cX6_ruleOf 7 (some .int) 3 74 [.int x1, .int x2, .int x3, .int x4] z (.returned (some (.int r)), z') := by
  intro E hD
  exact mm_enter E hD rfl ⟨_, rfl⟩ (.ref E.2.2.1 :: [.int x1, .int x2, .int x3, .int x4]) (Nat.le_of_ble_eq_true rfl) (fun X C M => wk_ruleOf C M x1 x2 x3 x4 z h)
def mo_sumOf_b38 (s0 : Int64) (z : mm_S) : Option (Int32 × mm_S) := if 0 ≤ (lg_cmp s0 (0 : Int64)) then (if (lg_cmp s0 (99 : Int64)) ≤ 0 then (some ((s0).toInt32, z)) else (some ((99 : Int32), z))) else (some ((0 : Int32), z))
theorem wk_sumOf_b38 {X : gX} {E : mm_E} {r : Int32 × mm_S} (C : gC X cX6_sumOf 7 (some .int) RX6 4 100) (M : mm_C X E) (s0 : Int64) (z : mm_S) (h : mo_sumOf_b38 s0 z = some r) : gW X (mm_G E) (.returned (some (.int r.1)), r.2) z 38 [(0, .ref E.2.2.1)] [.long s0] := by
  unfold mo_sumOf_b38 at h
  refine g_lstore [(5, .long s0), (0, .ref E.2.2.1)] C dX6_sumOf_38 (Nat.le_of_ble_eq_true rfl) rfl ?_
  refine g_lload C dX6_sumOf_40 0 rfl ?_
  refine g_lconst C dX6_sumOf_42 gk_lconst_0 ?_
  refine g_lcmp C dX6_sumOf_43 ?_
  refine g_if_ge C dX6_sumOf_44 rfl h (fun h => ?_) (fun h => ?_)
  · refine g_lload C dX6_sumOf_51 0 rfl ?_
    refine g_ldc2 C dX6_sumOf_53 q2477 ?_
    refine g_lcmp C dX6_sumOf_56 ?_
    refine g_if_le C dX6_sumOf_57 rfl h (fun h => ?_) (fun h => ?_)
    · refine g_lload C dX6_sumOf_65 0 rfl ?_
      refine g_l2i C dX6_sumOf_67 ?_
      exact g_iret C (fun _ => trivial) dX6_sumOf_68 h
    · refine g_bipush C dX6_sumOf_60 gk_bipush_99 ?_
      refine g_goto C dX6_sumOf_62 rfl ?_
      exact g_iret C (fun _ => trivial) dX6_sumOf_68 h
  · refine g_iconst C dX6_sumOf_47 gk_iconst_0 ?_
    refine g_goto C dX6_sumOf_48 rfl ?_
    exact g_iret C (fun _ => trivial) dX6_sumOf_68 h
def mo_sumOf (x1 : Int32) (x2 : Int32) (x3 : Int32) (z : mm_S) : Option (Int32 × mm_S) := g_call (mo_ruleOf x1 x2 (0 : Int32) x3 z) (fun v2 z1 => if v2 = (-1 : Int32) then (mo_sumOf_b38 (0 : Int64) z1) else (mm_lI 16 v2 z1 (fun v3 => mm_lI 17 v2 z1 (fun v4 => g_call (mo_works v3 v4 z1) (fun v6 z5 => mo_sumOf_b38 v6 z5)))))
theorem wk_sumOf {X : gX} {E : mm_E} {r : Int32 × mm_S} (C : gC X cX6_sumOf 7 (some .int) RX6 4 100) (M : mm_C X E) (x1 : Int32) (x2 : Int32) (x3 : Int32) (z : mm_S) (h : mo_sumOf x1 x2 x3 z = some r) : gW X (mm_G E) (.returned (some (.int r.1)), r.2) z 0 [(0, .ref E.2.2.1), (1, .int x1), (2, .int x2), (3, .int x3)] [] := by
  unfold mo_sumOf at h
  refine g_aload_n C dX6_sumOf_0 rfl 0 rfl ?_
  refine g_iload_n C dX6_sumOf_1 rfl 1 rfl ?_
  refine g_iload_n C dX6_sumOf_2 rfl 2 rfl ?_
  refine g_iconst C dX6_sumOf_3 gk_iconst_0 ?_
  refine g_iload_n C dX6_sumOf_4 rfl 3 rfl ?_
  obtain ⟨v2, z1, e, h⟩ := g_callE h
  refine mm_callV C M 4 [.int x1, .int x2, .int (0 : Int32), .int x3] (st := []) (v := some (.int v2)) (z' := z1) (fun l => ct_ruleOf l x1 x2 (0 : Int32) x3 z v2 z1 e) (lw_V q2450 q2452 qs117 q178 q2453) rfl rfl rfl (Nat.le_of_ble_eq_true rfl) (Nat.le_of_ble_eq_true rfl) (Nat.le_of_ble_eq_true rfl) dX6_sumOf_5 ?_
  refine gW_st (st' := [.int v2]) rfl ?_
  refine g_istore [(4, .int v2), (0, .ref E.2.2.1), (1, .int x1), (2, .int x2), (3, .int x3)] C dX6_sumOf_8 (Nat.le_of_ble_eq_true rfl) rfl ?_
  refine g_iload C dX6_sumOf_10 0 rfl ?_
  refine g_iconst C dX6_sumOf_12 gk_iconst_m1 ?_
  refine g_icmp_ne C dX6_sumOf_13 rfl h (fun h => ?_) (fun h => ?_)
  · refine g_aload_n C dX6_sumOf_20 rfl 1 rfl ?_
    refine g_aload_n C dX6_sumOf_21 rfl 1 rfl ?_
    refine mm_getA C M 16 (Nat.le_of_ble_eq_true rfl) (Nat.le_of_ble_eq_true rfl) q2019 rfl dX6_sumOf_22 ?_
    refine g_iload C dX6_sumOf_25 0 rfl ?_
    refine mm_ldI C M 16 (Nat.le_of_ble_eq_true rfl) rfl dX6_sumOf_27 h (fun v3 h => ?_)
    refine g_aload_n C dX6_sumOf_28 rfl 1 rfl ?_
    refine mm_getA C M 17 (Nat.le_of_ble_eq_true rfl) (Nat.le_of_ble_eq_true rfl) q2020 rfl dX6_sumOf_29 ?_
    refine g_iload C dX6_sumOf_32 0 rfl ?_
    refine mm_ldI C M 17 (Nat.le_of_ble_eq_true rfl) rfl dX6_sumOf_34 h (fun v4 h => ?_)
    obtain ⟨v6, z5, e, h⟩ := g_callE h
    refine mm_callV C M 2 [.int v3, .int v4] (st := []) (v := some (.long v6)) (z' := z5) (fun l => ct_works l v3 v4 z1 v6 z5 e) (lw_V q2462 q2464 qs120 q178 q2465) rfl rfl rfl (Nat.le_of_ble_eq_true rfl) (Nat.le_of_ble_eq_true rfl) (Nat.le_of_ble_eq_true rfl) dX6_sumOf_35 ?_
    refine gW_st (st' := [.long v6]) rfl ?_
    exact g_sub [(0, .ref E.2.2.1)] [1] rfl (wk_sumOf_b38 C M v6 z5 h)
  · refine g_lconst C dX6_sumOf_16 gk_lconst_0 ?_
    refine g_goto C dX6_sumOf_17 rfl ?_
    exact g_sub [(0, .ref E.2.2.1)] [1] rfl (wk_sumOf_b38 C M (0 : Int64) z1 h)
theorem ct_sumOf (l : Launch) (x1 : Int32) (x2 : Int32) (x3 : Int32) (z : mm_S) (r : Int32) (z' : mm_S) (h : mo_sumOf x1 x2 x3 z = some (r, z')) : mm_MetV l yX6_sumOf cX6_sumOf 7 (some .int) 4 100 [.int x1, .int x2, .int x3] z (.returned (some (.int r)), z') := by
  intro E hD
  exact mm_enter E hD rfl ⟨_, rfl⟩ (.ref E.2.2.1 :: [.int x1, .int x2, .int x3]) (Nat.le_of_ble_eq_true rfl) (fun X C M => wk_sumOf C M x1 x2 x3 z h)
def mo_lays_b2 : Nat → Int32 → mm_S → Option (Unit × mm_S)
  | 0, _, _ => none
  | n + 1, x1, z => g_call (mo_cells z) (fun v2 z1 => if v2 ≤ x1 then (some ((), z1)) else (g_call (mo_sumOf (0 : Int32) x1 (0 : Int32) z1) (fun v4 z3 => mm_sI 55 x1 v4 z3 (fun z5 => mm_lI 55 x1 z5 (fun v6 => g_call (mo_sumOf (1 : Int32) x1 v6 z5) (fun v8 z7 => mm_sI 56 x1 v8 z7 (fun z9 => (mo_lays_b2 n) (x1 + (1 : Int32)) z9)))))))
theorem wk_lays_b2 {X : gX} {E : mm_E} {r : Unit × mm_S} (C : gC X cX6_lays 2 none RX6 5 126) (M : mm_C X E) : ∀ (n : Nat) (x1 : Int32) (z : mm_S), mo_lays_b2 n x1 z = some r → gW X (mm_G E) (.returned none, r.2) z 2 [(0, .ref E.2.2.1), (1, .int x1)] [] := by
  intro n
  induction n with
  | zero =>
    intro x1 z h
    have h : (none : Option (Unit × mm_S)) = some r := h
    cases h
  | succ n ih =>
    intro x1 z h
    rw [mo_lays_b2] at h
    refine g_iload_n C dX6_lays_2 rfl 1 rfl ?_
    refine g_aload_n C dX6_lays_3 rfl 0 rfl ?_
    obtain ⟨v2, z1, e, h⟩ := g_callE h
    refine mm_callV C M 0 [] (st := [.int x1]) (v := some (.int v2)) (z' := z1) (fun l => ct_cells l z v2 z1 e) (lw_V q2442 q2444 qs115 q178 q2445) rfl rfl rfl (Nat.le_of_ble_eq_true rfl) (Nat.le_of_ble_eq_true rfl) (Nat.le_of_ble_eq_true rfl) dX6_lays_4 ?_
    refine gW_st (st' := [.int v2, .int x1]) rfl ?_
    refine g_icmp_ge C dX6_lays_7 rfl h (fun h => ?_) (fun h => ?_)
    · exact g_vret C (fun _ => trivial) dX6_lays_47 h
    · refine g_aload_n C dX6_lays_10 rfl 0 rfl ?_
      refine mm_getA C M 55 (Nat.le_of_ble_eq_true rfl) (Nat.le_of_ble_eq_true rfl) q2058 rfl dX6_lays_11 ?_
      refine g_iload_n C dX6_lays_14 rfl 1 rfl ?_
      refine g_aload_n C dX6_lays_15 rfl 0 rfl ?_
      refine g_iconst C dX6_lays_16 gk_iconst_0 ?_
      refine g_iload_n C dX6_lays_17 rfl 1 rfl ?_
      refine g_iconst C dX6_lays_18 gk_iconst_0 ?_
      obtain ⟨v4, z3, e, h⟩ := g_callE h
      refine mm_callV C M 3 [.int (0 : Int32), .int x1, .int (0 : Int32)] (st := [.int x1, .ref (E.2.2.2.1 55)]) (v := some (.int v4)) (z' := z3) (fun l => ct_sumOf l (0 : Int32) x1 (0 : Int32) z1 v4 z3 e) (lw_V q2446 q2448 qs116 q178 q2449) rfl rfl rfl (Nat.le_of_ble_eq_true rfl) (Nat.le_of_ble_eq_true rfl) (Nat.le_of_ble_eq_true rfl) dX6_lays_19 ?_
      refine gW_st (st' := [.int v4, .int x1, .ref (E.2.2.2.1 55)]) rfl ?_
      refine mm_stI C M 55 (Nat.le_of_ble_eq_true rfl) rfl dX6_lays_22 h (fun z5 h => ?_)
      refine g_aload_n C dX6_lays_23 rfl 0 rfl ?_
      refine mm_getA C M 56 (Nat.le_of_ble_eq_true rfl) (Nat.le_of_ble_eq_true rfl) q2059 rfl dX6_lays_24 ?_
      refine g_iload_n C dX6_lays_27 rfl 1 rfl ?_
      refine g_aload_n C dX6_lays_28 rfl 0 rfl ?_
      refine g_iconst C dX6_lays_29 gk_iconst_1 ?_
      refine g_iload_n C dX6_lays_30 rfl 1 rfl ?_
      refine g_aload_n C dX6_lays_31 rfl 0 rfl ?_
      refine mm_getA C M 55 (Nat.le_of_ble_eq_true rfl) (Nat.le_of_ble_eq_true rfl) q2058 rfl dX6_lays_32 ?_
      refine g_iload_n C dX6_lays_35 rfl 1 rfl ?_
      refine mm_ldI C M 55 (Nat.le_of_ble_eq_true rfl) rfl dX6_lays_36 h (fun v6 h => ?_)
      obtain ⟨v8, z7, e, h⟩ := g_callE h
      refine mm_callV C M 3 [.int (1 : Int32), .int x1, .int v6] (st := [.int x1, .ref (E.2.2.2.1 56)]) (v := some (.int v8)) (z' := z7) (fun l => ct_sumOf l (1 : Int32) x1 v6 z5 v8 z7 e) (lw_V q2446 q2448 qs116 q178 q2449) rfl rfl rfl (Nat.le_of_ble_eq_true rfl) (Nat.le_of_ble_eq_true rfl) (Nat.le_of_ble_eq_true rfl) dX6_lays_37 ?_
      refine gW_st (st' := [.int v8, .int x1, .ref (E.2.2.2.1 56)]) rfl ?_
      refine mm_stI C M 56 (Nat.le_of_ble_eq_true rfl) rfl dX6_lays_40 h (fun z9 h => ?_)
      refine g_iinc [(1, .int (x1 + (1 : Int32))), (0, .ref E.2.2.1)] C dX6_lays_41 (j := 1) rfl (gk_inc_1 _) (Nat.le_of_ble_eq_true rfl) rfl ?_
      refine g_goto C dX6_lays_44 rfl ?_
      exact g_sub [(0, .ref E.2.2.1), (1, .int (x1 + (1 : Int32)))] [1, 0] rfl (ih (x1 + (1 : Int32)) z9 h)
def mo_lays (z : mm_S) : Option (Unit × mm_S) := mo_lays_b2 g_fu (0 : Int32) z
theorem wk_lays {X : gX} {E : mm_E} {r : Unit × mm_S} (C : gC X cX6_lays 2 none RX6 5 126) (M : mm_C X E) (z : mm_S) (h : mo_lays z = some r) : gW X (mm_G E) (.returned none, r.2) z 0 [(0, .ref E.2.2.1)] [] := by
  unfold mo_lays at h
  refine g_iconst C dX6_lays_0 gk_iconst_0 ?_
  refine g_istore_n [(1, .int (0 : Int32)), (0, .ref E.2.2.1)] C dX6_lays_1 rfl (Nat.le_of_ble_eq_true rfl) rfl ?_
  exact g_sub [(0, .ref E.2.2.1), (1, .int (0 : Int32))] [1, 0] rfl (wk_lays_b2 C M g_fu (0 : Int32) z h)
theorem ct_lays (l : Launch) (z : mm_S) (r : Unit) (z' : mm_S) (h : mo_lays z = some (r, z')) : mm_MetV l yX6_lays cX6_lays 2 none 5 126 [] z (.returned none, z') := by
  intro E hD
  exact mm_enter E hD rfl ⟨_, rfl⟩ (.ref E.2.2.1 :: []) (Nat.le_of_ble_eq_true rfl) (fun X C M => wk_lays C M z h)
def mo_sea_b186 (x1 : Int32) (z : mm_S) : Option (Int32 × mm_S) := mm_gI 8 z (fun v1 => mm_pI 10 v1 z (fun z2 => mm_gI 9 z2 (fun v3 => mm_pI 11 v3 z2 (fun z4 => mm_gI 8 z4 (fun v5 => if v5 ≤ 0 then (mm_gI 41 z4 (fun v6 => mm_pI 12 v6 z4 (fun z7 => g_call (mo_lays z7) (fun _ z8 => some (x1, z8))))) else (g_call (mo_refuses (1 : Int32) z4) (fun v11 z10 => some (v11, z10))))))))
theorem wk_sea_b186 {X : gX} {E : mm_E} {r : Int32 × mm_S} (C : gC X cX6_sea 2 (some .int) RX6 7 155) (M : mm_C X E) (x1 : Int32) (z : mm_S) (h : mo_sea_b186 x1 z = some r) : gW X (mm_G E) (.returned (some (.int r.1)), r.2) z 186 [(0, .ref E.2.2.1), (1, .int x1)] [] := by
  unfold mo_sea_b186 at h
  refine g_aload_n C dX6_sea_186 rfl 0 rfl ?_
  refine g_aload_n C dX6_sea_187 rfl 0 rfl ?_
  refine mm_getI C M 8 (Nat.le_of_ble_eq_true rfl) (Nat.le_of_ble_eq_true rfl) q2011 rfl dX6_sea_188 h (fun v1 h => ?_)
  refine mm_putI C M 10 (Nat.le_of_ble_eq_true rfl) (Nat.le_of_ble_eq_true rfl) q2013 rfl rfl rfl dX6_sea_191 h (fun z2 h => ?_)
  refine g_aload_n C dX6_sea_194 rfl 0 rfl ?_
  refine g_aload_n C dX6_sea_195 rfl 0 rfl ?_
  refine mm_getI C M 9 (Nat.le_of_ble_eq_true rfl) (Nat.le_of_ble_eq_true rfl) q2012 rfl dX6_sea_196 h (fun v3 h => ?_)
  refine mm_putI C M 11 (Nat.le_of_ble_eq_true rfl) (Nat.le_of_ble_eq_true rfl) q2014 rfl rfl rfl dX6_sea_199 h (fun z4 h => ?_)
  refine g_aload_n C dX6_sea_202 rfl 0 rfl ?_
  refine mm_getI C M 8 (Nat.le_of_ble_eq_true rfl) (Nat.le_of_ble_eq_true rfl) q2011 rfl dX6_sea_203 h (fun v5 h => ?_)
  refine g_if_le C dX6_sea_206 rfl h (fun h => ?_) (fun h => ?_)
  · refine g_aload_n C dX6_sea_215 rfl 0 rfl ?_
    refine g_aload_n C dX6_sea_216 rfl 0 rfl ?_
    refine mm_getI C M 41 (Nat.le_of_ble_eq_true rfl) (Nat.le_of_ble_eq_true rfl) q2044 rfl dX6_sea_217 h (fun v6 h => ?_)
    refine mm_putI C M 12 (Nat.le_of_ble_eq_true rfl) (Nat.le_of_ble_eq_true rfl) q2015 rfl rfl rfl dX6_sea_220 h (fun z7 h => ?_)
    refine g_aload_n C dX6_sea_223 rfl 0 rfl ?_
    obtain ⟨u9, z8, e, h⟩ := g_callE h
    refine mm_callV C M 0 [] (st := []) (v := none) (z' := z8) (fun l => ct_lays l z7 u9 z8 e) (lw_V q2438 q2440 qs114 q178 q2441) rfl rfl rfl (Nat.le_of_ble_eq_true rfl) (Nat.le_of_ble_eq_true rfl) (Nat.le_of_ble_eq_true rfl) dX6_sea_224 ?_
    refine gW_st (st' := []) rfl ?_
    refine g_iload_n C dX6_sea_227 rfl 1 rfl ?_
    exact g_iret C (fun _ => trivial) dX6_sea_228 h
  · refine g_aload_n C dX6_sea_209 rfl 0 rfl ?_
    refine g_iconst C dX6_sea_210 gk_iconst_1 ?_
    obtain ⟨v11, z10, e, h⟩ := g_callE h
    refine mm_callV C M 1 [.int (1 : Int32)] (st := []) (v := some (.int v11)) (z' := z10) (fun l => ct_refuses l (1 : Int32) z4 v11 z10 e) (lw_V q2258 q2260 qs83 q178 q2261) rfl rfl rfl (Nat.le_of_ble_eq_true rfl) (Nat.le_of_ble_eq_true rfl) (Nat.le_of_ble_eq_true rfl) dX6_sea_211 ?_
    refine gW_st (st' := [.int v11]) rfl ?_
    exact g_iret C (fun _ => trivial) dX6_sea_214 h
def mo_sea_b162 : Nat → Int32 → mm_S → Option (Int32 × mm_S)
  | 0, _, _ => none
  | n + 1, x1, z => mm_gI 8 z (fun v1 => if v1 = 0 then (mm_gI 3 z (fun v2 => if v2 = 0 then (mo_sea_b186 x1 z) else (g_call (mo_statement z) (fun _ z3 => (mo_sea_b162 n) (x1 + (1 : Int32)) z3)))) else (mo_sea_b186 x1 z))
theorem wk_sea_b162 {X : gX} {E : mm_E} {r : Int32 × mm_S} (C : gC X cX6_sea 2 (some .int) RX6 7 155) (M : mm_C X E) : ∀ (n : Nat) (x1 : Int32) (z : mm_S), mo_sea_b162 n x1 z = some r → gW X (mm_G E) (.returned (some (.int r.1)), r.2) z 162 [(0, .ref E.2.2.1), (1, .int x1)] [] := by
  intro n
  induction n with
  | zero =>
    intro x1 z h
    have h : (none : Option (Int32 × mm_S)) = some r := h
    cases h
  | succ n ih =>
    intro x1 z h
    rw [mo_sea_b162] at h
    refine g_aload_n C dX6_sea_162 rfl 0 rfl ?_
    refine mm_getI C M 8 (Nat.le_of_ble_eq_true rfl) (Nat.le_of_ble_eq_true rfl) q2011 rfl dX6_sea_163 h (fun v1 h => ?_)
    refine g_if_ne C dX6_sea_166 rfl h (fun h => ?_) (fun h => ?_)
    · exact wk_sea_b186 C M x1 z h
    · refine g_aload_n C dX6_sea_169 rfl 0 rfl ?_
      refine mm_getI C M 3 (Nat.le_of_ble_eq_true rfl) (Nat.le_of_ble_eq_true rfl) q2006 rfl dX6_sea_170 h (fun v2 h => ?_)
      refine g_if_eq C dX6_sea_173 rfl h (fun h => ?_) (fun h => ?_)
      · exact wk_sea_b186 C M x1 z h
      · refine g_aload_n C dX6_sea_176 rfl 0 rfl ?_
        obtain ⟨u4, z3, e, h⟩ := g_callE h
        refine mm_callV C M 0 [] (st := []) (v := none) (z' := z3) (fun l => ct_statement l z u4 z3 e) (lw_V q2312 q2314 qs92 q178 q2315) rfl rfl rfl (Nat.le_of_ble_eq_true rfl) (Nat.le_of_ble_eq_true rfl) (Nat.le_of_ble_eq_true rfl) dX6_sea_177 ?_
        refine gW_st (st' := []) rfl ?_
        refine g_iinc [(1, .int (x1 + (1 : Int32))), (0, .ref E.2.2.1)] C dX6_sea_180 (j := 1) rfl (gk_inc_1 _) (Nat.le_of_ble_eq_true rfl) rfl ?_
        refine g_goto C dX6_sea_183 rfl ?_
        exact g_sub [(0, .ref E.2.2.1), (1, .int (x1 + (1 : Int32)))] [1, 0] rfl (ih (x1 + (1 : Int32)) z3 h)
def mo_sea_b67 : Nat → Int32 → mm_S → Option (Int32 × mm_S)
  | 0, _, _ => none
  | n + 1, x1, z => if (384 : Int32) ≤ x1 then (mm_gI 41 z (fun v1 => mm_sI 19 v1 (0 : Int32) z (fun z2 => mm_gI 41 z2 (fun v3 => mm_sI 25 v3 (0 : Int32) z2 (fun z4 => mm_gI 41 z4 (fun v5 => mm_sI 28 v5 (0 : Int32) z4 (fun z6 => mm_gI 41 z6 (fun v7 => mm_sI 33 v7 (0 : Int32) z6 (fun z8 => mm_gI 41 z8 (fun v9 => mm_sI 37 v9 (10 : Int32) z8 (fun z10 => mm_pI 40 (0 : Int32) z10 (fun z11 => g_call (mo_ahead z11) (fun _ z12 => g_call (mo_sizes z12) (fun _ z14 => mo_sea_b162 g_fu (1 : Int32) z14)))))))))))))) else (mm_gI 41 z (fun v16 => mm_sI 26 (((384 : Int32) * v16) + x1) (-1 : Int32) z (fun z17 => (mo_sea_b67 n) (x1 + (1 : Int32)) z17)))
theorem wk_sea_b67 {X : gX} {E : mm_E} {r : Int32 × mm_S} (C : gC X cX6_sea 2 (some .int) RX6 7 155) (M : mm_C X E) : ∀ (n : Nat) (x1 : Int32) (z : mm_S), mo_sea_b67 n x1 z = some r → gW X (mm_G E) (.returned (some (.int r.1)), r.2) z 67 [(0, .ref E.2.2.1), (1, .int x1)] [] := by
  intro n
  induction n with
  | zero =>
    intro x1 z h
    have h : (none : Option (Int32 × mm_S)) = some r := h
    cases h
  | succ n ih =>
    intro x1 z h
    rw [mo_sea_b67] at h
    refine g_iload_n C dX6_sea_67 rfl 1 rfl ?_
    refine g_sipush C dX6_sea_68 gk_sipush_384 ?_
    refine g_icmp_ge C dX6_sea_71 rfl h (fun h => ?_) (fun h => ?_)
    · refine g_aload_n C dX6_sea_96 rfl 0 rfl ?_
      refine mm_getA C M 19 (Nat.le_of_ble_eq_true rfl) (Nat.le_of_ble_eq_true rfl) q2022 rfl dX6_sea_97 ?_
      refine g_aload_n C dX6_sea_100 rfl 0 rfl ?_
      refine mm_getI C M 41 (Nat.le_of_ble_eq_true rfl) (Nat.le_of_ble_eq_true rfl) q2044 rfl dX6_sea_101 h (fun v1 h => ?_)
      refine g_iconst C dX6_sea_104 gk_iconst_0 ?_
      refine mm_stI C M 19 (Nat.le_of_ble_eq_true rfl) rfl dX6_sea_105 h (fun z2 h => ?_)
      refine g_aload_n C dX6_sea_106 rfl 0 rfl ?_
      refine mm_getA C M 25 (Nat.le_of_ble_eq_true rfl) (Nat.le_of_ble_eq_true rfl) q2028 rfl dX6_sea_107 ?_
      refine g_aload_n C dX6_sea_110 rfl 0 rfl ?_
      refine mm_getI C M 41 (Nat.le_of_ble_eq_true rfl) (Nat.le_of_ble_eq_true rfl) q2044 rfl dX6_sea_111 h (fun v3 h => ?_)
      refine g_iconst C dX6_sea_114 gk_iconst_0 ?_
      refine mm_stI C M 25 (Nat.le_of_ble_eq_true rfl) rfl dX6_sea_115 h (fun z4 h => ?_)
      refine g_aload_n C dX6_sea_116 rfl 0 rfl ?_
      refine mm_getA C M 28 (Nat.le_of_ble_eq_true rfl) (Nat.le_of_ble_eq_true rfl) q2031 rfl dX6_sea_117 ?_
      refine g_aload_n C dX6_sea_120 rfl 0 rfl ?_
      refine mm_getI C M 41 (Nat.le_of_ble_eq_true rfl) (Nat.le_of_ble_eq_true rfl) q2044 rfl dX6_sea_121 h (fun v5 h => ?_)
      refine g_iconst C dX6_sea_124 gk_iconst_0 ?_
      refine mm_stI C M 28 (Nat.le_of_ble_eq_true rfl) rfl dX6_sea_125 h (fun z6 h => ?_)
      refine g_aload_n C dX6_sea_126 rfl 0 rfl ?_
      refine mm_getA C M 33 (Nat.le_of_ble_eq_true rfl) (Nat.le_of_ble_eq_true rfl) q2036 rfl dX6_sea_127 ?_
      refine g_aload_n C dX6_sea_130 rfl 0 rfl ?_
      refine mm_getI C M 41 (Nat.le_of_ble_eq_true rfl) (Nat.le_of_ble_eq_true rfl) q2044 rfl dX6_sea_131 h (fun v7 h => ?_)
      refine g_iconst C dX6_sea_134 gk_iconst_0 ?_
      refine mm_stI C M 33 (Nat.le_of_ble_eq_true rfl) rfl dX6_sea_135 h (fun z8 h => ?_)
      refine g_aload_n C dX6_sea_136 rfl 0 rfl ?_
      refine mm_getA C M 37 (Nat.le_of_ble_eq_true rfl) (Nat.le_of_ble_eq_true rfl) q2040 rfl dX6_sea_137 ?_
      refine g_aload_n C dX6_sea_140 rfl 0 rfl ?_
      refine mm_getI C M 41 (Nat.le_of_ble_eq_true rfl) (Nat.le_of_ble_eq_true rfl) q2044 rfl dX6_sea_141 h (fun v9 h => ?_)
      refine g_bipush C dX6_sea_144 gk_bipush_10 ?_
      refine mm_stI C M 37 (Nat.le_of_ble_eq_true rfl) rfl dX6_sea_146 h (fun z10 h => ?_)
      refine g_aload_n C dX6_sea_147 rfl 0 rfl ?_
      refine g_iconst C dX6_sea_148 gk_iconst_0 ?_
      refine mm_putI C M 40 (Nat.le_of_ble_eq_true rfl) (Nat.le_of_ble_eq_true rfl) q2043 rfl rfl rfl dX6_sea_149 h (fun z11 h => ?_)
      refine g_iconst C dX6_sea_152 gk_iconst_1 ?_
      refine g_istore_n [(1, .int (1 : Int32)), (0, .ref E.2.2.1)] C dX6_sea_153 rfl (Nat.le_of_ble_eq_true rfl) rfl ?_
      refine g_aload_n C dX6_sea_154 rfl 1 rfl ?_
      obtain ⟨u13, z12, e, h⟩ := g_callE h
      refine mm_callV C M 0 [] (st := []) (v := none) (z' := z12) (fun l => ct_ahead l z11 u13 z12 e) (lw_V q2274 q2276 qs85 q178 q2277) rfl rfl rfl (Nat.le_of_ble_eq_true rfl) (Nat.le_of_ble_eq_true rfl) (Nat.le_of_ble_eq_true rfl) dX6_sea_155 ?_
      refine gW_st (st' := []) rfl ?_
      refine g_aload_n C dX6_sea_158 rfl 1 rfl ?_
      obtain ⟨u15, z14, e, h⟩ := g_callE h
      refine mm_callV C M 0 [] (st := []) (v := none) (z' := z14) (fun l => ct_sizes l z12 u15 z14 e) (lw_V q2288 q2290 qs87 q178 q2291) rfl rfl rfl (Nat.le_of_ble_eq_true rfl) (Nat.le_of_ble_eq_true rfl) (Nat.le_of_ble_eq_true rfl) dX6_sea_159 ?_
      refine gW_st (st' := []) rfl ?_
      exact g_sub [(0, .ref E.2.2.1), (1, .int (1 : Int32))] [1, 0] rfl (wk_sea_b162 C M g_fu (1 : Int32) z14 h)
    · refine g_aload_n C dX6_sea_74 rfl 0 rfl ?_
      refine mm_getA C M 26 (Nat.le_of_ble_eq_true rfl) (Nat.le_of_ble_eq_true rfl) q2029 rfl dX6_sea_75 ?_
      refine g_sipush C dX6_sea_78 gk_sipush_384 ?_
      refine g_aload_n C dX6_sea_81 rfl 0 rfl ?_
      refine mm_getI C M 41 (Nat.le_of_ble_eq_true rfl) (Nat.le_of_ble_eq_true rfl) q2044 rfl dX6_sea_82 h (fun v16 h => ?_)
      refine g_imul C dX6_sea_85 ?_
      refine g_iload_n C dX6_sea_86 rfl 1 rfl ?_
      refine g_iadd C dX6_sea_87 ?_
      refine g_iconst C dX6_sea_88 gk_iconst_m1 ?_
      refine mm_stI C M 26 (Nat.le_of_ble_eq_true rfl) rfl dX6_sea_89 h (fun z17 h => ?_)
      refine g_iinc [(1, .int (x1 + (1 : Int32))), (0, .ref E.2.2.1)] C dX6_sea_90 (j := 1) rfl (gk_inc_1 _) (Nat.le_of_ble_eq_true rfl) rfl ?_
      refine g_goto C dX6_sea_93 rfl ?_
      exact g_sub [(0, .ref E.2.2.1), (1, .int (x1 + (1 : Int32)))] [1, 0] rfl (ih (x1 + (1 : Int32)) z17 h)
def mo_sea_b40 : Nat → Int32 → mm_S → Option (Int32 × mm_S)
  | 0, _, _ => none
  | n + 1, x1, z => if (3 : Int32) ≤ x1 then (mo_sea_b67 g_fu (0 : Int32) z) else (mm_gI 41 z (fun v1 => mm_sI 15 (((3 : Int32) * v1) + x1) (0 : Int32) z (fun z2 => (mo_sea_b40 n) (x1 + (1 : Int32)) z2)))
theorem wk_sea_b40 {X : gX} {E : mm_E} {r : Int32 × mm_S} (C : gC X cX6_sea 2 (some .int) RX6 7 155) (M : mm_C X E) : ∀ (n : Nat) (x1 : Int32) (z : mm_S), mo_sea_b40 n x1 z = some r → gW X (mm_G E) (.returned (some (.int r.1)), r.2) z 40 [(0, .ref E.2.2.1), (1, .int x1)] [] := by
  intro n
  induction n with
  | zero =>
    intro x1 z h
    have h : (none : Option (Int32 × mm_S)) = some r := h
    cases h
  | succ n ih =>
    intro x1 z h
    rw [mo_sea_b40] at h
    refine g_iload_n C dX6_sea_40 rfl 1 rfl ?_
    refine g_iconst C dX6_sea_41 gk_iconst_3 ?_
    refine g_icmp_ge C dX6_sea_42 rfl h (fun h => ?_) (fun h => ?_)
    · refine g_iconst C dX6_sea_65 gk_iconst_0 ?_
      refine g_istore_n [(1, .int (0 : Int32)), (0, .ref E.2.2.1)] C dX6_sea_66 rfl (Nat.le_of_ble_eq_true rfl) rfl ?_
      exact g_sub [(0, .ref E.2.2.1), (1, .int (0 : Int32))] [1, 0] rfl (wk_sea_b67 C M g_fu (0 : Int32) z h)
    · refine g_aload_n C dX6_sea_45 rfl 0 rfl ?_
      refine mm_getA C M 15 (Nat.le_of_ble_eq_true rfl) (Nat.le_of_ble_eq_true rfl) q2018 rfl dX6_sea_46 ?_
      refine g_iconst C dX6_sea_49 gk_iconst_3 ?_
      refine g_aload_n C dX6_sea_50 rfl 0 rfl ?_
      refine mm_getI C M 41 (Nat.le_of_ble_eq_true rfl) (Nat.le_of_ble_eq_true rfl) q2044 rfl dX6_sea_51 h (fun v1 h => ?_)
      refine g_imul C dX6_sea_54 ?_
      refine g_iload_n C dX6_sea_55 rfl 1 rfl ?_
      refine g_iadd C dX6_sea_56 ?_
      refine g_iconst C dX6_sea_57 gk_iconst_0 ?_
      refine mm_stI C M 15 (Nat.le_of_ble_eq_true rfl) rfl dX6_sea_58 h (fun z2 h => ?_)
      refine g_iinc [(1, .int (x1 + (1 : Int32))), (0, .ref E.2.2.1)] C dX6_sea_59 (j := 1) rfl (gk_inc_1 _) (Nat.le_of_ble_eq_true rfl) rfl ?_
      refine g_goto C dX6_sea_62 rfl ?_
      exact g_sub [(0, .ref E.2.2.1), (1, .int (x1 + (1 : Int32)))] [1, 0] rfl (ih (x1 + (1 : Int32)) z2 h)
def mo_sea (z : mm_S) : Option (Int32 × mm_S) := mm_gI 1 z (fun v1 => mm_pI 2 v1 z (fun z2 => mm_pI 1 (0 : Int32) z2 (fun z3 => mm_pI 5 (0 : Int32) z3 (fun z4 => mm_pI 8 (0 : Int32) z4 (fun z5 => mm_pI 9 (-1 : Int32) z5 (fun z6 => mm_gI 12 z6 (fun v7 => mm_pI 41 ((1 : Int32) - v7) z6 (fun z8 => mo_sea_b40 g_fu (0 : Int32) z8))))))))
theorem wk_sea {X : gX} {E : mm_E} {r : Int32 × mm_S} (C : gC X cX6_sea 2 (some .int) RX6 7 155) (M : mm_C X E) (z : mm_S) (h : mo_sea z = some r) : gW X (mm_G E) (.returned (some (.int r.1)), r.2) z 0 [(0, .ref E.2.2.1)] [] := by
  unfold mo_sea at h
  refine g_aload_n C dX6_sea_0 rfl 0 rfl ?_
  refine g_aload_n C dX6_sea_1 rfl 0 rfl ?_
  refine mm_getI C M 1 (Nat.le_of_ble_eq_true rfl) (Nat.le_of_ble_eq_true rfl) q2004 rfl dX6_sea_2 h (fun v1 h => ?_)
  refine mm_putI C M 2 (Nat.le_of_ble_eq_true rfl) (Nat.le_of_ble_eq_true rfl) q2005 rfl rfl rfl dX6_sea_5 h (fun z2 h => ?_)
  refine g_aload_n C dX6_sea_8 rfl 0 rfl ?_
  refine g_iconst C dX6_sea_9 gk_iconst_0 ?_
  refine mm_putI C M 1 (Nat.le_of_ble_eq_true rfl) (Nat.le_of_ble_eq_true rfl) q2004 rfl rfl rfl dX6_sea_10 h (fun z3 h => ?_)
  refine g_aload_n C dX6_sea_13 rfl 0 rfl ?_
  refine g_iconst C dX6_sea_14 gk_iconst_0 ?_
  refine mm_putI C M 5 (Nat.le_of_ble_eq_true rfl) (Nat.le_of_ble_eq_true rfl) q2008 rfl rfl rfl dX6_sea_15 h (fun z4 h => ?_)
  refine g_aload_n C dX6_sea_18 rfl 0 rfl ?_
  refine g_iconst C dX6_sea_19 gk_iconst_0 ?_
  refine mm_putI C M 8 (Nat.le_of_ble_eq_true rfl) (Nat.le_of_ble_eq_true rfl) q2011 rfl rfl rfl dX6_sea_20 h (fun z5 h => ?_)
  refine g_aload_n C dX6_sea_23 rfl 0 rfl ?_
  refine g_iconst C dX6_sea_24 gk_iconst_m1 ?_
  refine mm_putI C M 9 (Nat.le_of_ble_eq_true rfl) (Nat.le_of_ble_eq_true rfl) q2012 rfl rfl rfl dX6_sea_25 h (fun z6 h => ?_)
  refine g_aload_n C dX6_sea_28 rfl 0 rfl ?_
  refine g_iconst C dX6_sea_29 gk_iconst_1 ?_
  refine g_aload_n C dX6_sea_30 rfl 0 rfl ?_
  refine mm_getI C M 12 (Nat.le_of_ble_eq_true rfl) (Nat.le_of_ble_eq_true rfl) q2015 rfl dX6_sea_31 h (fun v7 h => ?_)
  refine g_isub C dX6_sea_34 ?_
  refine mm_putI C M 41 (Nat.le_of_ble_eq_true rfl) (Nat.le_of_ble_eq_true rfl) q2044 rfl rfl rfl dX6_sea_35 h (fun z8 h => ?_)
  refine g_iconst C dX6_sea_38 gk_iconst_0 ?_
  refine g_istore_n [(1, .int (0 : Int32)), (0, .ref E.2.2.1)] C dX6_sea_39 rfl (Nat.le_of_ble_eq_true rfl) rfl ?_
  exact g_sub [(0, .ref E.2.2.1), (1, .int (0 : Int32))] [1, 0] rfl (wk_sea_b40 C M g_fu (0 : Int32) z8 h)
theorem ct_sea (l : Launch) (z : mm_S) (r : Int32) (z' : mm_S) (h : mo_sea z = some (r, z')) : mm_MetV l yX6_sea cX6_sea 2 (some .int) 7 155 [] z (.returned (some (.int r)), z') := by
  intro E hD
  exact mm_enter E hD rfl ⟨_, rfl⟩ (.ref E.2.2.1 :: []) (Nat.le_of_ble_eq_true rfl) (fun X C M => wk_sea C M z h)
def mo_fault (x1 : Int32) (z : mm_S) : Option (Int32 × mm_S) := if x1 = 0 then (mm_gI 10 z (fun v2 => some (v2, z))) else (if x1 = (1 : Int32) then (mm_gI 11 z (fun v1 => some (v1, z))) else (some ((-1 : Int32), z)))
theorem wk_fault {X : gX} {E : mm_E} {r : Int32 × mm_S} (C : gC X cX6_fault 2 (some .int) RX6 0 0) (M : mm_C X E) (x1 : Int32) (z : mm_S) (h : mo_fault x1 z = some r) : gW X (mm_G E) (.returned (some (.int r.1)), r.2) z 0 [(0, .ref E.2.2.1), (1, .int x1)] [] := by
  unfold mo_fault at h
  refine g_iload_n C dX6_fault_0 rfl 1 rfl ?_
  refine g_if_ne C dX6_fault_1 rfl h (fun h => ?_) (fun h => ?_)
  · refine g_iload_n C dX6_fault_11 rfl 1 rfl ?_
    refine g_iconst C dX6_fault_12 gk_iconst_1 ?_
    refine g_icmp_ne C dX6_fault_13 rfl h (fun h => ?_) (fun h => ?_)
    · refine g_iconst C dX6_fault_23 gk_iconst_m1 ?_
      exact g_iret C (fun _ => trivial) dX6_fault_24 h
    · refine g_aload_n C dX6_fault_16 rfl 0 rfl ?_
      refine mm_getI C M 11 (Nat.le_of_ble_eq_true rfl) (Nat.le_of_ble_eq_true rfl) q2014 rfl dX6_fault_17 h (fun v1 h => ?_)
      refine g_goto C dX6_fault_20 rfl ?_
      exact g_iret C (fun _ => trivial) dX6_fault_24 h
  · refine g_aload_n C dX6_fault_4 rfl 0 rfl ?_
    refine mm_getI C M 10 (Nat.le_of_ble_eq_true rfl) (Nat.le_of_ble_eq_true rfl) q2013 rfl dX6_fault_5 h (fun v2 h => ?_)
    refine g_goto C dX6_fault_8 rfl ?_
    exact g_iret C (fun _ => trivial) dX6_fault_24 h
theorem ct_fault (l : Launch) (x1 : Int32) (z : mm_S) (r : Int32) (z' : mm_S) (h : mo_fault x1 z = some (r, z')) : mm_MetV l yX6_fault cX6_fault 2 (some .int) 0 0 [.int x1] z (.returned (some (.int r)), z') := by
  intro E hD
  exact mm_enter E hD rfl ⟨_, rfl⟩ (.ref E.2.2.1 :: [.int x1]) (Nat.le_of_ble_eq_true rfl) (fun X C M => wk_fault C M x1 z h)
def mo_status (x1 : Int32) (z : mm_S) : Option (Int32 × mm_S) := g_call (mo_is x1 (0 : Int32) (4 : Int32) z) (fun v2 z1 => if v2 = 0 then (some ((-1 : Int32), z1)) else (mm_lI 52 x1 z1 (fun v3 => some (v3, z1))))
theorem wk_status {X : gX} {E : mm_E} {r : Int32 × mm_S} (C : gC X cX6_status 2 (some .int) RX6 1 22) (M : mm_C X E) (x1 : Int32) (z : mm_S) (h : mo_status x1 z = some r) : gW X (mm_G E) (.returned (some (.int r.1)), r.2) z 0 [(0, .ref E.2.2.1), (1, .int x1)] [] := by
  unfold mo_status at h
  refine g_iload_n C dX6_status_0 rfl 1 rfl ?_
  refine g_iconst C dX6_status_1 gk_iconst_0 ?_
  refine g_iconst C dX6_status_2 gk_iconst_4 ?_
  obtain ⟨v2, z1, e, h⟩ := g_callE h
  refine mm_callS C M 3 [.int x1, .int (0 : Int32), .int (4 : Int32)] (st := []) (v := some (.int v2)) (z' := z1) (fun l => ct_is l x1 (0 : Int32) (4 : Int32) z v2 z1 e) (lw_S q2301 q2302 q178 q2303) rfl rfl rfl (Nat.le_of_ble_eq_true rfl) (Nat.le_of_ble_eq_true rfl) (Nat.le_of_ble_eq_true rfl) dX6_status_3 ?_
  refine gW_st (st' := [.int v2]) rfl ?_
  refine g_if_eq C dX6_status_6 rfl h (fun h => ?_) (fun h => ?_)
  · refine g_iconst C dX6_status_18 gk_iconst_m1 ?_
    exact g_iret C (fun _ => trivial) dX6_status_19 h
  · refine g_aload_n C dX6_status_9 rfl 0 rfl ?_
    refine mm_getA C M 52 (Nat.le_of_ble_eq_true rfl) (Nat.le_of_ble_eq_true rfl) q2055 rfl dX6_status_10 ?_
    refine g_iload_n C dX6_status_13 rfl 1 rfl ?_
    refine mm_ldI C M 52 (Nat.le_of_ble_eq_true rfl) rfl dX6_status_14 h (fun v3 h => ?_)
    refine g_goto C dX6_status_15 rfl ?_
    exact g_iret C (fun _ => trivial) dX6_status_19 h
theorem ct_status (l : Launch) (x1 : Int32) (z : mm_S) (r : Int32) (z' : mm_S) (h : mo_status x1 z = some (r, z')) : mm_MetV l yX6_status cX6_status 2 (some .int) 1 22 [.int x1] z (.returned (some (.int r)), z') := by
  intro E hD
  exact mm_enter E hD rfl ⟨_, rfl⟩ (.ref E.2.2.1 :: [.int x1]) (Nat.le_of_ble_eq_true rfl) (fun X C M => wk_status C M x1 z h)
def mo_isCell (x1 : Int32) (x2 : Int32) (z : mm_S) : Option (Int32 × mm_S) := mm_gI 12 z (fun v1 => mm_lI 13 v1 z (fun v2 => g_call (mo_is x1 (0 : Int32) (v2 - (1 : Int32)) z) (fun v4 z3 => if v4 = 0 then (some ((0 : Int32), z3)) else (mm_gI 12 z3 (fun v5 => mm_lI 14 v5 z3 (fun v6 => g_call (mo_is x2 (0 : Int32) (v6 - (1 : Int32)) z3) (fun v8 z7 => if v8 = 0 then (some ((0 : Int32), z7)) else (some ((1 : Int32), z7)))))))))
theorem wk_isCell {X : gX} {E : mm_E} {r : Int32 × mm_S} (C : gC X cX6_isCell 3 (some .boolean) RX6 1 22) (M : mm_C X E) (x1 : Int32) (x2 : Int32) (z : mm_S) (h : mo_isCell x1 x2 z = some r) : gW X (mm_G E) (.returned (some (.int r.1)), r.2) z 0 [(0, .ref E.2.2.1), (1, .int x1), (2, .int x2)] [] := by
  unfold mo_isCell at h
  refine g_iload_n C dX6_isCell_0 rfl 1 rfl ?_
  refine g_iconst C dX6_isCell_1 gk_iconst_0 ?_
  refine g_aload_n C dX6_isCell_2 rfl 0 rfl ?_
  refine mm_getA C M 13 (Nat.le_of_ble_eq_true rfl) (Nat.le_of_ble_eq_true rfl) q2016 rfl dX6_isCell_3 ?_
  refine g_aload_n C dX6_isCell_6 rfl 0 rfl ?_
  refine mm_getI C M 12 (Nat.le_of_ble_eq_true rfl) (Nat.le_of_ble_eq_true rfl) q2015 rfl dX6_isCell_7 h (fun v1 h => ?_)
  refine mm_ldI C M 13 (Nat.le_of_ble_eq_true rfl) rfl dX6_isCell_10 h (fun v2 h => ?_)
  refine g_iconst C dX6_isCell_11 gk_iconst_1 ?_
  refine g_isub C dX6_isCell_12 ?_
  obtain ⟨v4, z3, e, h⟩ := g_callE h
  refine mm_callS C M 3 [.int x1, .int (0 : Int32), .int (v2 - (1 : Int32))] (st := []) (v := some (.int v4)) (z' := z3) (fun l => ct_is l x1 (0 : Int32) (v2 - (1 : Int32)) z v4 z3 e) (lw_S q2301 q2302 q178 q2303) rfl rfl rfl (Nat.le_of_ble_eq_true rfl) (Nat.le_of_ble_eq_true rfl) (Nat.le_of_ble_eq_true rfl) dX6_isCell_13 ?_
  refine gW_st (st' := [.int v4]) rfl ?_
  refine g_if_eq C dX6_isCell_16 rfl h (fun h => ?_) (fun h => ?_)
  · refine g_iconst C dX6_isCell_42 gk_iconst_0 ?_
    exact g_zretc C (fun _ => trivial) dX6_isCell_43 (Or.inl rfl) h
  · refine g_iload_n C dX6_isCell_19 rfl 2 rfl ?_
    refine g_iconst C dX6_isCell_20 gk_iconst_0 ?_
    refine g_aload_n C dX6_isCell_21 rfl 0 rfl ?_
    refine mm_getA C M 14 (Nat.le_of_ble_eq_true rfl) (Nat.le_of_ble_eq_true rfl) q2017 rfl dX6_isCell_22 ?_
    refine g_aload_n C dX6_isCell_25 rfl 0 rfl ?_
    refine mm_getI C M 12 (Nat.le_of_ble_eq_true rfl) (Nat.le_of_ble_eq_true rfl) q2015 rfl dX6_isCell_26 h (fun v5 h => ?_)
    refine mm_ldI C M 14 (Nat.le_of_ble_eq_true rfl) rfl dX6_isCell_29 h (fun v6 h => ?_)
    refine g_iconst C dX6_isCell_30 gk_iconst_1 ?_
    refine g_isub C dX6_isCell_31 ?_
    obtain ⟨v8, z7, e, h⟩ := g_callE h
    refine mm_callS C M 3 [.int x2, .int (0 : Int32), .int (v6 - (1 : Int32))] (st := []) (v := some (.int v8)) (z' := z7) (fun l => ct_is l x2 (0 : Int32) (v6 - (1 : Int32)) z3 v8 z7 e) (lw_S q2301 q2302 q178 q2303) rfl rfl rfl (Nat.le_of_ble_eq_true rfl) (Nat.le_of_ble_eq_true rfl) (Nat.le_of_ble_eq_true rfl) dX6_isCell_32 ?_
    refine gW_st (st' := [.int v8]) rfl ?_
    refine g_if_eq C dX6_isCell_35 rfl h (fun h => ?_) (fun h => ?_)
    · refine g_iconst C dX6_isCell_42 gk_iconst_0 ?_
      exact g_zretc C (fun _ => trivial) dX6_isCell_43 (Or.inl rfl) h
    · refine g_iconst C dX6_isCell_38 gk_iconst_1 ?_
      refine g_goto C dX6_isCell_39 rfl ?_
      exact g_zretc C (fun _ => trivial) dX6_isCell_43 (Or.inr rfl) h
theorem ct_isCell (l : Launch) (x1 : Int32) (x2 : Int32) (z : mm_S) (r : Int32) (z' : mm_S) (h : mo_isCell x1 x2 z = some (r, z')) : mm_MetV l yX6_isCell cX6_isCell 3 (some .boolean) 1 22 [.int x1, .int x2] z (.returned (some (.int r)), z') := by
  intro E hD
  exact mm_enter E hD rfl ⟨_, rfl⟩ (.ref E.2.2.1 :: [.int x1, .int x2]) (Nat.le_of_ble_eq_true rfl) (fun X C M => wk_isCell C M x1 x2 z h)
def mo_isHour (x0 : Int32) (z : mm_S) : Option (Int32 × mm_S) := g_call (mo_is x0 (0 : Int32) (47 : Int32) z) (fun v2 z1 => (if v2 = 0 ∨ v2 = 1 then some (v2, z1) else none))
theorem wk_isHour {X : gX} {E : mm_E} {r : Int32 × mm_S} (C : gC X cX6_isHour 1 (some .boolean) RX6 1 22) (M : mm_C X E) (x0 : Int32) (z : mm_S) (h : mo_isHour x0 z = some r) : gW X (mm_G E) (.returned (some (.int r.1)), r.2) z 0 [(0, .int x0)] [] := by
  unfold mo_isHour at h
  refine g_iload_n C dX6_isHour_0 rfl 0 rfl ?_
  refine g_iconst C dX6_isHour_1 gk_iconst_0 ?_
  refine g_bipush C dX6_isHour_2 gk_bipush_47 ?_
  obtain ⟨v2, z1, e, h⟩ := g_callE h
  refine mm_callS C M 3 [.int x0, .int (0 : Int32), .int (47 : Int32)] (st := []) (v := some (.int v2)) (z' := z1) (fun l => ct_is l x0 (0 : Int32) (47 : Int32) z v2 z1 e) (lw_S q2301 q2302 q178 q2303) rfl rfl rfl (Nat.le_of_ble_eq_true rfl) (Nat.le_of_ble_eq_true rfl) (Nat.le_of_ble_eq_true rfl) dX6_isHour_4 ?_
  refine gW_st (st' := [.int v2]) rfl ?_
  exact g_zret C (fun _ => trivial) dX6_isHour_7 h
theorem ct_isHour (l : Launch) (x0 : Int32) (z : mm_S) (r : Int32) (z' : mm_S) (h : mo_isHour x0 z = some (r, z')) : mm_MetS l yX6_isHour cX6_isHour 1 (some .boolean) 1 22 [.int x0] z (.returned (some (.int r)), z') := by
  intro E hD
  exact mm_enter E hD rfl ⟨_, rfl⟩ [.int x0] (Nat.le_of_ble_eq_true rfl) (fun X C M => wk_isHour C M x0 z h)
def mo_at (x1 : Int32) (x2 : Int32) (z : mm_S) : Option (Int32 × mm_S) := mm_gI 12 z (fun v1 => mm_lI 13 v1 z (fun v2 => some (((v2 * x2) + x1), z)))
theorem wk_at {X : gX} {E : mm_E} {r : Int32 × mm_S} (C : gC X cX6_at 3 (some .int) RX6 0 0) (M : mm_C X E) (x1 : Int32) (x2 : Int32) (z : mm_S) (h : mo_at x1 x2 z = some r) : gW X (mm_G E) (.returned (some (.int r.1)), r.2) z 0 [(0, .ref E.2.2.1), (1, .int x1), (2, .int x2)] [] := by
  unfold mo_at at h
  refine g_aload_n C dX6_at_0 rfl 0 rfl ?_
  refine mm_getA C M 13 (Nat.le_of_ble_eq_true rfl) (Nat.le_of_ble_eq_true rfl) q2016 rfl dX6_at_1 ?_
  refine g_aload_n C dX6_at_4 rfl 0 rfl ?_
  refine mm_getI C M 12 (Nat.le_of_ble_eq_true rfl) (Nat.le_of_ble_eq_true rfl) q2015 rfl dX6_at_5 h (fun v1 h => ?_)
  refine mm_ldI C M 13 (Nat.le_of_ble_eq_true rfl) rfl dX6_at_8 h (fun v2 h => ?_)
  refine g_iload_n C dX6_at_9 rfl 2 rfl ?_
  refine g_imul C dX6_at_10 ?_
  refine g_iload_n C dX6_at_11 rfl 1 rfl ?_
  refine g_iadd C dX6_at_12 ?_
  exact g_iret C (fun _ => trivial) dX6_at_13 h
theorem ct_at (l : Launch) (x1 : Int32) (x2 : Int32) (z : mm_S) (r : Int32) (z' : mm_S) (h : mo_at x1 x2 z = some (r, z')) : mm_MetV l yX6_at cX6_at 3 (some .int) 0 0 [.int x1, .int x2] z (.returned (some (.int r)), z') := by
  intro E hD
  exact mm_enter E hD rfl ⟨_, rfl⟩ (.ref E.2.2.1 :: [.int x1, .int x2]) (Nat.le_of_ble_eq_true rfl) (fun X C M => wk_at C M x1 x2 z h)
def mo_isQuiet (x1 : Int32) (x2 : Int32) (z : mm_S) : Option (Int32 × mm_S) := mm_lI 55 x1 z (fun v1 => g_call (mo_ruleOf (2 : Int32) x1 x2 v1 z) (fun v3 z2 => if v3 = (-1 : Int32) then (some ((0 : Int32), z2)) else (some ((1 : Int32), z2))))
theorem wk_isQuiet {X : gX} {E : mm_E} {r : Int32 × mm_S} (C : gC X cX6_isQuiet 3 (some .boolean) RX6 4 100) (M : mm_C X E) (x1 : Int32) (x2 : Int32) (z : mm_S) (h : mo_isQuiet x1 x2 z = some r) : gW X (mm_G E) (.returned (some (.int r.1)), r.2) z 0 [(0, .ref E.2.2.1), (1, .int x1), (2, .int x2)] [] := by
  unfold mo_isQuiet at h
  refine g_aload_n C dX6_isQuiet_0 rfl 0 rfl ?_
  refine g_iconst C dX6_isQuiet_1 gk_iconst_2 ?_
  refine g_iload_n C dX6_isQuiet_2 rfl 1 rfl ?_
  refine g_iload_n C dX6_isQuiet_3 rfl 2 rfl ?_
  refine g_aload_n C dX6_isQuiet_4 rfl 0 rfl ?_
  refine mm_getA C M 55 (Nat.le_of_ble_eq_true rfl) (Nat.le_of_ble_eq_true rfl) q2058 rfl dX6_isQuiet_5 ?_
  refine g_iload_n C dX6_isQuiet_8 rfl 1 rfl ?_
  refine mm_ldI C M 55 (Nat.le_of_ble_eq_true rfl) rfl dX6_isQuiet_9 h (fun v1 h => ?_)
  obtain ⟨v3, z2, e, h⟩ := g_callE h
  refine mm_callV C M 4 [.int (2 : Int32), .int x1, .int x2, .int v1] (st := []) (v := some (.int v3)) (z' := z2) (fun l => ct_ruleOf l (2 : Int32) x1 x2 v1 z v3 z2 e) (lw_V q2450 q2452 qs117 q178 q2453) rfl rfl rfl (Nat.le_of_ble_eq_true rfl) (Nat.le_of_ble_eq_true rfl) (Nat.le_of_ble_eq_true rfl) dX6_isQuiet_10 ?_
  refine gW_st (st' := [.int v3]) rfl ?_
  refine g_iconst C dX6_isQuiet_13 gk_iconst_m1 ?_
  refine g_icmp_eq C dX6_isQuiet_14 rfl h (fun h => ?_) (fun h => ?_)
  · refine g_iconst C dX6_isQuiet_21 gk_iconst_0 ?_
    exact g_zretc C (fun _ => trivial) dX6_isQuiet_22 (Or.inl rfl) h
  · refine g_iconst C dX6_isQuiet_17 gk_iconst_1 ?_
    refine g_goto C dX6_isQuiet_18 rfl ?_
    exact g_zretc C (fun _ => trivial) dX6_isQuiet_22 (Or.inr rfl) h
theorem ct_isQuiet (l : Launch) (x1 : Int32) (x2 : Int32) (z : mm_S) (r : Int32) (z' : mm_S) (h : mo_isQuiet x1 x2 z = some (r, z')) : mm_MetV l yX6_isQuiet cX6_isQuiet 3 (some .boolean) 4 100 [.int x1, .int x2] z (.returned (some (.int r)), z') := by
  intro E hD
  exact mm_enter E hD rfl ⟨_, rfl⟩ (.ref E.2.2.1 :: [.int x1, .int x2]) (Nat.le_of_ble_eq_true rfl) (fun X C M => wk_isQuiet C M x1 x2 z h)
def mo_cell (x1 : Int32) (x2 : Int32) (x3 : Int32) (x4 : Int32) (z : mm_S) : Option (Int32 × mm_S) := g_call (mo_isCell x1 x2 z) (fun v2 z1 => if v2 = 0 then (some ((-1 : Int32), z1)) else (g_call (mo_isHour x3 z1) (fun v4 z3 => if v4 = 0 then (some ((-1 : Int32), z3)) else (g_call (mo_at x1 x2 z3) (fun v6 z5 => if x4 = 0 then (mm_lI 55 v6 z5 (fun v10 => some (v10, z5))) else (if x4 = (1 : Int32) then (mm_lI 56 v6 z5 (fun v9 => some (v9, z5))) else (if x4 = (2 : Int32) then (g_call (mo_isQuiet v6 x3 z5) (fun v8 z7 => if v8 = 0 then (some ((0 : Int32), z7)) else (some ((1 : Int32), z7)))) else (some ((-1 : Int32), z5)))))))))
theorem wk_cell {X : gX} {E : mm_E} {r : Int32 × mm_S} (C : gC X cX6_cell 6 (some .int) RX6 5 122) (M : mm_C X E) (x1 : Int32) (x2 : Int32) (x3 : Int32) (x4 : Int32) (z : mm_S) (h : mo_cell x1 x2 x3 x4 z = some r) : gW X (mm_G E) (.returned (some (.int r.1)), r.2) z 0 [(0, .ref E.2.2.1), (1, .int x1), (2, .int x2), (3, .int x3), (4, .int x4)] [] := by
  unfold mo_cell at h
  refine g_aload_n C dX6_cell_0 rfl 0 rfl ?_
  refine g_iload_n C dX6_cell_1 rfl 1 rfl ?_
  refine g_iload_n C dX6_cell_2 rfl 2 rfl ?_
  obtain ⟨v2, z1, e, h⟩ := g_callE h
  refine mm_callV C M 2 [.int x1, .int x2] (st := []) (v := some (.int v2)) (z' := z1) (fun l => ct_isCell l x1 x2 z v2 z1 e) (lw_V q2490 q2492 qs121 q178 q2493) rfl rfl rfl (Nat.le_of_ble_eq_true rfl) (Nat.le_of_ble_eq_true rfl) (Nat.le_of_ble_eq_true rfl) dX6_cell_3 ?_
  refine gW_st (st' := [.int v2]) rfl ?_
  refine g_if_eq C dX6_cell_6 rfl h (fun h => ?_) (fun h => ?_)
  · refine g_iconst C dX6_cell_16 gk_iconst_m1 ?_
    exact g_iret C (fun _ => trivial) dX6_cell_17 h
  · refine g_iload_n C dX6_cell_9 rfl 3 rfl ?_
    obtain ⟨v4, z3, e, h⟩ := g_callE h
    refine mm_callS C M 1 [.int x3] (st := []) (v := some (.int v4)) (z' := z3) (fun l => ct_isHour l x3 z1 v4 z3 e) (lw_S q2494 q2495 q178 q2496) rfl rfl rfl (Nat.le_of_ble_eq_true rfl) (Nat.le_of_ble_eq_true rfl) (Nat.le_of_ble_eq_true rfl) dX6_cell_10 ?_
    refine gW_st (st' := [.int v4]) rfl ?_
    refine g_if_ne C dX6_cell_13 rfl h (fun h => ?_) (fun h => ?_)
    · refine g_aload_n C dX6_cell_18 rfl 0 rfl ?_
      refine g_iload_n C dX6_cell_19 rfl 1 rfl ?_
      refine g_iload_n C dX6_cell_20 rfl 2 rfl ?_
      obtain ⟨v6, z5, e, h⟩ := g_callE h
      refine mm_callV C M 2 [.int x1, .int x2] (st := []) (v := some (.int v6)) (z' := z5) (fun l => ct_at l x1 x2 z3 v6 z5 e) (lw_V q2497 q2499 qs122 q178 q2500) rfl rfl rfl (Nat.le_of_ble_eq_true rfl) (Nat.le_of_ble_eq_true rfl) (Nat.le_of_ble_eq_true rfl) dX6_cell_21 ?_
      refine gW_st (st' := [.int v6]) rfl ?_
      refine g_istore [(5, .int v6), (0, .ref E.2.2.1), (1, .int x1), (2, .int x2), (3, .int x3), (4, .int x4)] C dX6_cell_24 (Nat.le_of_ble_eq_true rfl) rfl ?_
      refine g_iload C dX6_cell_26 5 rfl ?_
      refine g_if_ne C dX6_cell_28 rfl h (fun h => ?_) (fun h => ?_)
      · refine g_iload C dX6_cell_41 5 rfl ?_
        refine g_iconst C dX6_cell_43 gk_iconst_1 ?_
        refine g_icmp_ne C dX6_cell_44 rfl h (fun h => ?_) (fun h => ?_)
        · refine g_iload C dX6_cell_57 5 rfl ?_
          refine g_iconst C dX6_cell_59 gk_iconst_2 ?_
          refine g_icmp_ne C dX6_cell_60 rfl h (fun h => ?_) (fun h => ?_)
          · refine g_iconst C dX6_cell_81 gk_iconst_m1 ?_
            exact g_iret C (fun _ => trivial) dX6_cell_82 h
          · refine g_aload_n C dX6_cell_63 rfl 1 rfl ?_
            refine g_iload C dX6_cell_64 0 rfl ?_
            refine g_iload_n C dX6_cell_66 rfl 4 rfl ?_
            obtain ⟨v8, z7, e, h⟩ := g_callE h
            refine mm_callV C M 2 [.int v6, .int x3] (st := []) (v := some (.int v8)) (z' := z7) (fun l => ct_isQuiet l v6 x3 z5 v8 z7 e) (lw_V q2501 q2503 qs123 q178 q2504) rfl rfl rfl (Nat.le_of_ble_eq_true rfl) (Nat.le_of_ble_eq_true rfl) (Nat.le_of_ble_eq_true rfl) dX6_cell_67 ?_
            refine gW_st (st' := [.int v8]) rfl ?_
            refine g_if_eq C dX6_cell_70 rfl h (fun h => ?_) (fun h => ?_)
            · refine g_iconst C dX6_cell_77 gk_iconst_0 ?_
              refine g_goto C dX6_cell_78 rfl ?_
              exact g_iret C (fun _ => trivial) dX6_cell_82 h
            · refine g_iconst C dX6_cell_73 gk_iconst_1 ?_
              refine g_goto C dX6_cell_74 rfl ?_
              exact g_iret C (fun _ => trivial) dX6_cell_82 h
        · refine g_aload_n C dX6_cell_47 rfl 1 rfl ?_
          refine mm_getA C M 56 (Nat.le_of_ble_eq_true rfl) (Nat.le_of_ble_eq_true rfl) q2059 rfl dX6_cell_48 ?_
          refine g_iload C dX6_cell_51 0 rfl ?_
          refine mm_ldI C M 56 (Nat.le_of_ble_eq_true rfl) rfl dX6_cell_53 h (fun v9 h => ?_)
          refine g_goto C dX6_cell_54 rfl ?_
          exact g_iret C (fun _ => trivial) dX6_cell_82 h
      · refine g_aload_n C dX6_cell_31 rfl 1 rfl ?_
        refine mm_getA C M 55 (Nat.le_of_ble_eq_true rfl) (Nat.le_of_ble_eq_true rfl) q2058 rfl dX6_cell_32 ?_
        refine g_iload C dX6_cell_35 0 rfl ?_
        refine mm_ldI C M 55 (Nat.le_of_ble_eq_true rfl) rfl dX6_cell_37 h (fun v10 h => ?_)
        refine g_goto C dX6_cell_38 rfl ?_
        exact g_iret C (fun _ => trivial) dX6_cell_82 h
    · refine g_iconst C dX6_cell_16 gk_iconst_m1 ?_
      exact g_iret C (fun _ => trivial) dX6_cell_17 h
theorem ct_cell (l : Launch) (x1 : Int32) (x2 : Int32) (x3 : Int32) (x4 : Int32) (z : mm_S) (r : Int32) (z' : mm_S) (h : mo_cell x1 x2 x3 x4 z = some (r, z')) : mm_MetV l yX6_cell cX6_cell 6 (some .int) 5 122 [.int x1, .int x2, .int x3, .int x4] z (.returned (some (.int r)), z') := by
  intro E hD
  exact mm_enter E hD rfl ⟨_, rfl⟩ (.ref E.2.2.1 :: [.int x1, .int x2, .int x3, .int x4]) (Nat.le_of_ble_eq_true rfl) (fun X C M => wk_cell C M x1 x2 x3 x4 z h)
def mo_said (x1 : Int32) (x2 : Int32) (z : mm_S) : Option (Int32 × mm_S) := mm_gI 12 z (fun v1 => mm_lI 26 ((((384 : Int32) * v1) + ((48 : Int32) * x1)) + x2) z (fun v2 => some (v2, z)))
theorem wk_said {X : gX} {E : mm_E} {r : Int32 × mm_S} (C : gC X cX6_said 3 (some .int) RX6 0 0) (M : mm_C X E) (x1 : Int32) (x2 : Int32) (z : mm_S) (h : mo_said x1 x2 z = some r) : gW X (mm_G E) (.returned (some (.int r.1)), r.2) z 0 [(0, .ref E.2.2.1), (1, .int x1), (2, .int x2)] [] := by
  unfold mo_said at h
  refine g_aload_n C dX6_said_0 rfl 0 rfl ?_
  refine mm_getA C M 26 (Nat.le_of_ble_eq_true rfl) (Nat.le_of_ble_eq_true rfl) q2029 rfl dX6_said_1 ?_
  refine g_sipush C dX6_said_4 gk_sipush_384 ?_
  refine g_aload_n C dX6_said_7 rfl 0 rfl ?_
  refine mm_getI C M 12 (Nat.le_of_ble_eq_true rfl) (Nat.le_of_ble_eq_true rfl) q2015 rfl dX6_said_8 h (fun v1 h => ?_)
  refine g_imul C dX6_said_11 ?_
  refine g_bipush C dX6_said_12 gk_bipush_48 ?_
  refine g_iload_n C dX6_said_14 rfl 1 rfl ?_
  refine g_imul C dX6_said_15 ?_
  refine g_iadd C dX6_said_16 ?_
  refine g_iload_n C dX6_said_17 rfl 2 rfl ?_
  refine g_iadd C dX6_said_18 ?_
  refine mm_ldI C M 26 (Nat.le_of_ble_eq_true rfl) rfl dX6_said_19 h (fun v2 h => ?_)
  exact g_iret C (fun _ => trivial) dX6_said_20 h
theorem ct_said (l : Launch) (x1 : Int32) (x2 : Int32) (z : mm_S) (r : Int32) (z' : mm_S) (h : mo_said x1 x2 z = some (r, z')) : mm_MetV l yX6_said cX6_said 3 (some .int) 0 0 [.int x1, .int x2] z (.returned (some (.int r)), z') := by
  intro E hD
  exact mm_enter E hD rfl ⟨_, rfl⟩ (.ref E.2.2.1 :: [.int x1, .int x2]) (Nat.le_of_ble_eq_true rfl) (fun X C M => wk_said C M x1 x2 z h)
def mo_sayingsOf_b26 (k4 : Int32 → Int32 → Int32 → mm_S → Option (Int32 × mm_S)) (x1 : Int32) (x3 : Int32) (s0 : Int32) (s1 : Int32) (z : mm_S) : Option (Int32 × mm_S) := k4 x1 (s0 + s1) (x3 + (1 : Int32)) z
theorem wk_sayingsOf_b26 {X : gX} {E : mm_E} {r : Int32 × mm_S} (C : gC X cX6_sayingsOf 4 (some .int) RX6 1 22) (M : mm_C X E) {k4 : Int32 → Int32 → Int32 → mm_S → Option (Int32 × mm_S)} (hk4 : ∀ (x1 : Int32) (x2 : Int32) (x3 : Int32) (z : mm_S), k4 x1 x2 x3 z = some r → gW X (mm_G E) (.returned (some (.int r.1)), r.2) z 4 [(0, .ref E.2.2.1), (1, .int x1), (2, .int x2), (3, .int x3)] []) (x1 : Int32) (x3 : Int32) (s0 : Int32) (s1 : Int32) (z : mm_S) (h : mo_sayingsOf_b26 k4 x1 x3 s0 s1 z = some r) : gW X (mm_G E) (.returned (some (.int r.1)), r.2) z 26 [(0, .ref E.2.2.1), (1, .int x1), (3, .int x3)] [.int s1, .int s0] := by
  unfold mo_sayingsOf_b26 at h
  refine g_iadd C dX6_sayingsOf_26 ?_
  refine g_istore_n [(2, .int (s0 + s1)), (0, .ref E.2.2.1), (1, .int x1), (3, .int x3)] C dX6_sayingsOf_27 rfl (Nat.le_of_ble_eq_true rfl) rfl ?_
  refine g_iinc [(3, .int (x3 + (1 : Int32))), (2, .int (s0 + s1)), (0, .ref E.2.2.1), (1, .int x1)] C dX6_sayingsOf_28 (j := 3) rfl (gk_inc_1 _) (Nat.le_of_ble_eq_true rfl) rfl ?_
  refine g_goto C dX6_sayingsOf_31 rfl ?_
  exact g_sub [(0, .ref E.2.2.1), (1, .int x1), (2, .int (s0 + s1)), (3, .int (x3 + (1 : Int32)))] [2, 3, 1, 0] rfl (hk4 x1 (s0 + s1) (x3 + (1 : Int32)) z h)
def mo_sayingsOf_b4 : Nat → Int32 → Int32 → Int32 → mm_S → Option (Int32 × mm_S)
  | 0, _, _, _, _ => none
  | n + 1, x1, x2, x3, z => if (48 : Int32) ≤ x3 then (some (x2, z)) else (g_call (mo_said x1 x3 z) (fun v2 z1 => if v2 = (-1 : Int32) then (mo_sayingsOf_b26 (mo_sayingsOf_b4 n) x1 x3 x2 (0 : Int32) z1) else (mo_sayingsOf_b26 (mo_sayingsOf_b4 n) x1 x3 x2 (1 : Int32) z1)))
theorem wk_sayingsOf_b4 {X : gX} {E : mm_E} {r : Int32 × mm_S} (C : gC X cX6_sayingsOf 4 (some .int) RX6 1 22) (M : mm_C X E) : ∀ (n : Nat) (x1 : Int32) (x2 : Int32) (x3 : Int32) (z : mm_S), mo_sayingsOf_b4 n x1 x2 x3 z = some r → gW X (mm_G E) (.returned (some (.int r.1)), r.2) z 4 [(0, .ref E.2.2.1), (1, .int x1), (2, .int x2), (3, .int x3)] [] := by
  intro n
  induction n with
  | zero =>
    intro x1 x2 x3 z h
    have h : (none : Option (Int32 × mm_S)) = some r := h
    cases h
  | succ n ih =>
    intro x1 x2 x3 z h
    rw [mo_sayingsOf_b4] at h
    refine g_iload_n C dX6_sayingsOf_4 rfl 3 rfl ?_
    refine g_bipush C dX6_sayingsOf_5 gk_bipush_48 ?_
    refine g_icmp_ge C dX6_sayingsOf_7 rfl h (fun h => ?_) (fun h => ?_)
    · refine g_iload_n C dX6_sayingsOf_34 rfl 2 rfl ?_
      exact g_iret C (fun _ => trivial) dX6_sayingsOf_35 h
    · refine g_iload_n C dX6_sayingsOf_10 rfl 2 rfl ?_
      refine g_aload_n C dX6_sayingsOf_11 rfl 0 rfl ?_
      refine g_iload_n C dX6_sayingsOf_12 rfl 1 rfl ?_
      refine g_iload_n C dX6_sayingsOf_13 rfl 3 rfl ?_
      obtain ⟨v2, z1, e, h⟩ := g_callE h
      refine mm_callV C M 2 [.int x1, .int x3] (st := [.int x2]) (v := some (.int v2)) (z' := z1) (fun l => ct_said l x1 x3 z v2 z1 e) (lw_V q2513 q2515 qs125 q178 q2516) rfl rfl rfl (Nat.le_of_ble_eq_true rfl) (Nat.le_of_ble_eq_true rfl) (Nat.le_of_ble_eq_true rfl) dX6_sayingsOf_14 ?_
      refine gW_st (st' := [.int v2, .int x2]) rfl ?_
      refine g_iconst C dX6_sayingsOf_17 gk_iconst_m1 ?_
      refine g_icmp_eq C dX6_sayingsOf_18 rfl h (fun h => ?_) (fun h => ?_)
      · refine g_iconst C dX6_sayingsOf_25 gk_iconst_0 ?_
        exact g_sub [(0, .ref E.2.2.1), (1, .int x1), (3, .int x3)] [0, 1, 3] rfl (wk_sayingsOf_b26 C M ih x1 x3 x2 (0 : Int32) z1 h)
      · refine g_iconst C dX6_sayingsOf_21 gk_iconst_1 ?_
        refine g_goto C dX6_sayingsOf_22 rfl ?_
        exact g_sub [(0, .ref E.2.2.1), (1, .int x1), (3, .int x3)] [0, 1, 3] rfl (wk_sayingsOf_b26 C M ih x1 x3 x2 (1 : Int32) z1 h)
def mo_sayingsOf (x1 : Int32) (z : mm_S) : Option (Int32 × mm_S) := mo_sayingsOf_b4 g_fu x1 (0 : Int32) (0 : Int32) z
theorem wk_sayingsOf {X : gX} {E : mm_E} {r : Int32 × mm_S} (C : gC X cX6_sayingsOf 4 (some .int) RX6 1 22) (M : mm_C X E) (x1 : Int32) (z : mm_S) (h : mo_sayingsOf x1 z = some r) : gW X (mm_G E) (.returned (some (.int r.1)), r.2) z 0 [(0, .ref E.2.2.1), (1, .int x1)] [] := by
  unfold mo_sayingsOf at h
  refine g_iconst C dX6_sayingsOf_0 gk_iconst_0 ?_
  refine g_istore_n [(2, .int (0 : Int32)), (0, .ref E.2.2.1), (1, .int x1)] C dX6_sayingsOf_1 rfl (Nat.le_of_ble_eq_true rfl) rfl ?_
  refine g_iconst C dX6_sayingsOf_2 gk_iconst_0 ?_
  refine g_istore_n [(3, .int (0 : Int32)), (2, .int (0 : Int32)), (0, .ref E.2.2.1), (1, .int x1)] C dX6_sayingsOf_3 rfl (Nat.le_of_ble_eq_true rfl) rfl ?_
  exact g_sub [(0, .ref E.2.2.1), (1, .int x1), (2, .int (0 : Int32)), (3, .int (0 : Int32))] [2, 3, 1, 0] rfl (wk_sayingsOf_b4 C M g_fu x1 (0 : Int32) (0 : Int32) z h)
theorem ct_sayingsOf (l : Launch) (x1 : Int32) (z : mm_S) (r : Int32) (z' : mm_S) (h : mo_sayingsOf x1 z = some (r, z')) : mm_MetV l yX6_sayingsOf cX6_sayingsOf 4 (some .int) 1 22 [.int x1] z (.returned (some (.int r)), z') := by
  intro E hD
  exact mm_enter E hD rfl ⟨_, rfl⟩ (.ref E.2.2.1 :: [.int x1]) (Nat.le_of_ble_eq_true rfl) (fun X C M => wk_sayingsOf C M x1 z h)
def mo_has_b147 (k120 : Int32 → Int32 → mm_S → Option (Int32 × mm_S)) (x3 : Int32) (s0 : Int32) (s1 : Int32) (z : mm_S) : Option (Int32 × mm_S) := k120 (s0 + s1) (x3 + (1 : Int32)) z
theorem wk_has_b147 {X : gX} {E : mm_E} {r : Int32 × mm_S} (C : gC X cX6_has 4 (some .int) RX6 2 45) (M : mm_C X E) {k120 : Int32 → Int32 → mm_S → Option (Int32 × mm_S)} (hk120 : ∀ (x2 : Int32) (x3 : Int32) (z : mm_S), k120 x2 x3 z = some r → gW X (mm_G E) (.returned (some (.int r.1)), r.2) z 120 [(0, .ref E.2.2.1), (2, .int x2), (3, .int x3)] []) (x3 : Int32) (s0 : Int32) (s1 : Int32) (z : mm_S) (h : mo_has_b147 k120 x3 s0 s1 z = some r) : gW X (mm_G E) (.returned (some (.int r.1)), r.2) z 147 [(0, .ref E.2.2.1), (3, .int x3)] [.int s1, .int s0] := by
  unfold mo_has_b147 at h
  refine g_iadd C dX6_has_147 ?_
  refine g_istore_n [(2, .int (s0 + s1)), (0, .ref E.2.2.1), (3, .int x3)] C dX6_has_148 rfl (Nat.le_of_ble_eq_true rfl) rfl ?_
  refine g_iinc [(3, .int (x3 + (1 : Int32))), (2, .int (s0 + s1)), (0, .ref E.2.2.1)] C dX6_has_149 (j := 2) rfl (gk_inc_1 _) (Nat.le_of_ble_eq_true rfl) rfl ?_
  refine g_goto C dX6_has_152 rfl ?_
  exact g_sub [(0, .ref E.2.2.1), (2, .int (s0 + s1)), (3, .int (x3 + (1 : Int32)))] [2, 1, 0] rfl (hk120 (s0 + s1) (x3 + (1 : Int32)) z h)
def mo_has_b120 : Nat → Int32 → Int32 → mm_S → Option (Int32 × mm_S)
  | 0, _, _, _ => none
  | n + 1, x2, x3, z => mm_gI 12 z (fun v1 => mm_lI 19 v1 z (fun v2 => if v2 ≤ x3 then (some (x2, z)) else (g_call (mo_sayingsOf x3 z) (fun v4 z3 => if v4 ≤ 0 then (mo_has_b147 (mo_has_b120 n) x3 x2 (0 : Int32) z3) else (mo_has_b147 (mo_has_b120 n) x3 x2 (1 : Int32) z3)))))
theorem wk_has_b120 {X : gX} {E : mm_E} {r : Int32 × mm_S} (C : gC X cX6_has 4 (some .int) RX6 2 45) (M : mm_C X E) : ∀ (n : Nat) (x2 : Int32) (x3 : Int32) (z : mm_S), mo_has_b120 n x2 x3 z = some r → gW X (mm_G E) (.returned (some (.int r.1)), r.2) z 120 [(0, .ref E.2.2.1), (2, .int x2), (3, .int x3)] [] := by
  intro n
  induction n with
  | zero =>
    intro x2 x3 z h
    have h : (none : Option (Int32 × mm_S)) = some r := h
    cases h
  | succ n ih =>
    intro x2 x3 z h
    rw [mo_has_b120] at h
    refine g_iload_n C dX6_has_120 rfl 2 rfl ?_
    refine g_aload_n C dX6_has_121 rfl 0 rfl ?_
    refine mm_getA C M 19 (Nat.le_of_ble_eq_true rfl) (Nat.le_of_ble_eq_true rfl) q2022 rfl dX6_has_122 ?_
    refine g_aload_n C dX6_has_125 rfl 0 rfl ?_
    refine mm_getI C M 12 (Nat.le_of_ble_eq_true rfl) (Nat.le_of_ble_eq_true rfl) q2015 rfl dX6_has_126 h (fun v1 h => ?_)
    refine mm_ldI C M 19 (Nat.le_of_ble_eq_true rfl) rfl dX6_has_129 h (fun v2 h => ?_)
    refine g_icmp_ge C dX6_has_130 rfl h (fun h => ?_) (fun h => ?_)
    · refine g_iload_n C dX6_has_155 rfl 1 rfl ?_
      exact g_iret C (fun _ => trivial) dX6_has_156 h
    · refine g_iload_n C dX6_has_133 rfl 1 rfl ?_
      refine g_aload_n C dX6_has_134 rfl 0 rfl ?_
      refine g_iload_n C dX6_has_135 rfl 2 rfl ?_
      obtain ⟨v4, z3, e, h⟩ := g_callE h
      refine mm_callV C M 1 [.int x3] (st := [.int x2]) (v := some (.int v4)) (z' := z3) (fun l => ct_sayingsOf l x3 z v4 z3 e) (lw_V q2509 q2511 qs124 q178 q2512) rfl rfl rfl (Nat.le_of_ble_eq_true rfl) (Nat.le_of_ble_eq_true rfl) (Nat.le_of_ble_eq_true rfl) dX6_has_136 ?_
      refine gW_st (st' := [.int v4, .int x2]) rfl ?_
      refine g_if_le C dX6_has_139 rfl h (fun h => ?_) (fun h => ?_)
      · refine g_iconst C dX6_has_146 gk_iconst_0 ?_
        exact g_sub [(0, .ref E.2.2.1), (3, .int x3)] [0, 2] rfl (wk_has_b147 C M ih x3 x2 (0 : Int32) z3 h)
      · refine g_iconst C dX6_has_142 gk_iconst_1 ?_
        refine g_goto C dX6_has_143 rfl ?_
        exact g_sub [(0, .ref E.2.2.1), (3, .int x3)] [0, 2] rfl (wk_has_b147 C M ih x3 x2 (1 : Int32) z3 h)
def mo_has (x1 : Int32) (z : mm_S) : Option (Int32 × mm_S) := if x1 = (0 : Int32) then (mm_gI 12 z (fun v1 => mm_lI 13 v1 z (fun v2 => some (v2, z)))) else if x1 = (1 : Int32) then (mm_gI 12 z (fun v3 => mm_lI 14 v3 z (fun v4 => some (v4, z)))) else if x1 = (2 : Int32) then (mm_gI 12 z (fun v5 => mm_lI 19 v5 z (fun v6 => some (v6, z)))) else if x1 = (3 : Int32) then (mm_gI 12 z (fun v7 => mm_lI 25 v7 z (fun v8 => some (v8, z)))) else if x1 = (4 : Int32) then (mm_gI 12 z (fun v9 => mm_lI 28 v9 z (fun v10 => some (v10, z)))) else if x1 = (5 : Int32) then (mm_gI 12 z (fun v11 => mm_lI 33 v11 z (fun v12 => some (v12, z)))) else if x1 = (6 : Int32) then (mm_gI 12 z (fun v13 => mm_lI 37 v13 z (fun v14 => some (v14, z)))) else if x1 = (7 : Int32) then (mo_has_b120 g_fu (0 : Int32) (0 : Int32) z) else (some ((-1 : Int32), z))
theorem wk_has {X : gX} {E : mm_E} {r : Int32 × mm_S} (C : gC X cX6_has 4 (some .int) RX6 2 45) (M : mm_C X E) (x1 : Int32) (z : mm_S) (h : mo_has x1 z = some r) : gW X (mm_G E) (.returned (some (.int r.1)), r.2) z 0 [(0, .ref E.2.2.1), (1, .int x1)] [] := by
  unfold mo_has at h
  refine g_iconst C dX6_has_0 gk_iconst_0 ?_
  refine g_istore_n [(2, .int (0 : Int32)), (0, .ref E.2.2.1), (1, .int x1)] C dX6_has_1 rfl (Nat.le_of_ble_eq_true rfl) rfl ?_
  refine g_iload_n C dX6_has_2 rfl 2 rfl ?_
  by_cases c0 : x1 = (0 : Int32)
  · rw [if_pos c0] at h
    refine g_swIn C dX6_has_3 (by rw [c0]; decide) (by rw [c0]; decide) (by rw [c0]; rfl) rfl ?_
    refine g_aload_n C dX6_has_48 rfl 1 rfl ?_
    refine mm_getA C M 13 (Nat.le_of_ble_eq_true rfl) (Nat.le_of_ble_eq_true rfl) q2016 rfl dX6_has_49 ?_
    refine g_aload_n C dX6_has_52 rfl 1 rfl ?_
    refine mm_getI C M 12 (Nat.le_of_ble_eq_true rfl) (Nat.le_of_ble_eq_true rfl) q2015 rfl dX6_has_53 h (fun v1 h => ?_)
    refine mm_ldI C M 13 (Nat.le_of_ble_eq_true rfl) rfl dX6_has_56 h (fun v2 h => ?_)
    exact g_iret C (fun _ => trivial) dX6_has_57 h
  rw [if_neg c0] at h
  by_cases c1 : x1 = (1 : Int32)
  · rw [if_pos c1] at h
    refine g_swIn C dX6_has_3 (by rw [c1]; decide) (by rw [c1]; decide) (by rw [c1]; rfl) rfl ?_
    refine g_aload_n C dX6_has_58 rfl 1 rfl ?_
    refine mm_getA C M 14 (Nat.le_of_ble_eq_true rfl) (Nat.le_of_ble_eq_true rfl) q2017 rfl dX6_has_59 ?_
    refine g_aload_n C dX6_has_62 rfl 1 rfl ?_
    refine mm_getI C M 12 (Nat.le_of_ble_eq_true rfl) (Nat.le_of_ble_eq_true rfl) q2015 rfl dX6_has_63 h (fun v3 h => ?_)
    refine mm_ldI C M 14 (Nat.le_of_ble_eq_true rfl) rfl dX6_has_66 h (fun v4 h => ?_)
    exact g_iret C (fun _ => trivial) dX6_has_67 h
  rw [if_neg c1] at h
  by_cases c2 : x1 = (2 : Int32)
  · rw [if_pos c2] at h
    refine g_swIn C dX6_has_3 (by rw [c2]; decide) (by rw [c2]; decide) (by rw [c2]; rfl) rfl ?_
    refine g_aload_n C dX6_has_68 rfl 1 rfl ?_
    refine mm_getA C M 19 (Nat.le_of_ble_eq_true rfl) (Nat.le_of_ble_eq_true rfl) q2022 rfl dX6_has_69 ?_
    refine g_aload_n C dX6_has_72 rfl 1 rfl ?_
    refine mm_getI C M 12 (Nat.le_of_ble_eq_true rfl) (Nat.le_of_ble_eq_true rfl) q2015 rfl dX6_has_73 h (fun v5 h => ?_)
    refine mm_ldI C M 19 (Nat.le_of_ble_eq_true rfl) rfl dX6_has_76 h (fun v6 h => ?_)
    exact g_iret C (fun _ => trivial) dX6_has_77 h
  rw [if_neg c2] at h
  by_cases c3 : x1 = (3 : Int32)
  · rw [if_pos c3] at h
    refine g_swIn C dX6_has_3 (by rw [c3]; decide) (by rw [c3]; decide) (by rw [c3]; rfl) rfl ?_
    refine g_aload_n C dX6_has_78 rfl 1 rfl ?_
    refine mm_getA C M 25 (Nat.le_of_ble_eq_true rfl) (Nat.le_of_ble_eq_true rfl) q2028 rfl dX6_has_79 ?_
    refine g_aload_n C dX6_has_82 rfl 1 rfl ?_
    refine mm_getI C M 12 (Nat.le_of_ble_eq_true rfl) (Nat.le_of_ble_eq_true rfl) q2015 rfl dX6_has_83 h (fun v7 h => ?_)
    refine mm_ldI C M 25 (Nat.le_of_ble_eq_true rfl) rfl dX6_has_86 h (fun v8 h => ?_)
    exact g_iret C (fun _ => trivial) dX6_has_87 h
  rw [if_neg c3] at h
  by_cases c4 : x1 = (4 : Int32)
  · rw [if_pos c4] at h
    refine g_swIn C dX6_has_3 (by rw [c4]; decide) (by rw [c4]; decide) (by rw [c4]; rfl) rfl ?_
    refine g_aload_n C dX6_has_88 rfl 1 rfl ?_
    refine mm_getA C M 28 (Nat.le_of_ble_eq_true rfl) (Nat.le_of_ble_eq_true rfl) q2031 rfl dX6_has_89 ?_
    refine g_aload_n C dX6_has_92 rfl 1 rfl ?_
    refine mm_getI C M 12 (Nat.le_of_ble_eq_true rfl) (Nat.le_of_ble_eq_true rfl) q2015 rfl dX6_has_93 h (fun v9 h => ?_)
    refine mm_ldI C M 28 (Nat.le_of_ble_eq_true rfl) rfl dX6_has_96 h (fun v10 h => ?_)
    exact g_iret C (fun _ => trivial) dX6_has_97 h
  rw [if_neg c4] at h
  by_cases c5 : x1 = (5 : Int32)
  · rw [if_pos c5] at h
    refine g_swIn C dX6_has_3 (by rw [c5]; decide) (by rw [c5]; decide) (by rw [c5]; rfl) rfl ?_
    refine g_aload_n C dX6_has_98 rfl 1 rfl ?_
    refine mm_getA C M 33 (Nat.le_of_ble_eq_true rfl) (Nat.le_of_ble_eq_true rfl) q2036 rfl dX6_has_99 ?_
    refine g_aload_n C dX6_has_102 rfl 1 rfl ?_
    refine mm_getI C M 12 (Nat.le_of_ble_eq_true rfl) (Nat.le_of_ble_eq_true rfl) q2015 rfl dX6_has_103 h (fun v11 h => ?_)
    refine mm_ldI C M 33 (Nat.le_of_ble_eq_true rfl) rfl dX6_has_106 h (fun v12 h => ?_)
    exact g_iret C (fun _ => trivial) dX6_has_107 h
  rw [if_neg c5] at h
  by_cases c6 : x1 = (6 : Int32)
  · rw [if_pos c6] at h
    refine g_swIn C dX6_has_3 (by rw [c6]; decide) (by rw [c6]; decide) (by rw [c6]; rfl) rfl ?_
    refine g_aload_n C dX6_has_108 rfl 1 rfl ?_
    refine mm_getA C M 37 (Nat.le_of_ble_eq_true rfl) (Nat.le_of_ble_eq_true rfl) q2040 rfl dX6_has_109 ?_
    refine g_aload_n C dX6_has_112 rfl 1 rfl ?_
    refine mm_getI C M 12 (Nat.le_of_ble_eq_true rfl) (Nat.le_of_ble_eq_true rfl) q2015 rfl dX6_has_113 h (fun v13 h => ?_)
    refine mm_ldI C M 37 (Nat.le_of_ble_eq_true rfl) rfl dX6_has_116 h (fun v14 h => ?_)
    exact g_iret C (fun _ => trivial) dX6_has_117 h
  rw [if_neg c6] at h
  by_cases c7 : x1 = (7 : Int32)
  · rw [if_pos c7] at h
    refine g_swIn C dX6_has_3 (by rw [c7]; decide) (by rw [c7]; decide) (by rw [c7]; rfl) rfl ?_
    refine g_iconst C dX6_has_118 gk_iconst_0 ?_
    refine g_istore_n [(3, .int (0 : Int32)), (2, .int (0 : Int32)), (0, .ref E.2.2.1), (1, .int x1)] C dX6_has_119 rfl (Nat.le_of_ble_eq_true rfl) rfl ?_
    exact g_sub [(0, .ref E.2.2.1), (2, .int (0 : Int32)), (3, .int (0 : Int32))] [2, 1, 0] rfl (wk_has_b120 C M g_fu (0 : Int32) (0 : Int32) z h)
  rw [if_neg c7] at h
  have e0 := g_ne c0 (0) (by decide)
  have e1 := g_ne c1 (1) (by decide)
  have e2 := g_ne c2 (2) (by decide)
  have e3 := g_ne c3 (3) (by decide)
  have e4 := g_ne c4 (4) (by decide)
  have e5 := g_ne c5 (5) (by decide)
  have e6 := g_ne c6 (6) (by decide)
  have e7 := g_ne c7 (7) (by decide)
  refine g_swOut C dX6_has_3 (by omega) rfl ?_
  refine g_iconst C dX6_has_157 gk_iconst_m1 ?_
  exact g_iret C (fun _ => trivial) dX6_has_158 h
theorem ct_has (l : Launch) (x1 : Int32) (z : mm_S) (r : Int32) (z' : mm_S) (h : mo_has x1 z = some (r, z')) : mm_MetV l yX6_has cX6_has 4 (some .int) 2 45 [.int x1] z (.returned (some (.int r)), z') := by
  intro E hD
  exact mm_enter E hD rfl ⟨_, rfl⟩ (.ref E.2.2.1 :: [.int x1]) (Nat.le_of_ble_eq_true rfl) (fun X C M => wk_has C M x1 z h)
def mo_isShip (x1 : Int32) (z : mm_S) : Option (Int32 × mm_S) := mm_gI 12 z (fun v1 => mm_lI 19 v1 z (fun v2 => g_call (mo_is x1 (0 : Int32) (v2 - (1 : Int32)) z) (fun v4 z3 => (if v4 = 0 ∨ v4 = 1 then some (v4, z3) else none))))
theorem wk_isShip {X : gX} {E : mm_E} {r : Int32 × mm_S} (C : gC X cX6_isShip 2 (some .boolean) RX6 1 22) (M : mm_C X E) (x1 : Int32) (z : mm_S) (h : mo_isShip x1 z = some r) : gW X (mm_G E) (.returned (some (.int r.1)), r.2) z 0 [(0, .ref E.2.2.1), (1, .int x1)] [] := by
  unfold mo_isShip at h
  refine g_iload_n C dX6_isShip_0 rfl 1 rfl ?_
  refine g_iconst C dX6_isShip_1 gk_iconst_0 ?_
  refine g_aload_n C dX6_isShip_2 rfl 0 rfl ?_
  refine mm_getA C M 19 (Nat.le_of_ble_eq_true rfl) (Nat.le_of_ble_eq_true rfl) q2022 rfl dX6_isShip_3 ?_
  refine g_aload_n C dX6_isShip_6 rfl 0 rfl ?_
  refine mm_getI C M 12 (Nat.le_of_ble_eq_true rfl) (Nat.le_of_ble_eq_true rfl) q2015 rfl dX6_isShip_7 h (fun v1 h => ?_)
  refine mm_ldI C M 19 (Nat.le_of_ble_eq_true rfl) rfl dX6_isShip_10 h (fun v2 h => ?_)
  refine g_iconst C dX6_isShip_11 gk_iconst_1 ?_
  refine g_isub C dX6_isShip_12 ?_
  obtain ⟨v4, z3, e, h⟩ := g_callE h
  refine mm_callS C M 3 [.int x1, .int (0 : Int32), .int (v2 - (1 : Int32))] (st := []) (v := some (.int v4)) (z' := z3) (fun l => ct_is l x1 (0 : Int32) (v2 - (1 : Int32)) z v4 z3 e) (lw_S q2301 q2302 q178 q2303) rfl rfl rfl (Nat.le_of_ble_eq_true rfl) (Nat.le_of_ble_eq_true rfl) (Nat.le_of_ble_eq_true rfl) dX6_isShip_13 ?_
  refine gW_st (st' := [.int v4]) rfl ?_
  exact g_zret C (fun _ => trivial) dX6_isShip_16 h
theorem ct_isShip (l : Launch) (x1 : Int32) (z : mm_S) (r : Int32) (z' : mm_S) (h : mo_isShip x1 z = some (r, z')) : mm_MetV l yX6_isShip cX6_isShip 2 (some .boolean) 1 22 [.int x1] z (.returned (some (.int r)), z') := by
  intro E hD
  exact mm_enter E hD rfl ⟨_, rfl⟩ (.ref E.2.2.1 :: [.int x1]) (Nat.le_of_ble_eq_true rfl) (fun X C M => wk_isShip C M x1 z h)
def mo_letter_b31 : Nat → Int32 → Int64 → Int32 → Int64 → mm_S → Option (Int32 × mm_S)
  | 0, _, _, _, _, _ => none
  | n + 1, x2, x3, x5, x6, z => if (lg_cmp x6 (0 : Int64)) = 0 then (if x2 < 0 then (some ((-1 : Int32), z)) else (if x2 < x5 then (some ((((((x3).toUInt64 >>> ((((8 : Int32) * ((x5 - (1 : Int32)) - x2))).toInt64.toUInt64 &&& Int64.toUInt64 63)).toInt64) &&& (255 : Int64))).toInt32, z)) else (some ((-1 : Int32), z)))) else ((mo_letter_b31 n) x2 x3 (x5 + (1 : Int32)) (((x6).toUInt64 >>> (((8 : Int32)).toInt64.toUInt64 &&& Int64.toUInt64 63)).toInt64) z)
theorem wk_letter_b31 {X : gX} {E : mm_E} {r : Int32 × mm_S} (C : gC X cX6_letter 8 (some .int) RX6 2 43) (M : mm_C X E) : ∀ (n : Nat) (x2 : Int32) (x3 : Int64) (x5 : Int32) (x6 : Int64) (z : mm_S), mo_letter_b31 n x2 x3 x5 x6 z = some r → gW X (mm_G E) (.returned (some (.int r.1)), r.2) z 31 [(0, .ref E.2.2.1), (2, .int x2), (3, .long x3), (5, .int x5), (6, .long x6)] [] := by
  intro n
  induction n with
  | zero =>
    intro x2 x3 x5 x6 z h
    have h : (none : Option (Int32 × mm_S)) = some r := h
    cases h
  | succ n ih =>
    intro x2 x3 x5 x6 z h
    rw [mo_letter_b31] at h
    refine g_lload C dX6_letter_31 4 rfl ?_
    refine g_lconst C dX6_letter_33 gk_lconst_0 ?_
    refine g_lcmp C dX6_letter_34 ?_
    refine g_if_eq C dX6_letter_35 rfl h (fun h => ?_) (fun h => ?_)
    · refine g_iload_n C dX6_letter_51 rfl 1 rfl ?_
      refine g_if_lt C dX6_letter_52 rfl h (fun h => ?_) (fun h => ?_)
      · refine g_iconst C dX6_letter_61 gk_iconst_m1 ?_
        refine g_goto C dX6_letter_62 rfl ?_
        exact g_iret C (fun _ => trivial) dX6_letter_81 h
      · refine g_iload_n C dX6_letter_55 rfl 1 rfl ?_
        refine g_iload C dX6_letter_56 3 rfl ?_
        refine g_icmp_lt C dX6_letter_58 rfl h (fun h => ?_) (fun h => ?_)
        · refine g_lload_n C dX6_letter_65 rfl 2 rfl ?_
          refine g_bipush C dX6_letter_66 gk_bipush_8 ?_
          refine g_iload C dX6_letter_68 3 rfl ?_
          refine g_iconst C dX6_letter_70 gk_iconst_1 ?_
          refine g_isub C dX6_letter_71 ?_
          refine g_iload_n C dX6_letter_72 rfl 1 rfl ?_
          refine g_isub C dX6_letter_73 ?_
          refine g_imul C dX6_letter_74 ?_
          refine g_lushr C dX6_letter_75 ?_
          refine g_ldc2 C dX6_letter_76 q2525 ?_
          refine g_land C dX6_letter_79 ?_
          refine g_l2i C dX6_letter_80 ?_
          exact g_iret C (fun _ => trivial) dX6_letter_81 h
        · refine g_iconst C dX6_letter_61 gk_iconst_m1 ?_
          refine g_goto C dX6_letter_62 rfl ?_
          exact g_iret C (fun _ => trivial) dX6_letter_81 h
    · refine g_iinc [(5, .int (x5 + (1 : Int32))), (0, .ref E.2.2.1), (2, .int x2), (3, .long x3), (6, .long x6)] C dX6_letter_38 (j := 3) rfl (gk_inc_1 _) (Nat.le_of_ble_eq_true rfl) rfl ?_
      refine g_lload C dX6_letter_41 4 rfl ?_
      refine g_bipush C dX6_letter_43 gk_bipush_8 ?_
      refine g_lushr C dX6_letter_45 ?_
      refine g_lstore [(6, .long (((x6).toUInt64 >>> (((8 : Int32)).toInt64.toUInt64 &&& Int64.toUInt64 63)).toInt64)), (5, .int (x5 + (1 : Int32))), (0, .ref E.2.2.1), (2, .int x2), (3, .long x3)] C dX6_letter_46 (Nat.le_of_ble_eq_true rfl) rfl ?_
      refine g_goto C dX6_letter_48 rfl ?_
      exact g_sub [(0, .ref E.2.2.1), (2, .int x2), (3, .long x3), (5, .int (x5 + (1 : Int32))), (6, .long (((x6).toUInt64 >>> (((8 : Int32)).toInt64.toUInt64 &&& Int64.toUInt64 63)).toInt64))] [2, 3, 4, 1, 0] rfl (ih x2 x3 (x5 + (1 : Int32)) (((x6).toUInt64 >>> (((8 : Int32)).toInt64.toUInt64 &&& Int64.toUInt64 63)).toInt64) z h)
def mo_letter (x1 : Int32) (x2 : Int32) (z : mm_S) : Option (Int32 × mm_S) := g_call (mo_isShip x1 z) (fun v2 z1 => if v2 = 0 then (some ((-1 : Int32), z1)) else (mm_gI 12 z1 (fun v3 => mm_lL 20 (((8 : Int32) * v3) + x1) z1 (fun v4 => mo_letter_b31 g_fu x2 v4 (0 : Int32) v4 z1))))
theorem wk_letter {X : gX} {E : mm_E} {r : Int32 × mm_S} (C : gC X cX6_letter 8 (some .int) RX6 2 43) (M : mm_C X E) (x1 : Int32) (x2 : Int32) (z : mm_S) (h : mo_letter x1 x2 z = some r) : gW X (mm_G E) (.returned (some (.int r.1)), r.2) z 0 [(0, .ref E.2.2.1), (1, .int x1), (2, .int x2)] [] := by
  unfold mo_letter at h
  refine g_aload_n C dX6_letter_0 rfl 0 rfl ?_
  refine g_iload_n C dX6_letter_1 rfl 1 rfl ?_
  obtain ⟨v2, z1, e, h⟩ := g_callE h
  refine mm_callV C M 1 [.int x1] (st := []) (v := some (.int v2)) (z' := z1) (fun l => ct_isShip l x1 z v2 z1 e) (lw_V q2521 q2523 qs126 q178 q2524) rfl rfl rfl (Nat.le_of_ble_eq_true rfl) (Nat.le_of_ble_eq_true rfl) (Nat.le_of_ble_eq_true rfl) dX6_letter_2 ?_
  refine gW_st (st' := [.int v2]) rfl ?_
  refine g_if_ne C dX6_letter_5 rfl h (fun h => ?_) (fun h => ?_)
  · refine g_aload_n C dX6_letter_10 rfl 0 rfl ?_
    refine mm_getA C M 20 (Nat.le_of_ble_eq_true rfl) (Nat.le_of_ble_eq_true rfl) q2023 rfl dX6_letter_11 ?_
    refine g_bipush C dX6_letter_14 gk_bipush_8 ?_
    refine g_aload_n C dX6_letter_16 rfl 0 rfl ?_
    refine mm_getI C M 12 (Nat.le_of_ble_eq_true rfl) (Nat.le_of_ble_eq_true rfl) q2015 rfl dX6_letter_17 h (fun v3 h => ?_)
    refine g_imul C dX6_letter_20 ?_
    refine g_iload_n C dX6_letter_21 rfl 1 rfl ?_
    refine g_iadd C dX6_letter_22 ?_
    refine mm_ldL C M 20 (Nat.le_of_ble_eq_true rfl) rfl dX6_letter_23 h (fun v4 h => ?_)
    refine g_lstore_n [(3, .long v4), (0, .ref E.2.2.1), (1, .int x1), (2, .int x2)] C dX6_letter_24 rfl (Nat.le_of_ble_eq_true rfl) rfl ?_
    refine g_iconst C dX6_letter_25 gk_iconst_0 ?_
    refine g_istore [(5, .int (0 : Int32)), (3, .long v4), (0, .ref E.2.2.1), (1, .int x1), (2, .int x2)] C dX6_letter_26 (Nat.le_of_ble_eq_true rfl) rfl ?_
    refine g_lload_n C dX6_letter_28 rfl 1 rfl ?_
    refine g_lstore [(6, .long v4), (5, .int (0 : Int32)), (3, .long v4), (0, .ref E.2.2.1), (1, .int x1), (2, .int x2)] C dX6_letter_29 (Nat.le_of_ble_eq_true rfl) rfl ?_
    exact g_sub [(0, .ref E.2.2.1), (2, .int x2), (3, .long v4), (5, .int (0 : Int32)), (6, .long v4)] [3, 5, 2, 1, 0] rfl (wk_letter_b31 C M g_fu x2 v4 (0 : Int32) v4 z1 h)
  · refine g_iconst C dX6_letter_8 gk_iconst_m1 ?_
    exact g_iret C (fun _ => trivial) dX6_letter_9 h
theorem ct_letter (l : Launch) (x1 : Int32) (x2 : Int32) (z : mm_S) (r : Int32) (z' : mm_S) (h : mo_letter x1 x2 z = some (r, z')) : mm_MetV l yX6_letter cX6_letter 8 (some .int) 2 43 [.int x1, .int x2] z (.returned (some (.int r)), z') := by
  intro E hD
  exact mm_enter E hD rfl ⟨_, rfl⟩ (.ref E.2.2.1 :: [.int x1, .int x2]) (Nat.le_of_ble_eq_true rfl) (fun X C M => wk_letter C M x1 x2 z h)
def mo_isWater (x1 : Int32) (x2 : Int32) (z : mm_S) : Option (Int32 × mm_S) := mm_lI 55 x2 z (fun v1 => mm_gI 12 z (fun v2 => mm_lI 23 (((8 : Int32) * v2) + x1) z (fun v3 => if v1 < v3 then (some ((0 : Int32), z)) else (some ((1 : Int32), z)))))
theorem wk_isWater {X : gX} {E : mm_E} {r : Int32 × mm_S} (C : gC X cX6_isWater 3 (some .boolean) RX6 0 0) (M : mm_C X E) (x1 : Int32) (x2 : Int32) (z : mm_S) (h : mo_isWater x1 x2 z = some r) : gW X (mm_G E) (.returned (some (.int r.1)), r.2) z 0 [(0, .ref E.2.2.1), (1, .int x1), (2, .int x2)] [] := by
  unfold mo_isWater at h
  refine g_aload_n C dX6_isWater_0 rfl 0 rfl ?_
  refine mm_getA C M 55 (Nat.le_of_ble_eq_true rfl) (Nat.le_of_ble_eq_true rfl) q2058 rfl dX6_isWater_1 ?_
  refine g_iload_n C dX6_isWater_4 rfl 2 rfl ?_
  refine mm_ldI C M 55 (Nat.le_of_ble_eq_true rfl) rfl dX6_isWater_5 h (fun v1 h => ?_)
  refine g_aload_n C dX6_isWater_6 rfl 0 rfl ?_
  refine mm_getA C M 23 (Nat.le_of_ble_eq_true rfl) (Nat.le_of_ble_eq_true rfl) q2026 rfl dX6_isWater_7 ?_
  refine g_bipush C dX6_isWater_10 gk_bipush_8 ?_
  refine g_aload_n C dX6_isWater_12 rfl 0 rfl ?_
  refine mm_getI C M 12 (Nat.le_of_ble_eq_true rfl) (Nat.le_of_ble_eq_true rfl) q2015 rfl dX6_isWater_13 h (fun v2 h => ?_)
  refine g_imul C dX6_isWater_16 ?_
  refine g_iload_n C dX6_isWater_17 rfl 1 rfl ?_
  refine g_iadd C dX6_isWater_18 ?_
  refine mm_ldI C M 23 (Nat.le_of_ble_eq_true rfl) rfl dX6_isWater_19 h (fun v3 h => ?_)
  refine g_icmp_lt C dX6_isWater_20 rfl h (fun h => ?_) (fun h => ?_)
  · refine g_iconst C dX6_isWater_27 gk_iconst_0 ?_
    exact g_zretc C (fun _ => trivial) dX6_isWater_28 (Or.inl rfl) h
  · refine g_iconst C dX6_isWater_23 gk_iconst_1 ?_
    refine g_goto C dX6_isWater_24 rfl ?_
    exact g_zretc C (fun _ => trivial) dX6_isWater_28 (Or.inr rfl) h
theorem ct_isWater (l : Launch) (x1 : Int32) (x2 : Int32) (z : mm_S) (r : Int32) (z' : mm_S) (h : mo_isWater x1 x2 z = some (r, z')) : mm_MetV l yX6_isWater cX6_isWater 3 (some .boolean) 0 0 [.int x1, .int x2] z (.returned (some (.int r)), z') := by
  intro E hD
  exact mm_enter E hD rfl ⟨_, rfl⟩ (.ref E.2.2.1 :: [.int x1, .int x2]) (Nat.le_of_ble_eq_true rfl) (fun X C M => wk_isWater C M x1 x2 z h)
def mo_reaches (x1 : Int32) (x2 : Int32) (x3 : Int32) (x4 : Int32) (z : mm_S) : Option (Unit × mm_S) := g_call (mo_isCell x2 x3 z) (fun v2 z1 => if v2 = 0 then (some ((), z1)) else (g_call (mo_at x2 x3 z1) (fun v4 z3 => mm_lI 57 v4 z3 (fun v5 => if v5 = (-1 : Int32) then (g_call (mo_isWater x1 v4 z3) (fun v7 z6 => if v7 = 0 then (some ((), z6)) else (mm_sI 57 v4 x4 z6 (fun z8 => mm_gI 59 z8 (fun v9 => mm_sI 58 v9 v4 z8 (fun z10 => mm_gI 59 z10 (fun v11 => mm_pI 59 (v11 + (1 : Int32)) z10 (fun z12 => some ((), z12))))))))) else (some ((), z3))))))
theorem wk_reaches {X : gX} {E : mm_E} {r : Unit × mm_S} (C : gC X cX6_reaches 6 none RX6 2 44) (M : mm_C X E) (x1 : Int32) (x2 : Int32) (x3 : Int32) (x4 : Int32) (z : mm_S) (h : mo_reaches x1 x2 x3 x4 z = some r) : gW X (mm_G E) (.returned none, r.2) z 0 [(0, .ref E.2.2.1), (1, .int x1), (2, .int x2), (3, .int x3), (4, .int x4)] [] := by
  unfold mo_reaches at h
  refine g_aload_n C dX6_reaches_0 rfl 0 rfl ?_
  refine g_iload_n C dX6_reaches_1 rfl 2 rfl ?_
  refine g_iload_n C dX6_reaches_2 rfl 3 rfl ?_
  obtain ⟨v2, z1, e, h⟩ := g_callE h
  refine mm_callV C M 2 [.int x2, .int x3] (st := []) (v := some (.int v2)) (z' := z1) (fun l => ct_isCell l x2 x3 z v2 z1 e) (lw_V q2490 q2492 qs121 q178 q2493) rfl rfl rfl (Nat.le_of_ble_eq_true rfl) (Nat.le_of_ble_eq_true rfl) (Nat.le_of_ble_eq_true rfl) dX6_reaches_3 ?_
  refine gW_st (st' := [.int v2]) rfl ?_
  refine g_if_ne C dX6_reaches_6 rfl h (fun h => ?_) (fun h => ?_)
  · refine g_aload_n C dX6_reaches_10 rfl 0 rfl ?_
    refine g_iload_n C dX6_reaches_11 rfl 2 rfl ?_
    refine g_iload_n C dX6_reaches_12 rfl 3 rfl ?_
    obtain ⟨v4, z3, e, h⟩ := g_callE h
    refine mm_callV C M 2 [.int x2, .int x3] (st := []) (v := some (.int v4)) (z' := z3) (fun l => ct_at l x2 x3 z1 v4 z3 e) (lw_V q2497 q2499 qs122 q178 q2500) rfl rfl rfl (Nat.le_of_ble_eq_true rfl) (Nat.le_of_ble_eq_true rfl) (Nat.le_of_ble_eq_true rfl) dX6_reaches_13 ?_
    refine gW_st (st' := [.int v4]) rfl ?_
    refine g_istore [(5, .int v4), (0, .ref E.2.2.1), (1, .int x1), (2, .int x2), (3, .int x3), (4, .int x4)] C dX6_reaches_16 (Nat.le_of_ble_eq_true rfl) rfl ?_
    refine g_aload_n C dX6_reaches_18 rfl 1 rfl ?_
    refine mm_getA C M 57 (Nat.le_of_ble_eq_true rfl) (Nat.le_of_ble_eq_true rfl) q2060 rfl dX6_reaches_19 ?_
    refine g_iload C dX6_reaches_22 0 rfl ?_
    refine mm_ldI C M 57 (Nat.le_of_ble_eq_true rfl) rfl dX6_reaches_24 h (fun v5 h => ?_)
    refine g_iconst C dX6_reaches_25 gk_iconst_m1 ?_
    refine g_icmp_ne C dX6_reaches_26 rfl h (fun h => ?_) (fun h => ?_)
    · exact g_vret C (fun _ => trivial) dX6_reaches_39 h
    · refine g_aload_n C dX6_reaches_29 rfl 1 rfl ?_
      refine g_iload_n C dX6_reaches_30 rfl 2 rfl ?_
      refine g_iload C dX6_reaches_31 0 rfl ?_
      obtain ⟨v7, z6, e, h⟩ := g_callE h
      refine mm_callV C M 2 [.int x1, .int v4] (st := []) (v := some (.int v7)) (z' := z6) (fun l => ct_isWater l x1 v4 z3 v7 z6 e) (lw_V q2538 q2540 qs129 q178 q2541) rfl rfl rfl (Nat.le_of_ble_eq_true rfl) (Nat.le_of_ble_eq_true rfl) (Nat.le_of_ble_eq_true rfl) dX6_reaches_33 ?_
      refine gW_st (st' := [.int v7]) rfl ?_
      refine g_if_ne C dX6_reaches_36 rfl h (fun h => ?_) (fun h => ?_)
      · refine g_aload_n C dX6_reaches_40 rfl 1 rfl ?_
        refine mm_getA C M 57 (Nat.le_of_ble_eq_true rfl) (Nat.le_of_ble_eq_true rfl) q2060 rfl dX6_reaches_41 ?_
        refine g_iload C dX6_reaches_44 0 rfl ?_
        refine g_iload C dX6_reaches_46 5 rfl ?_
        refine mm_stI C M 57 (Nat.le_of_ble_eq_true rfl) rfl dX6_reaches_48 h (fun z8 h => ?_)
        refine g_aload_n C dX6_reaches_49 rfl 1 rfl ?_
        refine mm_getA C M 58 (Nat.le_of_ble_eq_true rfl) (Nat.le_of_ble_eq_true rfl) q2061 rfl dX6_reaches_50 ?_
        refine g_aload_n C dX6_reaches_53 rfl 1 rfl ?_
        refine mm_getI C M 59 (Nat.le_of_ble_eq_true rfl) (Nat.le_of_ble_eq_true rfl) q2062 rfl dX6_reaches_54 h (fun v9 h => ?_)
        refine g_iload C dX6_reaches_57 0 rfl ?_
        refine mm_stI C M 58 (Nat.le_of_ble_eq_true rfl) rfl dX6_reaches_59 h (fun z10 h => ?_)
        refine g_aload_n C dX6_reaches_60 rfl 1 rfl ?_
        refine g_dup C dX6_reaches_61 rfl ?_
        refine mm_getI C M 59 (Nat.le_of_ble_eq_true rfl) (Nat.le_of_ble_eq_true rfl) q2062 rfl dX6_reaches_62 h (fun v11 h => ?_)
        refine g_iconst C dX6_reaches_65 gk_iconst_1 ?_
        refine g_iadd C dX6_reaches_66 ?_
        refine mm_putI C M 59 (Nat.le_of_ble_eq_true rfl) (Nat.le_of_ble_eq_true rfl) q2062 rfl rfl rfl dX6_reaches_67 h (fun z12 h => ?_)
        exact g_vret C (fun _ => trivial) dX6_reaches_70 h
      · exact g_vret C (fun _ => trivial) dX6_reaches_39 h
  · exact g_vret C (fun _ => trivial) dX6_reaches_9 h
theorem ct_reaches (l : Launch) (x1 : Int32) (x2 : Int32) (x3 : Int32) (x4 : Int32) (z : mm_S) (r : Unit) (z' : mm_S) (h : mo_reaches x1 x2 x3 x4 z = some (r, z')) : mm_MetV l yX6_reaches cX6_reaches 6 none 2 44 [.int x1, .int x2, .int x3, .int x4] z (.returned none, z') := by
  intro E hD
  exact mm_enter E hD rfl ⟨_, rfl⟩ (.ref E.2.2.1 :: [.int x1, .int x2, .int x3, .int x4]) (Nat.le_of_ble_eq_true rfl) (fun X C M => wk_reaches C M x1 x2 x3 x4 z h)
def mo_goes_b46 : Nat → Int32 → Int32 → mm_S → Option (Unit × mm_S)
  | 0, _, _, _ => none
  | n + 1, x1, x3, z => mm_gI 59 z (fun v1 => if v1 ≤ x3 then (some ((), z)) else (mm_lI 58 x3 z (fun v2 => g_call (mo_columnOf v2 z) (fun v4 z3 => g_call (mo_rowOf v2 z3) (fun v6 z5 => mm_lI 57 v2 z5 (fun v7 => g_call (mo_reaches x1 (v4 - (1 : Int32)) v6 (v7 + (1 : Int32)) z5) (fun _ z8 => mm_lI 57 v2 z8 (fun v10 => g_call (mo_reaches x1 (v4 + (1 : Int32)) v6 (v10 + (1 : Int32)) z8) (fun _ z11 => mm_lI 57 v2 z11 (fun v13 => g_call (mo_reaches x1 v4 (v6 - (1 : Int32)) (v13 + (1 : Int32)) z11) (fun _ z14 => mm_lI 57 v2 z14 (fun v16 => g_call (mo_reaches x1 v4 (v6 + (1 : Int32)) (v16 + (1 : Int32)) z14) (fun _ z17 => (mo_goes_b46 n) x1 (x3 + (1 : Int32)) z17)))))))))))))
theorem wk_goes_b46 {X : gX} {E : mm_E} {r : Unit × mm_S} (C : gC X cX6_goes 7 none RX6 3 69) (M : mm_C X E) : ∀ (n : Nat) (x1 : Int32) (x3 : Int32) (z : mm_S), mo_goes_b46 n x1 x3 z = some r → gW X (mm_G E) (.returned none, r.2) z 46 [(0, .ref E.2.2.1), (1, .int x1), (3, .int x3)] [] := by
  intro n
  induction n with
  | zero =>
    intro x1 x3 z h
    have h : (none : Option (Unit × mm_S)) = some r := h
    cases h
  | succ n ih =>
    intro x1 x3 z h
    rw [mo_goes_b46] at h
    refine g_iload_n C dX6_goes_46 rfl 2 rfl ?_
    refine g_aload_n C dX6_goes_47 rfl 0 rfl ?_
    refine mm_getI C M 59 (Nat.le_of_ble_eq_true rfl) (Nat.le_of_ble_eq_true rfl) q2062 rfl dX6_goes_48 h (fun v1 h => ?_)
    refine g_icmp_ge C dX6_goes_51 rfl h (fun h => ?_) (fun h => ?_)
    · exact g_vret C (fun _ => trivial) dX6_goes_164 h
    · refine g_aload_n C dX6_goes_54 rfl 0 rfl ?_
      refine mm_getA C M 58 (Nat.le_of_ble_eq_true rfl) (Nat.le_of_ble_eq_true rfl) q2061 rfl dX6_goes_55 ?_
      refine g_iload_n C dX6_goes_58 rfl 2 rfl ?_
      refine mm_ldI C M 58 (Nat.le_of_ble_eq_true rfl) rfl dX6_goes_59 h (fun v2 h => ?_)
      refine g_istore [(4, .int v2), (0, .ref E.2.2.1), (1, .int x1), (3, .int x3)] C dX6_goes_60 (Nat.le_of_ble_eq_true rfl) rfl ?_
      refine g_aload_n C dX6_goes_62 rfl 1 rfl ?_
      refine g_iload C dX6_goes_63 0 rfl ?_
      obtain ⟨v4, z3, e, h⟩ := g_callE h
      refine mm_callV C M 1 [.int v2] (st := []) (v := some (.int v4)) (z' := z3) (fun l => ct_columnOf l v2 z v4 z3 e) (lw_V q2454 q2456 qs118 q178 q2457) rfl rfl rfl (Nat.le_of_ble_eq_true rfl) (Nat.le_of_ble_eq_true rfl) (Nat.le_of_ble_eq_true rfl) dX6_goes_65 ?_
      refine gW_st (st' := [.int v4]) rfl ?_
      refine g_istore [(5, .int v4), (4, .int v2), (0, .ref E.2.2.1), (1, .int x1), (3, .int x3)] C dX6_goes_68 (Nat.le_of_ble_eq_true rfl) rfl ?_
      refine g_aload_n C dX6_goes_70 rfl 2 rfl ?_
      refine g_iload C dX6_goes_71 1 rfl ?_
      obtain ⟨v6, z5, e, h⟩ := g_callE h
      refine mm_callV C M 1 [.int v2] (st := []) (v := some (.int v6)) (z' := z5) (fun l => ct_rowOf l v2 z3 v6 z5 e) (lw_V q2458 q2460 qs119 q178 q2461) rfl rfl rfl (Nat.le_of_ble_eq_true rfl) (Nat.le_of_ble_eq_true rfl) (Nat.le_of_ble_eq_true rfl) dX6_goes_73 ?_
      refine gW_st (st' := [.int v6]) rfl ?_
      refine g_istore [(6, .int v6), (5, .int v4), (4, .int v2), (0, .ref E.2.2.1), (1, .int x1), (3, .int x3)] C dX6_goes_76 (Nat.le_of_ble_eq_true rfl) rfl ?_
      refine g_aload_n C dX6_goes_78 rfl 3 rfl ?_
      refine g_iload_n C dX6_goes_79 rfl 4 rfl ?_
      refine g_iload C dX6_goes_80 1 rfl ?_
      refine g_iconst C dX6_goes_82 gk_iconst_1 ?_
      refine g_isub C dX6_goes_83 ?_
      refine g_iload C dX6_goes_84 0 rfl ?_
      refine g_aload_n C dX6_goes_86 rfl 3 rfl ?_
      refine mm_getA C M 57 (Nat.le_of_ble_eq_true rfl) (Nat.le_of_ble_eq_true rfl) q2060 rfl dX6_goes_87 ?_
      refine g_iload C dX6_goes_90 2 rfl ?_
      refine mm_ldI C M 57 (Nat.le_of_ble_eq_true rfl) rfl dX6_goes_92 h (fun v7 h => ?_)
      refine g_iconst C dX6_goes_93 gk_iconst_1 ?_
      refine g_iadd C dX6_goes_94 ?_
      obtain ⟨u9, z8, e, h⟩ := g_callE h
      refine mm_callV C M 4 [.int x1, .int (v4 - (1 : Int32)), .int v6, .int (v7 + (1 : Int32))] (st := []) (v := none) (z' := z8) (fun l => ct_reaches l x1 (v4 - (1 : Int32)) v6 (v7 + (1 : Int32)) z5 u9 z8 e) (lw_V q2534 q2536 qs128 q178 q2537) rfl rfl rfl (Nat.le_of_ble_eq_true rfl) (Nat.le_of_ble_eq_true rfl) (Nat.le_of_ble_eq_true rfl) dX6_goes_95 ?_
      refine gW_st (st' := []) rfl ?_
      refine g_aload_n C dX6_goes_98 rfl 3 rfl ?_
      refine g_iload_n C dX6_goes_99 rfl 4 rfl ?_
      refine g_iload C dX6_goes_100 1 rfl ?_
      refine g_iconst C dX6_goes_102 gk_iconst_1 ?_
      refine g_iadd C dX6_goes_103 ?_
      refine g_iload C dX6_goes_104 0 rfl ?_
      refine g_aload_n C dX6_goes_106 rfl 3 rfl ?_
      refine mm_getA C M 57 (Nat.le_of_ble_eq_true rfl) (Nat.le_of_ble_eq_true rfl) q2060 rfl dX6_goes_107 ?_
      refine g_iload C dX6_goes_110 2 rfl ?_
      refine mm_ldI C M 57 (Nat.le_of_ble_eq_true rfl) rfl dX6_goes_112 h (fun v10 h => ?_)
      refine g_iconst C dX6_goes_113 gk_iconst_1 ?_
      refine g_iadd C dX6_goes_114 ?_
      obtain ⟨u12, z11, e, h⟩ := g_callE h
      refine mm_callV C M 4 [.int x1, .int (v4 + (1 : Int32)), .int v6, .int (v10 + (1 : Int32))] (st := []) (v := none) (z' := z11) (fun l => ct_reaches l x1 (v4 + (1 : Int32)) v6 (v10 + (1 : Int32)) z8 u12 z11 e) (lw_V q2534 q2536 qs128 q178 q2537) rfl rfl rfl (Nat.le_of_ble_eq_true rfl) (Nat.le_of_ble_eq_true rfl) (Nat.le_of_ble_eq_true rfl) dX6_goes_115 ?_
      refine gW_st (st' := []) rfl ?_
      refine g_aload_n C dX6_goes_118 rfl 3 rfl ?_
      refine g_iload_n C dX6_goes_119 rfl 4 rfl ?_
      refine g_iload C dX6_goes_120 1 rfl ?_
      refine g_iload C dX6_goes_122 0 rfl ?_
      refine g_iconst C dX6_goes_124 gk_iconst_1 ?_
      refine g_isub C dX6_goes_125 ?_
      refine g_aload_n C dX6_goes_126 rfl 3 rfl ?_
      refine mm_getA C M 57 (Nat.le_of_ble_eq_true rfl) (Nat.le_of_ble_eq_true rfl) q2060 rfl dX6_goes_127 ?_
      refine g_iload C dX6_goes_130 2 rfl ?_
      refine mm_ldI C M 57 (Nat.le_of_ble_eq_true rfl) rfl dX6_goes_132 h (fun v13 h => ?_)
      refine g_iconst C dX6_goes_133 gk_iconst_1 ?_
      refine g_iadd C dX6_goes_134 ?_
      obtain ⟨u15, z14, e, h⟩ := g_callE h
      refine mm_callV C M 4 [.int x1, .int v4, .int (v6 - (1 : Int32)), .int (v13 + (1 : Int32))] (st := []) (v := none) (z' := z14) (fun l => ct_reaches l x1 v4 (v6 - (1 : Int32)) (v13 + (1 : Int32)) z11 u15 z14 e) (lw_V q2534 q2536 qs128 q178 q2537) rfl rfl rfl (Nat.le_of_ble_eq_true rfl) (Nat.le_of_ble_eq_true rfl) (Nat.le_of_ble_eq_true rfl) dX6_goes_135 ?_
      refine gW_st (st' := []) rfl ?_
      refine g_aload_n C dX6_goes_138 rfl 3 rfl ?_
      refine g_iload_n C dX6_goes_139 rfl 4 rfl ?_
      refine g_iload C dX6_goes_140 1 rfl ?_
      refine g_iload C dX6_goes_142 0 rfl ?_
      refine g_iconst C dX6_goes_144 gk_iconst_1 ?_
      refine g_iadd C dX6_goes_145 ?_
      refine g_aload_n C dX6_goes_146 rfl 3 rfl ?_
      refine mm_getA C M 57 (Nat.le_of_ble_eq_true rfl) (Nat.le_of_ble_eq_true rfl) q2060 rfl dX6_goes_147 ?_
      refine g_iload C dX6_goes_150 2 rfl ?_
      refine mm_ldI C M 57 (Nat.le_of_ble_eq_true rfl) rfl dX6_goes_152 h (fun v16 h => ?_)
      refine g_iconst C dX6_goes_153 gk_iconst_1 ?_
      refine g_iadd C dX6_goes_154 ?_
      obtain ⟨u18, z17, e, h⟩ := g_callE h
      refine mm_callV C M 4 [.int x1, .int v4, .int (v6 + (1 : Int32)), .int (v16 + (1 : Int32))] (st := []) (v := none) (z' := z17) (fun l => ct_reaches l x1 v4 (v6 + (1 : Int32)) (v16 + (1 : Int32)) z14 u18 z17 e) (lw_V q2534 q2536 qs128 q178 q2537) rfl rfl rfl (Nat.le_of_ble_eq_true rfl) (Nat.le_of_ble_eq_true rfl) (Nat.le_of_ble_eq_true rfl) dX6_goes_155 ?_
      refine gW_st (st' := []) rfl ?_
      refine g_iinc [(3, .int (x3 + (1 : Int32))), (6, .int v6), (5, .int v4), (4, .int v2), (0, .ref E.2.2.1), (1, .int x1)] C dX6_goes_158 (j := 5) rfl (gk_inc_1 _) (Nat.le_of_ble_eq_true rfl) rfl ?_
      refine g_goto C dX6_goes_161 rfl ?_
      exact g_sub [(0, .ref E.2.2.1), (1, .int x1), (3, .int (x3 + (1 : Int32)))] [4, 5, 0] rfl (ih x1 (x3 + (1 : Int32)) z17 h)
def mo_goes_b2 : Nat → Int32 → Int32 → Int32 → mm_S → Option (Unit × mm_S)
  | 0, _, _, _, _ => none
  | n + 1, x1, x2, x3, z => g_call (mo_cells z) (fun v2 z1 => if v2 ≤ x3 then (mm_pI 59 (0 : Int32) z1 (fun z3 => g_call (mo_columnOf x2 z3) (fun v5 z4 => g_call (mo_rowOf x2 z4) (fun v7 z6 => g_call (mo_reaches x1 v5 v7 (0 : Int32) z6) (fun _ z8 => mo_goes_b46 g_fu x1 (0 : Int32) z8))))) else (mm_sI 57 x3 (-1 : Int32) z1 (fun z10 => (mo_goes_b2 n) x1 x2 (x3 + (1 : Int32)) z10)))
theorem wk_goes_b2 {X : gX} {E : mm_E} {r : Unit × mm_S} (C : gC X cX6_goes 7 none RX6 3 69) (M : mm_C X E) : ∀ (n : Nat) (x1 : Int32) (x2 : Int32) (x3 : Int32) (z : mm_S), mo_goes_b2 n x1 x2 x3 z = some r → gW X (mm_G E) (.returned none, r.2) z 2 [(0, .ref E.2.2.1), (1, .int x1), (2, .int x2), (3, .int x3)] [] := by
  intro n
  induction n with
  | zero =>
    intro x1 x2 x3 z h
    have h : (none : Option (Unit × mm_S)) = some r := h
    cases h
  | succ n ih =>
    intro x1 x2 x3 z h
    rw [mo_goes_b2] at h
    refine g_iload_n C dX6_goes_2 rfl 3 rfl ?_
    refine g_aload_n C dX6_goes_3 rfl 0 rfl ?_
    obtain ⟨v2, z1, e, h⟩ := g_callE h
    refine mm_callV C M 0 [] (st := [.int x3]) (v := some (.int v2)) (z' := z1) (fun l => ct_cells l z v2 z1 e) (lw_V q2442 q2444 qs115 q178 q2445) rfl rfl rfl (Nat.le_of_ble_eq_true rfl) (Nat.le_of_ble_eq_true rfl) (Nat.le_of_ble_eq_true rfl) dX6_goes_4 ?_
    refine gW_st (st' := [.int v2, .int x3]) rfl ?_
    refine g_icmp_ge C dX6_goes_7 rfl h (fun h => ?_) (fun h => ?_)
    · refine g_aload_n C dX6_goes_23 rfl 0 rfl ?_
      refine g_iconst C dX6_goes_24 gk_iconst_0 ?_
      refine mm_putI C M 59 (Nat.le_of_ble_eq_true rfl) (Nat.le_of_ble_eq_true rfl) q2062 rfl rfl rfl dX6_goes_25 h (fun z3 h => ?_)
      refine g_aload_n C dX6_goes_28 rfl 0 rfl ?_
      refine g_iload_n C dX6_goes_29 rfl 1 rfl ?_
      refine g_aload_n C dX6_goes_30 rfl 0 rfl ?_
      refine g_iload_n C dX6_goes_31 rfl 2 rfl ?_
      obtain ⟨v5, z4, e, h⟩ := g_callE h
      refine mm_callV C M 1 [.int x2] (st := [.int x1, .ref E.2.2.1]) (v := some (.int v5)) (z' := z4) (fun l => ct_columnOf l x2 z3 v5 z4 e) (lw_V q2454 q2456 qs118 q178 q2457) rfl rfl rfl (Nat.le_of_ble_eq_true rfl) (Nat.le_of_ble_eq_true rfl) (Nat.le_of_ble_eq_true rfl) dX6_goes_32 ?_
      refine gW_st (st' := [.int v5, .int x1, .ref E.2.2.1]) rfl ?_
      refine g_aload_n C dX6_goes_35 rfl 0 rfl ?_
      refine g_iload_n C dX6_goes_36 rfl 2 rfl ?_
      obtain ⟨v7, z6, e, h⟩ := g_callE h
      refine mm_callV C M 1 [.int x2] (st := [.int v5, .int x1, .ref E.2.2.1]) (v := some (.int v7)) (z' := z6) (fun l => ct_rowOf l x2 z4 v7 z6 e) (lw_V q2458 q2460 qs119 q178 q2461) rfl rfl rfl (Nat.le_of_ble_eq_true rfl) (Nat.le_of_ble_eq_true rfl) (Nat.le_of_ble_eq_true rfl) dX6_goes_37 ?_
      refine gW_st (st' := [.int v7, .int v5, .int x1, .ref E.2.2.1]) rfl ?_
      refine g_iconst C dX6_goes_40 gk_iconst_0 ?_
      obtain ⟨u9, z8, e, h⟩ := g_callE h
      refine mm_callV C M 4 [.int x1, .int v5, .int v7, .int (0 : Int32)] (st := []) (v := none) (z' := z8) (fun l => ct_reaches l x1 v5 v7 (0 : Int32) z6 u9 z8 e) (lw_V q2534 q2536 qs128 q178 q2537) rfl rfl rfl (Nat.le_of_ble_eq_true rfl) (Nat.le_of_ble_eq_true rfl) (Nat.le_of_ble_eq_true rfl) dX6_goes_41 ?_
      refine gW_st (st' := []) rfl ?_
      refine g_iconst C dX6_goes_44 gk_iconst_0 ?_
      refine g_istore_n [(3, .int (0 : Int32)), (0, .ref E.2.2.1), (1, .int x1), (2, .int x2)] C dX6_goes_45 rfl (Nat.le_of_ble_eq_true rfl) rfl ?_
      exact g_sub [(0, .ref E.2.2.1), (1, .int x1), (3, .int (0 : Int32))] [1, 2, 0] rfl (wk_goes_b46 C M g_fu x1 (0 : Int32) z8 h)
    · refine g_aload_n C dX6_goes_10 rfl 0 rfl ?_
      refine mm_getA C M 57 (Nat.le_of_ble_eq_true rfl) (Nat.le_of_ble_eq_true rfl) q2060 rfl dX6_goes_11 ?_
      refine g_iload_n C dX6_goes_14 rfl 3 rfl ?_
      refine g_iconst C dX6_goes_15 gk_iconst_m1 ?_
      refine mm_stI C M 57 (Nat.le_of_ble_eq_true rfl) rfl dX6_goes_16 h (fun z10 h => ?_)
      refine g_iinc [(3, .int (x3 + (1 : Int32))), (0, .ref E.2.2.1), (1, .int x1), (2, .int x2)] C dX6_goes_17 (j := 3) rfl (gk_inc_1 _) (Nat.le_of_ble_eq_true rfl) rfl ?_
      refine g_goto C dX6_goes_20 rfl ?_
      exact g_sub [(0, .ref E.2.2.1), (1, .int x1), (2, .int x2), (3, .int (x3 + (1 : Int32)))] [1, 2, 3, 0] rfl (ih x1 x2 (x3 + (1 : Int32)) z10 h)
def mo_goes (x1 : Int32) (x2 : Int32) (z : mm_S) : Option (Unit × mm_S) := mo_goes_b2 g_fu x1 x2 (0 : Int32) z
theorem wk_goes {X : gX} {E : mm_E} {r : Unit × mm_S} (C : gC X cX6_goes 7 none RX6 3 69) (M : mm_C X E) (x1 : Int32) (x2 : Int32) (z : mm_S) (h : mo_goes x1 x2 z = some r) : gW X (mm_G E) (.returned none, r.2) z 0 [(0, .ref E.2.2.1), (1, .int x1), (2, .int x2)] [] := by
  unfold mo_goes at h
  refine g_iconst C dX6_goes_0 gk_iconst_0 ?_
  refine g_istore_n [(3, .int (0 : Int32)), (0, .ref E.2.2.1), (1, .int x1), (2, .int x2)] C dX6_goes_1 rfl (Nat.le_of_ble_eq_true rfl) rfl ?_
  exact g_sub [(0, .ref E.2.2.1), (1, .int x1), (2, .int x2), (3, .int (0 : Int32))] [1, 2, 3, 0] rfl (wk_goes_b2 C M g_fu x1 x2 (0 : Int32) z h)
theorem ct_goes (l : Launch) (x1 : Int32) (x2 : Int32) (z : mm_S) (r : Unit) (z' : mm_S) (h : mo_goes x1 x2 z = some (r, z')) : mm_MetV l yX6_goes cX6_goes 7 none 3 69 [.int x1, .int x2] z (.returned none, z') := by
  intro E hD
  exact mm_enter E hD rfl ⟨_, rfl⟩ (.ref E.2.2.1 :: [.int x1, .int x2]) (Nat.le_of_ble_eq_true rfl) (fun X C M => wk_goes C M x1 x2 z h)
def mo_hoursTo (x1 : Int32) (x2 : Int32) (z : mm_S) : Option (Int32 × mm_S) := mm_gI 12 z (fun v1 => mm_lI 22 (((8 : Int32) * v1) + x1) z (fun v2 => mm_lI 57 x2 z (fun v3 => if v3 = (-1 : Int32) then (some ((1000 : Int32), z)) else (mm_lI 57 x2 z (fun v4 => g_dv v2 (some ((((v4 + v2) - (1 : Int32)) / v2), z)))))))
theorem wk_hoursTo {X : gX} {E : mm_E} {r : Int32 × mm_S} (C : gC X cX6_hoursTo 4 (some .int) RX6 0 0) (M : mm_C X E) (x1 : Int32) (x2 : Int32) (z : mm_S) (h : mo_hoursTo x1 x2 z = some r) : gW X (mm_G E) (.returned (some (.int r.1)), r.2) z 0 [(0, .ref E.2.2.1), (1, .int x1), (2, .int x2)] [] := by
  unfold mo_hoursTo at h
  refine g_aload_n C dX6_hoursTo_0 rfl 0 rfl ?_
  refine mm_getA C M 22 (Nat.le_of_ble_eq_true rfl) (Nat.le_of_ble_eq_true rfl) q2025 rfl dX6_hoursTo_1 ?_
  refine g_bipush C dX6_hoursTo_4 gk_bipush_8 ?_
  refine g_aload_n C dX6_hoursTo_6 rfl 0 rfl ?_
  refine mm_getI C M 12 (Nat.le_of_ble_eq_true rfl) (Nat.le_of_ble_eq_true rfl) q2015 rfl dX6_hoursTo_7 h (fun v1 h => ?_)
  refine g_imul C dX6_hoursTo_10 ?_
  refine g_iload_n C dX6_hoursTo_11 rfl 1 rfl ?_
  refine g_iadd C dX6_hoursTo_12 ?_
  refine mm_ldI C M 22 (Nat.le_of_ble_eq_true rfl) rfl dX6_hoursTo_13 h (fun v2 h => ?_)
  refine g_istore_n [(3, .int v2), (0, .ref E.2.2.1), (1, .int x1), (2, .int x2)] C dX6_hoursTo_14 rfl (Nat.le_of_ble_eq_true rfl) rfl ?_
  refine g_aload_n C dX6_hoursTo_15 rfl 1 rfl ?_
  refine mm_getA C M 57 (Nat.le_of_ble_eq_true rfl) (Nat.le_of_ble_eq_true rfl) q2060 rfl dX6_hoursTo_16 ?_
  refine g_iload_n C dX6_hoursTo_19 rfl 3 rfl ?_
  refine mm_ldI C M 57 (Nat.le_of_ble_eq_true rfl) rfl dX6_hoursTo_20 h (fun v3 h => ?_)
  refine g_iconst C dX6_hoursTo_21 gk_iconst_m1 ?_
  refine g_icmp_ne C dX6_hoursTo_22 rfl h (fun h => ?_) (fun h => ?_)
  · refine g_aload_n C dX6_hoursTo_31 rfl 1 rfl ?_
    refine mm_getA C M 57 (Nat.le_of_ble_eq_true rfl) (Nat.le_of_ble_eq_true rfl) q2060 rfl dX6_hoursTo_32 ?_
    refine g_iload_n C dX6_hoursTo_35 rfl 3 rfl ?_
    refine mm_ldI C M 57 (Nat.le_of_ble_eq_true rfl) rfl dX6_hoursTo_36 h (fun v4 h => ?_)
    refine g_iload_n C dX6_hoursTo_37 rfl 0 rfl ?_
    refine g_iadd C dX6_hoursTo_38 ?_
    refine g_iconst C dX6_hoursTo_39 gk_iconst_1 ?_
    refine g_isub C dX6_hoursTo_40 ?_
    refine g_iload_n C dX6_hoursTo_41 rfl 0 rfl ?_
    obtain ⟨hne, h⟩ := g_dvI h
    refine g_idiv C dX6_hoursTo_42 hne ?_
    exact g_iret C (fun _ => trivial) dX6_hoursTo_43 h
  · refine g_sipush C dX6_hoursTo_25 gk_sipush_1000 ?_
    refine g_goto C dX6_hoursTo_28 rfl ?_
    exact g_iret C (fun _ => trivial) dX6_hoursTo_43 h
theorem ct_hoursTo (l : Launch) (x1 : Int32) (x2 : Int32) (z : mm_S) (r : Int32) (z' : mm_S) (h : mo_hoursTo x1 x2 z = some (r, z')) : mm_MetV l yX6_hoursTo cX6_hoursTo 4 (some .int) 0 0 [.int x1, .int x2] z (.returned (some (.int r)), z') := by
  intro E hD
  exact mm_enter E hD rfl ⟨_, rfl⟩ (.ref E.2.2.1 :: [.int x1, .int x2]) (Nat.le_of_ble_eq_true rfl) (fun X C M => wk_hoursTo C M x1 x2 z h)
def mo_far (x1 : Int32) (x2 : Int32) (x3 : Int32) (x4 : Int32) (x5 : Int32) (z : mm_S) : Option (Int32 × mm_S) := g_call (mo_isShip x1 z) (fun v2 z1 => if v2 = 0 then (some ((-1 : Int32), z1)) else (g_call (mo_isCell x2 x3 z1) (fun v4 z3 => if v4 = 0 then (some ((-1 : Int32), z3)) else (g_call (mo_isCell x4 x5 z3) (fun v6 z5 => if v6 = 0 then (some ((-1 : Int32), z5)) else (g_call (mo_at x2 x3 z5) (fun v8 z7 => g_call (mo_goes x1 v8 z7) (fun _ z9 => g_call (mo_at x4 x5 z9) (fun v12 z11 => g_call (mo_hoursTo x1 v12 z11) (fun v14 z13 => if v14 = (1000 : Int32) then (some ((-1 : Int32), z13)) else (some (v14, z13))))))))))))
theorem wk_far {X : gX} {E : mm_E} {r : Int32 × mm_S} (C : gC X cX6_far 7 (some .int) RX6 4 95) (M : mm_C X E) (x1 : Int32) (x2 : Int32) (x3 : Int32) (x4 : Int32) (x5 : Int32) (z : mm_S) (h : mo_far x1 x2 x3 x4 x5 z = some r) : gW X (mm_G E) (.returned (some (.int r.1)), r.2) z 0 [(0, .ref E.2.2.1), (1, .int x1), (2, .int x2), (3, .int x3), (4, .int x4), (5, .int x5)] [] := by
  unfold mo_far at h
  refine g_aload_n C dX6_far_0 rfl 0 rfl ?_
  refine g_iload_n C dX6_far_1 rfl 1 rfl ?_
  obtain ⟨v2, z1, e, h⟩ := g_callE h
  refine mm_callV C M 1 [.int x1] (st := []) (v := some (.int v2)) (z' := z1) (fun l => ct_isShip l x1 z v2 z1 e) (lw_V q2521 q2523 qs126 q178 q2524) rfl rfl rfl (Nat.le_of_ble_eq_true rfl) (Nat.le_of_ble_eq_true rfl) (Nat.le_of_ble_eq_true rfl) dX6_far_2 ?_
  refine gW_st (st' := [.int v2]) rfl ?_
  refine g_if_eq C dX6_far_5 rfl h (fun h => ?_) (fun h => ?_)
  · refine g_iconst C dX6_far_28 gk_iconst_m1 ?_
    exact g_iret C (fun _ => trivial) dX6_far_29 h
  · refine g_aload_n C dX6_far_8 rfl 0 rfl ?_
    refine g_iload_n C dX6_far_9 rfl 2 rfl ?_
    refine g_iload_n C dX6_far_10 rfl 3 rfl ?_
    obtain ⟨v4, z3, e, h⟩ := g_callE h
    refine mm_callV C M 2 [.int x2, .int x3] (st := []) (v := some (.int v4)) (z' := z3) (fun l => ct_isCell l x2 x3 z1 v4 z3 e) (lw_V q2490 q2492 qs121 q178 q2493) rfl rfl rfl (Nat.le_of_ble_eq_true rfl) (Nat.le_of_ble_eq_true rfl) (Nat.le_of_ble_eq_true rfl) dX6_far_11 ?_
    refine gW_st (st' := [.int v4]) rfl ?_
    refine g_if_eq C dX6_far_14 rfl h (fun h => ?_) (fun h => ?_)
    · refine g_iconst C dX6_far_28 gk_iconst_m1 ?_
      exact g_iret C (fun _ => trivial) dX6_far_29 h
    · refine g_aload_n C dX6_far_17 rfl 0 rfl ?_
      refine g_iload C dX6_far_18 4 rfl ?_
      refine g_iload C dX6_far_20 5 rfl ?_
      obtain ⟨v6, z5, e, h⟩ := g_callE h
      refine mm_callV C M 2 [.int x4, .int x5] (st := []) (v := some (.int v6)) (z' := z5) (fun l => ct_isCell l x4 x5 z3 v6 z5 e) (lw_V q2490 q2492 qs121 q178 q2493) rfl rfl rfl (Nat.le_of_ble_eq_true rfl) (Nat.le_of_ble_eq_true rfl) (Nat.le_of_ble_eq_true rfl) dX6_far_22 ?_
      refine gW_st (st' := [.int v6]) rfl ?_
      refine g_if_ne C dX6_far_25 rfl h (fun h => ?_) (fun h => ?_)
      · refine g_aload_n C dX6_far_30 rfl 0 rfl ?_
        refine g_iload_n C dX6_far_31 rfl 1 rfl ?_
        refine g_aload_n C dX6_far_32 rfl 0 rfl ?_
        refine g_iload_n C dX6_far_33 rfl 2 rfl ?_
        refine g_iload_n C dX6_far_34 rfl 3 rfl ?_
        obtain ⟨v8, z7, e, h⟩ := g_callE h
        refine mm_callV C M 2 [.int x2, .int x3] (st := [.int x1, .ref E.2.2.1]) (v := some (.int v8)) (z' := z7) (fun l => ct_at l x2 x3 z5 v8 z7 e) (lw_V q2497 q2499 qs122 q178 q2500) rfl rfl rfl (Nat.le_of_ble_eq_true rfl) (Nat.le_of_ble_eq_true rfl) (Nat.le_of_ble_eq_true rfl) dX6_far_35 ?_
        refine gW_st (st' := [.int v8, .int x1, .ref E.2.2.1]) rfl ?_
        obtain ⟨u10, z9, e, h⟩ := g_callE h
        refine mm_callV C M 2 [.int x1, .int v8] (st := []) (v := none) (z' := z9) (fun l => ct_goes l x1 v8 z7 u10 z9 e) (lw_V q2530 q2532 qs127 q178 q2533) rfl rfl rfl (Nat.le_of_ble_eq_true rfl) (Nat.le_of_ble_eq_true rfl) (Nat.le_of_ble_eq_true rfl) dX6_far_38 ?_
        refine gW_st (st' := []) rfl ?_
        refine g_aload_n C dX6_far_41 rfl 0 rfl ?_
        refine g_iload_n C dX6_far_42 rfl 1 rfl ?_
        refine g_aload_n C dX6_far_43 rfl 0 rfl ?_
        refine g_iload C dX6_far_44 4 rfl ?_
        refine g_iload C dX6_far_46 5 rfl ?_
        obtain ⟨v12, z11, e, h⟩ := g_callE h
        refine mm_callV C M 2 [.int x4, .int x5] (st := [.int x1, .ref E.2.2.1]) (v := some (.int v12)) (z' := z11) (fun l => ct_at l x4 x5 z9 v12 z11 e) (lw_V q2497 q2499 qs122 q178 q2500) rfl rfl rfl (Nat.le_of_ble_eq_true rfl) (Nat.le_of_ble_eq_true rfl) (Nat.le_of_ble_eq_true rfl) dX6_far_48 ?_
        refine gW_st (st' := [.int v12, .int x1, .ref E.2.2.1]) rfl ?_
        obtain ⟨v14, z13, e, h⟩ := g_callE h
        refine mm_callV C M 2 [.int x1, .int v12] (st := []) (v := some (.int v14)) (z' := z13) (fun l => ct_hoursTo l x1 v12 z11 v14 z13 e) (lw_V q2542 q2544 qs130 q178 q2545) rfl rfl rfl (Nat.le_of_ble_eq_true rfl) (Nat.le_of_ble_eq_true rfl) (Nat.le_of_ble_eq_true rfl) dX6_far_51 ?_
        refine gW_st (st' := [.int v14]) rfl ?_
        refine g_istore [(6, .int v14), (0, .ref E.2.2.1), (1, .int x1), (2, .int x2), (3, .int x3), (4, .int x4), (5, .int x5)] C dX6_far_54 (Nat.le_of_ble_eq_true rfl) rfl ?_
        refine g_iload C dX6_far_56 0 rfl ?_
        refine g_sipush C dX6_far_58 gk_sipush_1000 ?_
        refine g_icmp_ne C dX6_far_61 rfl h (fun h => ?_) (fun h => ?_)
        · refine g_iload C dX6_far_68 0 rfl ?_
          exact g_iret C (fun _ => trivial) dX6_far_70 h
        · refine g_iconst C dX6_far_64 gk_iconst_m1 ?_
          refine g_goto C dX6_far_65 rfl ?_
          exact g_iret C (fun _ => trivial) dX6_far_70 h
      · refine g_iconst C dX6_far_28 gk_iconst_m1 ?_
        exact g_iret C (fun _ => trivial) dX6_far_29 h
theorem ct_far (l : Launch) (x1 : Int32) (x2 : Int32) (x3 : Int32) (x4 : Int32) (x5 : Int32) (z : mm_S) (r : Int32) (z' : mm_S) (h : mo_far x1 x2 x3 x4 x5 z = some (r, z')) : mm_MetV l yX6_far cX6_far 7 (some .int) 4 95 [.int x1, .int x2, .int x3, .int x4, .int x5] z (.returned (some (.int r)), z') := by
  intro E hD
  exact mm_enter E hD rfl ⟨_, rfl⟩ (.ref E.2.2.1 :: [.int x1, .int x2, .int x3, .int x4, .int x5]) (Nat.le_of_ble_eq_true rfl) (fun X C M => wk_far C M x1 x2 x3 x4 x5 z h)
def mo_fact (x1 : Int32) (x2 : Int32) (x3 : Int32) (z : mm_S) : Option (Unit × mm_S) := mm_gI 60 z (fun v1 => mm_sI 61 v1 x1 z (fun z2 => mm_gI 60 z2 (fun v3 => mm_sI 62 v3 x2 z2 (fun z4 => mm_gI 60 z4 (fun v5 => mm_sI 63 v5 x3 z4 (fun z6 => mm_gI 60 z6 (fun v7 => mm_pI 60 (v7 + (1 : Int32)) z6 (fun z8 => some ((), z8)))))))))
theorem wk_fact {X : gX} {E : mm_E} {r : Unit × mm_S} (C : gC X cX6_fact 4 none RX6 0 0) (M : mm_C X E) (x1 : Int32) (x2 : Int32) (x3 : Int32) (z : mm_S) (h : mo_fact x1 x2 x3 z = some r) : gW X (mm_G E) (.returned none, r.2) z 0 [(0, .ref E.2.2.1), (1, .int x1), (2, .int x2), (3, .int x3)] [] := by
  unfold mo_fact at h
  refine g_aload_n C dX6_fact_0 rfl 0 rfl ?_
  refine mm_getA C M 61 (Nat.le_of_ble_eq_true rfl) (Nat.le_of_ble_eq_true rfl) q2064 rfl dX6_fact_1 ?_
  refine g_aload_n C dX6_fact_4 rfl 0 rfl ?_
  refine mm_getI C M 60 (Nat.le_of_ble_eq_true rfl) (Nat.le_of_ble_eq_true rfl) q2063 rfl dX6_fact_5 h (fun v1 h => ?_)
  refine g_iload_n C dX6_fact_8 rfl 1 rfl ?_
  refine mm_stI C M 61 (Nat.le_of_ble_eq_true rfl) rfl dX6_fact_9 h (fun z2 h => ?_)
  refine g_aload_n C dX6_fact_10 rfl 0 rfl ?_
  refine mm_getA C M 62 (Nat.le_of_ble_eq_true rfl) (Nat.le_of_ble_eq_true rfl) q2065 rfl dX6_fact_11 ?_
  refine g_aload_n C dX6_fact_14 rfl 0 rfl ?_
  refine mm_getI C M 60 (Nat.le_of_ble_eq_true rfl) (Nat.le_of_ble_eq_true rfl) q2063 rfl dX6_fact_15 h (fun v3 h => ?_)
  refine g_iload_n C dX6_fact_18 rfl 2 rfl ?_
  refine mm_stI C M 62 (Nat.le_of_ble_eq_true rfl) rfl dX6_fact_19 h (fun z4 h => ?_)
  refine g_aload_n C dX6_fact_20 rfl 0 rfl ?_
  refine mm_getA C M 63 (Nat.le_of_ble_eq_true rfl) (Nat.le_of_ble_eq_true rfl) q2066 rfl dX6_fact_21 ?_
  refine g_aload_n C dX6_fact_24 rfl 0 rfl ?_
  refine mm_getI C M 60 (Nat.le_of_ble_eq_true rfl) (Nat.le_of_ble_eq_true rfl) q2063 rfl dX6_fact_25 h (fun v5 h => ?_)
  refine g_iload_n C dX6_fact_28 rfl 3 rfl ?_
  refine mm_stI C M 63 (Nat.le_of_ble_eq_true rfl) rfl dX6_fact_29 h (fun z6 h => ?_)
  refine g_aload_n C dX6_fact_30 rfl 0 rfl ?_
  refine g_dup C dX6_fact_31 rfl ?_
  refine mm_getI C M 60 (Nat.le_of_ble_eq_true rfl) (Nat.le_of_ble_eq_true rfl) q2063 rfl dX6_fact_32 h (fun v7 h => ?_)
  refine g_iconst C dX6_fact_35 gk_iconst_1 ?_
  refine g_iadd C dX6_fact_36 ?_
  refine mm_putI C M 60 (Nat.le_of_ble_eq_true rfl) (Nat.le_of_ble_eq_true rfl) q2063 rfl rfl rfl dX6_fact_37 h (fun z8 h => ?_)
  exact g_vret C (fun _ => trivial) dX6_fact_40 h
theorem ct_fact (l : Launch) (x1 : Int32) (x2 : Int32) (x3 : Int32) (z : mm_S) (r : Unit) (z' : mm_S) (h : mo_fact x1 x2 x3 z = some (r, z')) : mm_MetV l yX6_fact cX6_fact 4 none 0 0 [.int x1, .int x2, .int x3] z (.returned none, z') := by
  intro E hD
  exact mm_enter E hD rfl ⟨_, rfl⟩ (.ref E.2.2.1 :: [.int x1, .int x2, .int x3]) (Nat.le_of_ble_eq_true rfl) (fun X C M => wk_fact C M x1 x2 x3 z h)
def mo_addBooks_b61 (k8 : Int32 → Int32 → mm_S → Option (Unit × mm_S)) (x1 : Int32) (x2 : Int32) (z : mm_S) : Option (Unit × mm_S) := k8 x1 (x2 + (1 : Int32)) z
theorem wk_addBooks_b61 {X : gX} {E : mm_E} {r : Unit × mm_S} (C : gC X cX6_addBooks 3 none RX6 1 23) (M : mm_C X E) {k8 : Int32 → Int32 → mm_S → Option (Unit × mm_S)} (hk8 : ∀ (x1 : Int32) (x2 : Int32) (z : mm_S), k8 x1 x2 z = some r → gW X (mm_G E) (.returned none, r.2) z 8 [(0, .ref E.2.2.1), (1, .int x1), (2, .int x2)] []) (x1 : Int32) (x2 : Int32) (z : mm_S) (h : mo_addBooks_b61 k8 x1 x2 z = some r) : gW X (mm_G E) (.returned none, r.2) z 61 [(0, .ref E.2.2.1), (1, .int x1), (2, .int x2)] [] := by
  unfold mo_addBooks_b61 at h
  refine g_iinc [(2, .int (x2 + (1 : Int32))), (0, .ref E.2.2.1), (1, .int x1)] C dX6_addBooks_61 (j := 2) rfl (gk_inc_1 _) (Nat.le_of_ble_eq_true rfl) rfl ?_
  refine g_goto C dX6_addBooks_64 rfl ?_
  exact g_sub [(0, .ref E.2.2.1), (1, .int x1), (2, .int (x2 + (1 : Int32)))] [1, 2, 0] rfl (hk8 x1 (x2 + (1 : Int32)) z h)
def mo_addBooks_b8 : Nat → Int32 → Int32 → mm_S → Option (Unit × mm_S)
  | 0, _, _, _ => none
  | n + 1, x1, x2, z => mm_gI 12 z (fun v1 => mm_gI 12 z (fun v2 => mm_lI 28 v2 z (fun v3 => if (((12 : Int32) * v1) + v3) ≤ x2 then (some ((), z)) else (mm_lI 29 x2 z (fun v4 => if v4 = x1 then (mm_lI 30 x2 z (fun v5 => mm_lI 31 x2 z (fun v6 => mm_lI 32 x2 z (fun v7 => g_call (mo_fact v5 v6 v7 z) (fun _ z8 => mo_addBooks_b61 (mo_addBooks_b8 n) x1 x2 z8))))) else (mo_addBooks_b61 (mo_addBooks_b8 n) x1 x2 z))))))
theorem wk_addBooks_b8 {X : gX} {E : mm_E} {r : Unit × mm_S} (C : gC X cX6_addBooks 3 none RX6 1 23) (M : mm_C X E) : ∀ (n : Nat) (x1 : Int32) (x2 : Int32) (z : mm_S), mo_addBooks_b8 n x1 x2 z = some r → gW X (mm_G E) (.returned none, r.2) z 8 [(0, .ref E.2.2.1), (1, .int x1), (2, .int x2)] [] := by
  intro n
  induction n with
  | zero =>
    intro x1 x2 z h
    have h : (none : Option (Unit × mm_S)) = some r := h
    cases h
  | succ n ih =>
    intro x1 x2 z h
    rw [mo_addBooks_b8] at h
    refine g_iload_n C dX6_addBooks_8 rfl 2 rfl ?_
    refine g_bipush C dX6_addBooks_9 gk_bipush_12 ?_
    refine g_aload_n C dX6_addBooks_11 rfl 0 rfl ?_
    refine mm_getI C M 12 (Nat.le_of_ble_eq_true rfl) (Nat.le_of_ble_eq_true rfl) q2015 rfl dX6_addBooks_12 h (fun v1 h => ?_)
    refine g_imul C dX6_addBooks_15 ?_
    refine g_aload_n C dX6_addBooks_16 rfl 0 rfl ?_
    refine mm_getA C M 28 (Nat.le_of_ble_eq_true rfl) (Nat.le_of_ble_eq_true rfl) q2031 rfl dX6_addBooks_17 ?_
    refine g_aload_n C dX6_addBooks_20 rfl 0 rfl ?_
    refine mm_getI C M 12 (Nat.le_of_ble_eq_true rfl) (Nat.le_of_ble_eq_true rfl) q2015 rfl dX6_addBooks_21 h (fun v2 h => ?_)
    refine mm_ldI C M 28 (Nat.le_of_ble_eq_true rfl) rfl dX6_addBooks_24 h (fun v3 h => ?_)
    refine g_iadd C dX6_addBooks_25 ?_
    refine g_icmp_ge C dX6_addBooks_26 rfl h (fun h => ?_) (fun h => ?_)
    · exact g_vret C (fun _ => trivial) dX6_addBooks_67 h
    · refine g_aload_n C dX6_addBooks_29 rfl 0 rfl ?_
      refine mm_getA C M 29 (Nat.le_of_ble_eq_true rfl) (Nat.le_of_ble_eq_true rfl) q2032 rfl dX6_addBooks_30 ?_
      refine g_iload_n C dX6_addBooks_33 rfl 2 rfl ?_
      refine mm_ldI C M 29 (Nat.le_of_ble_eq_true rfl) rfl dX6_addBooks_34 h (fun v4 h => ?_)
      refine g_iload_n C dX6_addBooks_35 rfl 1 rfl ?_
      refine g_icmp_ne C dX6_addBooks_36 rfl h (fun h => ?_) (fun h => ?_)
      · exact wk_addBooks_b61 C M ih x1 x2 z h
      · refine g_aload_n C dX6_addBooks_39 rfl 0 rfl ?_
        refine g_aload_n C dX6_addBooks_40 rfl 0 rfl ?_
        refine mm_getA C M 30 (Nat.le_of_ble_eq_true rfl) (Nat.le_of_ble_eq_true rfl) q2033 rfl dX6_addBooks_41 ?_
        refine g_iload_n C dX6_addBooks_44 rfl 2 rfl ?_
        refine mm_ldI C M 30 (Nat.le_of_ble_eq_true rfl) rfl dX6_addBooks_45 h (fun v5 h => ?_)
        refine g_aload_n C dX6_addBooks_46 rfl 0 rfl ?_
        refine mm_getA C M 31 (Nat.le_of_ble_eq_true rfl) (Nat.le_of_ble_eq_true rfl) q2034 rfl dX6_addBooks_47 ?_
        refine g_iload_n C dX6_addBooks_50 rfl 2 rfl ?_
        refine mm_ldI C M 31 (Nat.le_of_ble_eq_true rfl) rfl dX6_addBooks_51 h (fun v6 h => ?_)
        refine g_aload_n C dX6_addBooks_52 rfl 0 rfl ?_
        refine mm_getA C M 32 (Nat.le_of_ble_eq_true rfl) (Nat.le_of_ble_eq_true rfl) q2035 rfl dX6_addBooks_53 ?_
        refine g_iload_n C dX6_addBooks_56 rfl 2 rfl ?_
        refine mm_ldI C M 32 (Nat.le_of_ble_eq_true rfl) rfl dX6_addBooks_57 h (fun v7 h => ?_)
        obtain ⟨u9, z8, e, h⟩ := g_callE h
        refine mm_callV C M 3 [.int v5, .int v6, .int v7] (st := []) (v := none) (z' := z8) (fun l => ct_fact l v5 v6 v7 z u9 z8 e) (lw_V q2562 q2564 qs134 q178 q2565) rfl rfl rfl (Nat.le_of_ble_eq_true rfl) (Nat.le_of_ble_eq_true rfl) (Nat.le_of_ble_eq_true rfl) dX6_addBooks_58 ?_
        refine gW_st (st' := []) rfl ?_
        exact wk_addBooks_b61 C M ih x1 x2 z8 h
def mo_addBooks (x1 : Int32) (z : mm_S) : Option (Unit × mm_S) := mm_gI 12 z (fun v1 => mo_addBooks_b8 g_fu x1 ((12 : Int32) * v1) z)
theorem wk_addBooks {X : gX} {E : mm_E} {r : Unit × mm_S} (C : gC X cX6_addBooks 3 none RX6 1 23) (M : mm_C X E) (x1 : Int32) (z : mm_S) (h : mo_addBooks x1 z = some r) : gW X (mm_G E) (.returned none, r.2) z 0 [(0, .ref E.2.2.1), (1, .int x1)] [] := by
  unfold mo_addBooks at h
  refine g_bipush C dX6_addBooks_0 gk_bipush_12 ?_
  refine g_aload_n C dX6_addBooks_2 rfl 0 rfl ?_
  refine mm_getI C M 12 (Nat.le_of_ble_eq_true rfl) (Nat.le_of_ble_eq_true rfl) q2015 rfl dX6_addBooks_3 h (fun v1 h => ?_)
  refine g_imul C dX6_addBooks_6 ?_
  refine g_istore_n [(2, .int ((12 : Int32) * v1)), (0, .ref E.2.2.1), (1, .int x1)] C dX6_addBooks_7 rfl (Nat.le_of_ble_eq_true rfl) rfl ?_
  exact g_sub [(0, .ref E.2.2.1), (1, .int x1), (2, .int ((12 : Int32) * v1))] [1, 2, 0] rfl (wk_addBooks_b8 C M g_fu x1 ((12 : Int32) * v1) z h)
theorem ct_addBooks (l : Launch) (x1 : Int32) (z : mm_S) (r : Unit) (z' : mm_S) (h : mo_addBooks x1 z = some (r, z')) : mm_MetV l yX6_addBooks cX6_addBooks 3 none 1 23 [.int x1] z (.returned none, z') := by
  intro E hD
  exact mm_enter E hD rfl ⟨_, rfl⟩ (.ref E.2.2.1 :: [.int x1]) (Nat.le_of_ble_eq_true rfl) (fun X C M => wk_addBooks C M x1 z h)
def mo_between (x0 : Int32) (x1 : Int32) (x2 : Int32) (x3 : Int32) (z : mm_S) : Option (Int32 × mm_S) := if x2 ≤ x1 then (if x0 ≤ x3 then (some ((0 : Int32), z)) else (some ((x0 - x3), z))) else (some ((x2 - x1), z))
theorem wk_between {X : gX} {E : mm_E} {r : Int32 × mm_S} (C : gC X cX6_between 4 (some .int) RX6 0 0) (M : mm_C X E) (x0 : Int32) (x1 : Int32) (x2 : Int32) (x3 : Int32) (z : mm_S) (h : mo_between x0 x1 x2 x3 z = some r) : gW X (mm_G E) (.returned (some (.int r.1)), r.2) z 0 [(0, .int x0), (1, .int x1), (2, .int x2), (3, .int x3)] [] := by
  unfold mo_between at h
  refine g_iload_n C dX6_between_0 rfl 2 rfl ?_
  refine g_iload_n C dX6_between_1 rfl 1 rfl ?_
  refine g_icmp_le C dX6_between_2 rfl h (fun h => ?_) (fun h => ?_)
  · refine g_iload_n C dX6_between_11 rfl 0 rfl ?_
    refine g_iload_n C dX6_between_12 rfl 3 rfl ?_
    refine g_icmp_le C dX6_between_13 rfl h (fun h => ?_) (fun h => ?_)
    · refine g_iconst C dX6_between_22 gk_iconst_0 ?_
      exact g_iret C (fun _ => trivial) dX6_between_23 h
    · refine g_iload_n C dX6_between_16 rfl 0 rfl ?_
      refine g_iload_n C dX6_between_17 rfl 3 rfl ?_
      refine g_isub C dX6_between_18 ?_
      refine g_goto C dX6_between_19 rfl ?_
      exact g_iret C (fun _ => trivial) dX6_between_23 h
  · refine g_iload_n C dX6_between_5 rfl 2 rfl ?_
    refine g_iload_n C dX6_between_6 rfl 1 rfl ?_
    refine g_isub C dX6_between_7 ?_
    refine g_goto C dX6_between_8 rfl ?_
    exact g_iret C (fun _ => trivial) dX6_between_23 h
theorem ct_between (l : Launch) (x0 : Int32) (x1 : Int32) (x2 : Int32) (x3 : Int32) (z : mm_S) (r : Int32) (z' : mm_S) (h : mo_between x0 x1 x2 x3 z = some (r, z')) : mm_MetS l yX6_between cX6_between 4 (some .int) 0 0 [.int x0, .int x1, .int x2, .int x3] z (.returned (some (.int r)), z') := by
  intro E hD
  exact mm_enter E hD rfl ⟨_, rfl⟩ [.int x0, .int x1, .int x2, .int x3] (Nat.le_of_ble_eq_true rfl) (fun X C M => wk_between C M x0 x1 x2 x3 z h)
def mo_fit_b23 (k2 : Int32 → Int32 → mm_S → Option (Int32 × mm_S)) : Nat → Int32 → Int32 → Int32 → mm_S → Option (Int32 × mm_S)
  | 0, _, _, _, _ => none
  | n + 1, x1, x2, x3, z => mm_gI 60 z (fun v1 => if v1 ≤ x3 then (k2 x1 (x2 + (1 : Int32)) z) else (mm_lI 61 x3 z (fun v2 => g_call (mo_hoursTo x1 v2 z) (fun v4 z3 => mm_lI 62 x2 z3 (fun v5 => mm_lI 63 x2 z3 (fun v6 => mm_lI 62 x3 z3 (fun v7 => mm_lI 63 x3 z3 (fun v8 => g_call (mo_between v5 v6 v7 v8 z3) (fun v10 z9 => if v4 ≤ v10 then ((mo_fit_b23 k2 n) x1 x2 (x3 + (1 : Int32)) z9) else (some ((0 : Int32), z9)))))))))))
theorem wk_fit_b23 {X : gX} {E : mm_E} {r : Int32 × mm_S} (C : gC X cX6_fit 4 (some .boolean) RX6 4 95) (M : mm_C X E) {k2 : Int32 → Int32 → mm_S → Option (Int32 × mm_S)} (hk2 : ∀ (x1 : Int32) (x2 : Int32) (z : mm_S), k2 x1 x2 z = some r → gW X (mm_G E) (.returned (some (.int r.1)), r.2) z 2 [(0, .ref E.2.2.1), (1, .int x1), (2, .int x2)] []) : ∀ (n : Nat) (x1 : Int32) (x2 : Int32) (x3 : Int32) (z : mm_S), mo_fit_b23 k2 n x1 x2 x3 z = some r → gW X (mm_G E) (.returned (some (.int r.1)), r.2) z 23 [(0, .ref E.2.2.1), (1, .int x1), (2, .int x2), (3, .int x3)] [] := by
  intro n
  induction n with
  | zero =>
    intro x1 x2 x3 z h
    have h : (none : Option (Int32 × mm_S)) = some r := h
    cases h
  | succ n ih =>
    intro x1 x2 x3 z h
    rw [mo_fit_b23] at h
    refine g_iload_n C dX6_fit_23 rfl 3 rfl ?_
    refine g_aload_n C dX6_fit_24 rfl 0 rfl ?_
    refine mm_getI C M 60 (Nat.le_of_ble_eq_true rfl) (Nat.le_of_ble_eq_true rfl) q2063 rfl dX6_fit_25 h (fun v1 h => ?_)
    refine g_icmp_ge C dX6_fit_28 rfl h (fun h => ?_) (fun h => ?_)
    · refine g_iinc [(2, .int (x2 + (1 : Int32))), (0, .ref E.2.2.1), (1, .int x1), (3, .int x3)] C dX6_fit_80 (j := 2) rfl (gk_inc_1 _) (Nat.le_of_ble_eq_true rfl) rfl ?_
      refine g_goto C dX6_fit_83 rfl ?_
      exact g_sub [(0, .ref E.2.2.1), (1, .int x1), (2, .int (x2 + (1 : Int32)))] [1, 2, 0] rfl (hk2 x1 (x2 + (1 : Int32)) z h)
    · refine g_aload_n C dX6_fit_31 rfl 0 rfl ?_
      refine g_iload_n C dX6_fit_32 rfl 1 rfl ?_
      refine g_aload_n C dX6_fit_33 rfl 0 rfl ?_
      refine mm_getA C M 61 (Nat.le_of_ble_eq_true rfl) (Nat.le_of_ble_eq_true rfl) q2064 rfl dX6_fit_34 ?_
      refine g_iload_n C dX6_fit_37 rfl 3 rfl ?_
      refine mm_ldI C M 61 (Nat.le_of_ble_eq_true rfl) rfl dX6_fit_38 h (fun v2 h => ?_)
      obtain ⟨v4, z3, e, h⟩ := g_callE h
      refine mm_callV C M 2 [.int x1, .int v2] (st := []) (v := some (.int v4)) (z' := z3) (fun l => ct_hoursTo l x1 v2 z v4 z3 e) (lw_V q2542 q2544 qs130 q178 q2545) rfl rfl rfl (Nat.le_of_ble_eq_true rfl) (Nat.le_of_ble_eq_true rfl) (Nat.le_of_ble_eq_true rfl) dX6_fit_39 ?_
      refine gW_st (st' := [.int v4]) rfl ?_
      refine g_aload_n C dX6_fit_42 rfl 0 rfl ?_
      refine mm_getA C M 62 (Nat.le_of_ble_eq_true rfl) (Nat.le_of_ble_eq_true rfl) q2065 rfl dX6_fit_43 ?_
      refine g_iload_n C dX6_fit_46 rfl 2 rfl ?_
      refine mm_ldI C M 62 (Nat.le_of_ble_eq_true rfl) rfl dX6_fit_47 h (fun v5 h => ?_)
      refine g_aload_n C dX6_fit_48 rfl 0 rfl ?_
      refine mm_getA C M 63 (Nat.le_of_ble_eq_true rfl) (Nat.le_of_ble_eq_true rfl) q2066 rfl dX6_fit_49 ?_
      refine g_iload_n C dX6_fit_52 rfl 2 rfl ?_
      refine mm_ldI C M 63 (Nat.le_of_ble_eq_true rfl) rfl dX6_fit_53 h (fun v6 h => ?_)
      refine g_aload_n C dX6_fit_54 rfl 0 rfl ?_
      refine mm_getA C M 62 (Nat.le_of_ble_eq_true rfl) (Nat.le_of_ble_eq_true rfl) q2065 rfl dX6_fit_55 ?_
      refine g_iload_n C dX6_fit_58 rfl 3 rfl ?_
      refine mm_ldI C M 62 (Nat.le_of_ble_eq_true rfl) rfl dX6_fit_59 h (fun v7 h => ?_)
      refine g_aload_n C dX6_fit_60 rfl 0 rfl ?_
      refine mm_getA C M 63 (Nat.le_of_ble_eq_true rfl) (Nat.le_of_ble_eq_true rfl) q2066 rfl dX6_fit_61 ?_
      refine g_iload_n C dX6_fit_64 rfl 3 rfl ?_
      refine mm_ldI C M 63 (Nat.le_of_ble_eq_true rfl) rfl dX6_fit_65 h (fun v8 h => ?_)
      obtain ⟨v10, z9, e, h⟩ := g_callE h
      refine mm_callS C M 4 [.int v5, .int v6, .int v7, .int v8] (st := [.int v4]) (v := some (.int v10)) (z' := z9) (fun l => ct_between l v5 v6 v7 v8 z3 v10 z9 e) (lw_S q2570 q2571 q178 q2572) rfl rfl rfl (Nat.le_of_ble_eq_true rfl) (Nat.le_of_ble_eq_true rfl) (Nat.le_of_ble_eq_true rfl) dX6_fit_66 ?_
      refine gW_st (st' := [.int v10, .int v4]) rfl ?_
      refine g_icmp_le C dX6_fit_69 rfl h (fun h => ?_) (fun h => ?_)
      · refine g_iinc [(3, .int (x3 + (1 : Int32))), (0, .ref E.2.2.1), (1, .int x1), (2, .int x2)] C dX6_fit_74 (j := 3) rfl (gk_inc_1 _) (Nat.le_of_ble_eq_true rfl) rfl ?_
        refine g_goto C dX6_fit_77 rfl ?_
        exact g_sub [(0, .ref E.2.2.1), (1, .int x1), (2, .int x2), (3, .int (x3 + (1 : Int32)))] [1, 2, 3, 0] rfl (ih x1 x2 (x3 + (1 : Int32)) z9 h)
      · refine g_iconst C dX6_fit_72 gk_iconst_0 ?_
        exact g_zretc C (fun _ => trivial) dX6_fit_73 (Or.inl rfl) h
def mo_fit_b2 : Nat → Int32 → Int32 → mm_S → Option (Int32 × mm_S)
  | 0, _, _, _ => none
  | n + 1, x1, x2, z => mm_gI 60 z (fun v1 => if v1 ≤ x2 then (some ((1 : Int32), z)) else (mm_lI 61 x2 z (fun v2 => g_call (mo_goes x1 v2 z) (fun _ z3 => mo_fit_b23 (mo_fit_b2 n) g_fu x1 x2 (0 : Int32) z3))))
theorem wk_fit_b2 {X : gX} {E : mm_E} {r : Int32 × mm_S} (C : gC X cX6_fit 4 (some .boolean) RX6 4 95) (M : mm_C X E) : ∀ (n : Nat) (x1 : Int32) (x2 : Int32) (z : mm_S), mo_fit_b2 n x1 x2 z = some r → gW X (mm_G E) (.returned (some (.int r.1)), r.2) z 2 [(0, .ref E.2.2.1), (1, .int x1), (2, .int x2)] [] := by
  intro n
  induction n with
  | zero =>
    intro x1 x2 z h
    have h : (none : Option (Int32 × mm_S)) = some r := h
    cases h
  | succ n ih =>
    intro x1 x2 z h
    rw [mo_fit_b2] at h
    refine g_iload_n C dX6_fit_2 rfl 2 rfl ?_
    refine g_aload_n C dX6_fit_3 rfl 0 rfl ?_
    refine mm_getI C M 60 (Nat.le_of_ble_eq_true rfl) (Nat.le_of_ble_eq_true rfl) q2063 rfl dX6_fit_4 h (fun v1 h => ?_)
    refine g_icmp_ge C dX6_fit_7 rfl h (fun h => ?_) (fun h => ?_)
    · refine g_iconst C dX6_fit_86 gk_iconst_1 ?_
      exact g_zretc C (fun _ => trivial) dX6_fit_87 (Or.inr rfl) h
    · refine g_aload_n C dX6_fit_10 rfl 0 rfl ?_
      refine g_iload_n C dX6_fit_11 rfl 1 rfl ?_
      refine g_aload_n C dX6_fit_12 rfl 0 rfl ?_
      refine mm_getA C M 61 (Nat.le_of_ble_eq_true rfl) (Nat.le_of_ble_eq_true rfl) q2064 rfl dX6_fit_13 ?_
      refine g_iload_n C dX6_fit_16 rfl 2 rfl ?_
      refine mm_ldI C M 61 (Nat.le_of_ble_eq_true rfl) rfl dX6_fit_17 h (fun v2 h => ?_)
      obtain ⟨u4, z3, e, h⟩ := g_callE h
      refine mm_callV C M 2 [.int x1, .int v2] (st := []) (v := none) (z' := z3) (fun l => ct_goes l x1 v2 z u4 z3 e) (lw_V q2530 q2532 qs127 q178 q2533) rfl rfl rfl (Nat.le_of_ble_eq_true rfl) (Nat.le_of_ble_eq_true rfl) (Nat.le_of_ble_eq_true rfl) dX6_fit_18 ?_
      refine gW_st (st' := []) rfl ?_
      refine g_iconst C dX6_fit_21 gk_iconst_0 ?_
      refine g_istore_n [(3, .int (0 : Int32)), (0, .ref E.2.2.1), (1, .int x1), (2, .int x2)] C dX6_fit_22 rfl (Nat.le_of_ble_eq_true rfl) rfl ?_
      exact g_sub [(0, .ref E.2.2.1), (1, .int x1), (2, .int x2), (3, .int (0 : Int32))] [1, 2, 3, 0] rfl (wk_fit_b23 C M ih g_fu x1 x2 (0 : Int32) z3 h)
def mo_fit (x1 : Int32) (z : mm_S) : Option (Int32 × mm_S) := mo_fit_b2 g_fu x1 (0 : Int32) z
theorem wk_fit {X : gX} {E : mm_E} {r : Int32 × mm_S} (C : gC X cX6_fit 4 (some .boolean) RX6 4 95) (M : mm_C X E) (x1 : Int32) (z : mm_S) (h : mo_fit x1 z = some r) : gW X (mm_G E) (.returned (some (.int r.1)), r.2) z 0 [(0, .ref E.2.2.1), (1, .int x1)] [] := by
  unfold mo_fit at h
  refine g_iconst C dX6_fit_0 gk_iconst_0 ?_
  refine g_istore_n [(2, .int (0 : Int32)), (0, .ref E.2.2.1), (1, .int x1)] C dX6_fit_1 rfl (Nat.le_of_ble_eq_true rfl) rfl ?_
  exact g_sub [(0, .ref E.2.2.1), (1, .int x1), (2, .int (0 : Int32))] [1, 2, 0] rfl (wk_fit_b2 C M g_fu x1 (0 : Int32) z h)
theorem ct_fit (l : Launch) (x1 : Int32) (z : mm_S) (r : Int32) (z' : mm_S) (h : mo_fit x1 z = some (r, z')) : mm_MetV l yX6_fit cX6_fit 4 (some .boolean) 4 95 [.int x1] z (.returned (some (.int r)), z') := by
  intro E hD
  exact mm_enter E hD rfl ⟨_, rfl⟩ (.ref E.2.2.1 :: [.int x1]) (Nat.le_of_ble_eq_true rfl) (fun X C M => wk_fit C M x1 z h)
def mo_booksFit (x1 : Int32) (z : mm_S) : Option (Int32 × mm_S) := mm_pI 60 (0 : Int32) z (fun z1 => g_call (mo_addBooks x1 z1) (fun _ z2 => g_call (mo_fit x1 z2) (fun v5 z4 => (if v5 = 0 ∨ v5 = 1 then some (v5, z4) else none))))
theorem wk_booksFit {X : gX} {E : mm_E} {r : Int32 × mm_S} (C : gC X cX6_booksFit 2 (some .boolean) RX6 5 118) (M : mm_C X E) (x1 : Int32) (z : mm_S) (h : mo_booksFit x1 z = some r) : gW X (mm_G E) (.returned (some (.int r.1)), r.2) z 0 [(0, .ref E.2.2.1), (1, .int x1)] [] := by
  unfold mo_booksFit at h
  refine g_aload_n C dX6_booksFit_0 rfl 0 rfl ?_
  refine g_iconst C dX6_booksFit_1 gk_iconst_0 ?_
  refine mm_putI C M 60 (Nat.le_of_ble_eq_true rfl) (Nat.le_of_ble_eq_true rfl) q2063 rfl rfl rfl dX6_booksFit_2 h (fun z1 h => ?_)
  refine g_aload_n C dX6_booksFit_5 rfl 0 rfl ?_
  refine g_iload_n C dX6_booksFit_6 rfl 1 rfl ?_
  obtain ⟨u3, z2, e, h⟩ := g_callE h
  refine mm_callV C M 1 [.int x1] (st := []) (v := none) (z' := z2) (fun l => ct_addBooks l x1 z1 u3 z2 e) (lw_V q2558 q2560 qs133 q178 q2561) rfl rfl rfl (Nat.le_of_ble_eq_true rfl) (Nat.le_of_ble_eq_true rfl) (Nat.le_of_ble_eq_true rfl) dX6_booksFit_7 ?_
  refine gW_st (st' := []) rfl ?_
  refine g_aload_n C dX6_booksFit_10 rfl 0 rfl ?_
  refine g_iload_n C dX6_booksFit_11 rfl 1 rfl ?_
  obtain ⟨v5, z4, e, h⟩ := g_callE h
  refine mm_callV C M 1 [.int x1] (st := []) (v := some (.int v5)) (z' := z4) (fun l => ct_fit l x1 z2 v5 z4 e) (lw_V q2566 q2568 qs135 q178 q2569) rfl rfl rfl (Nat.le_of_ble_eq_true rfl) (Nat.le_of_ble_eq_true rfl) (Nat.le_of_ble_eq_true rfl) dX6_booksFit_12 ?_
  refine gW_st (st' := [.int v5]) rfl ?_
  exact g_zret C (fun _ => trivial) dX6_booksFit_15 h
theorem ct_booksFit (l : Launch) (x1 : Int32) (z : mm_S) (r : Int32) (z' : mm_S) (h : mo_booksFit x1 z = some (r, z')) : mm_MetV l yX6_booksFit cX6_booksFit 2 (some .boolean) 5 118 [.int x1] z (.returned (some (.int r)), z') := by
  intro E hD
  exact mm_enter E hD rfl ⟨_, rfl⟩ (.ref E.2.2.1 :: [.int x1]) (Nat.le_of_ble_eq_true rfl) (fun X C M => wk_booksFit C M x1 z h)
def mo_laden (x1 : Int32) (x2 : Int32) (z : mm_S) : Option (Int32 × mm_S) := mm_gI 12 z (fun v1 => mm_lI 27 ((((384 : Int32) * v1) + ((48 : Int32) * x1)) + x2) z (fun v2 => (if v2 = 0 ∨ v2 = 1 then some (v2, z) else none)))
theorem wk_laden {X : gX} {E : mm_E} {r : Int32 × mm_S} (C : gC X cX6_laden 3 (some .boolean) RX6 0 0) (M : mm_C X E) (x1 : Int32) (x2 : Int32) (z : mm_S) (h : mo_laden x1 x2 z = some r) : gW X (mm_G E) (.returned (some (.int r.1)), r.2) z 0 [(0, .ref E.2.2.1), (1, .int x1), (2, .int x2)] [] := by
  unfold mo_laden at h
  refine g_aload_n C dX6_laden_0 rfl 0 rfl ?_
  refine mm_getA C M 27 (Nat.le_of_ble_eq_true rfl) (Nat.le_of_ble_eq_true rfl) q2030 rfl dX6_laden_1 ?_
  refine g_sipush C dX6_laden_4 gk_sipush_384 ?_
  refine g_aload_n C dX6_laden_7 rfl 0 rfl ?_
  refine mm_getI C M 12 (Nat.le_of_ble_eq_true rfl) (Nat.le_of_ble_eq_true rfl) q2015 rfl dX6_laden_8 h (fun v1 h => ?_)
  refine g_imul C dX6_laden_11 ?_
  refine g_bipush C dX6_laden_12 gk_bipush_48 ?_
  refine g_iload_n C dX6_laden_14 rfl 1 rfl ?_
  refine g_imul C dX6_laden_15 ?_
  refine g_iadd C dX6_laden_16 ?_
  refine g_iload_n C dX6_laden_17 rfl 2 rfl ?_
  refine g_iadd C dX6_laden_18 ?_
  refine mm_ldZ C M 27 (Nat.le_of_ble_eq_true rfl) rfl dX6_laden_19 h (fun v2 h => ?_)
  exact g_zret C (fun _ => trivial) dX6_laden_20 h
theorem ct_laden (l : Launch) (x1 : Int32) (x2 : Int32) (z : mm_S) (r : Int32) (z' : mm_S) (h : mo_laden x1 x2 z = some (r, z')) : mm_MetV l yX6_laden cX6_laden 3 (some .boolean) 0 0 [.int x1, .int x2] z (.returned (some (.int r)), z') := by
  intro E hD
  exact mm_enter E hD rfl ⟨_, rfl⟩ (.ref E.2.2.1 :: [.int x1, .int x2]) (Nat.le_of_ble_eq_true rfl) (fun X C M => wk_laden C M x1 x2 z h)
def mo_isSound_b42 (s0 : Int32) (s1 : Int32) (s2 : Int32) (z : mm_S) : Option (Int32 × mm_S) := if s0 < (s1 + s2) then (some ((0 : Int32), z)) else (some ((1 : Int32), z))
theorem wk_isSound_b42 {X : gX} {E : mm_E} {r : Int32 × mm_S} (C : gC X cX6_isSound 4 (some .boolean) RX6 0 0) (M : mm_C X E) (s0 : Int32) (s1 : Int32) (s2 : Int32) (z : mm_S) (h : mo_isSound_b42 s0 s1 s2 z = some r) : gW X (mm_G E) (.returned (some (.int r.1)), r.2) z 42 [(0, .ref E.2.2.1)] [.int s2, .int s1, .int s0] := by
  unfold mo_isSound_b42 at h
  refine g_iadd C dX6_isSound_42 ?_
  refine g_icmp_lt C dX6_isSound_43 rfl h (fun h => ?_) (fun h => ?_)
  · refine g_iconst C dX6_isSound_50 gk_iconst_0 ?_
    exact g_zretc C (fun _ => trivial) dX6_isSound_51 (Or.inl rfl) h
  · refine g_iconst C dX6_isSound_46 gk_iconst_1 ?_
    refine g_goto C dX6_isSound_47 rfl ?_
    exact g_zretc C (fun _ => trivial) dX6_isSound_51 (Or.inr rfl) h
def mo_isSound (x1 : Int32) (x2 : Int32) (x3 : Int32) (z : mm_S) : Option (Int32 × mm_S) := mm_lI 55 x2 z (fun v1 => mm_gI 12 z (fun v2 => mm_lI 23 (((8 : Int32) * v2) + x1) z (fun v3 => if x3 = 0 then (mo_isSound_b42 v1 v3 (0 : Int32) z) else (mm_gI 12 z (fun v4 => mm_lI 24 (((8 : Int32) * v4) + x1) z (fun v5 => mo_isSound_b42 v1 v3 v5 z))))))
theorem wk_isSound {X : gX} {E : mm_E} {r : Int32 × mm_S} (C : gC X cX6_isSound 4 (some .boolean) RX6 0 0) (M : mm_C X E) (x1 : Int32) (x2 : Int32) (x3 : Int32) (z : mm_S) (h : mo_isSound x1 x2 x3 z = some r) : gW X (mm_G E) (.returned (some (.int r.1)), r.2) z 0 [(0, .ref E.2.2.1), (1, .int x1), (2, .int x2), (3, .int x3)] [] := by
  unfold mo_isSound at h
  refine g_aload_n C dX6_isSound_0 rfl 0 rfl ?_
  refine mm_getA C M 55 (Nat.le_of_ble_eq_true rfl) (Nat.le_of_ble_eq_true rfl) q2058 rfl dX6_isSound_1 ?_
  refine g_iload_n C dX6_isSound_4 rfl 2 rfl ?_
  refine mm_ldI C M 55 (Nat.le_of_ble_eq_true rfl) rfl dX6_isSound_5 h (fun v1 h => ?_)
  refine g_aload_n C dX6_isSound_6 rfl 0 rfl ?_
  refine mm_getA C M 23 (Nat.le_of_ble_eq_true rfl) (Nat.le_of_ble_eq_true rfl) q2026 rfl dX6_isSound_7 ?_
  refine g_bipush C dX6_isSound_10 gk_bipush_8 ?_
  refine g_aload_n C dX6_isSound_12 rfl 0 rfl ?_
  refine mm_getI C M 12 (Nat.le_of_ble_eq_true rfl) (Nat.le_of_ble_eq_true rfl) q2015 rfl dX6_isSound_13 h (fun v2 h => ?_)
  refine g_imul C dX6_isSound_16 ?_
  refine g_iload_n C dX6_isSound_17 rfl 1 rfl ?_
  refine g_iadd C dX6_isSound_18 ?_
  refine mm_ldI C M 23 (Nat.le_of_ble_eq_true rfl) rfl dX6_isSound_19 h (fun v3 h => ?_)
  refine g_iload_n C dX6_isSound_20 rfl 3 rfl ?_
  refine g_if_eq C dX6_isSound_21 rfl h (fun h => ?_) (fun h => ?_)
  · refine g_iconst C dX6_isSound_41 gk_iconst_0 ?_
    exact g_sub [(0, .ref E.2.2.1)] [0] rfl (wk_isSound_b42 C M v1 v3 (0 : Int32) z h)
  · refine g_aload_n C dX6_isSound_24 rfl 0 rfl ?_
    refine mm_getA C M 24 (Nat.le_of_ble_eq_true rfl) (Nat.le_of_ble_eq_true rfl) q2027 rfl dX6_isSound_25 ?_
    refine g_bipush C dX6_isSound_28 gk_bipush_8 ?_
    refine g_aload_n C dX6_isSound_30 rfl 0 rfl ?_
    refine mm_getI C M 12 (Nat.le_of_ble_eq_true rfl) (Nat.le_of_ble_eq_true rfl) q2015 rfl dX6_isSound_31 h (fun v4 h => ?_)
    refine g_imul C dX6_isSound_34 ?_
    refine g_iload_n C dX6_isSound_35 rfl 1 rfl ?_
    refine g_iadd C dX6_isSound_36 ?_
    refine mm_ldI C M 24 (Nat.le_of_ble_eq_true rfl) rfl dX6_isSound_37 h (fun v5 h => ?_)
    refine g_goto C dX6_isSound_38 rfl ?_
    exact g_sub [(0, .ref E.2.2.1)] [0] rfl (wk_isSound_b42 C M v1 v3 v5 z h)
theorem ct_isSound (l : Launch) (x1 : Int32) (x2 : Int32) (x3 : Int32) (z : mm_S) (r : Int32) (z' : mm_S) (h : mo_isSound x1 x2 x3 z = some (r, z')) : mm_MetV l yX6_isSound cX6_isSound 4 (some .boolean) 0 0 [.int x1, .int x2, .int x3] z (.returned (some (.int r)), z') := by
  intro E hD
  exact mm_enter E hD rfl ⟨_, rfl⟩ (.ref E.2.2.1 :: [.int x1, .int x2, .int x3]) (Nat.le_of_ble_eq_true rfl) (fun X C M => wk_isSound C M x1 x2 x3 z h)
def mo_withBooks_b84 (k15 : Int32 → Int32 → Int32 → mm_S → Option (Int32 × mm_S)) (x1 : Int32) (x3 : Int32) (x4 : Int32) (z : mm_S) : Option (Int32 × mm_S) := k15 x1 x3 (x4 + (1 : Int32)) z
theorem wk_withBooks_b84 {X : gX} {E : mm_E} {r : Int32 × mm_S} (C : gC X cX6_withBooks 5 (some .boolean) RX6 4 95) (M : mm_C X E) {k15 : Int32 → Int32 → Int32 → mm_S → Option (Int32 × mm_S)} (hk15 : ∀ (x1 : Int32) (x3 : Int32) (x4 : Int32) (z : mm_S), k15 x1 x3 x4 z = some r → gW X (mm_G E) (.returned (some (.int r.1)), r.2) z 15 [(0, .ref E.2.2.1), (1, .int x1), (3, .int x3), (4, .int x4)] []) (x1 : Int32) (x3 : Int32) (x4 : Int32) (z : mm_S) (h : mo_withBooks_b84 k15 x1 x3 x4 z = some r) : gW X (mm_G E) (.returned (some (.int r.1)), r.2) z 84 [(0, .ref E.2.2.1), (1, .int x1), (3, .int x3), (4, .int x4)] [] := by
  unfold mo_withBooks_b84 at h
  refine g_iinc [(4, .int (x4 + (1 : Int32))), (0, .ref E.2.2.1), (1, .int x1), (3, .int x3)] C dX6_withBooks_84 (j := 3) rfl (gk_inc_1 _) (Nat.le_of_ble_eq_true rfl) rfl ?_
  refine g_goto C dX6_withBooks_87 rfl ?_
  exact g_sub [(0, .ref E.2.2.1), (1, .int x1), (3, .int x3), (4, .int (x4 + (1 : Int32)))] [1, 2, 3, 0] rfl (hk15 x1 x3 (x4 + (1 : Int32)) z h)
def mo_withBooks_b15 : Nat → Int32 → Int32 → Int32 → mm_S → Option (Int32 × mm_S)
  | 0, _, _, _, _ => none
  | n + 1, x1, x3, x4, z => mm_gI 12 z (fun v1 => mm_gI 12 z (fun v2 => mm_lI 28 v2 z (fun v3 => if (((12 : Int32) * v1) + v3) ≤ x4 then (some ((1 : Int32), z)) else (mm_lI 29 x4 z (fun v4 => if v4 = x1 then (mm_lI 30 x4 z (fun v5 => g_call (mo_hoursTo x1 v5 z) (fun v7 z6 => mm_lI 31 x4 z6 (fun v8 => mm_lI 32 x4 z6 (fun v9 => g_call (mo_between x3 x3 v8 v9 z6) (fun v11 z10 => if v7 ≤ v11 then (mo_withBooks_b84 (mo_withBooks_b15 n) x1 x3 x4 z10) else (some ((0 : Int32), z10)))))))) else (mo_withBooks_b84 (mo_withBooks_b15 n) x1 x3 x4 z))))))
theorem wk_withBooks_b15 {X : gX} {E : mm_E} {r : Int32 × mm_S} (C : gC X cX6_withBooks 5 (some .boolean) RX6 4 95) (M : mm_C X E) : ∀ (n : Nat) (x1 : Int32) (x3 : Int32) (x4 : Int32) (z : mm_S), mo_withBooks_b15 n x1 x3 x4 z = some r → gW X (mm_G E) (.returned (some (.int r.1)), r.2) z 15 [(0, .ref E.2.2.1), (1, .int x1), (3, .int x3), (4, .int x4)] [] := by
  intro n
  induction n with
  | zero =>
    intro x1 x3 x4 z h
    have h : (none : Option (Int32 × mm_S)) = some r := h
    cases h
  | succ n ih =>
    intro x1 x3 x4 z h
    rw [mo_withBooks_b15] at h
    refine g_iload C dX6_withBooks_15 3 rfl ?_
    refine g_bipush C dX6_withBooks_17 gk_bipush_12 ?_
    refine g_aload_n C dX6_withBooks_19 rfl 0 rfl ?_
    refine mm_getI C M 12 (Nat.le_of_ble_eq_true rfl) (Nat.le_of_ble_eq_true rfl) q2015 rfl dX6_withBooks_20 h (fun v1 h => ?_)
    refine g_imul C dX6_withBooks_23 ?_
    refine g_aload_n C dX6_withBooks_24 rfl 0 rfl ?_
    refine mm_getA C M 28 (Nat.le_of_ble_eq_true rfl) (Nat.le_of_ble_eq_true rfl) q2031 rfl dX6_withBooks_25 ?_
    refine g_aload_n C dX6_withBooks_28 rfl 0 rfl ?_
    refine mm_getI C M 12 (Nat.le_of_ble_eq_true rfl) (Nat.le_of_ble_eq_true rfl) q2015 rfl dX6_withBooks_29 h (fun v2 h => ?_)
    refine mm_ldI C M 28 (Nat.le_of_ble_eq_true rfl) rfl dX6_withBooks_32 h (fun v3 h => ?_)
    refine g_iadd C dX6_withBooks_33 ?_
    refine g_icmp_ge C dX6_withBooks_34 rfl h (fun h => ?_) (fun h => ?_)
    · refine g_iconst C dX6_withBooks_90 gk_iconst_1 ?_
      exact g_zretc C (fun _ => trivial) dX6_withBooks_91 (Or.inr rfl) h
    · refine g_aload_n C dX6_withBooks_37 rfl 0 rfl ?_
      refine mm_getA C M 29 (Nat.le_of_ble_eq_true rfl) (Nat.le_of_ble_eq_true rfl) q2032 rfl dX6_withBooks_38 ?_
      refine g_iload C dX6_withBooks_41 3 rfl ?_
      refine mm_ldI C M 29 (Nat.le_of_ble_eq_true rfl) rfl dX6_withBooks_43 h (fun v4 h => ?_)
      refine g_iload_n C dX6_withBooks_44 rfl 1 rfl ?_
      refine g_icmp_ne C dX6_withBooks_45 rfl h (fun h => ?_) (fun h => ?_)
      · exact wk_withBooks_b84 C M ih x1 x3 x4 z h
      · refine g_aload_n C dX6_withBooks_48 rfl 0 rfl ?_
        refine g_iload_n C dX6_withBooks_49 rfl 1 rfl ?_
        refine g_aload_n C dX6_withBooks_50 rfl 0 rfl ?_
        refine mm_getA C M 30 (Nat.le_of_ble_eq_true rfl) (Nat.le_of_ble_eq_true rfl) q2033 rfl dX6_withBooks_51 ?_
        refine g_iload C dX6_withBooks_54 3 rfl ?_
        refine mm_ldI C M 30 (Nat.le_of_ble_eq_true rfl) rfl dX6_withBooks_56 h (fun v5 h => ?_)
        obtain ⟨v7, z6, e, h⟩ := g_callE h
        refine mm_callV C M 2 [.int x1, .int v5] (st := []) (v := some (.int v7)) (z' := z6) (fun l => ct_hoursTo l x1 v5 z v7 z6 e) (lw_V q2542 q2544 qs130 q178 q2545) rfl rfl rfl (Nat.le_of_ble_eq_true rfl) (Nat.le_of_ble_eq_true rfl) (Nat.le_of_ble_eq_true rfl) dX6_withBooks_57 ?_
        refine gW_st (st' := [.int v7]) rfl ?_
        refine g_iload_n C dX6_withBooks_60 rfl 2 rfl ?_
        refine g_iload_n C dX6_withBooks_61 rfl 2 rfl ?_
        refine g_aload_n C dX6_withBooks_62 rfl 0 rfl ?_
        refine mm_getA C M 31 (Nat.le_of_ble_eq_true rfl) (Nat.le_of_ble_eq_true rfl) q2034 rfl dX6_withBooks_63 ?_
        refine g_iload C dX6_withBooks_66 3 rfl ?_
        refine mm_ldI C M 31 (Nat.le_of_ble_eq_true rfl) rfl dX6_withBooks_68 h (fun v8 h => ?_)
        refine g_aload_n C dX6_withBooks_69 rfl 0 rfl ?_
        refine mm_getA C M 32 (Nat.le_of_ble_eq_true rfl) (Nat.le_of_ble_eq_true rfl) q2035 rfl dX6_withBooks_70 ?_
        refine g_iload C dX6_withBooks_73 3 rfl ?_
        refine mm_ldI C M 32 (Nat.le_of_ble_eq_true rfl) rfl dX6_withBooks_75 h (fun v9 h => ?_)
        obtain ⟨v11, z10, e, h⟩ := g_callE h
        refine mm_callS C M 4 [.int x3, .int x3, .int v8, .int v9] (st := [.int v7]) (v := some (.int v11)) (z' := z10) (fun l => ct_between l x3 x3 v8 v9 z6 v11 z10 e) (lw_S q2570 q2571 q178 q2572) rfl rfl rfl (Nat.le_of_ble_eq_true rfl) (Nat.le_of_ble_eq_true rfl) (Nat.le_of_ble_eq_true rfl) dX6_withBooks_76 ?_
        refine gW_st (st' := [.int v11, .int v7]) rfl ?_
        refine g_icmp_le C dX6_withBooks_79 rfl h (fun h => ?_) (fun h => ?_)
        · exact wk_withBooks_b84 C M ih x1 x3 x4 z10 h
        · refine g_iconst C dX6_withBooks_82 gk_iconst_0 ?_
          exact g_zretc C (fun _ => trivial) dX6_withBooks_83 (Or.inl rfl) h
def mo_withBooks (x1 : Int32) (x2 : Int32) (x3 : Int32) (z : mm_S) : Option (Int32 × mm_S) := g_call (mo_goes x1 x2 z) (fun _ z1 => mm_gI 12 z1 (fun v3 => mo_withBooks_b15 g_fu x1 x3 ((12 : Int32) * v3) z1))
theorem wk_withBooks {X : gX} {E : mm_E} {r : Int32 × mm_S} (C : gC X cX6_withBooks 5 (some .boolean) RX6 4 95) (M : mm_C X E) (x1 : Int32) (x2 : Int32) (x3 : Int32) (z : mm_S) (h : mo_withBooks x1 x2 x3 z = some r) : gW X (mm_G E) (.returned (some (.int r.1)), r.2) z 0 [(0, .ref E.2.2.1), (1, .int x1), (2, .int x2), (3, .int x3)] [] := by
  unfold mo_withBooks at h
  refine g_aload_n C dX6_withBooks_0 rfl 0 rfl ?_
  refine g_iload_n C dX6_withBooks_1 rfl 1 rfl ?_
  refine g_iload_n C dX6_withBooks_2 rfl 2 rfl ?_
  obtain ⟨u2, z1, e, h⟩ := g_callE h
  refine mm_callV C M 2 [.int x1, .int x2] (st := []) (v := none) (z' := z1) (fun l => ct_goes l x1 x2 z u2 z1 e) (lw_V q2530 q2532 qs127 q178 q2533) rfl rfl rfl (Nat.le_of_ble_eq_true rfl) (Nat.le_of_ble_eq_true rfl) (Nat.le_of_ble_eq_true rfl) dX6_withBooks_3 ?_
  refine gW_st (st' := []) rfl ?_
  refine g_bipush C dX6_withBooks_6 gk_bipush_12 ?_
  refine g_aload_n C dX6_withBooks_8 rfl 0 rfl ?_
  refine mm_getI C M 12 (Nat.le_of_ble_eq_true rfl) (Nat.le_of_ble_eq_true rfl) q2015 rfl dX6_withBooks_9 h (fun v3 h => ?_)
  refine g_imul C dX6_withBooks_12 ?_
  refine g_istore [(4, .int ((12 : Int32) * v3)), (0, .ref E.2.2.1), (1, .int x1), (2, .int x2), (3, .int x3)] C dX6_withBooks_13 (Nat.le_of_ble_eq_true rfl) rfl ?_
  exact g_sub [(0, .ref E.2.2.1), (1, .int x1), (3, .int x3), (4, .int ((12 : Int32) * v3))] [1, 2, 4, 0] rfl (wk_withBooks_b15 C M g_fu x1 x3 ((12 : Int32) * v3) z1 h)
theorem ct_withBooks (l : Launch) (x1 : Int32) (x2 : Int32) (x3 : Int32) (z : mm_S) (r : Int32) (z' : mm_S) (h : mo_withBooks x1 x2 x3 z = some (r, z')) : mm_MetV l yX6_withBooks cX6_withBooks 5 (some .boolean) 4 95 [.int x1, .int x2, .int x3] z (.returned (some (.int r)), z') := by
  intro E hD
  exact mm_enter E hD rfl ⟨_, rfl⟩ (.ref E.2.2.1 :: [.int x1, .int x2, .int x3]) (Nat.le_of_ble_eq_true rfl) (fun X C M => wk_withBooks C M x1 x2 x3 z h)
def mo_pairs_b221 (k54 : Int32 → Int32 → mm_S → Option (Unit × mm_S)) (k129 : Int32 → Int32 → Int32 → mm_S → Option (Unit × mm_S)) (x1 : Int32) (x2 : Int32) (x4 : Int32) (s1 : Int32) (s2 : Int32) (z : mm_S) : Option (Unit × mm_S) := mm_sZ 70 s1 s2 z (fun z1 => k129 x1 x2 (x4 + (1 : Int32)) z1)
theorem wk_pairs_b221 {X : gX} {E : mm_E} {r : Unit × mm_S} (C : gC X cX6_pairs 5 none RX6 5 119) (M : mm_C X E) {k54 : Int32 → Int32 → mm_S → Option (Unit × mm_S)} (hk54 : ∀ (x1 : Int32) (x2 : Int32) (z : mm_S), k54 x1 x2 z = some r → gW X (mm_G E) (.returned none, r.2) z 54 [(0, .ref E.2.2.1), (1, .int x1), (2, .int x2)] []) {k129 : Int32 → Int32 → Int32 → mm_S → Option (Unit × mm_S)} (hk129 : ∀ (x1 : Int32) (x2 : Int32) (x4 : Int32) (z : mm_S), k129 x1 x2 x4 z = some r → gW X (mm_G E) (.returned none, r.2) z 129 [(0, .ref E.2.2.1), (1, .int x1), (2, .int x2), (4, .int x4)] []) (x1 : Int32) (x2 : Int32) (x4 : Int32) (s1 : Int32) (s2 : Int32) (z : mm_S) (h : mo_pairs_b221 k54 k129 x1 x2 x4 s1 s2 z = some r) : gW X (mm_G E) (.returned none, r.2) z 221 [(0, .ref E.2.2.1), (1, .int x1), (2, .int x2), (4, .int x4)] [.int s2, .int s1, .ref (E.2.2.2.1 70)] := by
  unfold mo_pairs_b221 at h
  refine mm_stZ C M 70 (Nat.le_of_ble_eq_true rfl) rfl dX6_pairs_221 h (fun z1 h => ?_)
  refine g_iinc [(4, .int (x4 + (1 : Int32))), (0, .ref E.2.2.1), (1, .int x1), (2, .int x2)] C dX6_pairs_222 (j := 3) rfl (gk_inc_1 _) (Nat.le_of_ble_eq_true rfl) rfl ?_
  refine g_goto C dX6_pairs_225 rfl ?_
  exact g_sub [(0, .ref E.2.2.1), (1, .int x1), (2, .int x2), (4, .int (x4 + (1 : Int32)))] [1, 2, 3, 0] rfl (hk129 x1 x2 (x4 + (1 : Int32)) z1 h)
def mo_pairs_b213 (k54 : Int32 → Int32 → mm_S → Option (Unit × mm_S)) (k129 : Int32 → Int32 → Int32 → mm_S → Option (Unit × mm_S)) (x1 : Int32) (x2 : Int32) (x4 : Int32) (s1 : Int32) (s2 : Int32) (s3 : Int32) (z : mm_S) : Option (Unit × mm_S) := if s3 < s2 then (mo_pairs_b221 k54 k129 x1 x2 x4 s1 (0 : Int32) z) else (mo_pairs_b221 k54 k129 x1 x2 x4 s1 (1 : Int32) z)
theorem wk_pairs_b213 {X : gX} {E : mm_E} {r : Unit × mm_S} (C : gC X cX6_pairs 5 none RX6 5 119) (M : mm_C X E) {k54 : Int32 → Int32 → mm_S → Option (Unit × mm_S)} (hk54 : ∀ (x1 : Int32) (x2 : Int32) (z : mm_S), k54 x1 x2 z = some r → gW X (mm_G E) (.returned none, r.2) z 54 [(0, .ref E.2.2.1), (1, .int x1), (2, .int x2)] []) {k129 : Int32 → Int32 → Int32 → mm_S → Option (Unit × mm_S)} (hk129 : ∀ (x1 : Int32) (x2 : Int32) (x4 : Int32) (z : mm_S), k129 x1 x2 x4 z = some r → gW X (mm_G E) (.returned none, r.2) z 129 [(0, .ref E.2.2.1), (1, .int x1), (2, .int x2), (4, .int x4)] []) (x1 : Int32) (x2 : Int32) (x4 : Int32) (s1 : Int32) (s2 : Int32) (s3 : Int32) (z : mm_S) (h : mo_pairs_b213 k54 k129 x1 x2 x4 s1 s2 s3 z = some r) : gW X (mm_G E) (.returned none, r.2) z 213 [(0, .ref E.2.2.1), (1, .int x1), (2, .int x2), (4, .int x4)] [.int s3, .int s2, .int s1, .ref (E.2.2.2.1 70)] := by
  unfold mo_pairs_b213 at h
  refine g_icmp_gt C dX6_pairs_213 rfl h (fun h => ?_) (fun h => ?_)
  · refine g_iconst C dX6_pairs_220 gk_iconst_0 ?_
    exact wk_pairs_b221 C M hk54 hk129 x1 x2 x4 s1 (0 : Int32) z h
  · refine g_iconst C dX6_pairs_216 gk_iconst_1 ?_
    refine g_goto C dX6_pairs_217 rfl ?_
    exact wk_pairs_b221 C M hk54 hk129 x1 x2 x4 s1 (1 : Int32) z h
def mo_pairs_b129 (k54 : Int32 → Int32 → mm_S → Option (Unit × mm_S)) : Nat → Int32 → Int32 → Int32 → mm_S → Option (Unit × mm_S)
  | 0, _, _, _, _ => none
  | n + 1, x1, x2, x4, z => mm_gI 65 z (fun v1 => if v1 ≤ x4 then (k54 x1 (x2 + (1 : Int32)) z) else (mm_lI 67 x4 z (fun v2 => g_call (mo_said x1 v2 z) (fun v4 z3 => g_call (mo_hoursTo x1 v4 z3) (fun v6 z5 => mm_lI 67 x2 z5 (fun v7 => mm_lI 67 x4 z5 (fun v8 => if v8 ≤ v7 then (mm_lI 67 x2 z5 (fun v9 => mm_lI 67 x4 z5 (fun v10 => mo_pairs_b213 k54 (mo_pairs_b129 k54 n) x1 x2 x4 (((48 : Int32) * x2) + x4) v6 (v9 - v10) z5))) else (mm_lI 67 x4 z5 (fun v11 => mm_lI 67 x2 z5 (fun v12 => mo_pairs_b213 k54 (mo_pairs_b129 k54 n) x1 x2 x4 (((48 : Int32) * x2) + x4) v6 (v11 - v12) z5))))))))))
theorem wk_pairs_b129 {X : gX} {E : mm_E} {r : Unit × mm_S} (C : gC X cX6_pairs 5 none RX6 5 119) (M : mm_C X E) {k54 : Int32 → Int32 → mm_S → Option (Unit × mm_S)} (hk54 : ∀ (x1 : Int32) (x2 : Int32) (z : mm_S), k54 x1 x2 z = some r → gW X (mm_G E) (.returned none, r.2) z 54 [(0, .ref E.2.2.1), (1, .int x1), (2, .int x2)] []) : ∀ (n : Nat) (x1 : Int32) (x2 : Int32) (x4 : Int32) (z : mm_S), mo_pairs_b129 k54 n x1 x2 x4 z = some r → gW X (mm_G E) (.returned none, r.2) z 129 [(0, .ref E.2.2.1), (1, .int x1), (2, .int x2), (4, .int x4)] [] := by
  intro n
  induction n with
  | zero =>
    intro x1 x2 x4 z h
    have h : (none : Option (Unit × mm_S)) = some r := h
    cases h
  | succ n ih =>
    intro x1 x2 x4 z h
    rw [mo_pairs_b129] at h
    refine g_iload C dX6_pairs_129 3 rfl ?_
    refine g_aload_n C dX6_pairs_131 rfl 0 rfl ?_
    refine mm_getI C M 65 (Nat.le_of_ble_eq_true rfl) (Nat.le_of_ble_eq_true rfl) q2068 rfl dX6_pairs_132 h (fun v1 h => ?_)
    refine g_icmp_ge C dX6_pairs_135 rfl h (fun h => ?_) (fun h => ?_)
    · refine g_iinc [(2, .int (x2 + (1 : Int32))), (0, .ref E.2.2.1), (1, .int x1), (4, .int x4)] C dX6_pairs_228 (j := 2) rfl (gk_inc_1 _) (Nat.le_of_ble_eq_true rfl) rfl ?_
      refine g_goto C dX6_pairs_231 rfl ?_
      exact g_sub [(0, .ref E.2.2.1), (1, .int x1), (2, .int (x2 + (1 : Int32)))] [1, 2, 0] rfl (hk54 x1 (x2 + (1 : Int32)) z h)
    · refine g_aload_n C dX6_pairs_138 rfl 0 rfl ?_
      refine mm_getA C M 70 (Nat.le_of_ble_eq_true rfl) (Nat.le_of_ble_eq_true rfl) q2073 rfl dX6_pairs_139 ?_
      refine g_bipush C dX6_pairs_142 gk_bipush_48 ?_
      refine g_iload_n C dX6_pairs_144 rfl 2 rfl ?_
      refine g_imul C dX6_pairs_145 ?_
      refine g_iload C dX6_pairs_146 3 rfl ?_
      refine g_iadd C dX6_pairs_148 ?_
      refine g_aload_n C dX6_pairs_149 rfl 0 rfl ?_
      refine g_iload_n C dX6_pairs_150 rfl 1 rfl ?_
      refine g_aload_n C dX6_pairs_151 rfl 0 rfl ?_
      refine g_iload_n C dX6_pairs_152 rfl 1 rfl ?_
      refine g_aload_n C dX6_pairs_153 rfl 0 rfl ?_
      refine mm_getA C M 67 (Nat.le_of_ble_eq_true rfl) (Nat.le_of_ble_eq_true rfl) q2070 rfl dX6_pairs_154 ?_
      refine g_iload C dX6_pairs_157 3 rfl ?_
      refine mm_ldI C M 67 (Nat.le_of_ble_eq_true rfl) rfl dX6_pairs_159 h (fun v2 h => ?_)
      obtain ⟨v4, z3, e, h⟩ := g_callE h
      refine mm_callV C M 2 [.int x1, .int v2] (st := [.int x1, .ref E.2.2.1, .int (((48 : Int32) * x2) + x4), .ref (E.2.2.2.1 70)]) (v := some (.int v4)) (z' := z3) (fun l => ct_said l x1 v2 z v4 z3 e) (lw_V q2513 q2515 qs125 q178 q2516) rfl rfl rfl (Nat.le_of_ble_eq_true rfl) (Nat.le_of_ble_eq_true rfl) (Nat.le_of_ble_eq_true rfl) dX6_pairs_160 ?_
      refine gW_st (st' := [.int v4, .int x1, .ref E.2.2.1, .int (((48 : Int32) * x2) + x4), .ref (E.2.2.2.1 70)]) rfl ?_
      obtain ⟨v6, z5, e, h⟩ := g_callE h
      refine mm_callV C M 2 [.int x1, .int v4] (st := [.int (((48 : Int32) * x2) + x4), .ref (E.2.2.2.1 70)]) (v := some (.int v6)) (z' := z5) (fun l => ct_hoursTo l x1 v4 z3 v6 z5 e) (lw_V q2542 q2544 qs130 q178 q2545) rfl rfl rfl (Nat.le_of_ble_eq_true rfl) (Nat.le_of_ble_eq_true rfl) (Nat.le_of_ble_eq_true rfl) dX6_pairs_163 ?_
      refine gW_st (st' := [.int v6, .int (((48 : Int32) * x2) + x4), .ref (E.2.2.2.1 70)]) rfl ?_
      refine g_aload_n C dX6_pairs_166 rfl 0 rfl ?_
      refine mm_getA C M 67 (Nat.le_of_ble_eq_true rfl) (Nat.le_of_ble_eq_true rfl) q2070 rfl dX6_pairs_167 ?_
      refine g_iload_n C dX6_pairs_170 rfl 2 rfl ?_
      refine mm_ldI C M 67 (Nat.le_of_ble_eq_true rfl) rfl dX6_pairs_171 h (fun v7 h => ?_)
      refine g_aload_n C dX6_pairs_172 rfl 0 rfl ?_
      refine mm_getA C M 67 (Nat.le_of_ble_eq_true rfl) (Nat.le_of_ble_eq_true rfl) q2070 rfl dX6_pairs_173 ?_
      refine g_iload C dX6_pairs_176 3 rfl ?_
      refine mm_ldI C M 67 (Nat.le_of_ble_eq_true rfl) rfl dX6_pairs_178 h (fun v8 h => ?_)
      refine g_icmp_ge C dX6_pairs_179 rfl h (fun h => ?_) (fun h => ?_)
      · refine g_aload_n C dX6_pairs_199 rfl 0 rfl ?_
        refine mm_getA C M 67 (Nat.le_of_ble_eq_true rfl) (Nat.le_of_ble_eq_true rfl) q2070 rfl dX6_pairs_200 ?_
        refine g_iload_n C dX6_pairs_203 rfl 2 rfl ?_
        refine mm_ldI C M 67 (Nat.le_of_ble_eq_true rfl) rfl dX6_pairs_204 h (fun v9 h => ?_)
        refine g_aload_n C dX6_pairs_205 rfl 0 rfl ?_
        refine mm_getA C M 67 (Nat.le_of_ble_eq_true rfl) (Nat.le_of_ble_eq_true rfl) q2070 rfl dX6_pairs_206 ?_
        refine g_iload C dX6_pairs_209 3 rfl ?_
        refine mm_ldI C M 67 (Nat.le_of_ble_eq_true rfl) rfl dX6_pairs_211 h (fun v10 h => ?_)
        refine g_isub C dX6_pairs_212 ?_
        exact wk_pairs_b213 C M hk54 ih x1 x2 x4 (((48 : Int32) * x2) + x4) v6 (v9 - v10) z5 h
      · refine g_aload_n C dX6_pairs_182 rfl 0 rfl ?_
        refine mm_getA C M 67 (Nat.le_of_ble_eq_true rfl) (Nat.le_of_ble_eq_true rfl) q2070 rfl dX6_pairs_183 ?_
        refine g_iload C dX6_pairs_186 3 rfl ?_
        refine mm_ldI C M 67 (Nat.le_of_ble_eq_true rfl) rfl dX6_pairs_188 h (fun v11 h => ?_)
        refine g_aload_n C dX6_pairs_189 rfl 0 rfl ?_
        refine mm_getA C M 67 (Nat.le_of_ble_eq_true rfl) (Nat.le_of_ble_eq_true rfl) q2070 rfl dX6_pairs_190 ?_
        refine g_iload_n C dX6_pairs_193 rfl 2 rfl ?_
        refine mm_ldI C M 67 (Nat.le_of_ble_eq_true rfl) rfl dX6_pairs_194 h (fun v12 h => ?_)
        refine g_isub C dX6_pairs_195 ?_
        refine g_goto C dX6_pairs_196 rfl ?_
        exact wk_pairs_b213 C M hk54 ih x1 x2 x4 (((48 : Int32) * x2) + x4) v6 (v11 - v12) z5 h
def mo_pairs_b119 (k54 : Int32 → Int32 → mm_S → Option (Unit × mm_S)) (x1 : Int32) (x2 : Int32) (x3 : Int32) (s1 : Int32) (s2 : Int32) (z : mm_S) : Option (Unit × mm_S) := mm_sZ 68 s1 s2 z (fun z1 => g_call (mo_goes x1 x3 z1) (fun _ z2 => mo_pairs_b129 k54 g_fu x1 x2 (0 : Int32) z2))
theorem wk_pairs_b119 {X : gX} {E : mm_E} {r : Unit × mm_S} (C : gC X cX6_pairs 5 none RX6 5 119) (M : mm_C X E) {k54 : Int32 → Int32 → mm_S → Option (Unit × mm_S)} (hk54 : ∀ (x1 : Int32) (x2 : Int32) (z : mm_S), k54 x1 x2 z = some r → gW X (mm_G E) (.returned none, r.2) z 54 [(0, .ref E.2.2.1), (1, .int x1), (2, .int x2)] []) (x1 : Int32) (x2 : Int32) (x3 : Int32) (s1 : Int32) (s2 : Int32) (z : mm_S) (h : mo_pairs_b119 k54 x1 x2 x3 s1 s2 z = some r) : gW X (mm_G E) (.returned none, r.2) z 119 [(0, .ref E.2.2.1), (1, .int x1), (2, .int x2), (3, .int x3)] [.int s2, .int s1, .ref (E.2.2.2.1 68)] := by
  unfold mo_pairs_b119 at h
  refine mm_stZ C M 68 (Nat.le_of_ble_eq_true rfl) rfl dX6_pairs_119 h (fun z1 h => ?_)
  refine g_aload_n C dX6_pairs_120 rfl 0 rfl ?_
  refine g_iload_n C dX6_pairs_121 rfl 1 rfl ?_
  refine g_iload_n C dX6_pairs_122 rfl 3 rfl ?_
  obtain ⟨u3, z2, e, h⟩ := g_callE h
  refine mm_callV C M 2 [.int x1, .int x3] (st := []) (v := none) (z' := z2) (fun l => ct_goes l x1 x3 z1 u3 z2 e) (lw_V q2530 q2532 qs127 q178 q2533) rfl rfl rfl (Nat.le_of_ble_eq_true rfl) (Nat.le_of_ble_eq_true rfl) (Nat.le_of_ble_eq_true rfl) dX6_pairs_123 ?_
  refine gW_st (st' := []) rfl ?_
  refine g_iconst C dX6_pairs_126 gk_iconst_0 ?_
  refine g_istore [(4, .int (0 : Int32)), (0, .ref E.2.2.1), (1, .int x1), (2, .int x2), (3, .int x3)] C dX6_pairs_127 (Nat.le_of_ble_eq_true rfl) rfl ?_
  exact g_sub [(0, .ref E.2.2.1), (1, .int x1), (2, .int x2), (4, .int (0 : Int32))] [1, 2, 3, 0] rfl (wk_pairs_b129 C M hk54 g_fu x1 x2 (0 : Int32) z2 h)
def mo_pairs_b118 (k54 : Int32 → Int32 → mm_S → Option (Unit × mm_S)) (x1 : Int32) (x2 : Int32) (x3 : Int32) (s1 : Int32) (z : mm_S) : Option (Unit × mm_S) := mo_pairs_b119 k54 x1 x2 x3 s1 (0 : Int32) z
theorem wk_pairs_b118 {X : gX} {E : mm_E} {r : Unit × mm_S} (C : gC X cX6_pairs 5 none RX6 5 119) (M : mm_C X E) {k54 : Int32 → Int32 → mm_S → Option (Unit × mm_S)} (hk54 : ∀ (x1 : Int32) (x2 : Int32) (z : mm_S), k54 x1 x2 z = some r → gW X (mm_G E) (.returned none, r.2) z 54 [(0, .ref E.2.2.1), (1, .int x1), (2, .int x2)] []) (x1 : Int32) (x2 : Int32) (x3 : Int32) (s1 : Int32) (z : mm_S) (h : mo_pairs_b118 k54 x1 x2 x3 s1 z = some r) : gW X (mm_G E) (.returned none, r.2) z 118 [(0, .ref E.2.2.1), (1, .int x1), (2, .int x2), (3, .int x3)] [.int s1, .ref (E.2.2.2.1 68)] := by
  unfold mo_pairs_b118 at h
  refine g_iconst C dX6_pairs_118 gk_iconst_0 ?_
  exact wk_pairs_b119 C M hk54 x1 x2 x3 s1 (0 : Int32) z h
def mo_pairs_b54 : Nat → Int32 → Int32 → mm_S → Option (Unit × mm_S)
  | 0, _, _, _ => none
  | n + 1, x1, x2, z => mm_gI 65 z (fun v1 => if v1 ≤ x2 then (some ((), z)) else (mm_lI 67 x2 z (fun v2 => g_call (mo_said x1 v2 z) (fun v4 z3 => mm_lI 67 x2 z3 (fun v5 => g_call (mo_laden x1 v5 z3) (fun v7 z6 => g_call (mo_isSound x1 v4 v7 z6) (fun v9 z8 => if v9 = 0 then (mo_pairs_b118 (mo_pairs_b54 n) x1 x2 v4 x2 z8) else (mm_lI 67 x2 z8 (fun v10 => g_call (mo_withBooks x1 v4 v10 z8) (fun v12 z11 => if v12 = 0 then (mo_pairs_b118 (mo_pairs_b54 n) x1 x2 v4 x2 z11) else (mo_pairs_b119 (mo_pairs_b54 n) x1 x2 v4 x2 (1 : Int32) z11)))))))))))
theorem wk_pairs_b54 {X : gX} {E : mm_E} {r : Unit × mm_S} (C : gC X cX6_pairs 5 none RX6 5 119) (M : mm_C X E) : ∀ (n : Nat) (x1 : Int32) (x2 : Int32) (z : mm_S), mo_pairs_b54 n x1 x2 z = some r → gW X (mm_G E) (.returned none, r.2) z 54 [(0, .ref E.2.2.1), (1, .int x1), (2, .int x2)] [] := by
  intro n
  induction n with
  | zero =>
    intro x1 x2 z h
    have h : (none : Option (Unit × mm_S)) = some r := h
    cases h
  | succ n ih =>
    intro x1 x2 z h
    rw [mo_pairs_b54] at h
    refine g_iload_n C dX6_pairs_54 rfl 2 rfl ?_
    refine g_aload_n C dX6_pairs_55 rfl 0 rfl ?_
    refine mm_getI C M 65 (Nat.le_of_ble_eq_true rfl) (Nat.le_of_ble_eq_true rfl) q2068 rfl dX6_pairs_56 h (fun v1 h => ?_)
    refine g_icmp_ge C dX6_pairs_59 rfl h (fun h => ?_) (fun h => ?_)
    · exact g_vret C (fun _ => trivial) dX6_pairs_234 h
    · refine g_aload_n C dX6_pairs_62 rfl 0 rfl ?_
      refine g_iload_n C dX6_pairs_63 rfl 1 rfl ?_
      refine g_aload_n C dX6_pairs_64 rfl 0 rfl ?_
      refine mm_getA C M 67 (Nat.le_of_ble_eq_true rfl) (Nat.le_of_ble_eq_true rfl) q2070 rfl dX6_pairs_65 ?_
      refine g_iload_n C dX6_pairs_68 rfl 2 rfl ?_
      refine mm_ldI C M 67 (Nat.le_of_ble_eq_true rfl) rfl dX6_pairs_69 h (fun v2 h => ?_)
      obtain ⟨v4, z3, e, h⟩ := g_callE h
      refine mm_callV C M 2 [.int x1, .int v2] (st := []) (v := some (.int v4)) (z' := z3) (fun l => ct_said l x1 v2 z v4 z3 e) (lw_V q2513 q2515 qs125 q178 q2516) rfl rfl rfl (Nat.le_of_ble_eq_true rfl) (Nat.le_of_ble_eq_true rfl) (Nat.le_of_ble_eq_true rfl) dX6_pairs_70 ?_
      refine gW_st (st' := [.int v4]) rfl ?_
      refine g_istore_n [(3, .int v4), (0, .ref E.2.2.1), (1, .int x1), (2, .int x2)] C dX6_pairs_73 rfl (Nat.le_of_ble_eq_true rfl) rfl ?_
      refine g_aload_n C dX6_pairs_74 rfl 1 rfl ?_
      refine mm_getA C M 68 (Nat.le_of_ble_eq_true rfl) (Nat.le_of_ble_eq_true rfl) q2071 rfl dX6_pairs_75 ?_
      refine g_iload_n C dX6_pairs_78 rfl 3 rfl ?_
      refine g_aload_n C dX6_pairs_79 rfl 1 rfl ?_
      refine g_iload_n C dX6_pairs_80 rfl 2 rfl ?_
      refine g_iload_n C dX6_pairs_81 rfl 0 rfl ?_
      refine g_aload_n C dX6_pairs_82 rfl 1 rfl ?_
      refine g_iload_n C dX6_pairs_83 rfl 2 rfl ?_
      refine g_aload_n C dX6_pairs_84 rfl 1 rfl ?_
      refine mm_getA C M 67 (Nat.le_of_ble_eq_true rfl) (Nat.le_of_ble_eq_true rfl) q2070 rfl dX6_pairs_85 ?_
      refine g_iload_n C dX6_pairs_88 rfl 3 rfl ?_
      refine mm_ldI C M 67 (Nat.le_of_ble_eq_true rfl) rfl dX6_pairs_89 h (fun v5 h => ?_)
      obtain ⟨v7, z6, e, h⟩ := g_callE h
      refine mm_callV C M 2 [.int x1, .int v5] (st := [.int v4, .int x1, .ref E.2.2.1, .int x2, .ref (E.2.2.2.1 68)]) (v := some (.int v7)) (z' := z6) (fun l => ct_laden l x1 v5 z3 v7 z6 e) (lw_V q2581 q2583 qs138 q178 q2584) rfl rfl rfl (Nat.le_of_ble_eq_true rfl) (Nat.le_of_ble_eq_true rfl) (Nat.le_of_ble_eq_true rfl) dX6_pairs_90 ?_
      refine gW_st (st' := [.int v7, .int v4, .int x1, .ref E.2.2.1, .int x2, .ref (E.2.2.2.1 68)]) rfl ?_
      obtain ⟨v9, z8, e, h⟩ := g_callE h
      refine mm_callV C M 3 [.int x1, .int v4, .int v7] (st := [.int x2, .ref (E.2.2.2.1 68)]) (v := some (.int v9)) (z' := z8) (fun l => ct_isSound l x1 v4 v7 z6 v9 z8 e) (lw_V q2585 q2587 qs139 q178 q2588) rfl rfl rfl (Nat.le_of_ble_eq_true rfl) (Nat.le_of_ble_eq_true rfl) (Nat.le_of_ble_eq_true rfl) dX6_pairs_93 ?_
      refine gW_st (st' := [.int v9, .int x2, .ref (E.2.2.2.1 68)]) rfl ?_
      refine g_if_eq C dX6_pairs_96 rfl h (fun h => ?_) (fun h => ?_)
      · exact g_sub [(0, .ref E.2.2.1), (1, .int x1), (2, .int x2), (3, .int v4)] [1, 2, 3, 0] rfl (wk_pairs_b118 C M ih x1 x2 v4 x2 z8 h)
      · refine g_aload_n C dX6_pairs_99 rfl 1 rfl ?_
        refine g_iload_n C dX6_pairs_100 rfl 2 rfl ?_
        refine g_iload_n C dX6_pairs_101 rfl 0 rfl ?_
        refine g_aload_n C dX6_pairs_102 rfl 1 rfl ?_
        refine mm_getA C M 67 (Nat.le_of_ble_eq_true rfl) (Nat.le_of_ble_eq_true rfl) q2070 rfl dX6_pairs_103 ?_
        refine g_iload_n C dX6_pairs_106 rfl 3 rfl ?_
        refine mm_ldI C M 67 (Nat.le_of_ble_eq_true rfl) rfl dX6_pairs_107 h (fun v10 h => ?_)
        obtain ⟨v12, z11, e, h⟩ := g_callE h
        refine mm_callV C M 3 [.int x1, .int v4, .int v10] (st := [.int x2, .ref (E.2.2.2.1 68)]) (v := some (.int v12)) (z' := z11) (fun l => ct_withBooks l x1 v4 v10 z8 v12 z11 e) (lw_V q2589 q2591 qs140 q178 q2592) rfl rfl rfl (Nat.le_of_ble_eq_true rfl) (Nat.le_of_ble_eq_true rfl) (Nat.le_of_ble_eq_true rfl) dX6_pairs_108 ?_
        refine gW_st (st' := [.int v12, .int x2, .ref (E.2.2.2.1 68)]) rfl ?_
        refine g_if_eq C dX6_pairs_111 rfl h (fun h => ?_) (fun h => ?_)
        · exact g_sub [(0, .ref E.2.2.1), (1, .int x1), (2, .int x2), (3, .int v4)] [1, 2, 3, 0] rfl (wk_pairs_b118 C M ih x1 x2 v4 x2 z11 h)
        · refine g_iconst C dX6_pairs_114 gk_iconst_1 ?_
          refine g_goto C dX6_pairs_115 rfl ?_
          exact g_sub [(0, .ref E.2.2.1), (1, .int x1), (2, .int x2), (3, .int v4)] [1, 2, 3, 0] rfl (wk_pairs_b119 C M ih x1 x2 v4 x2 (1 : Int32) z11 h)
def mo_pairs_b46 (k7 : Int32 → Int32 → mm_S → Option (Unit × mm_S)) (x1 : Int32) (x2 : Int32) (z : mm_S) : Option (Unit × mm_S) := k7 x1 (x2 + (1 : Int32)) z
theorem wk_pairs_b46 {X : gX} {E : mm_E} {r : Unit × mm_S} (C : gC X cX6_pairs 5 none RX6 5 119) (M : mm_C X E) {k7 : Int32 → Int32 → mm_S → Option (Unit × mm_S)} (hk7 : ∀ (x1 : Int32) (x2 : Int32) (z : mm_S), k7 x1 x2 z = some r → gW X (mm_G E) (.returned none, r.2) z 7 [(0, .ref E.2.2.1), (1, .int x1), (2, .int x2)] []) (x1 : Int32) (x2 : Int32) (z : mm_S) (h : mo_pairs_b46 k7 x1 x2 z = some r) : gW X (mm_G E) (.returned none, r.2) z 46 [(0, .ref E.2.2.1), (1, .int x1), (2, .int x2)] [] := by
  unfold mo_pairs_b46 at h
  refine g_iinc [(2, .int (x2 + (1 : Int32))), (0, .ref E.2.2.1), (1, .int x1)] C dX6_pairs_46 (j := 2) rfl (gk_inc_1 _) (Nat.le_of_ble_eq_true rfl) rfl ?_
  refine g_goto C dX6_pairs_49 rfl ?_
  exact g_sub [(0, .ref E.2.2.1), (1, .int x1), (2, .int (x2 + (1 : Int32)))] [1, 2, 0] rfl (hk7 x1 (x2 + (1 : Int32)) z h)
def mo_pairs_b7 : Nat → Int32 → Int32 → mm_S → Option (Unit × mm_S)
  | 0, _, _, _ => none
  | n + 1, x1, x2, z => if (48 : Int32) ≤ x2 then (mo_pairs_b54 g_fu x1 (0 : Int32) z) else (g_call (mo_said x1 x2 z) (fun v2 z1 => if v2 = (-1 : Int32) then (mo_pairs_b46 (mo_pairs_b7 n) x1 x2 z1) else (mm_gI 65 z1 (fun v3 => mm_sI 67 v3 x2 z1 (fun z4 => mm_gI 65 z4 (fun v5 => mm_pI 65 (v5 + (1 : Int32)) z4 (fun z6 => mo_pairs_b46 (mo_pairs_b7 n) x1 x2 z6)))))))
theorem wk_pairs_b7 {X : gX} {E : mm_E} {r : Unit × mm_S} (C : gC X cX6_pairs 5 none RX6 5 119) (M : mm_C X E) : ∀ (n : Nat) (x1 : Int32) (x2 : Int32) (z : mm_S), mo_pairs_b7 n x1 x2 z = some r → gW X (mm_G E) (.returned none, r.2) z 7 [(0, .ref E.2.2.1), (1, .int x1), (2, .int x2)] [] := by
  intro n
  induction n with
  | zero =>
    intro x1 x2 z h
    have h : (none : Option (Unit × mm_S)) = some r := h
    cases h
  | succ n ih =>
    intro x1 x2 z h
    rw [mo_pairs_b7] at h
    refine g_iload_n C dX6_pairs_7 rfl 2 rfl ?_
    refine g_bipush C dX6_pairs_8 gk_bipush_48 ?_
    refine g_icmp_ge C dX6_pairs_10 rfl h (fun h => ?_) (fun h => ?_)
    · refine g_iconst C dX6_pairs_52 gk_iconst_0 ?_
      refine g_istore_n [(2, .int (0 : Int32)), (0, .ref E.2.2.1), (1, .int x1)] C dX6_pairs_53 rfl (Nat.le_of_ble_eq_true rfl) rfl ?_
      exact g_sub [(0, .ref E.2.2.1), (1, .int x1), (2, .int (0 : Int32))] [1, 2, 0] rfl (wk_pairs_b54 C M g_fu x1 (0 : Int32) z h)
    · refine g_aload_n C dX6_pairs_13 rfl 0 rfl ?_
      refine g_iload_n C dX6_pairs_14 rfl 1 rfl ?_
      refine g_iload_n C dX6_pairs_15 rfl 2 rfl ?_
      obtain ⟨v2, z1, e, h⟩ := g_callE h
      refine mm_callV C M 2 [.int x1, .int x2] (st := []) (v := some (.int v2)) (z' := z1) (fun l => ct_said l x1 x2 z v2 z1 e) (lw_V q2513 q2515 qs125 q178 q2516) rfl rfl rfl (Nat.le_of_ble_eq_true rfl) (Nat.le_of_ble_eq_true rfl) (Nat.le_of_ble_eq_true rfl) dX6_pairs_16 ?_
      refine gW_st (st' := [.int v2]) rfl ?_
      refine g_iconst C dX6_pairs_19 gk_iconst_m1 ?_
      refine g_icmp_ne C dX6_pairs_20 rfl h (fun h => ?_) (fun h => ?_)
      · refine g_aload_n C dX6_pairs_26 rfl 0 rfl ?_
        refine mm_getA C M 67 (Nat.le_of_ble_eq_true rfl) (Nat.le_of_ble_eq_true rfl) q2070 rfl dX6_pairs_27 ?_
        refine g_aload_n C dX6_pairs_30 rfl 0 rfl ?_
        refine mm_getI C M 65 (Nat.le_of_ble_eq_true rfl) (Nat.le_of_ble_eq_true rfl) q2068 rfl dX6_pairs_31 h (fun v3 h => ?_)
        refine g_iload_n C dX6_pairs_34 rfl 2 rfl ?_
        refine mm_stI C M 67 (Nat.le_of_ble_eq_true rfl) rfl dX6_pairs_35 h (fun z4 h => ?_)
        refine g_aload_n C dX6_pairs_36 rfl 0 rfl ?_
        refine g_dup C dX6_pairs_37 rfl ?_
        refine mm_getI C M 65 (Nat.le_of_ble_eq_true rfl) (Nat.le_of_ble_eq_true rfl) q2068 rfl dX6_pairs_38 h (fun v5 h => ?_)
        refine g_iconst C dX6_pairs_41 gk_iconst_1 ?_
        refine g_iadd C dX6_pairs_42 ?_
        refine mm_putI C M 65 (Nat.le_of_ble_eq_true rfl) (Nat.le_of_ble_eq_true rfl) q2068 rfl rfl rfl dX6_pairs_43 h (fun z6 h => ?_)
        exact wk_pairs_b46 C M ih x1 x2 z6 h
      · refine g_goto C dX6_pairs_23 rfl ?_
        exact wk_pairs_b46 C M ih x1 x2 z1 h
def mo_pairs (x1 : Int32) (z : mm_S) : Option (Unit × mm_S) := mm_pI 65 (0 : Int32) z (fun z1 => mo_pairs_b7 g_fu x1 (0 : Int32) z1)
theorem wk_pairs {X : gX} {E : mm_E} {r : Unit × mm_S} (C : gC X cX6_pairs 5 none RX6 5 119) (M : mm_C X E) (x1 : Int32) (z : mm_S) (h : mo_pairs x1 z = some r) : gW X (mm_G E) (.returned none, r.2) z 0 [(0, .ref E.2.2.1), (1, .int x1)] [] := by
  unfold mo_pairs at h
  refine g_aload_n C dX6_pairs_0 rfl 0 rfl ?_
  refine g_iconst C dX6_pairs_1 gk_iconst_0 ?_
  refine mm_putI C M 65 (Nat.le_of_ble_eq_true rfl) (Nat.le_of_ble_eq_true rfl) q2068 rfl rfl rfl dX6_pairs_2 h (fun z1 h => ?_)
  refine g_iconst C dX6_pairs_5 gk_iconst_0 ?_
  refine g_istore_n [(2, .int (0 : Int32)), (0, .ref E.2.2.1), (1, .int x1)] C dX6_pairs_6 rfl (Nat.le_of_ble_eq_true rfl) rfl ?_
  exact g_sub [(0, .ref E.2.2.1), (1, .int x1), (2, .int (0 : Int32))] [1, 2, 0] rfl (wk_pairs_b7 C M g_fu x1 (0 : Int32) z1 h)
theorem ct_pairs (l : Launch) (x1 : Int32) (z : mm_S) (r : Unit) (z' : mm_S) (h : mo_pairs x1 z = some (r, z')) : mm_MetV l yX6_pairs cX6_pairs 5 none 5 119 [.int x1] z (.returned none, z') := by
  intro E hD
  exact mm_enter E hD rfl ⟨_, rfl⟩ (.ref E.2.2.1 :: [.int x1]) (Nat.le_of_ble_eq_true rfl) (fun X C M => wk_pairs C M x1 z h)
