set_option maxRecDepth 100000
def mo_explains_b121 (k23 : Int32 → mm_S → Option (Unit × mm_S)) (k43 : Int32 → Int32 → mm_S → Option (Unit × mm_S)) (x1 : Int32) (x2 : Int32) (z : mm_S) : Option (Unit × mm_S) := k43 x1 (x2 + (1 : Int32)) z
theorem wk_explains_b121 {X : gX} {E : mm_E} {r : Unit × mm_S} (C : gC X cX6_explains 4 none RX6 8 190) (M : mm_C X E) {k23 : Int32 → mm_S → Option (Unit × mm_S)} (hk23 : ∀ (x1 : Int32) (z : mm_S), k23 x1 z = some r → gW X (mm_G E) (.returned none, r.2) z 23 [(0, .ref E.2.2.1), (1, .int x1)] []) {k43 : Int32 → Int32 → mm_S → Option (Unit × mm_S)} (hk43 : ∀ (x1 : Int32) (x2 : Int32) (z : mm_S), k43 x1 x2 z = some r → gW X (mm_G E) (.returned none, r.2) z 43 [(0, .ref E.2.2.1), (1, .int x1), (2, .int x2)] []) (x1 : Int32) (x2 : Int32) (z : mm_S) (h : mo_explains_b121 k23 k43 x1 x2 z = some r) : gW X (mm_G E) (.returned none, r.2) z 121 [(0, .ref E.2.2.1), (1, .int x1), (2, .int x2)] [] := by
  unfold mo_explains_b121 at h
  refine g_iinc [(2, .int (x2 + (1 : Int32))), (0, .ref E.2.2.1), (1, .int x1)] C dX6_explains_121 (j := 2) rfl (gk_inc_1 _) (Nat.le_of_ble_eq_true rfl) rfl ?_
  refine g_goto C dX6_explains_124 rfl ?_
  exact g_sub [(0, .ref E.2.2.1), (1, .int x1), (2, .int (x2 + (1 : Int32)))] [1, 2, 0] rfl (hk43 x1 (x2 + (1 : Int32)) z h)
def mo_explains_b43 (k23 : Int32 → mm_S → Option (Unit × mm_S)) : Nat → Int32 → Int32 → mm_S → Option (Unit × mm_S)
  | 0, _, _, _ => none
  | n + 1, x1, x2, z => mm_gI 12 z (fun v1 => mm_lI 33 v1 z (fun v2 => if v2 ≤ x2 then (k23 (x1 + (1 : Int32)) z) else (mm_gI 12 z (fun v3 => mm_lI 34 (((40 : Int32) * v3) + x2) z (fun v4 => mm_gI 12 z (fun v5 => mm_lI 21 (((8 : Int32) * v5) + x1) z (fun v6 => if v4 = v6 then (mm_lI 35 (((40 : Int32) * v3) + x2) z (fun v7 => mm_lI 36 (((40 : Int32) * v3) + x2) z (fun v8 => g_call (mo_mayBe x1 v7 v8 z) (fun v10 z9 => if v10 = 0 then (mo_explains_b121 k23 (mo_explains_b43 k23 n) x1 x2 z9) else (mm_lI 78 x2 z9 (fun v11 => mm_sI 78 x2 (v11 ||| ((1 : Int32) <<< (x1 &&& 31))) z9 (fun z12 => mo_explains_b121 k23 (mo_explains_b43 k23 n) x1 x2 z12))))))) else (mo_explains_b121 k23 (mo_explains_b43 k23 n) x1 x2 z))))))))
theorem wk_explains_b43 {X : gX} {E : mm_E} {r : Unit × mm_S} (C : gC X cX6_explains 4 none RX6 8 190) (M : mm_C X E) {k23 : Int32 → mm_S → Option (Unit × mm_S)} (hk23 : ∀ (x1 : Int32) (z : mm_S), k23 x1 z = some r → gW X (mm_G E) (.returned none, r.2) z 23 [(0, .ref E.2.2.1), (1, .int x1)] []) : ∀ (n : Nat) (x1 : Int32) (x2 : Int32) (z : mm_S), mo_explains_b43 k23 n x1 x2 z = some r → gW X (mm_G E) (.returned none, r.2) z 43 [(0, .ref E.2.2.1), (1, .int x1), (2, .int x2)] [] := by
  intro n
  induction n with
  | zero =>
    intro x1 x2 z h
    have h : (none : Option (Unit × mm_S)) = some r := h
    cases h
  | succ n ih =>
    intro x1 x2 z h
    rw [mo_explains_b43] at h
    refine g_iload_n C dX6_explains_43 rfl 2 rfl ?_
    refine g_aload_n C dX6_explains_44 rfl 0 rfl ?_
    refine mm_getA C M 33 (Nat.le_of_ble_eq_true rfl) (Nat.le_of_ble_eq_true rfl) q2036 rfl dX6_explains_45 ?_
    refine g_aload_n C dX6_explains_48 rfl 0 rfl ?_
    refine mm_getI C M 12 (Nat.le_of_ble_eq_true rfl) (Nat.le_of_ble_eq_true rfl) q2015 rfl dX6_explains_49 h (fun v1 h => ?_)
    refine mm_ldI C M 33 (Nat.le_of_ble_eq_true rfl) rfl dX6_explains_52 h (fun v2 h => ?_)
    refine g_icmp_ge C dX6_explains_53 rfl h (fun h => ?_) (fun h => ?_)
    · refine g_iinc [(1, .int (x1 + (1 : Int32))), (0, .ref E.2.2.1), (2, .int x2)] C dX6_explains_127 (j := 1) rfl (gk_inc_1 _) (Nat.le_of_ble_eq_true rfl) rfl ?_
      refine g_goto C dX6_explains_130 rfl ?_
      exact g_sub [(0, .ref E.2.2.1), (1, .int (x1 + (1 : Int32)))] [1, 0] rfl (hk23 (x1 + (1 : Int32)) z h)
    · refine g_bipush C dX6_explains_56 gk_bipush_40 ?_
      refine g_aload_n C dX6_explains_58 rfl 0 rfl ?_
      refine mm_getI C M 12 (Nat.le_of_ble_eq_true rfl) (Nat.le_of_ble_eq_true rfl) q2015 rfl dX6_explains_59 h (fun v3 h => ?_)
      refine g_imul C dX6_explains_62 ?_
      refine g_iload_n C dX6_explains_63 rfl 2 rfl ?_
      refine g_iadd C dX6_explains_64 ?_
      refine g_istore_n [(3, .int (((40 : Int32) * v3) + x2)), (0, .ref E.2.2.1), (1, .int x1), (2, .int x2)] C dX6_explains_65 rfl (Nat.le_of_ble_eq_true rfl) rfl ?_
      refine g_aload_n C dX6_explains_66 rfl 1 rfl ?_
      refine mm_getA C M 34 (Nat.le_of_ble_eq_true rfl) (Nat.le_of_ble_eq_true rfl) q2037 rfl dX6_explains_67 ?_
      refine g_iload_n C dX6_explains_70 rfl 0 rfl ?_
      refine mm_ldI C M 34 (Nat.le_of_ble_eq_true rfl) rfl dX6_explains_71 h (fun v4 h => ?_)
      refine g_aload_n C dX6_explains_72 rfl 1 rfl ?_
      refine mm_getA C M 21 (Nat.le_of_ble_eq_true rfl) (Nat.le_of_ble_eq_true rfl) q2024 rfl dX6_explains_73 ?_
      refine g_bipush C dX6_explains_76 gk_bipush_8 ?_
      refine g_aload_n C dX6_explains_78 rfl 1 rfl ?_
      refine mm_getI C M 12 (Nat.le_of_ble_eq_true rfl) (Nat.le_of_ble_eq_true rfl) q2015 rfl dX6_explains_79 h (fun v5 h => ?_)
      refine g_imul C dX6_explains_82 ?_
      refine g_iload_n C dX6_explains_83 rfl 2 rfl ?_
      refine g_iadd C dX6_explains_84 ?_
      refine mm_ldI C M 21 (Nat.le_of_ble_eq_true rfl) rfl dX6_explains_85 h (fun v6 h => ?_)
      refine g_icmp_ne C dX6_explains_86 rfl h (fun h => ?_) (fun h => ?_)
      · exact g_sub [(0, .ref E.2.2.1), (1, .int x1), (2, .int x2)] [1, 2, 3] rfl (wk_explains_b121 C M hk23 ih x1 x2 z h)
      · refine g_aload_n C dX6_explains_89 rfl 1 rfl ?_
        refine g_iload_n C dX6_explains_90 rfl 2 rfl ?_
        refine g_aload_n C dX6_explains_91 rfl 1 rfl ?_
        refine mm_getA C M 35 (Nat.le_of_ble_eq_true rfl) (Nat.le_of_ble_eq_true rfl) q2038 rfl dX6_explains_92 ?_
        refine g_iload_n C dX6_explains_95 rfl 0 rfl ?_
        refine mm_ldI C M 35 (Nat.le_of_ble_eq_true rfl) rfl dX6_explains_96 h (fun v7 h => ?_)
        refine g_aload_n C dX6_explains_97 rfl 1 rfl ?_
        refine mm_getA C M 36 (Nat.le_of_ble_eq_true rfl) (Nat.le_of_ble_eq_true rfl) q2039 rfl dX6_explains_98 ?_
        refine g_iload_n C dX6_explains_101 rfl 0 rfl ?_
        refine mm_ldI C M 36 (Nat.le_of_ble_eq_true rfl) rfl dX6_explains_102 h (fun v8 h => ?_)
        obtain ⟨v10, z9, e, h⟩ := g_callE h
        refine mm_callV C M 3 [.int x1, .int v7, .int v8] (st := []) (v := some (.int v10)) (z' := z9) (fun l => ct_mayBe l x1 v7 v8 z v10 z9 e) (lw_V q2617 q2619 qs144 q178 q2620) rfl rfl rfl (Nat.le_of_ble_eq_true rfl) (Nat.le_of_ble_eq_true rfl) (Nat.le_of_ble_eq_true rfl) dX6_explains_103 ?_
        refine gW_st (st' := [.int v10]) rfl ?_
        refine g_if_eq C dX6_explains_106 rfl h (fun h => ?_) (fun h => ?_)
        · exact g_sub [(0, .ref E.2.2.1), (1, .int x1), (2, .int x2)] [1, 2, 3] rfl (wk_explains_b121 C M hk23 ih x1 x2 z9 h)
        · refine g_aload_n C dX6_explains_109 rfl 1 rfl ?_
          refine mm_getA C M 78 (Nat.le_of_ble_eq_true rfl) (Nat.le_of_ble_eq_true rfl) q2081 rfl dX6_explains_110 ?_
          refine g_iload_n C dX6_explains_113 rfl 3 rfl ?_
          refine g_dup2_11 C dX6_explains_114 rfl rfl ?_
          refine mm_ldI C M 78 (Nat.le_of_ble_eq_true rfl) rfl dX6_explains_115 h (fun v11 h => ?_)
          refine g_iconst C dX6_explains_116 gk_iconst_1 ?_
          refine g_iload_n C dX6_explains_117 rfl 2 rfl ?_
          refine g_ishl C dX6_explains_118 ?_
          refine g_ior C dX6_explains_119 ?_
          refine mm_stI C M 78 (Nat.le_of_ble_eq_true rfl) rfl dX6_explains_120 h (fun z12 h => ?_)
          exact g_sub [(0, .ref E.2.2.1), (1, .int x1), (2, .int x2)] [1, 2, 3] rfl (wk_explains_b121 C M hk23 ih x1 x2 z12 h)
def mo_explains_b23 : Nat → Int32 → mm_S → Option (Unit × mm_S)
  | 0, _, _ => none
  | n + 1, x1, z => mm_gI 12 z (fun v1 => mm_lI 19 v1 z (fun v2 => if v2 ≤ x1 then (some ((), z)) else (g_call (mo_lays_2 x1 z) (fun _ z3 => mo_explains_b43 (mo_explains_b23 n) g_fu x1 (0 : Int32) z3))))
theorem wk_explains_b23 {X : gX} {E : mm_E} {r : Unit × mm_S} (C : gC X cX6_explains 4 none RX6 8 190) (M : mm_C X E) : ∀ (n : Nat) (x1 : Int32) (z : mm_S), mo_explains_b23 n x1 z = some r → gW X (mm_G E) (.returned none, r.2) z 23 [(0, .ref E.2.2.1), (1, .int x1)] [] := by
  intro n
  induction n with
  | zero =>
    intro x1 z h
    have h : (none : Option (Unit × mm_S)) = some r := h
    cases h
  | succ n ih =>
    intro x1 z h
    rw [mo_explains_b23] at h
    refine g_iload_n C dX6_explains_23 rfl 1 rfl ?_
    refine g_aload_n C dX6_explains_24 rfl 0 rfl ?_
    refine mm_getA C M 19 (Nat.le_of_ble_eq_true rfl) (Nat.le_of_ble_eq_true rfl) q2022 rfl dX6_explains_25 ?_
    refine g_aload_n C dX6_explains_28 rfl 0 rfl ?_
    refine mm_getI C M 12 (Nat.le_of_ble_eq_true rfl) (Nat.le_of_ble_eq_true rfl) q2015 rfl dX6_explains_29 h (fun v1 h => ?_)
    refine mm_ldI C M 19 (Nat.le_of_ble_eq_true rfl) rfl dX6_explains_32 h (fun v2 h => ?_)
    refine g_icmp_ge C dX6_explains_33 rfl h (fun h => ?_) (fun h => ?_)
    · exact g_vret C (fun _ => trivial) dX6_explains_133 h
    · refine g_aload_n C dX6_explains_36 rfl 0 rfl ?_
      refine g_iload_n C dX6_explains_37 rfl 1 rfl ?_
      obtain ⟨u4, z3, e, h⟩ := g_callE h
      refine mm_callV C M 1 [.int x1] (st := []) (v := none) (z' := z3) (fun l => ct_lays_2 l x1 z u4 z3 e) (lw_V q2609 q2611 qs142 q178 q2612) rfl rfl rfl (Nat.le_of_ble_eq_true rfl) (Nat.le_of_ble_eq_true rfl) (Nat.le_of_ble_eq_true rfl) dX6_explains_38 ?_
      refine gW_st (st' := []) rfl ?_
      refine g_iconst C dX6_explains_41 gk_iconst_0 ?_
      refine g_istore_n [(2, .int (0 : Int32)), (0, .ref E.2.2.1), (1, .int x1)] C dX6_explains_42 rfl (Nat.le_of_ble_eq_true rfl) rfl ?_
      exact g_sub [(0, .ref E.2.2.1), (1, .int x1), (2, .int (0 : Int32))] [1, 2, 0] rfl (wk_explains_b43 C M ih g_fu x1 (0 : Int32) z3 h)
def mo_explains_b2 : Nat → Int32 → mm_S → Option (Unit × mm_S)
  | 0, _, _ => none
  | n + 1, x1, z => if (40 : Int32) ≤ x1 then (mo_explains_b23 g_fu (0 : Int32) z) else (mm_sI 78 x1 (0 : Int32) z (fun z1 => (mo_explains_b2 n) (x1 + (1 : Int32)) z1))
theorem wk_explains_b2 {X : gX} {E : mm_E} {r : Unit × mm_S} (C : gC X cX6_explains 4 none RX6 8 190) (M : mm_C X E) : ∀ (n : Nat) (x1 : Int32) (z : mm_S), mo_explains_b2 n x1 z = some r → gW X (mm_G E) (.returned none, r.2) z 2 [(0, .ref E.2.2.1), (1, .int x1)] [] := by
  intro n
  induction n with
  | zero =>
    intro x1 z h
    have h : (none : Option (Unit × mm_S)) = some r := h
    cases h
  | succ n ih =>
    intro x1 z h
    rw [mo_explains_b2] at h
    refine g_iload_n C dX6_explains_2 rfl 1 rfl ?_
    refine g_bipush C dX6_explains_3 gk_bipush_40 ?_
    refine g_icmp_ge C dX6_explains_5 rfl h (fun h => ?_) (fun h => ?_)
    · refine g_iconst C dX6_explains_21 gk_iconst_0 ?_
      refine g_istore_n [(1, .int (0 : Int32)), (0, .ref E.2.2.1)] C dX6_explains_22 rfl (Nat.le_of_ble_eq_true rfl) rfl ?_
      exact g_sub [(0, .ref E.2.2.1), (1, .int (0 : Int32))] [1, 0] rfl (wk_explains_b23 C M g_fu (0 : Int32) z h)
    · refine g_aload_n C dX6_explains_8 rfl 0 rfl ?_
      refine mm_getA C M 78 (Nat.le_of_ble_eq_true rfl) (Nat.le_of_ble_eq_true rfl) q2081 rfl dX6_explains_9 ?_
      refine g_iload_n C dX6_explains_12 rfl 1 rfl ?_
      refine g_iconst C dX6_explains_13 gk_iconst_0 ?_
      refine mm_stI C M 78 (Nat.le_of_ble_eq_true rfl) rfl dX6_explains_14 h (fun z1 h => ?_)
      refine g_iinc [(1, .int (x1 + (1 : Int32))), (0, .ref E.2.2.1)] C dX6_explains_15 (j := 1) rfl (gk_inc_1 _) (Nat.le_of_ble_eq_true rfl) rfl ?_
      refine g_goto C dX6_explains_18 rfl ?_
      exact g_sub [(0, .ref E.2.2.1), (1, .int (x1 + (1 : Int32)))] [1, 0] rfl (ih (x1 + (1 : Int32)) z1 h)
def mo_explains (z : mm_S) : Option (Unit × mm_S) := mo_explains_b2 g_fu (0 : Int32) z
theorem wk_explains {X : gX} {E : mm_E} {r : Unit × mm_S} (C : gC X cX6_explains 4 none RX6 8 190) (M : mm_C X E) (z : mm_S) (h : mo_explains z = some r) : gW X (mm_G E) (.returned none, r.2) z 0 [(0, .ref E.2.2.1)] [] := by
  unfold mo_explains at h
  refine g_iconst C dX6_explains_0 gk_iconst_0 ?_
  refine g_istore_n [(1, .int (0 : Int32)), (0, .ref E.2.2.1)] C dX6_explains_1 rfl (Nat.le_of_ble_eq_true rfl) rfl ?_
  exact g_sub [(0, .ref E.2.2.1), (1, .int (0 : Int32))] [1, 0] rfl (wk_explains_b2 C M g_fu (0 : Int32) z h)
theorem ct_explains (l : Launch) (z : mm_S) (r : Unit) (z' : mm_S) (h : mo_explains z = some (r, z')) : mm_MetV l yX6_explains cX6_explains 4 none 8 190 [] z (.returned none, z') := by
  intro E hD
  exact mm_enter E hD rfl ⟨_, rfl⟩ (.ref E.2.2.1 :: []) (Nat.le_of_ble_eq_true rfl) (fun X C M => wk_explains C M z h)
def mo_sighting (x1 : Int32) (x2 : Int32) (z : mm_S) : Option (Int32 × mm_S) := mm_gI 12 z (fun v1 => mm_lI 33 v1 z (fun v2 => g_call (mo_is x1 (0 : Int32) (v2 - (1 : Int32)) z) (fun v4 z3 => if v4 = 0 then (some ((-1 : Int32), z3)) else (g_call (mo_is x2 (0 : Int32) (3 : Int32) z3) (fun v6 z5 => if v6 = 0 then (some ((-1 : Int32), z5)) else (mm_gI 12 z5 (fun v7 => if (3 : Int32) ≤ x2 then (g_call (mo_explains z5) (fun _ z8 => mm_lI 78 x1 z8 (fun v10 => some (v10, z8)))) else (if x2 = 0 then (mm_lI 34 (((40 : Int32) * v7) + x1) z5 (fun v13 => some (v13, z5))) else (if x2 = (1 : Int32) then (mm_lI 35 (((40 : Int32) * v7) + x1) z5 (fun v12 => some (v12, z5))) else (mm_lI 36 (((40 : Int32) * v7) + x1) z5 (fun v11 => some (v11, z5))))))))))))
theorem wk_sighting {X : gX} {E : mm_E} {r : Int32 × mm_S} (C : gC X cX6_sighting 4 (some .int) RX6 9 213) (M : mm_C X E) (x1 : Int32) (x2 : Int32) (z : mm_S) (h : mo_sighting x1 x2 z = some r) : gW X (mm_G E) (.returned (some (.int r.1)), r.2) z 0 [(0, .ref E.2.2.1), (1, .int x1), (2, .int x2)] [] := by
  unfold mo_sighting at h
  refine g_iload_n C dX6_sighting_0 rfl 1 rfl ?_
  refine g_iconst C dX6_sighting_1 gk_iconst_0 ?_
  refine g_aload_n C dX6_sighting_2 rfl 0 rfl ?_
  refine mm_getA C M 33 (Nat.le_of_ble_eq_true rfl) (Nat.le_of_ble_eq_true rfl) q2036 rfl dX6_sighting_3 ?_
  refine g_aload_n C dX6_sighting_6 rfl 0 rfl ?_
  refine mm_getI C M 12 (Nat.le_of_ble_eq_true rfl) (Nat.le_of_ble_eq_true rfl) q2015 rfl dX6_sighting_7 h (fun v1 h => ?_)
  refine mm_ldI C M 33 (Nat.le_of_ble_eq_true rfl) rfl dX6_sighting_10 h (fun v2 h => ?_)
  refine g_iconst C dX6_sighting_11 gk_iconst_1 ?_
  refine g_isub C dX6_sighting_12 ?_
  obtain ⟨v4, z3, e, h⟩ := g_callE h
  refine mm_callS C M 3 [.int x1, .int (0 : Int32), .int (v2 - (1 : Int32))] (st := []) (v := some (.int v4)) (z' := z3) (fun l => ct_is l x1 (0 : Int32) (v2 - (1 : Int32)) z v4 z3 e) (lw_S q2301 q2302 q178 q2303) rfl rfl rfl (Nat.le_of_ble_eq_true rfl) (Nat.le_of_ble_eq_true rfl) (Nat.le_of_ble_eq_true rfl) dX6_sighting_13 ?_
  refine gW_st (st' := [.int v4]) rfl ?_
  refine g_if_eq C dX6_sighting_16 rfl h (fun h => ?_) (fun h => ?_)
  · refine g_iconst C dX6_sighting_28 gk_iconst_m1 ?_
    exact g_iret C (fun _ => trivial) dX6_sighting_29 h
  · refine g_iload_n C dX6_sighting_19 rfl 2 rfl ?_
    refine g_iconst C dX6_sighting_20 gk_iconst_0 ?_
    refine g_iconst C dX6_sighting_21 gk_iconst_3 ?_
    obtain ⟨v6, z5, e, h⟩ := g_callE h
    refine mm_callS C M 3 [.int x2, .int (0 : Int32), .int (3 : Int32)] (st := []) (v := some (.int v6)) (z' := z5) (fun l => ct_is l x2 (0 : Int32) (3 : Int32) z3 v6 z5 e) (lw_S q2301 q2302 q178 q2303) rfl rfl rfl (Nat.le_of_ble_eq_true rfl) (Nat.le_of_ble_eq_true rfl) (Nat.le_of_ble_eq_true rfl) dX6_sighting_22 ?_
    refine gW_st (st' := [.int v6]) rfl ?_
    refine g_if_ne C dX6_sighting_25 rfl h (fun h => ?_) (fun h => ?_)
    · refine g_bipush C dX6_sighting_30 gk_bipush_40 ?_
      refine g_aload_n C dX6_sighting_32 rfl 0 rfl ?_
      refine mm_getI C M 12 (Nat.le_of_ble_eq_true rfl) (Nat.le_of_ble_eq_true rfl) q2015 rfl dX6_sighting_33 h (fun v7 h => ?_)
      refine g_imul C dX6_sighting_36 ?_
      refine g_iload_n C dX6_sighting_37 rfl 1 rfl ?_
      refine g_iadd C dX6_sighting_38 ?_
      refine g_istore_n [(3, .int (((40 : Int32) * v7) + x1)), (0, .ref E.2.2.1), (1, .int x1), (2, .int x2)] C dX6_sighting_39 rfl (Nat.le_of_ble_eq_true rfl) rfl ?_
      refine g_iload_n C dX6_sighting_40 rfl 3 rfl ?_
      refine g_iconst C dX6_sighting_41 gk_iconst_3 ?_
      refine g_icmp_ge C dX6_sighting_42 rfl h (fun h => ?_) (fun h => ?_)
      · refine g_aload_n C dX6_sighting_79 rfl 1 rfl ?_
        obtain ⟨u9, z8, e, h⟩ := g_callE h
        refine mm_callV C M 0 [] (st := []) (v := none) (z' := z8) (fun l => ct_explains l z5 u9 z8 e) (lw_V q2721 q2723 qs159 q178 q2724) rfl rfl rfl (Nat.le_of_ble_eq_true rfl) (Nat.le_of_ble_eq_true rfl) (Nat.le_of_ble_eq_true rfl) dX6_sighting_80 ?_
        refine gW_st (st' := []) rfl ?_
        refine g_aload_n C dX6_sighting_83 rfl 1 rfl ?_
        refine mm_getA C M 78 (Nat.le_of_ble_eq_true rfl) (Nat.le_of_ble_eq_true rfl) q2081 rfl dX6_sighting_84 ?_
        refine g_iload_n C dX6_sighting_87 rfl 2 rfl ?_
        refine mm_ldI C M 78 (Nat.le_of_ble_eq_true rfl) rfl dX6_sighting_88 h (fun v10 h => ?_)
        exact g_iret C (fun _ => trivial) dX6_sighting_89 h
      · refine g_iload_n C dX6_sighting_45 rfl 3 rfl ?_
        refine g_if_ne C dX6_sighting_46 rfl h (fun h => ?_) (fun h => ?_)
        · refine g_iload_n C dX6_sighting_58 rfl 3 rfl ?_
          refine g_iconst C dX6_sighting_59 gk_iconst_1 ?_
          refine g_icmp_ne C dX6_sighting_60 rfl h (fun h => ?_) (fun h => ?_)
          · refine g_aload_n C dX6_sighting_72 rfl 1 rfl ?_
            refine mm_getA C M 36 (Nat.le_of_ble_eq_true rfl) (Nat.le_of_ble_eq_true rfl) q2039 rfl dX6_sighting_73 ?_
            refine g_iload_n C dX6_sighting_76 rfl 0 rfl ?_
            refine mm_ldI C M 36 (Nat.le_of_ble_eq_true rfl) rfl dX6_sighting_77 h (fun v11 h => ?_)
            exact g_iret C (fun _ => trivial) dX6_sighting_78 h
          · refine g_aload_n C dX6_sighting_63 rfl 1 rfl ?_
            refine mm_getA C M 35 (Nat.le_of_ble_eq_true rfl) (Nat.le_of_ble_eq_true rfl) q2038 rfl dX6_sighting_64 ?_
            refine g_iload_n C dX6_sighting_67 rfl 0 rfl ?_
            refine mm_ldI C M 35 (Nat.le_of_ble_eq_true rfl) rfl dX6_sighting_68 h (fun v12 h => ?_)
            refine g_goto C dX6_sighting_69 rfl ?_
            exact g_iret C (fun _ => trivial) dX6_sighting_78 h
        · refine g_aload_n C dX6_sighting_49 rfl 1 rfl ?_
          refine mm_getA C M 34 (Nat.le_of_ble_eq_true rfl) (Nat.le_of_ble_eq_true rfl) q2037 rfl dX6_sighting_50 ?_
          refine g_iload_n C dX6_sighting_53 rfl 0 rfl ?_
          refine mm_ldI C M 34 (Nat.le_of_ble_eq_true rfl) rfl dX6_sighting_54 h (fun v13 h => ?_)
          refine g_goto C dX6_sighting_55 rfl ?_
          exact g_iret C (fun _ => trivial) dX6_sighting_78 h
    · refine g_iconst C dX6_sighting_28 gk_iconst_m1 ?_
      exact g_iret C (fun _ => trivial) dX6_sighting_29 h
theorem ct_sighting (l : Launch) (x1 : Int32) (x2 : Int32) (z : mm_S) (r : Int32) (z' : mm_S) (h : mo_sighting x1 x2 z = some (r, z')) : mm_MetV l yX6_sighting cX6_sighting 4 (some .int) 9 213 [.int x1, .int x2] z (.returned (some (.int r)), z') := by
  intro E hD
  exact mm_enter E hD rfl ⟨_, rfl⟩ (.ref E.2.2.1 :: [.int x1, .int x2]) (Nat.le_of_ble_eq_true rfl) (fun X C M => wk_sighting C M x1 x2 z h)
def mo_strange_b36 (k8 : Int32 → Int32 → mm_S → Option (Int32 × mm_S)) (x2 : Int32) (s0 : Int32) (s1 : Int32) (z : mm_S) : Option (Int32 × mm_S) := k8 (s0 + s1) (x2 + (1 : Int32)) z
theorem wk_strange_b36 {X : gX} {E : mm_E} {r : Int32 × mm_S} (C : gC X cX6_strange 3 (some .int) RX6 9 213) (M : mm_C X E) {k8 : Int32 → Int32 → mm_S → Option (Int32 × mm_S)} (hk8 : ∀ (x1 : Int32) (x2 : Int32) (z : mm_S), k8 x1 x2 z = some r → gW X (mm_G E) (.returned (some (.int r.1)), r.2) z 8 [(0, .ref E.2.2.1), (1, .int x1), (2, .int x2)] []) (x2 : Int32) (s0 : Int32) (s1 : Int32) (z : mm_S) (h : mo_strange_b36 k8 x2 s0 s1 z = some r) : gW X (mm_G E) (.returned (some (.int r.1)), r.2) z 36 [(0, .ref E.2.2.1), (2, .int x2)] [.int s1, .int s0] := by
  unfold mo_strange_b36 at h
  refine g_iadd C dX6_strange_36 ?_
  refine g_istore_n [(1, .int (s0 + s1)), (0, .ref E.2.2.1), (2, .int x2)] C dX6_strange_37 rfl (Nat.le_of_ble_eq_true rfl) rfl ?_
  refine g_iinc [(2, .int (x2 + (1 : Int32))), (1, .int (s0 + s1)), (0, .ref E.2.2.1)] C dX6_strange_38 (j := 2) rfl (gk_inc_1 _) (Nat.le_of_ble_eq_true rfl) rfl ?_
  refine g_goto C dX6_strange_41 rfl ?_
  exact g_sub [(0, .ref E.2.2.1), (1, .int (s0 + s1)), (2, .int (x2 + (1 : Int32)))] [2, 1, 0] rfl (hk8 (s0 + s1) (x2 + (1 : Int32)) z h)
def mo_strange_b8 : Nat → Int32 → Int32 → mm_S → Option (Int32 × mm_S)
  | 0, _, _, _ => none
  | n + 1, x1, x2, z => mm_gI 12 z (fun v1 => mm_lI 33 v1 z (fun v2 => if v2 ≤ x2 then (some (x1, z)) else (mm_lI 78 x2 z (fun v3 => if v3 = 0 then (mo_strange_b36 (mo_strange_b8 n) x2 x1 (1 : Int32) z) else (mo_strange_b36 (mo_strange_b8 n) x2 x1 (0 : Int32) z)))))
theorem wk_strange_b8 {X : gX} {E : mm_E} {r : Int32 × mm_S} (C : gC X cX6_strange 3 (some .int) RX6 9 213) (M : mm_C X E) : ∀ (n : Nat) (x1 : Int32) (x2 : Int32) (z : mm_S), mo_strange_b8 n x1 x2 z = some r → gW X (mm_G E) (.returned (some (.int r.1)), r.2) z 8 [(0, .ref E.2.2.1), (1, .int x1), (2, .int x2)] [] := by
  intro n
  induction n with
  | zero =>
    intro x1 x2 z h
    have h : (none : Option (Int32 × mm_S)) = some r := h
    cases h
  | succ n ih =>
    intro x1 x2 z h
    rw [mo_strange_b8] at h
    refine g_iload_n C dX6_strange_8 rfl 2 rfl ?_
    refine g_aload_n C dX6_strange_9 rfl 0 rfl ?_
    refine mm_getA C M 33 (Nat.le_of_ble_eq_true rfl) (Nat.le_of_ble_eq_true rfl) q2036 rfl dX6_strange_10 ?_
    refine g_aload_n C dX6_strange_13 rfl 0 rfl ?_
    refine mm_getI C M 12 (Nat.le_of_ble_eq_true rfl) (Nat.le_of_ble_eq_true rfl) q2015 rfl dX6_strange_14 h (fun v1 h => ?_)
    refine mm_ldI C M 33 (Nat.le_of_ble_eq_true rfl) rfl dX6_strange_17 h (fun v2 h => ?_)
    refine g_icmp_ge C dX6_strange_18 rfl h (fun h => ?_) (fun h => ?_)
    · refine g_iload_n C dX6_strange_44 rfl 1 rfl ?_
      exact g_iret C (fun _ => trivial) dX6_strange_45 h
    · refine g_iload_n C dX6_strange_21 rfl 1 rfl ?_
      refine g_aload_n C dX6_strange_22 rfl 0 rfl ?_
      refine mm_getA C M 78 (Nat.le_of_ble_eq_true rfl) (Nat.le_of_ble_eq_true rfl) q2081 rfl dX6_strange_23 ?_
      refine g_iload_n C dX6_strange_26 rfl 2 rfl ?_
      refine mm_ldI C M 78 (Nat.le_of_ble_eq_true rfl) rfl dX6_strange_27 h (fun v3 h => ?_)
      refine g_if_ne C dX6_strange_28 rfl h (fun h => ?_) (fun h => ?_)
      · refine g_iconst C dX6_strange_35 gk_iconst_0 ?_
        exact g_sub [(0, .ref E.2.2.1), (2, .int x2)] [0, 2] rfl (wk_strange_b36 C M ih x2 x1 (0 : Int32) z h)
      · refine g_iconst C dX6_strange_31 gk_iconst_1 ?_
        refine g_goto C dX6_strange_32 rfl ?_
        exact g_sub [(0, .ref E.2.2.1), (2, .int x2)] [0, 2] rfl (wk_strange_b36 C M ih x2 x1 (1 : Int32) z h)
def mo_strange (z : mm_S) : Option (Int32 × mm_S) := g_call (mo_explains z) (fun _ z1 => mo_strange_b8 g_fu (0 : Int32) (0 : Int32) z1)
theorem wk_strange {X : gX} {E : mm_E} {r : Int32 × mm_S} (C : gC X cX6_strange 3 (some .int) RX6 9 213) (M : mm_C X E) (z : mm_S) (h : mo_strange z = some r) : gW X (mm_G E) (.returned (some (.int r.1)), r.2) z 0 [(0, .ref E.2.2.1)] [] := by
  unfold mo_strange at h
  refine g_aload_n C dX6_strange_0 rfl 0 rfl ?_
  obtain ⟨u2, z1, e, h⟩ := g_callE h
  refine mm_callV C M 0 [] (st := []) (v := none) (z' := z1) (fun l => ct_explains l z u2 z1 e) (lw_V q2721 q2723 qs159 q178 q2724) rfl rfl rfl (Nat.le_of_ble_eq_true rfl) (Nat.le_of_ble_eq_true rfl) (Nat.le_of_ble_eq_true rfl) dX6_strange_1 ?_
  refine gW_st (st' := []) rfl ?_
  refine g_iconst C dX6_strange_4 gk_iconst_0 ?_
  refine g_istore_n [(1, .int (0 : Int32)), (0, .ref E.2.2.1)] C dX6_strange_5 rfl (Nat.le_of_ble_eq_true rfl) rfl ?_
  refine g_iconst C dX6_strange_6 gk_iconst_0 ?_
  refine g_istore_n [(2, .int (0 : Int32)), (1, .int (0 : Int32)), (0, .ref E.2.2.1)] C dX6_strange_7 rfl (Nat.le_of_ble_eq_true rfl) rfl ?_
  exact g_sub [(0, .ref E.2.2.1), (1, .int (0 : Int32)), (2, .int (0 : Int32))] [2, 1, 0] rfl (wk_strange_b8 C M g_fu (0 : Int32) (0 : Int32) z1 h)
theorem ct_strange (l : Launch) (z : mm_S) (r : Int32) (z' : mm_S) (h : mo_strange z = some (r, z')) : mm_MetV l yX6_strange cX6_strange 3 (some .int) 9 213 [] z (.returned (some (.int r)), z') := by
  intro E hD
  exact mm_enter E hD rfl ⟨_, rfl⟩ (.ref E.2.2.1 :: []) (Nat.le_of_ble_eq_true rfl) (fun X C M => wk_strange C M z h)
def mo_doubted_b119 (k8 : Int32 → Int32 → mm_S → Option (Int32 × mm_S)) (x2 : Int32) (s0 : Int32) (s1 : Int32) (z : mm_S) : Option (Int32 × mm_S) := k8 (s0 ||| s1) (x2 + (1 : Int32)) z
theorem wk_doubted_b119 {X : gX} {E : mm_E} {r : Int32 × mm_S} (C : gC X cX6_doubted 5 (some .int) RX6 10 236) (M : mm_C X E) {k8 : Int32 → Int32 → mm_S → Option (Int32 × mm_S)} (hk8 : ∀ (x1 : Int32) (x2 : Int32) (z : mm_S), k8 x1 x2 z = some r → gW X (mm_G E) (.returned (some (.int r.1)), r.2) z 8 [(0, .ref E.2.2.1), (1, .int x1), (2, .int x2)] []) (x2 : Int32) (s0 : Int32) (s1 : Int32) (z : mm_S) (h : mo_doubted_b119 k8 x2 s0 s1 z = some r) : gW X (mm_G E) (.returned (some (.int r.1)), r.2) z 119 [(0, .ref E.2.2.1), (2, .int x2)] [.int s1, .int s0] := by
  unfold mo_doubted_b119 at h
  refine g_ior C dX6_doubted_119 ?_
  refine g_istore_n [(1, .int (s0 ||| s1)), (0, .ref E.2.2.1), (2, .int x2)] C dX6_doubted_120 rfl (Nat.le_of_ble_eq_true rfl) rfl ?_
  refine g_iinc [(2, .int (x2 + (1 : Int32))), (1, .int (s0 ||| s1)), (0, .ref E.2.2.1)] C dX6_doubted_121 (j := 2) rfl (gk_inc_1 _) (Nat.le_of_ble_eq_true rfl) rfl ?_
  refine g_goto C dX6_doubted_124 rfl ?_
  exact g_sub [(0, .ref E.2.2.1), (1, .int (s0 ||| s1)), (2, .int (x2 + (1 : Int32)))] [2, 1, 0] rfl (hk8 (s0 ||| s1) (x2 + (1 : Int32)) z h)
def mo_doubted_b118 (k8 : Int32 → Int32 → mm_S → Option (Int32 × mm_S)) (x2 : Int32) (s0 : Int32) (z : mm_S) : Option (Int32 × mm_S) := mo_doubted_b119 k8 x2 s0 (0 : Int32) z
theorem wk_doubted_b118 {X : gX} {E : mm_E} {r : Int32 × mm_S} (C : gC X cX6_doubted 5 (some .int) RX6 10 236) (M : mm_C X E) {k8 : Int32 → Int32 → mm_S → Option (Int32 × mm_S)} (hk8 : ∀ (x1 : Int32) (x2 : Int32) (z : mm_S), k8 x1 x2 z = some r → gW X (mm_G E) (.returned (some (.int r.1)), r.2) z 8 [(0, .ref E.2.2.1), (1, .int x1), (2, .int x2)] []) (x2 : Int32) (s0 : Int32) (z : mm_S) (h : mo_doubted_b118 k8 x2 s0 z = some r) : gW X (mm_G E) (.returned (some (.int r.1)), r.2) z 118 [(0, .ref E.2.2.1), (2, .int x2)] [.int s0] := by
  unfold mo_doubted_b118 at h
  refine g_iconst C dX6_doubted_118 gk_iconst_0 ?_
  exact wk_doubted_b119 C M hk8 x2 s0 (0 : Int32) z h
def mo_doubted_b91 (k8 : Int32 → Int32 → mm_S → Option (Int32 × mm_S)) (k26 : Int32 → Int32 → Int32 → Int32 → mm_S → Option (Int32 × mm_S)) (x1 : Int32) (x2 : Int32) (x4 : Int32) (s0 : Int32) (z : mm_S) : Option (Int32 × mm_S) := k26 x1 x2 s0 (x4 + (1 : Int32)) z
theorem wk_doubted_b91 {X : gX} {E : mm_E} {r : Int32 × mm_S} (C : gC X cX6_doubted 5 (some .int) RX6 10 236) (M : mm_C X E) {k8 : Int32 → Int32 → mm_S → Option (Int32 × mm_S)} (hk8 : ∀ (x1 : Int32) (x2 : Int32) (z : mm_S), k8 x1 x2 z = some r → gW X (mm_G E) (.returned (some (.int r.1)), r.2) z 8 [(0, .ref E.2.2.1), (1, .int x1), (2, .int x2)] []) {k26 : Int32 → Int32 → Int32 → Int32 → mm_S → Option (Int32 × mm_S)} (hk26 : ∀ (x1 : Int32) (x2 : Int32) (x3 : Int32) (x4 : Int32) (z : mm_S), k26 x1 x2 x3 x4 z = some r → gW X (mm_G E) (.returned (some (.int r.1)), r.2) z 26 [(0, .ref E.2.2.1), (1, .int x1), (2, .int x2), (3, .int x3), (4, .int x4)] []) (x1 : Int32) (x2 : Int32) (x4 : Int32) (s0 : Int32) (z : mm_S) (h : mo_doubted_b91 k8 k26 x1 x2 x4 s0 z = some r) : gW X (mm_G E) (.returned (some (.int r.1)), r.2) z 91 [(0, .ref E.2.2.1), (1, .int x1), (2, .int x2), (4, .int x4)] [.int s0] := by
  unfold mo_doubted_b91 at h
  refine g_istore_n [(3, .int s0), (0, .ref E.2.2.1), (1, .int x1), (2, .int x2), (4, .int x4)] C dX6_doubted_91 rfl (Nat.le_of_ble_eq_true rfl) rfl ?_
  refine g_iinc [(4, .int (x4 + (1 : Int32))), (3, .int s0), (0, .ref E.2.2.1), (1, .int x1), (2, .int x2)] C dX6_doubted_92 (j := 4) rfl (gk_inc_1 _) (Nat.le_of_ble_eq_true rfl) rfl ?_
  refine g_goto C dX6_doubted_95 rfl ?_
  exact g_sub [(0, .ref E.2.2.1), (1, .int x1), (2, .int x2), (3, .int s0), (4, .int (x4 + (1 : Int32)))] [2, 3, 4, 1, 0] rfl (hk26 x1 x2 s0 (x4 + (1 : Int32)) z h)
def mo_doubted_b86 (k8 : Int32 → Int32 → mm_S → Option (Int32 × mm_S)) (k26 : Int32 → Int32 → Int32 → Int32 → mm_S → Option (Int32 × mm_S)) (x1 : Int32) (x2 : Int32) (x4 : Int32) (z : mm_S) : Option (Int32 × mm_S) := mo_doubted_b91 k8 k26 x1 x2 x4 (1 : Int32) z
theorem wk_doubted_b86 {X : gX} {E : mm_E} {r : Int32 × mm_S} (C : gC X cX6_doubted 5 (some .int) RX6 10 236) (M : mm_C X E) {k8 : Int32 → Int32 → mm_S → Option (Int32 × mm_S)} (hk8 : ∀ (x1 : Int32) (x2 : Int32) (z : mm_S), k8 x1 x2 z = some r → gW X (mm_G E) (.returned (some (.int r.1)), r.2) z 8 [(0, .ref E.2.2.1), (1, .int x1), (2, .int x2)] []) {k26 : Int32 → Int32 → Int32 → Int32 → mm_S → Option (Int32 × mm_S)} (hk26 : ∀ (x1 : Int32) (x2 : Int32) (x3 : Int32) (x4 : Int32) (z : mm_S), k26 x1 x2 x3 x4 z = some r → gW X (mm_G E) (.returned (some (.int r.1)), r.2) z 26 [(0, .ref E.2.2.1), (1, .int x1), (2, .int x2), (3, .int x3), (4, .int x4)] []) (x1 : Int32) (x2 : Int32) (x4 : Int32) (z : mm_S) (h : mo_doubted_b86 k8 k26 x1 x2 x4 z = some r) : gW X (mm_G E) (.returned (some (.int r.1)), r.2) z 86 [(0, .ref E.2.2.1), (1, .int x1), (2, .int x2), (4, .int x4)] [] := by
  unfold mo_doubted_b86 at h
  refine g_iconst C dX6_doubted_86 gk_iconst_1 ?_
  refine g_goto C dX6_doubted_87 rfl ?_
  exact wk_doubted_b91 C M hk8 hk26 x1 x2 x4 (1 : Int32) z h
def mo_doubted_b90 (k8 : Int32 → Int32 → mm_S → Option (Int32 × mm_S)) (k26 : Int32 → Int32 → Int32 → Int32 → mm_S → Option (Int32 × mm_S)) (x1 : Int32) (x2 : Int32) (x4 : Int32) (z : mm_S) : Option (Int32 × mm_S) := mo_doubted_b91 k8 k26 x1 x2 x4 (0 : Int32) z
theorem wk_doubted_b90 {X : gX} {E : mm_E} {r : Int32 × mm_S} (C : gC X cX6_doubted 5 (some .int) RX6 10 236) (M : mm_C X E) {k8 : Int32 → Int32 → mm_S → Option (Int32 × mm_S)} (hk8 : ∀ (x1 : Int32) (x2 : Int32) (z : mm_S), k8 x1 x2 z = some r → gW X (mm_G E) (.returned (some (.int r.1)), r.2) z 8 [(0, .ref E.2.2.1), (1, .int x1), (2, .int x2)] []) {k26 : Int32 → Int32 → Int32 → Int32 → mm_S → Option (Int32 × mm_S)} (hk26 : ∀ (x1 : Int32) (x2 : Int32) (x3 : Int32) (x4 : Int32) (z : mm_S), k26 x1 x2 x3 x4 z = some r → gW X (mm_G E) (.returned (some (.int r.1)), r.2) z 26 [(0, .ref E.2.2.1), (1, .int x1), (2, .int x2), (3, .int x3), (4, .int x4)] []) (x1 : Int32) (x2 : Int32) (x4 : Int32) (z : mm_S) (h : mo_doubted_b90 k8 k26 x1 x2 x4 z = some r) : gW X (mm_G E) (.returned (some (.int r.1)), r.2) z 90 [(0, .ref E.2.2.1), (1, .int x1), (2, .int x2), (4, .int x4)] [] := by
  unfold mo_doubted_b90 at h
  refine g_iconst C dX6_doubted_90 gk_iconst_0 ?_
  exact wk_doubted_b91 C M hk8 hk26 x1 x2 x4 (0 : Int32) z h
def mo_doubted_b26 (k8 : Int32 → Int32 → mm_S → Option (Int32 × mm_S)) : Nat → Int32 → Int32 → Int32 → Int32 → mm_S → Option (Int32 × mm_S)
  | 0, _, _, _, _, _ => none
  | n + 1, x1, x2, x3, x4, z => mm_gI 12 z (fun v1 => mm_lI 33 v1 z (fun v2 => if v2 ≤ x4 then (if x3 = 0 then (mo_doubted_b118 k8 x2 x1 z) else (g_call (mo_isKind x2 (0 : Int32) z) (fun v4 z3 => if v4 = 0 then (mo_doubted_b118 k8 x2 x1 z3) else (mo_doubted_b119 k8 x2 x1 ((1 : Int32) <<< (x2 &&& 31)) z3)))) else (if x3 = 0 then (mm_lI 78 x4 z (fun v5 => if v5 = 0 then (mm_gI 12 z (fun v6 => mm_lI 34 (((40 : Int32) * v6) + x4) z (fun v7 => mm_gI 12 z (fun v8 => mm_lI 21 (((8 : Int32) * v8) + x2) z (fun v9 => if v7 = v9 then (mo_doubted_b86 k8 (mo_doubted_b26 k8 n) x1 x2 x4 z) else (mo_doubted_b90 k8 (mo_doubted_b26 k8 n) x1 x2 x4 z)))))) else (mo_doubted_b90 k8 (mo_doubted_b26 k8 n) x1 x2 x4 z))) else (mo_doubted_b86 k8 (mo_doubted_b26 k8 n) x1 x2 x4 z))))
theorem wk_doubted_b26 {X : gX} {E : mm_E} {r : Int32 × mm_S} (C : gC X cX6_doubted 5 (some .int) RX6 10 236) (M : mm_C X E) {k8 : Int32 → Int32 → mm_S → Option (Int32 × mm_S)} (hk8 : ∀ (x1 : Int32) (x2 : Int32) (z : mm_S), k8 x1 x2 z = some r → gW X (mm_G E) (.returned (some (.int r.1)), r.2) z 8 [(0, .ref E.2.2.1), (1, .int x1), (2, .int x2)] []) : ∀ (n : Nat) (x1 : Int32) (x2 : Int32) (x3 : Int32) (x4 : Int32) (z : mm_S), mo_doubted_b26 k8 n x1 x2 x3 x4 z = some r → gW X (mm_G E) (.returned (some (.int r.1)), r.2) z 26 [(0, .ref E.2.2.1), (1, .int x1), (2, .int x2), (3, .int x3), (4, .int x4)] [] := by
  intro n
  induction n with
  | zero =>
    intro x1 x2 x3 x4 z h
    have h : (none : Option (Int32 × mm_S)) = some r := h
    cases h
  | succ n ih =>
    intro x1 x2 x3 x4 z h
    rw [mo_doubted_b26] at h
    refine g_iload C dX6_doubted_26 4 rfl ?_
    refine g_aload_n C dX6_doubted_28 rfl 0 rfl ?_
    refine mm_getA C M 33 (Nat.le_of_ble_eq_true rfl) (Nat.le_of_ble_eq_true rfl) q2036 rfl dX6_doubted_29 ?_
    refine g_aload_n C dX6_doubted_32 rfl 0 rfl ?_
    refine mm_getI C M 12 (Nat.le_of_ble_eq_true rfl) (Nat.le_of_ble_eq_true rfl) q2015 rfl dX6_doubted_33 h (fun v1 h => ?_)
    refine mm_ldI C M 33 (Nat.le_of_ble_eq_true rfl) rfl dX6_doubted_36 h (fun v2 h => ?_)
    refine g_icmp_ge C dX6_doubted_37 rfl h (fun h => ?_) (fun h => ?_)
    · refine g_iload_n C dX6_doubted_98 rfl 1 rfl ?_
      refine g_iload_n C dX6_doubted_99 rfl 3 rfl ?_
      refine g_if_eq C dX6_doubted_100 rfl h (fun h => ?_) (fun h => ?_)
      · exact g_sub [(0, .ref E.2.2.1), (2, .int x2)] [0, 2] rfl (wk_doubted_b118 C M hk8 x2 x1 z h)
      · refine g_aload_n C dX6_doubted_103 rfl 0 rfl ?_
        refine g_iload_n C dX6_doubted_104 rfl 2 rfl ?_
        refine g_iconst C dX6_doubted_105 gk_iconst_0 ?_
        obtain ⟨v4, z3, e, h⟩ := g_callE h
        refine mm_callV C M 2 [.int x2, .int (0 : Int32)] (st := [.int x1]) (v := some (.int v4)) (z' := z3) (fun l => ct_isKind l x2 (0 : Int32) z v4 z3 e) (lw_V q2629 q2631 qs145 q178 q2632) rfl rfl rfl (Nat.le_of_ble_eq_true rfl) (Nat.le_of_ble_eq_true rfl) (Nat.le_of_ble_eq_true rfl) dX6_doubted_106 ?_
        refine gW_st (st' := [.int v4, .int x1]) rfl ?_
        refine g_if_eq C dX6_doubted_109 rfl h (fun h => ?_) (fun h => ?_)
        · exact g_sub [(0, .ref E.2.2.1), (2, .int x2)] [0, 2] rfl (wk_doubted_b118 C M hk8 x2 x1 z3 h)
        · refine g_iconst C dX6_doubted_112 gk_iconst_1 ?_
          refine g_iload_n C dX6_doubted_113 rfl 2 rfl ?_
          refine g_ishl C dX6_doubted_114 ?_
          refine g_goto C dX6_doubted_115 rfl ?_
          exact g_sub [(0, .ref E.2.2.1), (2, .int x2)] [0, 2] rfl (wk_doubted_b119 C M hk8 x2 x1 ((1 : Int32) <<< (x2 &&& 31)) z3 h)
    · refine g_iload_n C dX6_doubted_40 rfl 3 rfl ?_
      refine g_if_ne C dX6_doubted_41 rfl h (fun h => ?_) (fun h => ?_)
      · exact g_sub [(0, .ref E.2.2.1), (1, .int x1), (2, .int x2), (4, .int x4)] [0, 1, 2, 4] rfl (wk_doubted_b86 C M hk8 ih x1 x2 x4 z h)
      · refine g_aload_n C dX6_doubted_44 rfl 0 rfl ?_
        refine mm_getA C M 78 (Nat.le_of_ble_eq_true rfl) (Nat.le_of_ble_eq_true rfl) q2081 rfl dX6_doubted_45 ?_
        refine g_iload C dX6_doubted_48 4 rfl ?_
        refine mm_ldI C M 78 (Nat.le_of_ble_eq_true rfl) rfl dX6_doubted_50 h (fun v5 h => ?_)
        refine g_if_ne C dX6_doubted_51 rfl h (fun h => ?_) (fun h => ?_)
        · exact g_sub [(0, .ref E.2.2.1), (1, .int x1), (2, .int x2), (4, .int x4)] [0, 1, 2, 4] rfl (wk_doubted_b90 C M hk8 ih x1 x2 x4 z h)
        · refine g_aload_n C dX6_doubted_54 rfl 0 rfl ?_
          refine mm_getA C M 34 (Nat.le_of_ble_eq_true rfl) (Nat.le_of_ble_eq_true rfl) q2037 rfl dX6_doubted_55 ?_
          refine g_bipush C dX6_doubted_58 gk_bipush_40 ?_
          refine g_aload_n C dX6_doubted_60 rfl 0 rfl ?_
          refine mm_getI C M 12 (Nat.le_of_ble_eq_true rfl) (Nat.le_of_ble_eq_true rfl) q2015 rfl dX6_doubted_61 h (fun v6 h => ?_)
          refine g_imul C dX6_doubted_64 ?_
          refine g_iload C dX6_doubted_65 4 rfl ?_
          refine g_iadd C dX6_doubted_67 ?_
          refine mm_ldI C M 34 (Nat.le_of_ble_eq_true rfl) rfl dX6_doubted_68 h (fun v7 h => ?_)
          refine g_aload_n C dX6_doubted_69 rfl 0 rfl ?_
          refine mm_getA C M 21 (Nat.le_of_ble_eq_true rfl) (Nat.le_of_ble_eq_true rfl) q2024 rfl dX6_doubted_70 ?_
          refine g_bipush C dX6_doubted_73 gk_bipush_8 ?_
          refine g_aload_n C dX6_doubted_75 rfl 0 rfl ?_
          refine mm_getI C M 12 (Nat.le_of_ble_eq_true rfl) (Nat.le_of_ble_eq_true rfl) q2015 rfl dX6_doubted_76 h (fun v8 h => ?_)
          refine g_imul C dX6_doubted_79 ?_
          refine g_iload_n C dX6_doubted_80 rfl 2 rfl ?_
          refine g_iadd C dX6_doubted_81 ?_
          refine mm_ldI C M 21 (Nat.le_of_ble_eq_true rfl) rfl dX6_doubted_82 h (fun v9 h => ?_)
          refine g_icmp_ne C dX6_doubted_83 rfl h (fun h => ?_) (fun h => ?_)
          · exact g_sub [(0, .ref E.2.2.1), (1, .int x1), (2, .int x2), (4, .int x4)] [0, 1, 2, 4] rfl (wk_doubted_b90 C M hk8 ih x1 x2 x4 z h)
          · exact g_sub [(0, .ref E.2.2.1), (1, .int x1), (2, .int x2), (4, .int x4)] [0, 1, 2, 4] rfl (wk_doubted_b86 C M hk8 ih x1 x2 x4 z h)
def mo_doubted_b8 : Nat → Int32 → Int32 → mm_S → Option (Int32 × mm_S)
  | 0, _, _, _ => none
  | n + 1, x1, x2, z => mm_gI 12 z (fun v1 => mm_lI 19 v1 z (fun v2 => if v2 ≤ x2 then (some (x1, z)) else (mo_doubted_b26 (mo_doubted_b8 n) g_fu x1 x2 (0 : Int32) (0 : Int32) z)))
theorem wk_doubted_b8 {X : gX} {E : mm_E} {r : Int32 × mm_S} (C : gC X cX6_doubted 5 (some .int) RX6 10 236) (M : mm_C X E) : ∀ (n : Nat) (x1 : Int32) (x2 : Int32) (z : mm_S), mo_doubted_b8 n x1 x2 z = some r → gW X (mm_G E) (.returned (some (.int r.1)), r.2) z 8 [(0, .ref E.2.2.1), (1, .int x1), (2, .int x2)] [] := by
  intro n
  induction n with
  | zero =>
    intro x1 x2 z h
    have h : (none : Option (Int32 × mm_S)) = some r := h
    cases h
  | succ n ih =>
    intro x1 x2 z h
    rw [mo_doubted_b8] at h
    refine g_iload_n C dX6_doubted_8 rfl 2 rfl ?_
    refine g_aload_n C dX6_doubted_9 rfl 0 rfl ?_
    refine mm_getA C M 19 (Nat.le_of_ble_eq_true rfl) (Nat.le_of_ble_eq_true rfl) q2022 rfl dX6_doubted_10 ?_
    refine g_aload_n C dX6_doubted_13 rfl 0 rfl ?_
    refine mm_getI C M 12 (Nat.le_of_ble_eq_true rfl) (Nat.le_of_ble_eq_true rfl) q2015 rfl dX6_doubted_14 h (fun v1 h => ?_)
    refine mm_ldI C M 19 (Nat.le_of_ble_eq_true rfl) rfl dX6_doubted_17 h (fun v2 h => ?_)
    refine g_icmp_ge C dX6_doubted_18 rfl h (fun h => ?_) (fun h => ?_)
    · refine g_iload_n C dX6_doubted_127 rfl 1 rfl ?_
      exact g_iret C (fun _ => trivial) dX6_doubted_128 h
    · refine g_iconst C dX6_doubted_21 gk_iconst_0 ?_
      refine g_istore_n [(3, .int (0 : Int32)), (0, .ref E.2.2.1), (1, .int x1), (2, .int x2)] C dX6_doubted_22 rfl (Nat.le_of_ble_eq_true rfl) rfl ?_
      refine g_iconst C dX6_doubted_23 gk_iconst_0 ?_
      refine g_istore [(4, .int (0 : Int32)), (3, .int (0 : Int32)), (0, .ref E.2.2.1), (1, .int x1), (2, .int x2)] C dX6_doubted_24 (Nat.le_of_ble_eq_true rfl) rfl ?_
      exact g_sub [(0, .ref E.2.2.1), (1, .int x1), (2, .int x2), (3, .int (0 : Int32)), (4, .int (0 : Int32))] [2, 3, 4, 1, 0] rfl (wk_doubted_b26 C M ih g_fu x1 x2 (0 : Int32) (0 : Int32) z h)
def mo_doubted (z : mm_S) : Option (Int32 × mm_S) := g_call (mo_explains z) (fun _ z1 => mo_doubted_b8 g_fu (0 : Int32) (0 : Int32) z1)
theorem wk_doubted {X : gX} {E : mm_E} {r : Int32 × mm_S} (C : gC X cX6_doubted 5 (some .int) RX6 10 236) (M : mm_C X E) (z : mm_S) (h : mo_doubted z = some r) : gW X (mm_G E) (.returned (some (.int r.1)), r.2) z 0 [(0, .ref E.2.2.1)] [] := by
  unfold mo_doubted at h
  refine g_aload_n C dX6_doubted_0 rfl 0 rfl ?_
  obtain ⟨u2, z1, e, h⟩ := g_callE h
  refine mm_callV C M 0 [] (st := []) (v := none) (z' := z1) (fun l => ct_explains l z u2 z1 e) (lw_V q2721 q2723 qs159 q178 q2724) rfl rfl rfl (Nat.le_of_ble_eq_true rfl) (Nat.le_of_ble_eq_true rfl) (Nat.le_of_ble_eq_true rfl) dX6_doubted_1 ?_
  refine gW_st (st' := []) rfl ?_
  refine g_iconst C dX6_doubted_4 gk_iconst_0 ?_
  refine g_istore_n [(1, .int (0 : Int32)), (0, .ref E.2.2.1)] C dX6_doubted_5 rfl (Nat.le_of_ble_eq_true rfl) rfl ?_
  refine g_iconst C dX6_doubted_6 gk_iconst_0 ?_
  refine g_istore_n [(2, .int (0 : Int32)), (1, .int (0 : Int32)), (0, .ref E.2.2.1)] C dX6_doubted_7 rfl (Nat.le_of_ble_eq_true rfl) rfl ?_
  exact g_sub [(0, .ref E.2.2.1), (1, .int (0 : Int32)), (2, .int (0 : Int32))] [2, 1, 0] rfl (wk_doubted_b8 C M g_fu (0 : Int32) (0 : Int32) z1 h)
theorem ct_doubted (l : Launch) (z : mm_S) (r : Int32) (z' : mm_S) (h : mo_doubted z = some (r, z')) : mm_MetV l yX6_doubted cX6_doubted 5 (some .int) 10 236 [] z (.returned (some (.int r)), z') := by
  intro E hD
  exact mm_enter E hD rfl ⟨_, rfl⟩ (.ref E.2.2.1 :: []) (Nat.le_of_ble_eq_true rfl) (fun X C M => wk_doubted C M z h)
def mo_gaps_b19 (x1 : Int32) (x2 : Int32) (z : mm_S) : Option (Int32 × mm_S) := g_call (mo_gapsOf x1 z) (fun v2 z1 => if x2 = 0 then (mm_gI 73 z1 (fun v3 => some (v3, z1))) else (some (v2, z1)))
theorem wk_gaps_b19 {X : gX} {E : mm_E} {r : Int32 × mm_S} (C : gC X cX6_gaps 4 (some .int) RX6 9 213) (M : mm_C X E) (x1 : Int32) (x2 : Int32) (z : mm_S) (h : mo_gaps_b19 x1 x2 z = some r) : gW X (mm_G E) (.returned (some (.int r.1)), r.2) z 19 [(0, .ref E.2.2.1), (1, .int x1), (2, .int x2)] [] := by
  unfold mo_gaps_b19 at h
  refine g_aload_n C dX6_gaps_19 rfl 0 rfl ?_
  refine g_iload_n C dX6_gaps_20 rfl 1 rfl ?_
  obtain ⟨v2, z1, e, h⟩ := g_callE h
  refine mm_callV C M 1 [.int x1] (st := []) (v := some (.int v2)) (z' := z1) (fun l => ct_gapsOf l x1 z v2 z1 e) (lw_V q2661 q2663 qs153 q178 q2664) rfl rfl rfl (Nat.le_of_ble_eq_true rfl) (Nat.le_of_ble_eq_true rfl) (Nat.le_of_ble_eq_true rfl) dX6_gaps_21 ?_
  refine gW_st (st' := [.int v2]) rfl ?_
  refine g_istore_n [(3, .int v2), (0, .ref E.2.2.1), (1, .int x1), (2, .int x2)] C dX6_gaps_24 rfl (Nat.le_of_ble_eq_true rfl) rfl ?_
  refine g_iload_n C dX6_gaps_25 rfl 3 rfl ?_
  refine g_if_ne C dX6_gaps_26 rfl h (fun h => ?_) (fun h => ?_)
  · refine g_iload_n C dX6_gaps_36 rfl 0 rfl ?_
    exact g_iret C (fun _ => trivial) dX6_gaps_37 h
  · refine g_aload_n C dX6_gaps_29 rfl 1 rfl ?_
    refine mm_getI C M 73 (Nat.le_of_ble_eq_true rfl) (Nat.le_of_ble_eq_true rfl) q2076 rfl dX6_gaps_30 h (fun v3 h => ?_)
    refine g_goto C dX6_gaps_33 rfl ?_
    exact g_iret C (fun _ => trivial) dX6_gaps_37 h
def mo_gaps (x1 : Int32) (x2 : Int32) (z : mm_S) : Option (Int32 × mm_S) := g_call (mo_isShip x1 z) (fun v2 z1 => if v2 = 0 then (some ((-1 : Int32), z1)) else (if x2 = 0 then (mo_gaps_b19 x1 x2 z1) else (if x2 = (1 : Int32) then (mo_gaps_b19 x1 x2 z1) else (some ((-1 : Int32), z1)))))
theorem wk_gaps {X : gX} {E : mm_E} {r : Int32 × mm_S} (C : gC X cX6_gaps 4 (some .int) RX6 9 213) (M : mm_C X E) (x1 : Int32) (x2 : Int32) (z : mm_S) (h : mo_gaps x1 x2 z = some r) : gW X (mm_G E) (.returned (some (.int r.1)), r.2) z 0 [(0, .ref E.2.2.1), (1, .int x1), (2, .int x2)] [] := by
  unfold mo_gaps at h
  refine g_aload_n C dX6_gaps_0 rfl 0 rfl ?_
  refine g_iload_n C dX6_gaps_1 rfl 1 rfl ?_
  obtain ⟨v2, z1, e, h⟩ := g_callE h
  refine mm_callV C M 1 [.int x1] (st := []) (v := some (.int v2)) (z' := z1) (fun l => ct_isShip l x1 z v2 z1 e) (lw_V q2521 q2523 qs126 q178 q2524) rfl rfl rfl (Nat.le_of_ble_eq_true rfl) (Nat.le_of_ble_eq_true rfl) (Nat.le_of_ble_eq_true rfl) dX6_gaps_2 ?_
  refine gW_st (st' := [.int v2]) rfl ?_
  refine g_if_eq C dX6_gaps_5 rfl h (fun h => ?_) (fun h => ?_)
  · refine g_iconst C dX6_gaps_17 gk_iconst_m1 ?_
    exact g_iret C (fun _ => trivial) dX6_gaps_18 h
  · refine g_iload_n C dX6_gaps_8 rfl 2 rfl ?_
    refine g_if_eq C dX6_gaps_9 rfl h (fun h => ?_) (fun h => ?_)
    · exact wk_gaps_b19 C M x1 x2 z1 h
    · refine g_iload_n C dX6_gaps_12 rfl 2 rfl ?_
      refine g_iconst C dX6_gaps_13 gk_iconst_1 ?_
      refine g_icmp_eq C dX6_gaps_14 rfl h (fun h => ?_) (fun h => ?_)
      · exact wk_gaps_b19 C M x1 x2 z1 h
      · refine g_iconst C dX6_gaps_17 gk_iconst_m1 ?_
        exact g_iret C (fun _ => trivial) dX6_gaps_18 h
theorem ct_gaps (l : Launch) (x1 : Int32) (x2 : Int32) (z : mm_S) (r : Int32) (z' : mm_S) (h : mo_gaps x1 x2 z = some (r, z')) : mm_MetV l yX6_gaps cX6_gaps 4 (some .int) 9 213 [.int x1, .int x2] z (.returned (some (.int r)), z') := by
  intro E hD
  exact mm_enter E hD rfl ⟨_, rfl⟩ (.ref E.2.2.1 :: [.int x1, .int x2]) (Nat.le_of_ble_eq_true rfl) (fun X C M => wk_gaps C M x1 x2 z h)
def mo_chanceOf_b172 : Nat → Int64 → Int32 → mm_S → Option (Int64 × mm_S)
  | 0, _, _, _ => none
  | n + 1, x4, x6, z => if (50 : Int32) ≤ x6 then (some (x4, z)) else (mm_lL 79 x6 z (fun v1 => (mo_chanceOf_b172 n) (x4 + v1) (x6 + (1 : Int32)) z))
theorem wk_chanceOf_b172 {X : gX} {E : mm_E} {r : Int64 × mm_S} (C : gC X cX6_chanceOf 7 (some .long) RX6 9 213) (M : mm_C X E) : ∀ (n : Nat) (x4 : Int64) (x6 : Int32) (z : mm_S), mo_chanceOf_b172 n x4 x6 z = some r → gW X (mm_G E) (.returned (some (.long r.1)), r.2) z 172 [(0, .ref E.2.2.1), (4, .long x4), (6, .int x6)] [] := by
  intro n
  induction n with
  | zero =>
    intro x4 x6 z h
    have h : (none : Option (Int64 × mm_S)) = some r := h
    cases h
  | succ n ih =>
    intro x4 x6 z h
    rw [mo_chanceOf_b172] at h
    refine g_iload C dX6_chanceOf_172 2 rfl ?_
    refine g_bipush C dX6_chanceOf_174 gk_bipush_50 ?_
    refine g_icmp_ge C dX6_chanceOf_176 rfl h (fun h => ?_) (fun h => ?_)
    · refine g_lload C dX6_chanceOf_197 1 rfl ?_
      exact g_lret C (fun _ => trivial) dX6_chanceOf_199 h
    · refine g_lload C dX6_chanceOf_179 1 rfl ?_
      refine g_aload_n C dX6_chanceOf_181 rfl 0 rfl ?_
      refine mm_getA C M 79 (Nat.le_of_ble_eq_true rfl) (Nat.le_of_ble_eq_true rfl) q2082 rfl dX6_chanceOf_182 ?_
      refine g_iload C dX6_chanceOf_185 2 rfl ?_
      refine mm_ldL C M 79 (Nat.le_of_ble_eq_true rfl) rfl dX6_chanceOf_187 h (fun v1 h => ?_)
      refine g_ladd C dX6_chanceOf_188 ?_
      refine g_lstore [(4, .long (x4 + v1)), (0, .ref E.2.2.1), (6, .int x6)] C dX6_chanceOf_189 (Nat.le_of_ble_eq_true rfl) rfl ?_
      refine g_iinc [(6, .int (x6 + (1 : Int32))), (4, .long (x4 + v1)), (0, .ref E.2.2.1)] C dX6_chanceOf_191 (j := 2) rfl (gk_inc_1 _) (Nat.le_of_ble_eq_true rfl) rfl ?_
      refine g_goto C dX6_chanceOf_194 rfl ?_
      exact g_sub [(0, .ref E.2.2.1), (4, .long (x4 + v1)), (6, .int (x6 + (1 : Int32)))] [2, 1, 0] rfl (ih (x4 + v1) (x6 + (1 : Int32)) z h)
def mo_chanceOf_b148 (k77 : Int32 → Int32 → Int32 → mm_S → Option (Int64 × mm_S)) (k87 : Int32 → Int32 → Int32 → Int32 → mm_S → Option (Int64 × mm_S)) (x2 : Int32) (x3 : Int32) (x4 : Int32) (x5 : Int32) (s1 : Int32) (s2 : Int64) (s3 : Int64) (z : mm_S) : Option (Int64 × mm_S) := mm_sL 79 s1 ((s2 + s3) / (100 : Int64)) z (fun z1 => k87 x2 x3 x4 (x5 + (-1 : Int32)) z1)
theorem wk_chanceOf_b148 {X : gX} {E : mm_E} {r : Int64 × mm_S} (C : gC X cX6_chanceOf 7 (some .long) RX6 9 213) (M : mm_C X E) {k77 : Int32 → Int32 → Int32 → mm_S → Option (Int64 × mm_S)} (hk77 : ∀ (x2 : Int32) (x3 : Int32) (x4 : Int32) (z : mm_S), k77 x2 x3 x4 z = some r → gW X (mm_G E) (.returned (some (.long r.1)), r.2) z 77 [(0, .ref E.2.2.1), (2, .int x2), (3, .int x3), (4, .int x4)] []) {k87 : Int32 → Int32 → Int32 → Int32 → mm_S → Option (Int64 × mm_S)} (hk87 : ∀ (x2 : Int32) (x3 : Int32) (x4 : Int32) (x5 : Int32) (z : mm_S), k87 x2 x3 x4 x5 z = some r → gW X (mm_G E) (.returned (some (.long r.1)), r.2) z 87 [(0, .ref E.2.2.1), (2, .int x2), (3, .int x3), (4, .int x4), (5, .int x5)] []) (x2 : Int32) (x3 : Int32) (x4 : Int32) (x5 : Int32) (s1 : Int32) (s2 : Int64) (s3 : Int64) (z : mm_S) (h : mo_chanceOf_b148 k77 k87 x2 x3 x4 x5 s1 s2 s3 z = some r) : gW X (mm_G E) (.returned (some (.long r.1)), r.2) z 148 [(0, .ref E.2.2.1), (2, .int x2), (3, .int x3), (4, .int x4), (5, .int x5)] [.long s3, .long s2, .int s1, .ref (E.2.2.2.1 79)] := by
  unfold mo_chanceOf_b148 at h
  refine g_ladd C dX6_chanceOf_148 ?_
  refine g_ldc2 C dX6_chanceOf_149 q2746 ?_
  refine g_ldiv C dX6_chanceOf_152 (by decide) ?_
  refine mm_stL C M 79 (Nat.le_of_ble_eq_true rfl) rfl dX6_chanceOf_153 h (fun z1 h => ?_)
  refine g_iinc [(5, .int (x5 + (-1 : Int32))), (0, .ref E.2.2.1), (2, .int x2), (3, .int x3), (4, .int x4)] C dX6_chanceOf_154 (j := 4) rfl (gk_inc_m1 _) (Nat.le_of_ble_eq_true rfl) rfl ?_
  refine g_goto C dX6_chanceOf_157 rfl ?_
  exact g_sub [(0, .ref E.2.2.1), (2, .int x2), (3, .int x3), (4, .int x4), (5, .int (x5 + (-1 : Int32)))] [1, 2, 3, 4, 0] rfl (hk87 x2 x3 x4 (x5 + (-1 : Int32)) z1 h)
def mo_chanceOf_b87 (k77 : Int32 → Int32 → Int32 → mm_S → Option (Int64 × mm_S)) : Nat → Int32 → Int32 → Int32 → Int32 → mm_S → Option (Int64 × mm_S)
  | 0, _, _, _, _, _ => none
  | n + 1, x2, x3, x4, x5, z => if x5 < 0 then (k77 x2 x3 (x4 + (1 : Int32)) z) else (mm_lL 79 x5 z (fun v1 => mm_gI 12 z (fun v2 => mm_lI 37 v2 z (fun v3 => if x5 ≤ 0 then (mo_chanceOf_b148 k77 (mo_chanceOf_b87 k77 n) x2 x3 x4 x5 x5 (v1 * (((100 : Int32) - v3)).toInt64) (0 : Int64) z) else (mm_lL 79 (x5 - (1 : Int32)) z (fun v4 => mm_gI 12 z (fun v5 => mm_lI 37 v5 z (fun v6 => mo_chanceOf_b148 k77 (mo_chanceOf_b87 k77 n) x2 x3 x4 x5 x5 (v1 * (((100 : Int32) - v3)).toInt64) (v4 * (v6).toInt64) z))))))))
theorem wk_chanceOf_b87 {X : gX} {E : mm_E} {r : Int64 × mm_S} (C : gC X cX6_chanceOf 7 (some .long) RX6 9 213) (M : mm_C X E) {k77 : Int32 → Int32 → Int32 → mm_S → Option (Int64 × mm_S)} (hk77 : ∀ (x2 : Int32) (x3 : Int32) (x4 : Int32) (z : mm_S), k77 x2 x3 x4 z = some r → gW X (mm_G E) (.returned (some (.long r.1)), r.2) z 77 [(0, .ref E.2.2.1), (2, .int x2), (3, .int x3), (4, .int x4)] []) : ∀ (n : Nat) (x2 : Int32) (x3 : Int32) (x4 : Int32) (x5 : Int32) (z : mm_S), mo_chanceOf_b87 k77 n x2 x3 x4 x5 z = some r → gW X (mm_G E) (.returned (some (.long r.1)), r.2) z 87 [(0, .ref E.2.2.1), (2, .int x2), (3, .int x3), (4, .int x4), (5, .int x5)] [] := by
  intro n
  induction n with
  | zero =>
    intro x2 x3 x4 x5 z h
    have h : (none : Option (Int64 × mm_S)) = some r := h
    cases h
  | succ n ih =>
    intro x2 x3 x4 x5 z h
    rw [mo_chanceOf_b87] at h
    refine g_iload C dX6_chanceOf_87 4 rfl ?_
    refine g_if_lt C dX6_chanceOf_89 rfl h (fun h => ?_) (fun h => ?_)
    · refine g_iinc [(4, .int (x4 + (1 : Int32))), (0, .ref E.2.2.1), (2, .int x2), (3, .int x3), (5, .int x5)] C dX6_chanceOf_160 (j := 3) rfl (gk_inc_1 _) (Nat.le_of_ble_eq_true rfl) rfl ?_
      refine g_goto C dX6_chanceOf_163 rfl ?_
      exact g_sub [(0, .ref E.2.2.1), (2, .int x2), (3, .int x3), (4, .int (x4 + (1 : Int32)))] [1, 2, 3, 0] rfl (hk77 x2 x3 (x4 + (1 : Int32)) z h)
    · refine g_aload_n C dX6_chanceOf_92 rfl 0 rfl ?_
      refine mm_getA C M 79 (Nat.le_of_ble_eq_true rfl) (Nat.le_of_ble_eq_true rfl) q2082 rfl dX6_chanceOf_93 ?_
      refine g_iload C dX6_chanceOf_96 4 rfl ?_
      refine g_aload_n C dX6_chanceOf_98 rfl 0 rfl ?_
      refine mm_getA C M 79 (Nat.le_of_ble_eq_true rfl) (Nat.le_of_ble_eq_true rfl) q2082 rfl dX6_chanceOf_99 ?_
      refine g_iload C dX6_chanceOf_102 4 rfl ?_
      refine mm_ldL C M 79 (Nat.le_of_ble_eq_true rfl) rfl dX6_chanceOf_104 h (fun v1 h => ?_)
      refine g_bipush C dX6_chanceOf_105 gk_bipush_100 ?_
      refine g_aload_n C dX6_chanceOf_107 rfl 0 rfl ?_
      refine mm_getA C M 37 (Nat.le_of_ble_eq_true rfl) (Nat.le_of_ble_eq_true rfl) q2040 rfl dX6_chanceOf_108 ?_
      refine g_aload_n C dX6_chanceOf_111 rfl 0 rfl ?_
      refine mm_getI C M 12 (Nat.le_of_ble_eq_true rfl) (Nat.le_of_ble_eq_true rfl) q2015 rfl dX6_chanceOf_112 h (fun v2 h => ?_)
      refine mm_ldI C M 37 (Nat.le_of_ble_eq_true rfl) rfl dX6_chanceOf_115 h (fun v3 h => ?_)
      refine g_isub C dX6_chanceOf_116 ?_
      refine g_i2l C dX6_chanceOf_117 ?_
      refine g_lmul C dX6_chanceOf_118 ?_
      refine g_iload C dX6_chanceOf_119 4 rfl ?_
      refine g_if_le C dX6_chanceOf_121 rfl h (fun h => ?_) (fun h => ?_)
      · refine g_lconst C dX6_chanceOf_147 gk_lconst_0 ?_
        exact wk_chanceOf_b148 C M hk77 ih x2 x3 x4 x5 x5 (v1 * (((100 : Int32) - v3)).toInt64) (0 : Int64) z h
      · refine g_aload_n C dX6_chanceOf_124 rfl 0 rfl ?_
        refine mm_getA C M 79 (Nat.le_of_ble_eq_true rfl) (Nat.le_of_ble_eq_true rfl) q2082 rfl dX6_chanceOf_125 ?_
        refine g_iload C dX6_chanceOf_128 4 rfl ?_
        refine g_iconst C dX6_chanceOf_130 gk_iconst_1 ?_
        refine g_isub C dX6_chanceOf_131 ?_
        refine mm_ldL C M 79 (Nat.le_of_ble_eq_true rfl) rfl dX6_chanceOf_132 h (fun v4 h => ?_)
        refine g_aload_n C dX6_chanceOf_133 rfl 0 rfl ?_
        refine mm_getA C M 37 (Nat.le_of_ble_eq_true rfl) (Nat.le_of_ble_eq_true rfl) q2040 rfl dX6_chanceOf_134 ?_
        refine g_aload_n C dX6_chanceOf_137 rfl 0 rfl ?_
        refine mm_getI C M 12 (Nat.le_of_ble_eq_true rfl) (Nat.le_of_ble_eq_true rfl) q2015 rfl dX6_chanceOf_138 h (fun v5 h => ?_)
        refine mm_ldI C M 37 (Nat.le_of_ble_eq_true rfl) rfl dX6_chanceOf_141 h (fun v6 h => ?_)
        refine g_i2l C dX6_chanceOf_142 ?_
        refine g_lmul C dX6_chanceOf_143 ?_
        refine g_goto C dX6_chanceOf_144 rfl ?_
        exact wk_chanceOf_b148 C M hk77 ih x2 x3 x4 x5 x5 (v1 * (((100 : Int32) - v3)).toInt64) (v4 * (v6).toInt64) z h
def mo_chanceOf_b77 : Nat → Int32 → Int32 → Int32 → mm_S → Option (Int64 × mm_S)
  | 0, _, _, _, _ => none
  | n + 1, x2, x3, x4, z => if x3 ≤ x4 then (mo_chanceOf_b172 g_fu (0 : Int64) x2 z) else (mo_chanceOf_b87 (mo_chanceOf_b77 n) g_fu x2 x3 x4 (49 : Int32) z)
theorem wk_chanceOf_b77 {X : gX} {E : mm_E} {r : Int64 × mm_S} (C : gC X cX6_chanceOf 7 (some .long) RX6 9 213) (M : mm_C X E) : ∀ (n : Nat) (x2 : Int32) (x3 : Int32) (x4 : Int32) (z : mm_S), mo_chanceOf_b77 n x2 x3 x4 z = some r → gW X (mm_G E) (.returned (some (.long r.1)), r.2) z 77 [(0, .ref E.2.2.1), (2, .int x2), (3, .int x3), (4, .int x4)] [] := by
  intro n
  induction n with
  | zero =>
    intro x2 x3 x4 z h
    have h : (none : Option (Int64 × mm_S)) = some r := h
    cases h
  | succ n ih =>
    intro x2 x3 x4 z h
    rw [mo_chanceOf_b77] at h
    refine g_iload C dX6_chanceOf_77 3 rfl ?_
    refine g_iload_n C dX6_chanceOf_79 rfl 2 rfl ?_
    refine g_icmp_ge C dX6_chanceOf_80 rfl h (fun h => ?_) (fun h => ?_)
    · refine g_lconst C dX6_chanceOf_166 gk_lconst_0 ?_
      refine g_lstore [(4, .long (0 : Int64)), (0, .ref E.2.2.1), (2, .int x2), (3, .int x3)] C dX6_chanceOf_167 (Nat.le_of_ble_eq_true rfl) rfl ?_
      refine g_iload_n C dX6_chanceOf_169 rfl 2 rfl ?_
      refine g_istore [(6, .int x2), (4, .long (0 : Int64)), (0, .ref E.2.2.1), (2, .int x2), (3, .int x3)] C dX6_chanceOf_170 (Nat.le_of_ble_eq_true rfl) rfl ?_
      exact g_sub [(0, .ref E.2.2.1), (4, .long (0 : Int64)), (6, .int x2)] [2, 1, 0] rfl (wk_chanceOf_b172 C M g_fu (0 : Int64) x2 z h)
    · refine g_bipush C dX6_chanceOf_83 gk_bipush_49 ?_
      refine g_istore [(5, .int (49 : Int32)), (0, .ref E.2.2.1), (2, .int x2), (3, .int x3), (4, .int x4)] C dX6_chanceOf_85 (Nat.le_of_ble_eq_true rfl) rfl ?_
      exact g_sub [(0, .ref E.2.2.1), (2, .int x2), (3, .int x3), (4, .int x4), (5, .int (49 : Int32))] [1, 2, 3, 4, 0] rfl (wk_chanceOf_b87 C M ih g_fu x2 x3 x4 (49 : Int32) z h)
def mo_chanceOf_b67 (k42 : Int32 → Int32 → Int32 → mm_S → Option (Int64 × mm_S)) (x2 : Int32) (x3 : Int32) (x4 : Int32) (s1 : Int32) (s2 : Int64) (z : mm_S) : Option (Int64 × mm_S) := mm_sL 79 s1 s2 z (fun z1 => k42 x2 x3 (x4 + (1 : Int32)) z1)
theorem wk_chanceOf_b67 {X : gX} {E : mm_E} {r : Int64 × mm_S} (C : gC X cX6_chanceOf 7 (some .long) RX6 9 213) (M : mm_C X E) {k42 : Int32 → Int32 → Int32 → mm_S → Option (Int64 × mm_S)} (hk42 : ∀ (x2 : Int32) (x3 : Int32) (x4 : Int32) (z : mm_S), k42 x2 x3 x4 z = some r → gW X (mm_G E) (.returned (some (.long r.1)), r.2) z 42 [(0, .ref E.2.2.1), (2, .int x2), (3, .int x3), (4, .int x4)] []) (x2 : Int32) (x3 : Int32) (x4 : Int32) (s1 : Int32) (s2 : Int64) (z : mm_S) (h : mo_chanceOf_b67 k42 x2 x3 x4 s1 s2 z = some r) : gW X (mm_G E) (.returned (some (.long r.1)), r.2) z 67 [(0, .ref E.2.2.1), (2, .int x2), (3, .int x3), (4, .int x4)] [.long s2, .int s1, .ref (E.2.2.2.1 79)] := by
  unfold mo_chanceOf_b67 at h
  refine mm_stL C M 79 (Nat.le_of_ble_eq_true rfl) rfl dX6_chanceOf_67 h (fun z1 h => ?_)
  refine g_iinc [(4, .int (x4 + (1 : Int32))), (0, .ref E.2.2.1), (2, .int x2), (3, .int x3)] C dX6_chanceOf_68 (j := 3) rfl (gk_inc_1 _) (Nat.le_of_ble_eq_true rfl) rfl ?_
  refine g_goto C dX6_chanceOf_71 rfl ?_
  exact g_sub [(0, .ref E.2.2.1), (2, .int x2), (3, .int x3), (4, .int (x4 + (1 : Int32)))] [1, 2, 3, 0] rfl (hk42 x2 x3 (x4 + (1 : Int32)) z1 h)
def mo_chanceOf_b42 : Nat → Int32 → Int32 → Int32 → mm_S → Option (Int64 × mm_S)
  | 0, _, _, _, _ => none
  | n + 1, x2, x3, x4, z => if (50 : Int32) ≤ x4 then (mo_chanceOf_b77 g_fu x2 x3 (0 : Int32) z) else (if x4 = 0 then (mo_chanceOf_b67 (mo_chanceOf_b42 n) x2 x3 x4 x4 (1000000000000 : Int64) z) else (mo_chanceOf_b67 (mo_chanceOf_b42 n) x2 x3 x4 x4 (0 : Int64) z))
theorem wk_chanceOf_b42 {X : gX} {E : mm_E} {r : Int64 × mm_S} (C : gC X cX6_chanceOf 7 (some .long) RX6 9 213) (M : mm_C X E) : ∀ (n : Nat) (x2 : Int32) (x3 : Int32) (x4 : Int32) (z : mm_S), mo_chanceOf_b42 n x2 x3 x4 z = some r → gW X (mm_G E) (.returned (some (.long r.1)), r.2) z 42 [(0, .ref E.2.2.1), (2, .int x2), (3, .int x3), (4, .int x4)] [] := by
  intro n
  induction n with
  | zero =>
    intro x2 x3 x4 z h
    have h : (none : Option (Int64 × mm_S)) = some r := h
    cases h
  | succ n ih =>
    intro x2 x3 x4 z h
    rw [mo_chanceOf_b42] at h
    refine g_iload C dX6_chanceOf_42 3 rfl ?_
    refine g_bipush C dX6_chanceOf_44 gk_bipush_50 ?_
    refine g_icmp_ge C dX6_chanceOf_46 rfl h (fun h => ?_) (fun h => ?_)
    · refine g_iconst C dX6_chanceOf_74 gk_iconst_0 ?_
      refine g_istore [(4, .int (0 : Int32)), (0, .ref E.2.2.1), (2, .int x2), (3, .int x3)] C dX6_chanceOf_75 (Nat.le_of_ble_eq_true rfl) rfl ?_
      exact g_sub [(0, .ref E.2.2.1), (2, .int x2), (3, .int x3), (4, .int (0 : Int32))] [1, 2, 3, 0] rfl (wk_chanceOf_b77 C M g_fu x2 x3 (0 : Int32) z h)
    · refine g_aload_n C dX6_chanceOf_49 rfl 0 rfl ?_
      refine mm_getA C M 79 (Nat.le_of_ble_eq_true rfl) (Nat.le_of_ble_eq_true rfl) q2082 rfl dX6_chanceOf_50 ?_
      refine g_iload C dX6_chanceOf_53 3 rfl ?_
      refine g_iload C dX6_chanceOf_55 3 rfl ?_
      refine g_if_ne C dX6_chanceOf_57 rfl h (fun h => ?_) (fun h => ?_)
      · refine g_lconst C dX6_chanceOf_66 gk_lconst_0 ?_
        exact wk_chanceOf_b67 C M ih x2 x3 x4 x4 (0 : Int64) z h
      · refine g_ldc2 C dX6_chanceOf_60 q2745 ?_
        refine g_goto C dX6_chanceOf_63 rfl ?_
        exact wk_chanceOf_b67 C M ih x2 x3 x4 x4 (1000000000000 : Int64) z h
def mo_chanceOf_b38 (x2 : Int32) (s0 : Int32) (z : mm_S) : Option (Int64 × mm_S) := mo_chanceOf_b42 g_fu x2 s0 (0 : Int32) z
theorem wk_chanceOf_b38 {X : gX} {E : mm_E} {r : Int64 × mm_S} (C : gC X cX6_chanceOf 7 (some .long) RX6 9 213) (M : mm_C X E) (x2 : Int32) (s0 : Int32) (z : mm_S) (h : mo_chanceOf_b38 x2 s0 z = some r) : gW X (mm_G E) (.returned (some (.long r.1)), r.2) z 38 [(0, .ref E.2.2.1), (2, .int x2)] [.int s0] := by
  unfold mo_chanceOf_b38 at h
  refine g_istore_n [(3, .int s0), (0, .ref E.2.2.1), (2, .int x2)] C dX6_chanceOf_38 rfl (Nat.le_of_ble_eq_true rfl) rfl ?_
  refine g_iconst C dX6_chanceOf_39 gk_iconst_0 ?_
  refine g_istore [(4, .int (0 : Int32)), (3, .int s0), (0, .ref E.2.2.1), (2, .int x2)] C dX6_chanceOf_40 (Nat.le_of_ble_eq_true rfl) rfl ?_
  exact g_sub [(0, .ref E.2.2.1), (2, .int x2), (3, .int s0), (4, .int (0 : Int32))] [2, 3, 1, 0] rfl (wk_chanceOf_b42 C M g_fu x2 s0 (0 : Int32) z h)
def mo_chanceOf (x1 : Int32) (z : mm_S) : Option (Int64 × mm_S) := g_call (mo_gapsOf x1 z) (fun v2 z1 => mm_gI 65 z1 (fun v3 => if (2 : Int32) ≤ v3 then (mm_gI 65 z1 (fun v4 => mm_lI 67 (v4 - (1 : Int32)) z1 (fun v5 => mm_lI 67 (0 : Int32) z1 (fun v6 => mo_chanceOf_b38 v2 ((v5 - v6) - (1 : Int32)) z1)))) else (mo_chanceOf_b38 v2 (0 : Int32) z1)))
theorem wk_chanceOf {X : gX} {E : mm_E} {r : Int64 × mm_S} (C : gC X cX6_chanceOf 7 (some .long) RX6 9 213) (M : mm_C X E) (x1 : Int32) (z : mm_S) (h : mo_chanceOf x1 z = some r) : gW X (mm_G E) (.returned (some (.long r.1)), r.2) z 0 [(0, .ref E.2.2.1), (1, .int x1)] [] := by
  unfold mo_chanceOf at h
  refine g_aload_n C dX6_chanceOf_0 rfl 0 rfl ?_
  refine g_iload_n C dX6_chanceOf_1 rfl 1 rfl ?_
  obtain ⟨v2, z1, e, h⟩ := g_callE h
  refine mm_callV C M 1 [.int x1] (st := []) (v := some (.int v2)) (z' := z1) (fun l => ct_gapsOf l x1 z v2 z1 e) (lw_V q2661 q2663 qs153 q178 q2664) rfl rfl rfl (Nat.le_of_ble_eq_true rfl) (Nat.le_of_ble_eq_true rfl) (Nat.le_of_ble_eq_true rfl) dX6_chanceOf_2 ?_
  refine gW_st (st' := [.int v2]) rfl ?_
  refine g_istore_n [(2, .int v2), (0, .ref E.2.2.1), (1, .int x1)] C dX6_chanceOf_5 rfl (Nat.le_of_ble_eq_true rfl) rfl ?_
  refine g_aload_n C dX6_chanceOf_6 rfl 1 rfl ?_
  refine mm_getI C M 65 (Nat.le_of_ble_eq_true rfl) (Nat.le_of_ble_eq_true rfl) q2068 rfl dX6_chanceOf_7 h (fun v3 h => ?_)
  refine g_iconst C dX6_chanceOf_10 gk_iconst_2 ?_
  refine g_icmp_ge C dX6_chanceOf_11 rfl h (fun h => ?_) (fun h => ?_)
  · refine g_aload_n C dX6_chanceOf_18 rfl 1 rfl ?_
    refine mm_getA C M 67 (Nat.le_of_ble_eq_true rfl) (Nat.le_of_ble_eq_true rfl) q2070 rfl dX6_chanceOf_19 ?_
    refine g_aload_n C dX6_chanceOf_22 rfl 1 rfl ?_
    refine mm_getI C M 65 (Nat.le_of_ble_eq_true rfl) (Nat.le_of_ble_eq_true rfl) q2068 rfl dX6_chanceOf_23 h (fun v4 h => ?_)
    refine g_iconst C dX6_chanceOf_26 gk_iconst_1 ?_
    refine g_isub C dX6_chanceOf_27 ?_
    refine mm_ldI C M 67 (Nat.le_of_ble_eq_true rfl) rfl dX6_chanceOf_28 h (fun v5 h => ?_)
    refine g_aload_n C dX6_chanceOf_29 rfl 1 rfl ?_
    refine mm_getA C M 67 (Nat.le_of_ble_eq_true rfl) (Nat.le_of_ble_eq_true rfl) q2070 rfl dX6_chanceOf_30 ?_
    refine g_iconst C dX6_chanceOf_33 gk_iconst_0 ?_
    refine mm_ldI C M 67 (Nat.le_of_ble_eq_true rfl) rfl dX6_chanceOf_34 h (fun v6 h => ?_)
    refine g_isub C dX6_chanceOf_35 ?_
    refine g_iconst C dX6_chanceOf_36 gk_iconst_1 ?_
    refine g_isub C dX6_chanceOf_37 ?_
    exact g_sub [(0, .ref E.2.2.1), (2, .int v2)] [1, 0] rfl (wk_chanceOf_b38 C M v2 ((v5 - v6) - (1 : Int32)) z1 h)
  · refine g_iconst C dX6_chanceOf_14 gk_iconst_0 ?_
    refine g_goto C dX6_chanceOf_15 rfl ?_
    exact g_sub [(0, .ref E.2.2.1), (2, .int v2)] [1, 0] rfl (wk_chanceOf_b38 C M v2 (0 : Int32) z1 h)
theorem ct_chanceOf (l : Launch) (x1 : Int32) (z : mm_S) (r : Int64) (z' : mm_S) (h : mo_chanceOf x1 z = some (r, z')) : mm_MetV l yX6_chanceOf cX6_chanceOf 7 (some .long) 9 213 [.int x1] z (.returned (some (.long r)), z') := by
  intro E hD
  exact mm_enter E hD rfl ⟨_, rfl⟩ (.ref E.2.2.1 :: [.int x1]) (Nat.le_of_ble_eq_true rfl) (fun X C M => wk_chanceOf C M x1 z h)
def mo_chance (x1 : Int32) (z : mm_S) : Option (Int64 × mm_S) := g_call (mo_isShip x1 z) (fun v2 z1 => if v2 = 0 then (some ((-1 : Int64), z1)) else (g_call (mo_chanceOf x1 z1) (fun v4 z3 => some (v4, z3))))
theorem wk_chance {X : gX} {E : mm_E} {r : Int64 × mm_S} (C : gC X cX6_chance 2 (some .long) RX6 10 239) (M : mm_C X E) (x1 : Int32) (z : mm_S) (h : mo_chance x1 z = some r) : gW X (mm_G E) (.returned (some (.long r.1)), r.2) z 0 [(0, .ref E.2.2.1), (1, .int x1)] [] := by
  unfold mo_chance at h
  refine g_aload_n C dX6_chance_0 rfl 0 rfl ?_
  refine g_iload_n C dX6_chance_1 rfl 1 rfl ?_
  obtain ⟨v2, z1, e, h⟩ := g_callE h
  refine mm_callV C M 1 [.int x1] (st := []) (v := some (.int v2)) (z' := z1) (fun l => ct_isShip l x1 z v2 z1 e) (lw_V q2521 q2523 qs126 q178 q2524) rfl rfl rfl (Nat.le_of_ble_eq_true rfl) (Nat.le_of_ble_eq_true rfl) (Nat.le_of_ble_eq_true rfl) dX6_chance_2 ?_
  refine gW_st (st' := [.int v2]) rfl ?_
  refine g_if_eq C dX6_chance_5 rfl h (fun h => ?_) (fun h => ?_)
  · refine g_ldc2 C dX6_chance_16 q2747 ?_
    exact g_lret C (fun _ => trivial) dX6_chance_19 h
  · refine g_aload_n C dX6_chance_8 rfl 0 rfl ?_
    refine g_iload_n C dX6_chance_9 rfl 1 rfl ?_
    obtain ⟨v4, z3, e, h⟩ := g_callE h
    refine mm_callV C M 1 [.int x1] (st := []) (v := some (.long v4)) (z' := z3) (fun l => ct_chanceOf l x1 z1 v4 z3 e) (lw_V q2741 q2743 qs160 q178 q2744) rfl rfl rfl (Nat.le_of_ble_eq_true rfl) (Nat.le_of_ble_eq_true rfl) (Nat.le_of_ble_eq_true rfl) dX6_chance_10 ?_
    refine gW_st (st' := [.long v4]) rfl ?_
    refine g_goto C dX6_chance_13 rfl ?_
    exact g_lret C (fun _ => trivial) dX6_chance_19 h
theorem ct_chance (l : Launch) (x1 : Int32) (z : mm_S) (r : Int64) (z' : mm_S) (h : mo_chance x1 z = some (r, z')) : mm_MetV l yX6_chance cX6_chance 2 (some .long) 10 239 [.int x1] z (.returned (some (.long r)), z') := by
  intro E hD
  exact mm_enter E hD rfl ⟨_, rfl⟩ (.ref E.2.2.1 :: [.int x1]) (Nat.le_of_ble_eq_true rfl) (fun X C M => wk_chance C M x1 z h)
def mo_beyond_b56 (k4 : Int32 → Int32 → mm_S → Option (Int32 × mm_S)) (x2 : Int32) (s0 : Int32) (s1 : Int32) (z : mm_S) : Option (Int32 × mm_S) := k4 (s0 ||| s1) (x2 + (1 : Int32)) z
theorem wk_beyond_b56 {X : gX} {E : mm_E} {r : Int32 × mm_S} (C : gC X cX6_beyond 3 (some .int) RX6 10 239) (M : mm_C X E) {k4 : Int32 → Int32 → mm_S → Option (Int32 × mm_S)} (hk4 : ∀ (x1 : Int32) (x2 : Int32) (z : mm_S), k4 x1 x2 z = some r → gW X (mm_G E) (.returned (some (.int r.1)), r.2) z 4 [(0, .ref E.2.2.1), (1, .int x1), (2, .int x2)] []) (x2 : Int32) (s0 : Int32) (s1 : Int32) (z : mm_S) (h : mo_beyond_b56 k4 x2 s0 s1 z = some r) : gW X (mm_G E) (.returned (some (.int r.1)), r.2) z 56 [(0, .ref E.2.2.1), (2, .int x2)] [.int s1, .int s0] := by
  unfold mo_beyond_b56 at h
  refine g_ior C dX6_beyond_56 ?_
  refine g_istore_n [(1, .int (s0 ||| s1)), (0, .ref E.2.2.1), (2, .int x2)] C dX6_beyond_57 rfl (Nat.le_of_ble_eq_true rfl) rfl ?_
  refine g_iinc [(2, .int (x2 + (1 : Int32))), (1, .int (s0 ||| s1)), (0, .ref E.2.2.1)] C dX6_beyond_58 (j := 2) rfl (gk_inc_1 _) (Nat.le_of_ble_eq_true rfl) rfl ?_
  refine g_goto C dX6_beyond_61 rfl ?_
  exact g_sub [(0, .ref E.2.2.1), (1, .int (s0 ||| s1)), (2, .int (x2 + (1 : Int32)))] [2, 1, 0] rfl (hk4 (s0 ||| s1) (x2 + (1 : Int32)) z h)
def mo_beyond_b55 (k4 : Int32 → Int32 → mm_S → Option (Int32 × mm_S)) (x2 : Int32) (s0 : Int32) (z : mm_S) : Option (Int32 × mm_S) := mo_beyond_b56 k4 x2 s0 (0 : Int32) z
theorem wk_beyond_b55 {X : gX} {E : mm_E} {r : Int32 × mm_S} (C : gC X cX6_beyond 3 (some .int) RX6 10 239) (M : mm_C X E) {k4 : Int32 → Int32 → mm_S → Option (Int32 × mm_S)} (hk4 : ∀ (x1 : Int32) (x2 : Int32) (z : mm_S), k4 x1 x2 z = some r → gW X (mm_G E) (.returned (some (.int r.1)), r.2) z 4 [(0, .ref E.2.2.1), (1, .int x1), (2, .int x2)] []) (x2 : Int32) (s0 : Int32) (z : mm_S) (h : mo_beyond_b55 k4 x2 s0 z = some r) : gW X (mm_G E) (.returned (some (.int r.1)), r.2) z 55 [(0, .ref E.2.2.1), (2, .int x2)] [.int s0] := by
  unfold mo_beyond_b55 at h
  refine g_iconst C dX6_beyond_55 gk_iconst_0 ?_
  exact wk_beyond_b56 C M hk4 x2 s0 (0 : Int32) z h
def mo_beyond_b4 : Nat → Int32 → Int32 → mm_S → Option (Int32 × mm_S)
  | 0, _, _, _ => none
  | n + 1, x1, x2, z => mm_gI 12 z (fun v1 => mm_lI 19 v1 z (fun v2 => if v2 ≤ x2 then (some (x1, z)) else (g_call (mo_gapsOf x2 z) (fun v4 z3 => if v4 ≤ 0 then (mo_beyond_b55 (mo_beyond_b4 n) x2 x1 z3) else (g_call (mo_chanceOf x2 z3) (fun v6 z5 => mm_gI 12 z5 (fun v7 => mm_lI 19 v7 z5 (fun v8 => if 0 ≤ (lg_cmp (v6 * (v8).toInt64) (50000000000 : Int64)) then (mo_beyond_b55 (mo_beyond_b4 n) x2 x1 z5) else (mo_beyond_b56 (mo_beyond_b4 n) x2 x1 ((1 : Int32) <<< (x2 &&& 31)) z5)))))))))
theorem wk_beyond_b4 {X : gX} {E : mm_E} {r : Int32 × mm_S} (C : gC X cX6_beyond 3 (some .int) RX6 10 239) (M : mm_C X E) : ∀ (n : Nat) (x1 : Int32) (x2 : Int32) (z : mm_S), mo_beyond_b4 n x1 x2 z = some r → gW X (mm_G E) (.returned (some (.int r.1)), r.2) z 4 [(0, .ref E.2.2.1), (1, .int x1), (2, .int x2)] [] := by
  intro n
  induction n with
  | zero =>
    intro x1 x2 z h
    have h : (none : Option (Int32 × mm_S)) = some r := h
    cases h
  | succ n ih =>
    intro x1 x2 z h
    rw [mo_beyond_b4] at h
    refine g_iload_n C dX6_beyond_4 rfl 2 rfl ?_
    refine g_aload_n C dX6_beyond_5 rfl 0 rfl ?_
    refine mm_getA C M 19 (Nat.le_of_ble_eq_true rfl) (Nat.le_of_ble_eq_true rfl) q2022 rfl dX6_beyond_6 ?_
    refine g_aload_n C dX6_beyond_9 rfl 0 rfl ?_
    refine mm_getI C M 12 (Nat.le_of_ble_eq_true rfl) (Nat.le_of_ble_eq_true rfl) q2015 rfl dX6_beyond_10 h (fun v1 h => ?_)
    refine mm_ldI C M 19 (Nat.le_of_ble_eq_true rfl) rfl dX6_beyond_13 h (fun v2 h => ?_)
    refine g_icmp_ge C dX6_beyond_14 rfl h (fun h => ?_) (fun h => ?_)
    · refine g_iload_n C dX6_beyond_64 rfl 1 rfl ?_
      exact g_iret C (fun _ => trivial) dX6_beyond_65 h
    · refine g_iload_n C dX6_beyond_17 rfl 1 rfl ?_
      refine g_aload_n C dX6_beyond_18 rfl 0 rfl ?_
      refine g_iload_n C dX6_beyond_19 rfl 2 rfl ?_
      obtain ⟨v4, z3, e, h⟩ := g_callE h
      refine mm_callV C M 1 [.int x2] (st := [.int x1]) (v := some (.int v4)) (z' := z3) (fun l => ct_gapsOf l x2 z v4 z3 e) (lw_V q2661 q2663 qs153 q178 q2664) rfl rfl rfl (Nat.le_of_ble_eq_true rfl) (Nat.le_of_ble_eq_true rfl) (Nat.le_of_ble_eq_true rfl) dX6_beyond_20 ?_
      refine gW_st (st' := [.int v4, .int x1]) rfl ?_
      refine g_if_le C dX6_beyond_23 rfl h (fun h => ?_) (fun h => ?_)
      · exact g_sub [(0, .ref E.2.2.1), (2, .int x2)] [0, 2] rfl (wk_beyond_b55 C M ih x2 x1 z3 h)
      · refine g_aload_n C dX6_beyond_26 rfl 0 rfl ?_
        refine g_iload_n C dX6_beyond_27 rfl 2 rfl ?_
        obtain ⟨v6, z5, e, h⟩ := g_callE h
        refine mm_callV C M 1 [.int x2] (st := [.int x1]) (v := some (.long v6)) (z' := z5) (fun l => ct_chanceOf l x2 z3 v6 z5 e) (lw_V q2741 q2743 qs160 q178 q2744) rfl rfl rfl (Nat.le_of_ble_eq_true rfl) (Nat.le_of_ble_eq_true rfl) (Nat.le_of_ble_eq_true rfl) dX6_beyond_28 ?_
        refine gW_st (st' := [.long v6, .int x1]) rfl ?_
        refine g_aload_n C dX6_beyond_31 rfl 0 rfl ?_
        refine mm_getA C M 19 (Nat.le_of_ble_eq_true rfl) (Nat.le_of_ble_eq_true rfl) q2022 rfl dX6_beyond_32 ?_
        refine g_aload_n C dX6_beyond_35 rfl 0 rfl ?_
        refine mm_getI C M 12 (Nat.le_of_ble_eq_true rfl) (Nat.le_of_ble_eq_true rfl) q2015 rfl dX6_beyond_36 h (fun v7 h => ?_)
        refine mm_ldI C M 19 (Nat.le_of_ble_eq_true rfl) rfl dX6_beyond_39 h (fun v8 h => ?_)
        refine g_i2l C dX6_beyond_40 ?_
        refine g_lmul C dX6_beyond_41 ?_
        refine g_ldc2 C dX6_beyond_42 q2752 ?_
        refine g_lcmp C dX6_beyond_45 ?_
        refine g_if_ge C dX6_beyond_46 rfl h (fun h => ?_) (fun h => ?_)
        · exact g_sub [(0, .ref E.2.2.1), (2, .int x2)] [0, 2] rfl (wk_beyond_b55 C M ih x2 x1 z5 h)
        · refine g_iconst C dX6_beyond_49 gk_iconst_1 ?_
          refine g_iload_n C dX6_beyond_50 rfl 2 rfl ?_
          refine g_ishl C dX6_beyond_51 ?_
          refine g_goto C dX6_beyond_52 rfl ?_
          exact g_sub [(0, .ref E.2.2.1), (2, .int x2)] [0, 2] rfl (wk_beyond_b56 C M ih x2 x1 ((1 : Int32) <<< (x2 &&& 31)) z5 h)
def mo_beyond (z : mm_S) : Option (Int32 × mm_S) := mo_beyond_b4 g_fu (0 : Int32) (0 : Int32) z
theorem wk_beyond {X : gX} {E : mm_E} {r : Int32 × mm_S} (C : gC X cX6_beyond 3 (some .int) RX6 10 239) (M : mm_C X E) (z : mm_S) (h : mo_beyond z = some r) : gW X (mm_G E) (.returned (some (.int r.1)), r.2) z 0 [(0, .ref E.2.2.1)] [] := by
  unfold mo_beyond at h
  refine g_iconst C dX6_beyond_0 gk_iconst_0 ?_
  refine g_istore_n [(1, .int (0 : Int32)), (0, .ref E.2.2.1)] C dX6_beyond_1 rfl (Nat.le_of_ble_eq_true rfl) rfl ?_
  refine g_iconst C dX6_beyond_2 gk_iconst_0 ?_
  refine g_istore_n [(2, .int (0 : Int32)), (1, .int (0 : Int32)), (0, .ref E.2.2.1)] C dX6_beyond_3 rfl (Nat.le_of_ble_eq_true rfl) rfl ?_
  exact g_sub [(0, .ref E.2.2.1), (1, .int (0 : Int32)), (2, .int (0 : Int32))] [2, 1, 0] rfl (wk_beyond_b4 C M g_fu (0 : Int32) (0 : Int32) z h)
theorem ct_beyond (l : Launch) (z : mm_S) (r : Int32) (z' : mm_S) (h : mo_beyond z = some (r, z')) : mm_MetV l yX6_beyond cX6_beyond 3 (some .int) 10 239 [] z (.returned (some (.int r)), z') := by
  intro E hD
  exact mm_enter E hD rfl ⟨_, rfl⟩ (.ref E.2.2.1 :: []) (Nat.le_of_ble_eq_true rfl) (fun X C M => wk_beyond C M z h)
def mo_settlesAll_b126 (k24 : Int32 → mm_S → Option (Unit × mm_S)) (x1 : Int32) (z : mm_S) : Option (Unit × mm_S) := k24 (x1 + (1 : Int32)) z
theorem wk_settlesAll_b126 {X : gX} {E : mm_E} {r : Unit × mm_S} (C : gC X cX6_settlesAll 4 none RX6 8 190) (M : mm_C X E) {k24 : Int32 → mm_S → Option (Unit × mm_S)} (hk24 : ∀ (x1 : Int32) (z : mm_S), k24 x1 z = some r → gW X (mm_G E) (.returned none, r.2) z 24 [(0, .ref E.2.2.1), (1, .int x1)] []) (x1 : Int32) (z : mm_S) (h : mo_settlesAll_b126 k24 x1 z = some r) : gW X (mm_G E) (.returned none, r.2) z 126 [(0, .ref E.2.2.1), (1, .int x1)] [] := by
  unfold mo_settlesAll_b126 at h
  refine g_iinc [(1, .int (x1 + (1 : Int32))), (0, .ref E.2.2.1)] C dX6_settlesAll_126 (j := 1) rfl (gk_inc_1 _) (Nat.le_of_ble_eq_true rfl) rfl ?_
  refine g_goto C dX6_settlesAll_129 rfl ?_
  exact g_sub [(0, .ref E.2.2.1), (1, .int (x1 + (1 : Int32)))] [1, 0] rfl (hk24 (x1 + (1 : Int32)) z h)
def mo_settlesAll_b120 (k24 : Int32 → mm_S → Option (Unit × mm_S)) (k55 : Int32 → Int32 → mm_S → Option (Unit × mm_S)) (x1 : Int32) (x2 : Int32) (z : mm_S) : Option (Unit × mm_S) := k55 x1 (x2 + (1 : Int32)) z
theorem wk_settlesAll_b120 {X : gX} {E : mm_E} {r : Unit × mm_S} (C : gC X cX6_settlesAll 4 none RX6 8 190) (M : mm_C X E) {k24 : Int32 → mm_S → Option (Unit × mm_S)} (hk24 : ∀ (x1 : Int32) (z : mm_S), k24 x1 z = some r → gW X (mm_G E) (.returned none, r.2) z 24 [(0, .ref E.2.2.1), (1, .int x1)] []) {k55 : Int32 → Int32 → mm_S → Option (Unit × mm_S)} (hk55 : ∀ (x1 : Int32) (x2 : Int32) (z : mm_S), k55 x1 x2 z = some r → gW X (mm_G E) (.returned none, r.2) z 55 [(0, .ref E.2.2.1), (1, .int x1), (2, .int x2)] []) (x1 : Int32) (x2 : Int32) (z : mm_S) (h : mo_settlesAll_b120 k24 k55 x1 x2 z = some r) : gW X (mm_G E) (.returned none, r.2) z 120 [(0, .ref E.2.2.1), (1, .int x1), (2, .int x2)] [] := by
  unfold mo_settlesAll_b120 at h
  refine g_iinc [(2, .int (x2 + (1 : Int32))), (0, .ref E.2.2.1), (1, .int x1)] C dX6_settlesAll_120 (j := 2) rfl (gk_inc_1 _) (Nat.le_of_ble_eq_true rfl) rfl ?_
  refine g_goto C dX6_settlesAll_123 rfl ?_
  exact g_sub [(0, .ref E.2.2.1), (1, .int x1), (2, .int (x2 + (1 : Int32)))] [1, 2, 0] rfl (hk55 x1 (x2 + (1 : Int32)) z h)
def mo_settlesAll_b112 (k24 : Int32 → mm_S → Option (Unit × mm_S)) (k55 : Int32 → Int32 → mm_S → Option (Unit × mm_S)) (k76 : Int32 → Int32 → Int32 → mm_S → Option (Unit × mm_S)) (x1 : Int32) (x2 : Int32) (x3 : Int32) (s1 : Int32) (s2 : Int32) (s3 : Int32) (z : mm_S) : Option (Unit × mm_S) := mm_sI 80 s1 (s2 + s3) z (fun z1 => k76 x1 x2 (x3 + (1 : Int32)) z1)
theorem wk_settlesAll_b112 {X : gX} {E : mm_E} {r : Unit × mm_S} (C : gC X cX6_settlesAll 4 none RX6 8 190) (M : mm_C X E) {k24 : Int32 → mm_S → Option (Unit × mm_S)} (hk24 : ∀ (x1 : Int32) (z : mm_S), k24 x1 z = some r → gW X (mm_G E) (.returned none, r.2) z 24 [(0, .ref E.2.2.1), (1, .int x1)] []) {k55 : Int32 → Int32 → mm_S → Option (Unit × mm_S)} (hk55 : ∀ (x1 : Int32) (x2 : Int32) (z : mm_S), k55 x1 x2 z = some r → gW X (mm_G E) (.returned none, r.2) z 55 [(0, .ref E.2.2.1), (1, .int x1), (2, .int x2)] []) {k76 : Int32 → Int32 → Int32 → mm_S → Option (Unit × mm_S)} (hk76 : ∀ (x1 : Int32) (x2 : Int32) (x3 : Int32) (z : mm_S), k76 x1 x2 x3 z = some r → gW X (mm_G E) (.returned none, r.2) z 76 [(0, .ref E.2.2.1), (1, .int x1), (2, .int x2), (3, .int x3)] []) (x1 : Int32) (x2 : Int32) (x3 : Int32) (s1 : Int32) (s2 : Int32) (s3 : Int32) (z : mm_S) (h : mo_settlesAll_b112 k24 k55 k76 x1 x2 x3 s1 s2 s3 z = some r) : gW X (mm_G E) (.returned none, r.2) z 112 [(0, .ref E.2.2.1), (1, .int x1), (2, .int x2), (3, .int x3)] [.int s3, .int s2, .int s1, .ref (E.2.2.2.1 80)] := by
  unfold mo_settlesAll_b112 at h
  refine g_iadd C dX6_settlesAll_112 ?_
  refine mm_stI C M 80 (Nat.le_of_ble_eq_true rfl) rfl dX6_settlesAll_113 h (fun z1 h => ?_)
  refine g_iinc [(3, .int (x3 + (1 : Int32))), (0, .ref E.2.2.1), (1, .int x1), (2, .int x2)] C dX6_settlesAll_114 (j := 3) rfl (gk_inc_1 _) (Nat.le_of_ble_eq_true rfl) rfl ?_
  refine g_goto C dX6_settlesAll_117 rfl ?_
  exact g_sub [(0, .ref E.2.2.1), (1, .int x1), (2, .int x2), (3, .int (x3 + (1 : Int32)))] [1, 2, 3, 0] rfl (hk76 x1 x2 (x3 + (1 : Int32)) z1 h)
def mo_settlesAll_b76 (k24 : Int32 → mm_S → Option (Unit × mm_S)) (k55 : Int32 → Int32 → mm_S → Option (Unit × mm_S)) : Nat → Int32 → Int32 → Int32 → mm_S → Option (Unit × mm_S)
  | 0, _, _, _, _ => none
  | n + 1, x1, x2, x3, z => g_call (mo_cells z) (fun v2 z1 => if v2 ≤ x3 then (mo_settlesAll_b120 k24 k55 x1 x2 z1) else (mm_lI 80 (((256 : Int32) * x2) + x3) z1 (fun v3 => g_call (mo_mayBe x1 x3 x2 z1) (fun v5 z4 => if v5 = 0 then (mo_settlesAll_b112 k24 k55 (mo_settlesAll_b76 k24 k55 n) x1 x2 x3 (((256 : Int32) * x2) + x3) v3 (0 : Int32) z4) else (mo_settlesAll_b112 k24 k55 (mo_settlesAll_b76 k24 k55 n) x1 x2 x3 (((256 : Int32) * x2) + x3) v3 (1 : Int32) z4)))))
theorem wk_settlesAll_b76 {X : gX} {E : mm_E} {r : Unit × mm_S} (C : gC X cX6_settlesAll 4 none RX6 8 190) (M : mm_C X E) {k24 : Int32 → mm_S → Option (Unit × mm_S)} (hk24 : ∀ (x1 : Int32) (z : mm_S), k24 x1 z = some r → gW X (mm_G E) (.returned none, r.2) z 24 [(0, .ref E.2.2.1), (1, .int x1)] []) {k55 : Int32 → Int32 → mm_S → Option (Unit × mm_S)} (hk55 : ∀ (x1 : Int32) (x2 : Int32) (z : mm_S), k55 x1 x2 z = some r → gW X (mm_G E) (.returned none, r.2) z 55 [(0, .ref E.2.2.1), (1, .int x1), (2, .int x2)] []) : ∀ (n : Nat) (x1 : Int32) (x2 : Int32) (x3 : Int32) (z : mm_S), mo_settlesAll_b76 k24 k55 n x1 x2 x3 z = some r → gW X (mm_G E) (.returned none, r.2) z 76 [(0, .ref E.2.2.1), (1, .int x1), (2, .int x2), (3, .int x3)] [] := by
  intro n
  induction n with
  | zero =>
    intro x1 x2 x3 z h
    have h : (none : Option (Unit × mm_S)) = some r := h
    cases h
  | succ n ih =>
    intro x1 x2 x3 z h
    rw [mo_settlesAll_b76] at h
    refine g_iload_n C dX6_settlesAll_76 rfl 3 rfl ?_
    refine g_aload_n C dX6_settlesAll_77 rfl 0 rfl ?_
    obtain ⟨v2, z1, e, h⟩ := g_callE h
    refine mm_callV C M 0 [] (st := [.int x3]) (v := some (.int v2)) (z' := z1) (fun l => ct_cells l z v2 z1 e) (lw_V q2442 q2444 qs115 q178 q2445) rfl rfl rfl (Nat.le_of_ble_eq_true rfl) (Nat.le_of_ble_eq_true rfl) (Nat.le_of_ble_eq_true rfl) dX6_settlesAll_78 ?_
    refine gW_st (st' := [.int v2, .int x3]) rfl ?_
    refine g_icmp_ge C dX6_settlesAll_81 rfl h (fun h => ?_) (fun h => ?_)
    · exact g_sub [(0, .ref E.2.2.1), (1, .int x1), (2, .int x2)] [0, 1, 2] rfl (wk_settlesAll_b120 C M hk24 hk55 x1 x2 z1 h)
    · refine g_aload_n C dX6_settlesAll_84 rfl 0 rfl ?_
      refine mm_getA C M 80 (Nat.le_of_ble_eq_true rfl) (Nat.le_of_ble_eq_true rfl) q2083 rfl dX6_settlesAll_85 ?_
      refine g_sipush C dX6_settlesAll_88 gk_sipush_256 ?_
      refine g_iload_n C dX6_settlesAll_91 rfl 2 rfl ?_
      refine g_imul C dX6_settlesAll_92 ?_
      refine g_iload_n C dX6_settlesAll_93 rfl 3 rfl ?_
      refine g_iadd C dX6_settlesAll_94 ?_
      refine g_dup2_11 C dX6_settlesAll_95 rfl rfl ?_
      refine mm_ldI C M 80 (Nat.le_of_ble_eq_true rfl) rfl dX6_settlesAll_96 h (fun v3 h => ?_)
      refine g_aload_n C dX6_settlesAll_97 rfl 0 rfl ?_
      refine g_iload_n C dX6_settlesAll_98 rfl 1 rfl ?_
      refine g_iload_n C dX6_settlesAll_99 rfl 3 rfl ?_
      refine g_iload_n C dX6_settlesAll_100 rfl 2 rfl ?_
      obtain ⟨v5, z4, e, h⟩ := g_callE h
      refine mm_callV C M 3 [.int x1, .int x3, .int x2] (st := [.int v3, .int (((256 : Int32) * x2) + x3), .ref (E.2.2.2.1 80)]) (v := some (.int v5)) (z' := z4) (fun l => ct_mayBe l x1 x3 x2 z1 v5 z4 e) (lw_V q2617 q2619 qs144 q178 q2620) rfl rfl rfl (Nat.le_of_ble_eq_true rfl) (Nat.le_of_ble_eq_true rfl) (Nat.le_of_ble_eq_true rfl) dX6_settlesAll_101 ?_
      refine gW_st (st' := [.int v5, .int v3, .int (((256 : Int32) * x2) + x3), .ref (E.2.2.2.1 80)]) rfl ?_
      refine g_if_eq C dX6_settlesAll_104 rfl h (fun h => ?_) (fun h => ?_)
      · refine g_iconst C dX6_settlesAll_111 gk_iconst_0 ?_
        exact wk_settlesAll_b112 C M hk24 hk55 ih x1 x2 x3 (((256 : Int32) * x2) + x3) v3 (0 : Int32) z4 h
      · refine g_iconst C dX6_settlesAll_107 gk_iconst_1 ?_
        refine g_goto C dX6_settlesAll_108 rfl ?_
        exact wk_settlesAll_b112 C M hk24 hk55 ih x1 x2 x3 (((256 : Int32) * x2) + x3) v3 (1 : Int32) z4 h
def mo_settlesAll_b55 (k24 : Int32 → mm_S → Option (Unit × mm_S)) : Nat → Int32 → Int32 → mm_S → Option (Unit × mm_S)
  | 0, _, _, _ => none
  | n + 1, x1, x2, z => if (48 : Int32) ≤ x2 then (mo_settlesAll_b126 k24 x1 z) else (g_call (mo_cellsOf x1 x2 z) (fun v2 z1 => if (2 : Int32) ≤ v2 then (mo_settlesAll_b76 k24 (mo_settlesAll_b55 k24 n) g_fu x1 x2 (0 : Int32) z1) else (mo_settlesAll_b120 k24 (mo_settlesAll_b55 k24 n) x1 x2 z1)))
theorem wk_settlesAll_b55 {X : gX} {E : mm_E} {r : Unit × mm_S} (C : gC X cX6_settlesAll 4 none RX6 8 190) (M : mm_C X E) {k24 : Int32 → mm_S → Option (Unit × mm_S)} (hk24 : ∀ (x1 : Int32) (z : mm_S), k24 x1 z = some r → gW X (mm_G E) (.returned none, r.2) z 24 [(0, .ref E.2.2.1), (1, .int x1)] []) : ∀ (n : Nat) (x1 : Int32) (x2 : Int32) (z : mm_S), mo_settlesAll_b55 k24 n x1 x2 z = some r → gW X (mm_G E) (.returned none, r.2) z 55 [(0, .ref E.2.2.1), (1, .int x1), (2, .int x2)] [] := by
  intro n
  induction n with
  | zero =>
    intro x1 x2 z h
    have h : (none : Option (Unit × mm_S)) = some r := h
    cases h
  | succ n ih =>
    intro x1 x2 z h
    rw [mo_settlesAll_b55] at h
    refine g_iload_n C dX6_settlesAll_55 rfl 2 rfl ?_
    refine g_bipush C dX6_settlesAll_56 gk_bipush_48 ?_
    refine g_icmp_ge C dX6_settlesAll_58 rfl h (fun h => ?_) (fun h => ?_)
    · exact g_sub [(0, .ref E.2.2.1), (1, .int x1)] [0, 1] rfl (wk_settlesAll_b126 C M hk24 x1 z h)
    · refine g_aload_n C dX6_settlesAll_61 rfl 0 rfl ?_
      refine g_iload_n C dX6_settlesAll_62 rfl 1 rfl ?_
      refine g_iload_n C dX6_settlesAll_63 rfl 2 rfl ?_
      obtain ⟨v2, z1, e, h⟩ := g_callE h
      refine mm_callV C M 2 [.int x1, .int x2] (st := []) (v := some (.int v2)) (z' := z1) (fun l => ct_cellsOf l x1 x2 z v2 z1 e) (lw_V q2613 q2615 qs143 q178 q2616) rfl rfl rfl (Nat.le_of_ble_eq_true rfl) (Nat.le_of_ble_eq_true rfl) (Nat.le_of_ble_eq_true rfl) dX6_settlesAll_64 ?_
      refine gW_st (st' := [.int v2]) rfl ?_
      refine g_iconst C dX6_settlesAll_67 gk_iconst_2 ?_
      refine g_icmp_ge C dX6_settlesAll_68 rfl h (fun h => ?_) (fun h => ?_)
      · refine g_iconst C dX6_settlesAll_74 gk_iconst_0 ?_
        refine g_istore_n [(3, .int (0 : Int32)), (0, .ref E.2.2.1), (1, .int x1), (2, .int x2)] C dX6_settlesAll_75 rfl (Nat.le_of_ble_eq_true rfl) rfl ?_
        exact g_sub [(0, .ref E.2.2.1), (1, .int x1), (2, .int x2), (3, .int (0 : Int32))] [1, 2, 3, 0] rfl (wk_settlesAll_b76 C M hk24 ih g_fu x1 x2 (0 : Int32) z1 h)
      · refine g_goto C dX6_settlesAll_71 rfl ?_
        exact wk_settlesAll_b120 C M hk24 ih x1 x2 z1 h
def mo_settlesAll_b24 : Nat → Int32 → mm_S → Option (Unit × mm_S)
  | 0, _, _ => none
  | n + 1, x1, z => mm_gI 12 z (fun v1 => mm_lI 19 v1 z (fun v2 => if v2 ≤ x1 then (some ((), z)) else (g_call (mo_sayingsOf x1 z) (fun v4 z3 => if v4 = 0 then (mo_settlesAll_b126 (mo_settlesAll_b24 n) x1 z3) else (g_call (mo_lays_2 x1 z3) (fun _ z5 => mo_settlesAll_b55 (mo_settlesAll_b24 n) g_fu x1 (0 : Int32) z5))))))
theorem wk_settlesAll_b24 {X : gX} {E : mm_E} {r : Unit × mm_S} (C : gC X cX6_settlesAll 4 none RX6 8 190) (M : mm_C X E) : ∀ (n : Nat) (x1 : Int32) (z : mm_S), mo_settlesAll_b24 n x1 z = some r → gW X (mm_G E) (.returned none, r.2) z 24 [(0, .ref E.2.2.1), (1, .int x1)] [] := by
  intro n
  induction n with
  | zero =>
    intro x1 z h
    have h : (none : Option (Unit × mm_S)) = some r := h
    cases h
  | succ n ih =>
    intro x1 z h
    rw [mo_settlesAll_b24] at h
    refine g_iload_n C dX6_settlesAll_24 rfl 1 rfl ?_
    refine g_aload_n C dX6_settlesAll_25 rfl 0 rfl ?_
    refine mm_getA C M 19 (Nat.le_of_ble_eq_true rfl) (Nat.le_of_ble_eq_true rfl) q2022 rfl dX6_settlesAll_26 ?_
    refine g_aload_n C dX6_settlesAll_29 rfl 0 rfl ?_
    refine mm_getI C M 12 (Nat.le_of_ble_eq_true rfl) (Nat.le_of_ble_eq_true rfl) q2015 rfl dX6_settlesAll_30 h (fun v1 h => ?_)
    refine mm_ldI C M 19 (Nat.le_of_ble_eq_true rfl) rfl dX6_settlesAll_33 h (fun v2 h => ?_)
    refine g_icmp_ge C dX6_settlesAll_34 rfl h (fun h => ?_) (fun h => ?_)
    · exact g_vret C (fun _ => trivial) dX6_settlesAll_132 h
    · refine g_aload_n C dX6_settlesAll_37 rfl 0 rfl ?_
      refine g_iload_n C dX6_settlesAll_38 rfl 1 rfl ?_
      obtain ⟨v4, z3, e, h⟩ := g_callE h
      refine mm_callV C M 1 [.int x1] (st := []) (v := some (.int v4)) (z' := z3) (fun l => ct_sayingsOf l x1 z v4 z3 e) (lw_V q2509 q2511 qs124 q178 q2512) rfl rfl rfl (Nat.le_of_ble_eq_true rfl) (Nat.le_of_ble_eq_true rfl) (Nat.le_of_ble_eq_true rfl) dX6_settlesAll_39 ?_
      refine gW_st (st' := [.int v4]) rfl ?_
      refine g_if_ne C dX6_settlesAll_42 rfl h (fun h => ?_) (fun h => ?_)
      · refine g_aload_n C dX6_settlesAll_48 rfl 0 rfl ?_
        refine g_iload_n C dX6_settlesAll_49 rfl 1 rfl ?_
        obtain ⟨u6, z5, e, h⟩ := g_callE h
        refine mm_callV C M 1 [.int x1] (st := []) (v := none) (z' := z5) (fun l => ct_lays_2 l x1 z3 u6 z5 e) (lw_V q2609 q2611 qs142 q178 q2612) rfl rfl rfl (Nat.le_of_ble_eq_true rfl) (Nat.le_of_ble_eq_true rfl) (Nat.le_of_ble_eq_true rfl) dX6_settlesAll_50 ?_
        refine gW_st (st' := []) rfl ?_
        refine g_iconst C dX6_settlesAll_53 gk_iconst_0 ?_
        refine g_istore_n [(2, .int (0 : Int32)), (0, .ref E.2.2.1), (1, .int x1)] C dX6_settlesAll_54 rfl (Nat.le_of_ble_eq_true rfl) rfl ?_
        exact g_sub [(0, .ref E.2.2.1), (1, .int x1), (2, .int (0 : Int32))] [1, 2, 0] rfl (wk_settlesAll_b55 C M ih g_fu x1 (0 : Int32) z5 h)
      · refine g_goto C dX6_settlesAll_45 rfl ?_
        exact wk_settlesAll_b126 C M ih x1 z3 h
def mo_settlesAll_b2 : Nat → Int32 → mm_S → Option (Unit × mm_S)
  | 0, _, _ => none
  | n + 1, x1, z => if (12288 : Int32) ≤ x1 then (mo_settlesAll_b24 g_fu (0 : Int32) z) else (mm_sI 80 x1 (0 : Int32) z (fun z1 => (mo_settlesAll_b2 n) (x1 + (1 : Int32)) z1))
theorem wk_settlesAll_b2 {X : gX} {E : mm_E} {r : Unit × mm_S} (C : gC X cX6_settlesAll 4 none RX6 8 190) (M : mm_C X E) : ∀ (n : Nat) (x1 : Int32) (z : mm_S), mo_settlesAll_b2 n x1 z = some r → gW X (mm_G E) (.returned none, r.2) z 2 [(0, .ref E.2.2.1), (1, .int x1)] [] := by
  intro n
  induction n with
  | zero =>
    intro x1 z h
    have h : (none : Option (Unit × mm_S)) = some r := h
    cases h
  | succ n ih =>
    intro x1 z h
    rw [mo_settlesAll_b2] at h
    refine g_iload_n C dX6_settlesAll_2 rfl 1 rfl ?_
    refine g_sipush C dX6_settlesAll_3 gk_sipush_12288 ?_
    refine g_icmp_ge C dX6_settlesAll_6 rfl h (fun h => ?_) (fun h => ?_)
    · refine g_iconst C dX6_settlesAll_22 gk_iconst_0 ?_
      refine g_istore_n [(1, .int (0 : Int32)), (0, .ref E.2.2.1)] C dX6_settlesAll_23 rfl (Nat.le_of_ble_eq_true rfl) rfl ?_
      exact g_sub [(0, .ref E.2.2.1), (1, .int (0 : Int32))] [1, 0] rfl (wk_settlesAll_b24 C M g_fu (0 : Int32) z h)
    · refine g_aload_n C dX6_settlesAll_9 rfl 0 rfl ?_
      refine mm_getA C M 80 (Nat.le_of_ble_eq_true rfl) (Nat.le_of_ble_eq_true rfl) q2083 rfl dX6_settlesAll_10 ?_
      refine g_iload_n C dX6_settlesAll_13 rfl 1 rfl ?_
      refine g_iconst C dX6_settlesAll_14 gk_iconst_0 ?_
      refine mm_stI C M 80 (Nat.le_of_ble_eq_true rfl) rfl dX6_settlesAll_15 h (fun z1 h => ?_)
      refine g_iinc [(1, .int (x1 + (1 : Int32))), (0, .ref E.2.2.1)] C dX6_settlesAll_16 (j := 1) rfl (gk_inc_1 _) (Nat.le_of_ble_eq_true rfl) rfl ?_
      refine g_goto C dX6_settlesAll_19 rfl ?_
      exact g_sub [(0, .ref E.2.2.1), (1, .int (x1 + (1 : Int32)))] [1, 0] rfl (ih (x1 + (1 : Int32)) z1 h)
def mo_settlesAll (z : mm_S) : Option (Unit × mm_S) := mo_settlesAll_b2 g_fu (0 : Int32) z
theorem wk_settlesAll {X : gX} {E : mm_E} {r : Unit × mm_S} (C : gC X cX6_settlesAll 4 none RX6 8 190) (M : mm_C X E) (z : mm_S) (h : mo_settlesAll z = some r) : gW X (mm_G E) (.returned none, r.2) z 0 [(0, .ref E.2.2.1)] [] := by
  unfold mo_settlesAll at h
  refine g_iconst C dX6_settlesAll_0 gk_iconst_0 ?_
  refine g_istore_n [(1, .int (0 : Int32)), (0, .ref E.2.2.1)] C dX6_settlesAll_1 rfl (Nat.le_of_ble_eq_true rfl) rfl ?_
  exact g_sub [(0, .ref E.2.2.1), (1, .int (0 : Int32))] [1, 0] rfl (wk_settlesAll_b2 C M g_fu (0 : Int32) z h)
theorem ct_settlesAll (l : Launch) (z : mm_S) (r : Unit) (z' : mm_S) (h : mo_settlesAll z = some (r, z')) : mm_MetV l yX6_settlesAll cX6_settlesAll 4 none 8 190 [] z (.returned none, z') := by
  intro E hD
  exact mm_enter E hD rfl ⟨_, rfl⟩ (.ref E.2.2.1 :: []) (Nat.le_of_ble_eq_true rfl) (fun X C M => wk_settlesAll C M z h)
def mo_settles (x1 : Int32) (x2 : Int32) (x3 : Int32) (z : mm_S) : Option (Int32 × mm_S) := g_call (mo_isHour x1 z) (fun v2 z1 => if v2 = 0 then (some ((-1 : Int32), z1)) else (g_call (mo_isCell x2 x3 z1) (fun v4 z3 => if v4 = 0 then (some ((-1 : Int32), z3)) else (g_call (mo_settlesAll z3) (fun _ z5 => g_call (mo_at x2 x3 z5) (fun v8 z7 => mm_lI 80 (((256 : Int32) * x1) + v8) z7 (fun v9 => some (v9, z7))))))))
theorem wk_settles {X : gX} {E : mm_E} {r : Int32 × mm_S} (C : gC X cX6_settles 4 (some .int) RX6 9 213) (M : mm_C X E) (x1 : Int32) (x2 : Int32) (x3 : Int32) (z : mm_S) (h : mo_settles x1 x2 x3 z = some r) : gW X (mm_G E) (.returned (some (.int r.1)), r.2) z 0 [(0, .ref E.2.2.1), (1, .int x1), (2, .int x2), (3, .int x3)] [] := by
  unfold mo_settles at h
  refine g_iload_n C dX6_settles_0 rfl 1 rfl ?_
  obtain ⟨v2, z1, e, h⟩ := g_callE h
  refine mm_callS C M 1 [.int x1] (st := []) (v := some (.int v2)) (z' := z1) (fun l => ct_isHour l x1 z v2 z1 e) (lw_S q2494 q2495 q178 q2496) rfl rfl rfl (Nat.le_of_ble_eq_true rfl) (Nat.le_of_ble_eq_true rfl) (Nat.le_of_ble_eq_true rfl) dX6_settles_1 ?_
  refine gW_st (st' := [.int v2]) rfl ?_
  refine g_if_eq C dX6_settles_4 rfl h (fun h => ?_) (fun h => ?_)
  · refine g_iconst C dX6_settles_16 gk_iconst_m1 ?_
    exact g_iret C (fun _ => trivial) dX6_settles_17 h
  · refine g_aload_n C dX6_settles_7 rfl 0 rfl ?_
    refine g_iload_n C dX6_settles_8 rfl 2 rfl ?_
    refine g_iload_n C dX6_settles_9 rfl 3 rfl ?_
    obtain ⟨v4, z3, e, h⟩ := g_callE h
    refine mm_callV C M 2 [.int x2, .int x3] (st := []) (v := some (.int v4)) (z' := z3) (fun l => ct_isCell l x2 x3 z1 v4 z3 e) (lw_V q2490 q2492 qs121 q178 q2493) rfl rfl rfl (Nat.le_of_ble_eq_true rfl) (Nat.le_of_ble_eq_true rfl) (Nat.le_of_ble_eq_true rfl) dX6_settles_10 ?_
    refine gW_st (st' := [.int v4]) rfl ?_
    refine g_if_ne C dX6_settles_13 rfl h (fun h => ?_) (fun h => ?_)
    · refine g_aload_n C dX6_settles_18 rfl 0 rfl ?_
      obtain ⟨u6, z5, e, h⟩ := g_callE h
      refine mm_callV C M 0 [] (st := []) (v := none) (z' := z5) (fun l => ct_settlesAll l z3 u6 z5 e) (lw_V q2757 q2759 qs161 q178 q2760) rfl rfl rfl (Nat.le_of_ble_eq_true rfl) (Nat.le_of_ble_eq_true rfl) (Nat.le_of_ble_eq_true rfl) dX6_settles_19 ?_
      refine gW_st (st' := []) rfl ?_
      refine g_aload_n C dX6_settles_22 rfl 0 rfl ?_
      refine mm_getA C M 80 (Nat.le_of_ble_eq_true rfl) (Nat.le_of_ble_eq_true rfl) q2083 rfl dX6_settles_23 ?_
      refine g_sipush C dX6_settles_26 gk_sipush_256 ?_
      refine g_iload_n C dX6_settles_29 rfl 1 rfl ?_
      refine g_imul C dX6_settles_30 ?_
      refine g_aload_n C dX6_settles_31 rfl 0 rfl ?_
      refine g_iload_n C dX6_settles_32 rfl 2 rfl ?_
      refine g_iload_n C dX6_settles_33 rfl 3 rfl ?_
      obtain ⟨v8, z7, e, h⟩ := g_callE h
      refine mm_callV C M 2 [.int x2, .int x3] (st := [.int ((256 : Int32) * x1), .ref (E.2.2.2.1 80)]) (v := some (.int v8)) (z' := z7) (fun l => ct_at l x2 x3 z5 v8 z7 e) (lw_V q2497 q2499 qs122 q178 q2500) rfl rfl rfl (Nat.le_of_ble_eq_true rfl) (Nat.le_of_ble_eq_true rfl) (Nat.le_of_ble_eq_true rfl) dX6_settles_34 ?_
      refine gW_st (st' := [.int v8, .int ((256 : Int32) * x1), .ref (E.2.2.2.1 80)]) rfl ?_
      refine g_iadd C dX6_settles_37 ?_
      refine mm_ldI C M 80 (Nat.le_of_ble_eq_true rfl) rfl dX6_settles_38 h (fun v9 h => ?_)
      exact g_iret C (fun _ => trivial) dX6_settles_39 h
    · refine g_iconst C dX6_settles_16 gk_iconst_m1 ?_
      exact g_iret C (fun _ => trivial) dX6_settles_17 h
theorem ct_settles (l : Launch) (x1 : Int32) (x2 : Int32) (x3 : Int32) (z : mm_S) (r : Int32) (z' : mm_S) (h : mo_settles x1 x2 x3 z = some (r, z')) : mm_MetV l yX6_settles cX6_settles 4 (some .int) 9 213 [.int x1, .int x2, .int x3] z (.returned (some (.int r)), z') := by
  intro E hD
  exact mm_enter E hD rfl ⟨_, rfl⟩ (.ref E.2.2.1 :: [.int x1, .int x2, .int x3]) (Nat.le_of_ble_eq_true rfl) (fun X C M => wk_settles C M x1 x2 x3 z h)
def mo_next_b140 (k19 : Int32 → Int32 → Int32 → mm_S → Option (Int32 × mm_S)) (k28 : Int32 → Int32 → Int32 → Int32 → mm_S → Option (Int32 × mm_S)) (x1 : Int32) (x3 : Int32) (x4 : Int32) (s0 : Int32) (z : mm_S) : Option (Int32 × mm_S) := k28 x1 s0 x3 (x4 + (1 : Int32)) z
theorem wk_next_b140 {X : gX} {E : mm_E} {r : Int32 × mm_S} (C : gC X cX6_next 7 (some .int) RX6 9 213) (M : mm_C X E) {k19 : Int32 → Int32 → Int32 → mm_S → Option (Int32 × mm_S)} (hk19 : ∀ (x1 : Int32) (x2 : Int32) (x3 : Int32) (z : mm_S), k19 x1 x2 x3 z = some r → gW X (mm_G E) (.returned (some (.int r.1)), r.2) z 19 [(0, .ref E.2.2.1), (1, .int x1), (2, .int x2), (3, .int x3)] []) {k28 : Int32 → Int32 → Int32 → Int32 → mm_S → Option (Int32 × mm_S)} (hk28 : ∀ (x1 : Int32) (x2 : Int32) (x3 : Int32) (x4 : Int32) (z : mm_S), k28 x1 x2 x3 x4 z = some r → gW X (mm_G E) (.returned (some (.int r.1)), r.2) z 28 [(0, .ref E.2.2.1), (1, .int x1), (2, .int x2), (3, .int x3), (4, .int x4)] []) (x1 : Int32) (x3 : Int32) (x4 : Int32) (s0 : Int32) (z : mm_S) (h : mo_next_b140 k19 k28 x1 x3 x4 s0 z = some r) : gW X (mm_G E) (.returned (some (.int r.1)), r.2) z 140 [(0, .ref E.2.2.1), (1, .int x1), (3, .int x3), (4, .int x4)] [.int s0] := by
  unfold mo_next_b140 at h
  refine g_istore_n [(2, .int s0), (0, .ref E.2.2.1), (1, .int x1), (3, .int x3), (4, .int x4)] C dX6_next_140 rfl (Nat.le_of_ble_eq_true rfl) rfl ?_
  refine g_iinc [(4, .int (x4 + (1 : Int32))), (2, .int s0), (0, .ref E.2.2.1), (1, .int x1), (3, .int x3)] C dX6_next_141 (j := 4) rfl (gk_inc_1 _) (Nat.le_of_ble_eq_true rfl) rfl ?_
  refine g_goto C dX6_next_144 rfl ?_
  exact g_sub [(0, .ref E.2.2.1), (1, .int x1), (2, .int s0), (3, .int x3), (4, .int (x4 + (1 : Int32)))] [2, 3, 1, 4, 0] rfl (hk28 x1 s0 x3 (x4 + (1 : Int32)) z h)
def mo_next_b127 (k19 : Int32 → Int32 → Int32 → mm_S → Option (Int32 × mm_S)) (k28 : Int32 → Int32 → Int32 → Int32 → mm_S → Option (Int32 × mm_S)) (x1 : Int32) (x2 : Int32) (x3 : Int32) (x4 : Int32) (x5 : Int32) (s0 : Int32) (z : mm_S) : Option (Int32 × mm_S) := if s0 = 0 then (mo_next_b140 k19 k28 x1 x3 x4 x2 z) else (mo_next_b140 k19 k28 x1 x3 x4 x5 z)
theorem wk_next_b127 {X : gX} {E : mm_E} {r : Int32 × mm_S} (C : gC X cX6_next 7 (some .int) RX6 9 213) (M : mm_C X E) {k19 : Int32 → Int32 → Int32 → mm_S → Option (Int32 × mm_S)} (hk19 : ∀ (x1 : Int32) (x2 : Int32) (x3 : Int32) (z : mm_S), k19 x1 x2 x3 z = some r → gW X (mm_G E) (.returned (some (.int r.1)), r.2) z 19 [(0, .ref E.2.2.1), (1, .int x1), (2, .int x2), (3, .int x3)] []) {k28 : Int32 → Int32 → Int32 → Int32 → mm_S → Option (Int32 × mm_S)} (hk28 : ∀ (x1 : Int32) (x2 : Int32) (x3 : Int32) (x4 : Int32) (z : mm_S), k28 x1 x2 x3 x4 z = some r → gW X (mm_G E) (.returned (some (.int r.1)), r.2) z 28 [(0, .ref E.2.2.1), (1, .int x1), (2, .int x2), (3, .int x3), (4, .int x4)] []) (x1 : Int32) (x2 : Int32) (x3 : Int32) (x4 : Int32) (x5 : Int32) (s0 : Int32) (z : mm_S) (h : mo_next_b127 k19 k28 x1 x2 x3 x4 x5 s0 z = some r) : gW X (mm_G E) (.returned (some (.int r.1)), r.2) z 127 [(0, .ref E.2.2.1), (1, .int x1), (2, .int x2), (3, .int x3), (4, .int x4), (5, .int x5)] [.int s0] := by
  unfold mo_next_b127 at h
  refine g_istore [(6, .int s0), (0, .ref E.2.2.1), (1, .int x1), (2, .int x2), (3, .int x3), (4, .int x4), (5, .int x5)] C dX6_next_127 (Nat.le_of_ble_eq_true rfl) rfl ?_
  refine g_iload C dX6_next_129 0 rfl ?_
  refine g_if_eq C dX6_next_131 rfl h (fun h => ?_) (fun h => ?_)
  · refine g_iload_n C dX6_next_139 rfl 3 rfl ?_
    exact g_sub [(0, .ref E.2.2.1), (1, .int x1), (3, .int x3), (4, .int x4)] [1, 2, 4, 5] rfl (wk_next_b140 C M hk19 hk28 x1 x3 x4 x2 z h)
  · refine g_iload C dX6_next_134 6 rfl ?_
    refine g_goto C dX6_next_136 rfl ?_
    exact g_sub [(0, .ref E.2.2.1), (1, .int x1), (3, .int x3), (4, .int x4)] [1, 2, 4, 5] rfl (wk_next_b140 C M hk19 hk28 x1 x3 x4 x5 z h)
def mo_next_b122 (k19 : Int32 → Int32 → Int32 → mm_S → Option (Int32 × mm_S)) (k28 : Int32 → Int32 → Int32 → Int32 → mm_S → Option (Int32 × mm_S)) (x1 : Int32) (x2 : Int32) (x3 : Int32) (x4 : Int32) (x5 : Int32) (z : mm_S) : Option (Int32 × mm_S) := mo_next_b127 k19 k28 x1 x2 x3 x4 x5 (1 : Int32) z
theorem wk_next_b122 {X : gX} {E : mm_E} {r : Int32 × mm_S} (C : gC X cX6_next 7 (some .int) RX6 9 213) (M : mm_C X E) {k19 : Int32 → Int32 → Int32 → mm_S → Option (Int32 × mm_S)} (hk19 : ∀ (x1 : Int32) (x2 : Int32) (x3 : Int32) (z : mm_S), k19 x1 x2 x3 z = some r → gW X (mm_G E) (.returned (some (.int r.1)), r.2) z 19 [(0, .ref E.2.2.1), (1, .int x1), (2, .int x2), (3, .int x3)] []) {k28 : Int32 → Int32 → Int32 → Int32 → mm_S → Option (Int32 × mm_S)} (hk28 : ∀ (x1 : Int32) (x2 : Int32) (x3 : Int32) (x4 : Int32) (z : mm_S), k28 x1 x2 x3 x4 z = some r → gW X (mm_G E) (.returned (some (.int r.1)), r.2) z 28 [(0, .ref E.2.2.1), (1, .int x1), (2, .int x2), (3, .int x3), (4, .int x4)] []) (x1 : Int32) (x2 : Int32) (x3 : Int32) (x4 : Int32) (x5 : Int32) (z : mm_S) (h : mo_next_b122 k19 k28 x1 x2 x3 x4 x5 z = some r) : gW X (mm_G E) (.returned (some (.int r.1)), r.2) z 122 [(0, .ref E.2.2.1), (1, .int x1), (2, .int x2), (3, .int x3), (4, .int x4), (5, .int x5)] [] := by
  unfold mo_next_b122 at h
  refine g_iconst C dX6_next_122 gk_iconst_1 ?_
  refine g_goto C dX6_next_123 rfl ?_
  exact wk_next_b127 C M hk19 hk28 x1 x2 x3 x4 x5 (1 : Int32) z h
def mo_next_b126 (k19 : Int32 → Int32 → Int32 → mm_S → Option (Int32 × mm_S)) (k28 : Int32 → Int32 → Int32 → Int32 → mm_S → Option (Int32 × mm_S)) (x1 : Int32) (x2 : Int32) (x3 : Int32) (x4 : Int32) (x5 : Int32) (z : mm_S) : Option (Int32 × mm_S) := mo_next_b127 k19 k28 x1 x2 x3 x4 x5 (0 : Int32) z
theorem wk_next_b126 {X : gX} {E : mm_E} {r : Int32 × mm_S} (C : gC X cX6_next 7 (some .int) RX6 9 213) (M : mm_C X E) {k19 : Int32 → Int32 → Int32 → mm_S → Option (Int32 × mm_S)} (hk19 : ∀ (x1 : Int32) (x2 : Int32) (x3 : Int32) (z : mm_S), k19 x1 x2 x3 z = some r → gW X (mm_G E) (.returned (some (.int r.1)), r.2) z 19 [(0, .ref E.2.2.1), (1, .int x1), (2, .int x2), (3, .int x3)] []) {k28 : Int32 → Int32 → Int32 → Int32 → mm_S → Option (Int32 × mm_S)} (hk28 : ∀ (x1 : Int32) (x2 : Int32) (x3 : Int32) (x4 : Int32) (z : mm_S), k28 x1 x2 x3 x4 z = some r → gW X (mm_G E) (.returned (some (.int r.1)), r.2) z 28 [(0, .ref E.2.2.1), (1, .int x1), (2, .int x2), (3, .int x3), (4, .int x4)] []) (x1 : Int32) (x2 : Int32) (x3 : Int32) (x4 : Int32) (x5 : Int32) (z : mm_S) (h : mo_next_b126 k19 k28 x1 x2 x3 x4 x5 z = some r) : gW X (mm_G E) (.returned (some (.int r.1)), r.2) z 126 [(0, .ref E.2.2.1), (1, .int x1), (2, .int x2), (3, .int x3), (4, .int x4), (5, .int x5)] [] := by
  unfold mo_next_b126 at h
  refine g_iconst C dX6_next_126 gk_iconst_0 ?_
  exact wk_next_b127 C M hk19 hk28 x1 x2 x3 x4 x5 (0 : Int32) z h
def mo_next_b28 (k19 : Int32 → Int32 → Int32 → mm_S → Option (Int32 × mm_S)) : Nat → Int32 → Int32 → Int32 → Int32 → mm_S → Option (Int32 × mm_S)
  | 0, _, _, _, _, _ => none
  | n + 1, x1, x2, x3, x4, z => g_call (mo_cells z) (fun v2 z1 => if v2 ≤ x4 then (k19 x1 x2 (x3 + (1 : Int32)) z1) else (if x2 = (-1 : Int32) then (mm_lI 80 (((256 : Int32) * x3) + x4) z1 (fun v9 => if v9 ≤ 0 then (mo_next_b127 k19 (mo_next_b28 k19 n) x1 x2 x3 x4 (((256 : Int32) * x3) + x4) (0 : Int32) z1) else (mo_next_b127 k19 (mo_next_b28 k19 n) x1 x2 x3 x4 (((256 : Int32) * x3) + x4) (1 : Int32) z1))) else (mm_lI 80 (((256 : Int32) * x3) + x4) z1 (fun v3 => mm_lI 80 x2 z1 (fun v4 => if v4 < v3 then (mo_next_b122 k19 (mo_next_b28 k19 n) x1 x2 x3 x4 (((256 : Int32) * x3) + x4) z1) else (mm_lI 80 (((256 : Int32) * x3) + x4) z1 (fun v5 => mm_lI 80 x2 z1 (fun v6 => if v5 = v6 then (mm_lI 56 x4 z1 (fun v7 => mm_lI 56 (x2 - x2 / (256 : Int32) * (256 : Int32)) z1 (fun v8 => if v8 ≤ v7 then (mo_next_b126 k19 (mo_next_b28 k19 n) x1 x2 x3 x4 (((256 : Int32) * x3) + x4) z1) else (mo_next_b122 k19 (mo_next_b28 k19 n) x1 x2 x3 x4 (((256 : Int32) * x3) + x4) z1)))) else (mo_next_b126 k19 (mo_next_b28 k19 n) x1 x2 x3 x4 (((256 : Int32) * x3) + x4) z1)))))))))
theorem wk_next_b28 {X : gX} {E : mm_E} {r : Int32 × mm_S} (C : gC X cX6_next 7 (some .int) RX6 9 213) (M : mm_C X E) {k19 : Int32 → Int32 → Int32 → mm_S → Option (Int32 × mm_S)} (hk19 : ∀ (x1 : Int32) (x2 : Int32) (x3 : Int32) (z : mm_S), k19 x1 x2 x3 z = some r → gW X (mm_G E) (.returned (some (.int r.1)), r.2) z 19 [(0, .ref E.2.2.1), (1, .int x1), (2, .int x2), (3, .int x3)] []) : ∀ (n : Nat) (x1 : Int32) (x2 : Int32) (x3 : Int32) (x4 : Int32) (z : mm_S), mo_next_b28 k19 n x1 x2 x3 x4 z = some r → gW X (mm_G E) (.returned (some (.int r.1)), r.2) z 28 [(0, .ref E.2.2.1), (1, .int x1), (2, .int x2), (3, .int x3), (4, .int x4)] [] := by
  intro n
  induction n with
  | zero =>
    intro x1 x2 x3 x4 z h
    have h : (none : Option (Int32 × mm_S)) = some r := h
    cases h
  | succ n ih =>
    intro x1 x2 x3 x4 z h
    rw [mo_next_b28] at h
    refine g_iload C dX6_next_28 4 rfl ?_
    refine g_aload_n C dX6_next_30 rfl 0 rfl ?_
    obtain ⟨v2, z1, e, h⟩ := g_callE h
    refine mm_callV C M 0 [] (st := [.int x4]) (v := some (.int v2)) (z' := z1) (fun l => ct_cells l z v2 z1 e) (lw_V q2442 q2444 qs115 q178 q2445) rfl rfl rfl (Nat.le_of_ble_eq_true rfl) (Nat.le_of_ble_eq_true rfl) (Nat.le_of_ble_eq_true rfl) dX6_next_31 ?_
    refine gW_st (st' := [.int v2, .int x4]) rfl ?_
    refine g_icmp_ge C dX6_next_34 rfl h (fun h => ?_) (fun h => ?_)
    · refine g_iinc [(3, .int (x3 + (1 : Int32))), (0, .ref E.2.2.1), (1, .int x1), (2, .int x2), (4, .int x4)] C dX6_next_147 (j := 3) rfl (gk_inc_1 _) (Nat.le_of_ble_eq_true rfl) rfl ?_
      refine g_goto C dX6_next_150 rfl ?_
      exact g_sub [(0, .ref E.2.2.1), (1, .int x1), (2, .int x2), (3, .int (x3 + (1 : Int32)))] [1, 2, 3, 0] rfl (hk19 x1 x2 (x3 + (1 : Int32)) z1 h)
    · refine g_sipush C dX6_next_37 gk_sipush_256 ?_
      refine g_iload_n C dX6_next_40 rfl 3 rfl ?_
      refine g_imul C dX6_next_41 ?_
      refine g_iload C dX6_next_42 4 rfl ?_
      refine g_iadd C dX6_next_44 ?_
      refine g_istore [(5, .int (((256 : Int32) * x3) + x4)), (0, .ref E.2.2.1), (1, .int x1), (2, .int x2), (3, .int x3), (4, .int x4)] C dX6_next_45 (Nat.le_of_ble_eq_true rfl) rfl ?_
      refine g_iload_n C dX6_next_47 rfl 3 rfl ?_
      refine g_iconst C dX6_next_48 gk_iconst_m1 ?_
      refine g_icmp_ne C dX6_next_49 rfl h (fun h => ?_) (fun h => ?_)
      · refine g_aload_n C dX6_next_70 rfl 1 rfl ?_
        refine mm_getA C M 80 (Nat.le_of_ble_eq_true rfl) (Nat.le_of_ble_eq_true rfl) q2083 rfl dX6_next_71 ?_
        refine g_iload C dX6_next_74 0 rfl ?_
        refine mm_ldI C M 80 (Nat.le_of_ble_eq_true rfl) rfl dX6_next_76 h (fun v3 h => ?_)
        refine g_aload_n C dX6_next_77 rfl 1 rfl ?_
        refine mm_getA C M 80 (Nat.le_of_ble_eq_true rfl) (Nat.le_of_ble_eq_true rfl) q2083 rfl dX6_next_78 ?_
        refine g_iload_n C dX6_next_81 rfl 3 rfl ?_
        refine mm_ldI C M 80 (Nat.le_of_ble_eq_true rfl) rfl dX6_next_82 h (fun v4 h => ?_)
        refine g_icmp_gt C dX6_next_83 rfl h (fun h => ?_) (fun h => ?_)
        · exact g_sub [(0, .ref E.2.2.1), (1, .int x1), (2, .int x2), (3, .int x3), (4, .int x4), (5, .int (((256 : Int32) * x3) + x4))] [1, 2, 3, 4, 5, 0] rfl (wk_next_b122 C M hk19 ih x1 x2 x3 x4 (((256 : Int32) * x3) + x4) z1 h)
        · refine g_aload_n C dX6_next_86 rfl 1 rfl ?_
          refine mm_getA C M 80 (Nat.le_of_ble_eq_true rfl) (Nat.le_of_ble_eq_true rfl) q2083 rfl dX6_next_87 ?_
          refine g_iload C dX6_next_90 0 rfl ?_
          refine mm_ldI C M 80 (Nat.le_of_ble_eq_true rfl) rfl dX6_next_92 h (fun v5 h => ?_)
          refine g_aload_n C dX6_next_93 rfl 1 rfl ?_
          refine mm_getA C M 80 (Nat.le_of_ble_eq_true rfl) (Nat.le_of_ble_eq_true rfl) q2083 rfl dX6_next_94 ?_
          refine g_iload_n C dX6_next_97 rfl 3 rfl ?_
          refine mm_ldI C M 80 (Nat.le_of_ble_eq_true rfl) rfl dX6_next_98 h (fun v6 h => ?_)
          refine g_icmp_ne C dX6_next_99 rfl h (fun h => ?_) (fun h => ?_)
          · exact g_sub [(0, .ref E.2.2.1), (1, .int x1), (2, .int x2), (3, .int x3), (4, .int x4), (5, .int (((256 : Int32) * x3) + x4))] [1, 2, 3, 4, 5, 0] rfl (wk_next_b126 C M hk19 ih x1 x2 x3 x4 (((256 : Int32) * x3) + x4) z1 h)
          · refine g_aload_n C dX6_next_102 rfl 1 rfl ?_
            refine mm_getA C M 56 (Nat.le_of_ble_eq_true rfl) (Nat.le_of_ble_eq_true rfl) q2059 rfl dX6_next_103 ?_
            refine g_iload C dX6_next_106 5 rfl ?_
            refine mm_ldI C M 56 (Nat.le_of_ble_eq_true rfl) rfl dX6_next_108 h (fun v7 h => ?_)
            refine g_aload_n C dX6_next_109 rfl 1 rfl ?_
            refine mm_getA C M 56 (Nat.le_of_ble_eq_true rfl) (Nat.le_of_ble_eq_true rfl) q2059 rfl dX6_next_110 ?_
            refine g_iload_n C dX6_next_113 rfl 3 rfl ?_
            refine g_sipush C dX6_next_114 gk_sipush_256 ?_
            refine g_irem C dX6_next_117 (by decide) ?_
            refine mm_ldI C M 56 (Nat.le_of_ble_eq_true rfl) rfl dX6_next_118 h (fun v8 h => ?_)
            refine g_icmp_ge C dX6_next_119 rfl h (fun h => ?_) (fun h => ?_)
            · exact g_sub [(0, .ref E.2.2.1), (1, .int x1), (2, .int x2), (3, .int x3), (4, .int x4), (5, .int (((256 : Int32) * x3) + x4))] [1, 2, 3, 4, 5, 0] rfl (wk_next_b126 C M hk19 ih x1 x2 x3 x4 (((256 : Int32) * x3) + x4) z1 h)
            · exact g_sub [(0, .ref E.2.2.1), (1, .int x1), (2, .int x2), (3, .int x3), (4, .int x4), (5, .int (((256 : Int32) * x3) + x4))] [1, 2, 3, 4, 5, 0] rfl (wk_next_b122 C M hk19 ih x1 x2 x3 x4 (((256 : Int32) * x3) + x4) z1 h)
      · refine g_aload_n C dX6_next_52 rfl 1 rfl ?_
        refine mm_getA C M 80 (Nat.le_of_ble_eq_true rfl) (Nat.le_of_ble_eq_true rfl) q2083 rfl dX6_next_53 ?_
        refine g_iload C dX6_next_56 0 rfl ?_
        refine mm_ldI C M 80 (Nat.le_of_ble_eq_true rfl) rfl dX6_next_58 h (fun v9 h => ?_)
        refine g_if_le C dX6_next_59 rfl h (fun h => ?_) (fun h => ?_)
        · refine g_iconst C dX6_next_66 gk_iconst_0 ?_
          refine g_goto C dX6_next_67 rfl ?_
          exact g_sub [(0, .ref E.2.2.1), (1, .int x1), (2, .int x2), (3, .int x3), (4, .int x4), (5, .int (((256 : Int32) * x3) + x4))] [1, 2, 3, 4, 5, 0] rfl (wk_next_b127 C M hk19 ih x1 x2 x3 x4 (((256 : Int32) * x3) + x4) (0 : Int32) z1 h)
        · refine g_iconst C dX6_next_62 gk_iconst_1 ?_
          refine g_goto C dX6_next_63 rfl ?_
          exact g_sub [(0, .ref E.2.2.1), (1, .int x1), (2, .int x2), (3, .int x3), (4, .int x4), (5, .int (((256 : Int32) * x3) + x4))] [1, 2, 3, 4, 5, 0] rfl (wk_next_b127 C M hk19 ih x1 x2 x3 x4 (((256 : Int32) * x3) + x4) (1 : Int32) z1 h)
def mo_next_b19 : Nat → Int32 → Int32 → Int32 → mm_S → Option (Int32 × mm_S)
  | 0, _, _, _, _ => none
  | n + 1, x1, x2, x3, z => if (48 : Int32) ≤ x3 then (if x2 = (-1 : Int32) then (some ((-1 : Int32), z)) else (if x1 = 0 then (some ((x2 / (256 : Int32)), z)) else (if x1 = (1 : Int32) then (some ((x2 - x2 / (256 : Int32) * (256 : Int32)), z)) else (mm_lI 80 x2 z (fun v1 => some (v1, z)))))) else (mo_next_b28 (mo_next_b19 n) g_fu x1 x2 x3 (0 : Int32) z)
theorem wk_next_b19 {X : gX} {E : mm_E} {r : Int32 × mm_S} (C : gC X cX6_next 7 (some .int) RX6 9 213) (M : mm_C X E) : ∀ (n : Nat) (x1 : Int32) (x2 : Int32) (x3 : Int32) (z : mm_S), mo_next_b19 n x1 x2 x3 z = some r → gW X (mm_G E) (.returned (some (.int r.1)), r.2) z 19 [(0, .ref E.2.2.1), (1, .int x1), (2, .int x2), (3, .int x3)] [] := by
  intro n
  induction n with
  | zero =>
    intro x1 x2 x3 z h
    have h : (none : Option (Int32 × mm_S)) = some r := h
    cases h
  | succ n ih =>
    intro x1 x2 x3 z h
    rw [mo_next_b19] at h
    refine g_iload_n C dX6_next_19 rfl 3 rfl ?_
    refine g_bipush C dX6_next_20 gk_bipush_48 ?_
    refine g_icmp_ge C dX6_next_22 rfl h (fun h => ?_) (fun h => ?_)
    · refine g_iload_n C dX6_next_153 rfl 2 rfl ?_
      refine g_iconst C dX6_next_154 gk_iconst_m1 ?_
      refine g_icmp_ne C dX6_next_155 rfl h (fun h => ?_) (fun h => ?_)
      · refine g_iload_n C dX6_next_160 rfl 1 rfl ?_
        refine g_if_ne C dX6_next_161 rfl h (fun h => ?_) (fun h => ?_)
        · refine g_iload_n C dX6_next_172 rfl 1 rfl ?_
          refine g_iconst C dX6_next_173 gk_iconst_1 ?_
          refine g_icmp_ne C dX6_next_174 rfl h (fun h => ?_) (fun h => ?_)
          · refine g_aload_n C dX6_next_185 rfl 0 rfl ?_
            refine mm_getA C M 80 (Nat.le_of_ble_eq_true rfl) (Nat.le_of_ble_eq_true rfl) q2083 rfl dX6_next_186 ?_
            refine g_iload_n C dX6_next_189 rfl 2 rfl ?_
            refine mm_ldI C M 80 (Nat.le_of_ble_eq_true rfl) rfl dX6_next_190 h (fun v1 h => ?_)
            exact g_iret C (fun _ => trivial) dX6_next_191 h
          · refine g_iload_n C dX6_next_177 rfl 2 rfl ?_
            refine g_sipush C dX6_next_178 gk_sipush_256 ?_
            refine g_irem C dX6_next_181 (by decide) ?_
            refine g_goto C dX6_next_182 rfl ?_
            exact g_iret C (fun _ => trivial) dX6_next_191 h
        · refine g_iload_n C dX6_next_164 rfl 2 rfl ?_
          refine g_sipush C dX6_next_165 gk_sipush_256 ?_
          refine g_idiv C dX6_next_168 (by decide) ?_
          refine g_goto C dX6_next_169 rfl ?_
          exact g_iret C (fun _ => trivial) dX6_next_191 h
      · refine g_iconst C dX6_next_158 gk_iconst_m1 ?_
        exact g_iret C (fun _ => trivial) dX6_next_159 h
    · refine g_iconst C dX6_next_25 gk_iconst_0 ?_
      refine g_istore [(4, .int (0 : Int32)), (0, .ref E.2.2.1), (1, .int x1), (2, .int x2), (3, .int x3)] C dX6_next_26 (Nat.le_of_ble_eq_true rfl) rfl ?_
      exact g_sub [(0, .ref E.2.2.1), (1, .int x1), (2, .int x2), (3, .int x3), (4, .int (0 : Int32))] [1, 2, 3, 4, 0] rfl (wk_next_b28 C M ih g_fu x1 x2 x3 (0 : Int32) z h)
def mo_next (x1 : Int32) (z : mm_S) : Option (Int32 × mm_S) := g_call (mo_is x1 (0 : Int32) (2 : Int32) z) (fun v2 z1 => if v2 = 0 then (some ((-1 : Int32), z1)) else (g_call (mo_settlesAll z1) (fun _ z3 => mo_next_b19 g_fu x1 (-1 : Int32) (0 : Int32) z3)))
theorem wk_next {X : gX} {E : mm_E} {r : Int32 × mm_S} (C : gC X cX6_next 7 (some .int) RX6 9 213) (M : mm_C X E) (x1 : Int32) (z : mm_S) (h : mo_next x1 z = some r) : gW X (mm_G E) (.returned (some (.int r.1)), r.2) z 0 [(0, .ref E.2.2.1), (1, .int x1)] [] := by
  unfold mo_next at h
  refine g_iload_n C dX6_next_0 rfl 1 rfl ?_
  refine g_iconst C dX6_next_1 gk_iconst_0 ?_
  refine g_iconst C dX6_next_2 gk_iconst_2 ?_
  obtain ⟨v2, z1, e, h⟩ := g_callE h
  refine mm_callS C M 3 [.int x1, .int (0 : Int32), .int (2 : Int32)] (st := []) (v := some (.int v2)) (z' := z1) (fun l => ct_is l x1 (0 : Int32) (2 : Int32) z v2 z1 e) (lw_S q2301 q2302 q178 q2303) rfl rfl rfl (Nat.le_of_ble_eq_true rfl) (Nat.le_of_ble_eq_true rfl) (Nat.le_of_ble_eq_true rfl) dX6_next_3 ?_
  refine gW_st (st' := [.int v2]) rfl ?_
  refine g_if_ne C dX6_next_6 rfl h (fun h => ?_) (fun h => ?_)
  · refine g_aload_n C dX6_next_11 rfl 0 rfl ?_
    obtain ⟨u4, z3, e, h⟩ := g_callE h
    refine mm_callV C M 0 [] (st := []) (v := none) (z' := z3) (fun l => ct_settlesAll l z1 u4 z3 e) (lw_V q2757 q2759 qs161 q178 q2760) rfl rfl rfl (Nat.le_of_ble_eq_true rfl) (Nat.le_of_ble_eq_true rfl) (Nat.le_of_ble_eq_true rfl) dX6_next_12 ?_
    refine gW_st (st' := []) rfl ?_
    refine g_iconst C dX6_next_15 gk_iconst_m1 ?_
    refine g_istore_n [(2, .int (-1 : Int32)), (0, .ref E.2.2.1), (1, .int x1)] C dX6_next_16 rfl (Nat.le_of_ble_eq_true rfl) rfl ?_
    refine g_iconst C dX6_next_17 gk_iconst_0 ?_
    refine g_istore_n [(3, .int (0 : Int32)), (2, .int (-1 : Int32)), (0, .ref E.2.2.1), (1, .int x1)] C dX6_next_18 rfl (Nat.le_of_ble_eq_true rfl) rfl ?_
    exact g_sub [(0, .ref E.2.2.1), (1, .int x1), (2, .int (-1 : Int32)), (3, .int (0 : Int32))] [2, 3, 1, 0] rfl (wk_next_b19 C M g_fu x1 (-1 : Int32) (0 : Int32) z3 h)
  · refine g_iconst C dX6_next_9 gk_iconst_m1 ?_
    exact g_iret C (fun _ => trivial) dX6_next_10 h
theorem ct_next (l : Launch) (x1 : Int32) (z : mm_S) (r : Int32) (z' : mm_S) (h : mo_next x1 z = some (r, z')) : mm_MetV l yX6_next cX6_next 7 (some .int) 9 213 [.int x1] z (.returned (some (.int r)), z') := by
  intro E hD
  exact mm_enter E hD rfl ⟨_, rfl⟩ (.ref E.2.2.1 :: [.int x1]) (Nat.le_of_ble_eq_true rfl) (fun X C M => wk_next C M x1 z h)
def mo_offOf_b72 (k2 : Int32 → Int32 → mm_S → Option (Int32 × mm_S)) (x1 : Int32) (x2 : Int32) (z : mm_S) : Option (Int32 × mm_S) := k2 x1 (x2 + (1 : Int32)) z
theorem wk_offOf_b72 {X : gX} {E : mm_E} {r : Int32 × mm_S} (C : gC X cX6_offOf 6 (some .int) RX6 5 118) (M : mm_C X E) {k2 : Int32 → Int32 → mm_S → Option (Int32 × mm_S)} (hk2 : ∀ (x1 : Int32) (x2 : Int32) (z : mm_S), k2 x1 x2 z = some r → gW X (mm_G E) (.returned (some (.int r.1)), r.2) z 2 [(0, .ref E.2.2.1), (1, .int x1), (2, .int x2)] []) (x1 : Int32) (x2 : Int32) (z : mm_S) (h : mo_offOf_b72 k2 x1 x2 z = some r) : gW X (mm_G E) (.returned (some (.int r.1)), r.2) z 72 [(0, .ref E.2.2.1), (1, .int x1), (2, .int x2)] [] := by
  unfold mo_offOf_b72 at h
  refine g_iinc [(2, .int (x2 + (1 : Int32))), (0, .ref E.2.2.1), (1, .int x1)] C dX6_offOf_72 (j := 2) rfl (gk_inc_1 _) (Nat.le_of_ble_eq_true rfl) rfl ?_
  refine g_goto C dX6_offOf_75 rfl ?_
  exact g_sub [(0, .ref E.2.2.1), (1, .int x1), (2, .int (x2 + (1 : Int32)))] [1, 2, 0] rfl (hk2 x1 (x2 + (1 : Int32)) z h)
def mo_offOf_b26 (k2 : Int32 → Int32 → mm_S → Option (Int32 × mm_S)) (x1 : Int32) (x2 : Int32) (s0 : Int32) (z : mm_S) : Option (Int32 × mm_S) := mm_pI 60 (0 : Int32) z (fun z1 => g_call (mo_addSayings x1 x1 s0 z1) (fun v3 z2 => mm_gI 60 z2 (fun v4 => g_call (mo_addBooks x1 z2) (fun _ z5 => if v4 ≤ 0 then (mo_offOf_b72 k2 x1 x2 z5) else (if v3 = 0 then (mo_offOf_b72 k2 x1 x2 z5) else (g_call (mo_fit x1 z5) (fun v8 z7 => if v8 = 0 then (mo_offOf_b72 k2 x1 x2 z7) else (some (s0, z7)))))))))
theorem wk_offOf_b26 {X : gX} {E : mm_E} {r : Int32 × mm_S} (C : gC X cX6_offOf 6 (some .int) RX6 5 118) (M : mm_C X E) {k2 : Int32 → Int32 → mm_S → Option (Int32 × mm_S)} (hk2 : ∀ (x1 : Int32) (x2 : Int32) (z : mm_S), k2 x1 x2 z = some r → gW X (mm_G E) (.returned (some (.int r.1)), r.2) z 2 [(0, .ref E.2.2.1), (1, .int x1), (2, .int x2)] []) (x1 : Int32) (x2 : Int32) (s0 : Int32) (z : mm_S) (h : mo_offOf_b26 k2 x1 x2 s0 z = some r) : gW X (mm_G E) (.returned (some (.int r.1)), r.2) z 26 [(0, .ref E.2.2.1), (1, .int x1), (2, .int x2)] [.int s0] := by
  unfold mo_offOf_b26 at h
  refine g_istore_n [(3, .int s0), (0, .ref E.2.2.1), (1, .int x1), (2, .int x2)] C dX6_offOf_26 rfl (Nat.le_of_ble_eq_true rfl) rfl ?_
  refine g_aload_n C dX6_offOf_27 rfl 1 rfl ?_
  refine g_iconst C dX6_offOf_28 gk_iconst_0 ?_
  refine mm_putI C M 60 (Nat.le_of_ble_eq_true rfl) (Nat.le_of_ble_eq_true rfl) q2063 rfl rfl rfl dX6_offOf_29 h (fun z1 h => ?_)
  refine g_aload_n C dX6_offOf_32 rfl 1 rfl ?_
  refine g_iload_n C dX6_offOf_33 rfl 2 rfl ?_
  refine g_iload_n C dX6_offOf_34 rfl 2 rfl ?_
  refine g_iload_n C dX6_offOf_35 rfl 0 rfl ?_
  obtain ⟨v3, z2, e, h⟩ := g_callE h
  refine mm_callV C M 3 [.int x1, .int x1, .int s0] (st := []) (v := some (.int v3)) (z' := z2) (fun l => ct_addSayings l x1 x1 s0 z1 v3 z2 e) (lw_V q2641 q2643 qs148 q178 q2644) rfl rfl rfl (Nat.le_of_ble_eq_true rfl) (Nat.le_of_ble_eq_true rfl) (Nat.le_of_ble_eq_true rfl) dX6_offOf_36 ?_
  refine gW_st (st' := [.int v3]) rfl ?_
  refine g_istore [(4, .int v3), (3, .int s0), (0, .ref E.2.2.1), (1, .int x1), (2, .int x2)] C dX6_offOf_39 (Nat.le_of_ble_eq_true rfl) rfl ?_
  refine g_aload_n C dX6_offOf_41 rfl 2 rfl ?_
  refine mm_getI C M 60 (Nat.le_of_ble_eq_true rfl) (Nat.le_of_ble_eq_true rfl) q2063 rfl dX6_offOf_42 h (fun v4 h => ?_)
  refine g_istore [(5, .int v4), (4, .int v3), (3, .int s0), (0, .ref E.2.2.1), (1, .int x1), (2, .int x2)] C dX6_offOf_45 (Nat.le_of_ble_eq_true rfl) rfl ?_
  refine g_aload_n C dX6_offOf_47 rfl 3 rfl ?_
  refine g_iload_n C dX6_offOf_48 rfl 4 rfl ?_
  obtain ⟨u6, z5, e, h⟩ := g_callE h
  refine mm_callV C M 1 [.int x1] (st := []) (v := none) (z' := z5) (fun l => ct_addBooks l x1 z2 u6 z5 e) (lw_V q2558 q2560 qs133 q178 q2561) rfl rfl rfl (Nat.le_of_ble_eq_true rfl) (Nat.le_of_ble_eq_true rfl) (Nat.le_of_ble_eq_true rfl) dX6_offOf_49 ?_
  refine gW_st (st' := []) rfl ?_
  refine g_iload C dX6_offOf_52 0 rfl ?_
  refine g_if_le C dX6_offOf_54 rfl h (fun h => ?_) (fun h => ?_)
  · exact g_sub [(0, .ref E.2.2.1), (1, .int x1), (2, .int x2)] [3, 4, 5] rfl (wk_offOf_b72 C M hk2 x1 x2 z5 h)
  · refine g_iload C dX6_offOf_57 1 rfl ?_
    refine g_if_eq C dX6_offOf_59 rfl h (fun h => ?_) (fun h => ?_)
    · exact g_sub [(0, .ref E.2.2.1), (1, .int x1), (2, .int x2)] [3, 4, 5] rfl (wk_offOf_b72 C M hk2 x1 x2 z5 h)
    · refine g_aload_n C dX6_offOf_62 rfl 3 rfl ?_
      refine g_iload_n C dX6_offOf_63 rfl 4 rfl ?_
      obtain ⟨v8, z7, e, h⟩ := g_callE h
      refine mm_callV C M 1 [.int x1] (st := []) (v := some (.int v8)) (z' := z7) (fun l => ct_fit l x1 z5 v8 z7 e) (lw_V q2566 q2568 qs135 q178 q2569) rfl rfl rfl (Nat.le_of_ble_eq_true rfl) (Nat.le_of_ble_eq_true rfl) (Nat.le_of_ble_eq_true rfl) dX6_offOf_64 ?_
      refine gW_st (st' := [.int v8]) rfl ?_
      refine g_if_eq C dX6_offOf_67 rfl h (fun h => ?_) (fun h => ?_)
      · exact g_sub [(0, .ref E.2.2.1), (1, .int x1), (2, .int x2)] [3, 4, 5] rfl (wk_offOf_b72 C M hk2 x1 x2 z7 h)
      · refine g_iload_n C dX6_offOf_70 rfl 2 rfl ?_
        exact g_iret C (fun _ => trivial) dX6_offOf_71 h
def mo_offOf_b2 : Nat → Int32 → Int32 → mm_S → Option (Int32 × mm_S)
  | 0, _, _, _ => none
  | n + 1, x1, x2, z => if (12 : Int32) < x2 then (some ((100 : Int32), z)) else (if (x2 - x2 / (2 : Int32) * (2 : Int32)) = 0 then (mo_offOf_b26 (mo_offOf_b2 n) x1 x2 (x2 / (2 : Int32)) z) else (mo_offOf_b26 (mo_offOf_b2 n) x1 x2 ((-(x2 + (1 : Int32))) / (2 : Int32)) z))
theorem wk_offOf_b2 {X : gX} {E : mm_E} {r : Int32 × mm_S} (C : gC X cX6_offOf 6 (some .int) RX6 5 118) (M : mm_C X E) : ∀ (n : Nat) (x1 : Int32) (x2 : Int32) (z : mm_S), mo_offOf_b2 n x1 x2 z = some r → gW X (mm_G E) (.returned (some (.int r.1)), r.2) z 2 [(0, .ref E.2.2.1), (1, .int x1), (2, .int x2)] [] := by
  intro n
  induction n with
  | zero =>
    intro x1 x2 z h
    have h : (none : Option (Int32 × mm_S)) = some r := h
    cases h
  | succ n ih =>
    intro x1 x2 z h
    rw [mo_offOf_b2] at h
    refine g_iload_n C dX6_offOf_2 rfl 2 rfl ?_
    refine g_bipush C dX6_offOf_3 gk_bipush_12 ?_
    refine g_icmp_gt C dX6_offOf_5 rfl h (fun h => ?_) (fun h => ?_)
    · refine g_bipush C dX6_offOf_78 gk_bipush_100 ?_
      exact g_iret C (fun _ => trivial) dX6_offOf_80 h
    · refine g_iload_n C dX6_offOf_8 rfl 2 rfl ?_
      refine g_iconst C dX6_offOf_9 gk_iconst_2 ?_
      refine g_irem C dX6_offOf_10 (by decide) ?_
      refine g_if_ne C dX6_offOf_11 rfl h (fun h => ?_) (fun h => ?_)
      · refine g_iload_n C dX6_offOf_20 rfl 2 rfl ?_
        refine g_iconst C dX6_offOf_21 gk_iconst_1 ?_
        refine g_iadd C dX6_offOf_22 ?_
        refine g_ineg C dX6_offOf_23 ?_
        refine g_iconst C dX6_offOf_24 gk_iconst_2 ?_
        refine g_idiv C dX6_offOf_25 (by decide) ?_
        exact wk_offOf_b26 C M ih x1 x2 ((-(x2 + (1 : Int32))) / (2 : Int32)) z h
      · refine g_iload_n C dX6_offOf_14 rfl 2 rfl ?_
        refine g_iconst C dX6_offOf_15 gk_iconst_2 ?_
        refine g_idiv C dX6_offOf_16 (by decide) ?_
        refine g_goto C dX6_offOf_17 rfl ?_
        exact wk_offOf_b26 C M ih x1 x2 (x2 / (2 : Int32)) z h
def mo_offOf (x1 : Int32) (z : mm_S) : Option (Int32 × mm_S) := mo_offOf_b2 g_fu x1 (0 : Int32) z
theorem wk_offOf {X : gX} {E : mm_E} {r : Int32 × mm_S} (C : gC X cX6_offOf 6 (some .int) RX6 5 118) (M : mm_C X E) (x1 : Int32) (z : mm_S) (h : mo_offOf x1 z = some r) : gW X (mm_G E) (.returned (some (.int r.1)), r.2) z 0 [(0, .ref E.2.2.1), (1, .int x1)] [] := by
  unfold mo_offOf at h
  refine g_iconst C dX6_offOf_0 gk_iconst_0 ?_
  refine g_istore_n [(2, .int (0 : Int32)), (0, .ref E.2.2.1), (1, .int x1)] C dX6_offOf_1 rfl (Nat.le_of_ble_eq_true rfl) rfl ?_
  exact g_sub [(0, .ref E.2.2.1), (1, .int x1), (2, .int (0 : Int32))] [1, 2, 0] rfl (wk_offOf_b2 C M g_fu x1 (0 : Int32) z h)
theorem ct_offOf (l : Launch) (x1 : Int32) (z : mm_S) (r : Int32) (z' : mm_S) (h : mo_offOf x1 z = some (r, z')) : mm_MetV l yX6_offOf cX6_offOf 6 (some .int) 5 118 [.int x1] z (.returned (some (.int r)), z') := by
  intro E hD
  exact mm_enter E hD rfl ⟨_, rfl⟩ (.ref E.2.2.1 :: [.int x1]) (Nat.le_of_ble_eq_true rfl) (fun X C M => wk_offOf C M x1 z h)
def mo_off (x1 : Int32) (z : mm_S) : Option (Int32 × mm_S) := g_call (mo_isShip x1 z) (fun v2 z1 => if v2 = 0 then (some ((100 : Int32), z1)) else (g_call (mo_offOf x1 z1) (fun v4 z3 => some (v4, z3))))
theorem wk_off {X : gX} {E : mm_E} {r : Int32 × mm_S} (C : gC X cX6_off 2 (some .int) RX6 6 143) (M : mm_C X E) (x1 : Int32) (z : mm_S) (h : mo_off x1 z = some r) : gW X (mm_G E) (.returned (some (.int r.1)), r.2) z 0 [(0, .ref E.2.2.1), (1, .int x1)] [] := by
  unfold mo_off at h
  refine g_aload_n C dX6_off_0 rfl 0 rfl ?_
  refine g_iload_n C dX6_off_1 rfl 1 rfl ?_
  obtain ⟨v2, z1, e, h⟩ := g_callE h
  refine mm_callV C M 1 [.int x1] (st := []) (v := some (.int v2)) (z' := z1) (fun l => ct_isShip l x1 z v2 z1 e) (lw_V q2521 q2523 qs126 q178 q2524) rfl rfl rfl (Nat.le_of_ble_eq_true rfl) (Nat.le_of_ble_eq_true rfl) (Nat.le_of_ble_eq_true rfl) dX6_off_2 ?_
  refine gW_st (st' := [.int v2]) rfl ?_
  refine g_if_eq C dX6_off_5 rfl h (fun h => ?_) (fun h => ?_)
  · refine g_bipush C dX6_off_16 gk_bipush_100 ?_
    exact g_iret C (fun _ => trivial) dX6_off_18 h
  · refine g_aload_n C dX6_off_8 rfl 0 rfl ?_
    refine g_iload_n C dX6_off_9 rfl 1 rfl ?_
    obtain ⟨v4, z3, e, h⟩ := g_callE h
    refine mm_callV C M 1 [.int x1] (st := []) (v := some (.int v4)) (z' := z3) (fun l => ct_offOf l x1 z1 v4 z3 e) (lw_V q2769 q2771 qs162 q178 q2772) rfl rfl rfl (Nat.le_of_ble_eq_true rfl) (Nat.le_of_ble_eq_true rfl) (Nat.le_of_ble_eq_true rfl) dX6_off_10 ?_
    refine gW_st (st' := [.int v4]) rfl ?_
    refine g_goto C dX6_off_13 rfl ?_
    exact g_iret C (fun _ => trivial) dX6_off_18 h
theorem ct_off (l : Launch) (x1 : Int32) (z : mm_S) (r : Int32) (z' : mm_S) (h : mo_off x1 z = some (r, z')) : mm_MetV l yX6_off cX6_off 2 (some .int) 6 143 [.int x1] z (.returned (some (.int r)), z') := by
  intro E hD
  exact mm_enter E hD rfl ⟨_, rfl⟩ (.ref E.2.2.1 :: [.int x1]) (Nat.le_of_ble_eq_true rfl) (fun X C M => wk_off C M x1 z h)
def mo_whose_b54 (k4 : Int32 → Int32 → mm_S → Option (Int32 × mm_S)) (x2 : Int32) (s0 : Int32) (s1 : Int32) (z : mm_S) : Option (Int32 × mm_S) := k4 (s0 ||| s1) (x2 + (1 : Int32)) z
theorem wk_whose_b54 {X : gX} {E : mm_E} {r : Int32 × mm_S} (C : gC X cX6_whose 4 (some .int) RX6 8 188) (M : mm_C X E) {k4 : Int32 → Int32 → mm_S → Option (Int32 × mm_S)} (hk4 : ∀ (x1 : Int32) (x2 : Int32) (z : mm_S), k4 x1 x2 z = some r → gW X (mm_G E) (.returned (some (.int r.1)), r.2) z 4 [(0, .ref E.2.2.1), (1, .int x1), (2, .int x2)] []) (x2 : Int32) (s0 : Int32) (s1 : Int32) (z : mm_S) (h : mo_whose_b54 k4 x2 s0 s1 z = some r) : gW X (mm_G E) (.returned (some (.int r.1)), r.2) z 54 [(0, .ref E.2.2.1), (2, .int x2)] [.int s1, .int s0] := by
  unfold mo_whose_b54 at h
  refine g_ior C dX6_whose_54 ?_
  refine g_istore_n [(1, .int (s0 ||| s1)), (0, .ref E.2.2.1), (2, .int x2)] C dX6_whose_55 rfl (Nat.le_of_ble_eq_true rfl) rfl ?_
  refine g_iinc [(2, .int (x2 + (1 : Int32))), (1, .int (s0 ||| s1)), (0, .ref E.2.2.1)] C dX6_whose_56 (j := 2) rfl (gk_inc_1 _) (Nat.le_of_ble_eq_true rfl) rfl ?_
  refine g_goto C dX6_whose_59 rfl ?_
  exact g_sub [(0, .ref E.2.2.1), (1, .int (s0 ||| s1)), (2, .int (x2 + (1 : Int32)))] [2, 1, 0] rfl (hk4 (s0 ||| s1) (x2 + (1 : Int32)) z h)
def mo_whose_b53 (k4 : Int32 → Int32 → mm_S → Option (Int32 × mm_S)) (x2 : Int32) (s0 : Int32) (z : mm_S) : Option (Int32 × mm_S) := mo_whose_b54 k4 x2 s0 (0 : Int32) z
theorem wk_whose_b53 {X : gX} {E : mm_E} {r : Int32 × mm_S} (C : gC X cX6_whose 4 (some .int) RX6 8 188) (M : mm_C X E) {k4 : Int32 → Int32 → mm_S → Option (Int32 × mm_S)} (hk4 : ∀ (x1 : Int32) (x2 : Int32) (z : mm_S), k4 x1 x2 z = some r → gW X (mm_G E) (.returned (some (.int r.1)), r.2) z 4 [(0, .ref E.2.2.1), (1, .int x1), (2, .int x2)] []) (x2 : Int32) (s0 : Int32) (z : mm_S) (h : mo_whose_b53 k4 x2 s0 z = some r) : gW X (mm_G E) (.returned (some (.int r.1)), r.2) z 53 [(0, .ref E.2.2.1), (2, .int x2)] [.int s0] := by
  unfold mo_whose_b53 at h
  refine g_iconst C dX6_whose_53 gk_iconst_0 ?_
  exact wk_whose_b54 C M hk4 x2 s0 (0 : Int32) z h
def mo_whose_b35 (k4 : Int32 → Int32 → mm_S → Option (Int32 × mm_S)) (x1 : Int32) (x2 : Int32) (s0 : Int32) (z : mm_S) : Option (Int32 × mm_S) := if s0 = (100 : Int32) then (mo_whose_b53 k4 x2 x1 z) else (if s0 = 0 then (mo_whose_b53 k4 x2 x1 z) else (mo_whose_b54 k4 x2 x1 ((1 : Int32) <<< (x2 &&& 31)) z))
theorem wk_whose_b35 {X : gX} {E : mm_E} {r : Int32 × mm_S} (C : gC X cX6_whose 4 (some .int) RX6 8 188) (M : mm_C X E) {k4 : Int32 → Int32 → mm_S → Option (Int32 × mm_S)} (hk4 : ∀ (x1 : Int32) (x2 : Int32) (z : mm_S), k4 x1 x2 z = some r → gW X (mm_G E) (.returned (some (.int r.1)), r.2) z 4 [(0, .ref E.2.2.1), (1, .int x1), (2, .int x2)] []) (x1 : Int32) (x2 : Int32) (s0 : Int32) (z : mm_S) (h : mo_whose_b35 k4 x1 x2 s0 z = some r) : gW X (mm_G E) (.returned (some (.int r.1)), r.2) z 35 [(0, .ref E.2.2.1), (1, .int x1), (2, .int x2)] [.int s0] := by
  unfold mo_whose_b35 at h
  refine g_istore_n [(3, .int s0), (0, .ref E.2.2.1), (1, .int x1), (2, .int x2)] C dX6_whose_35 rfl (Nat.le_of_ble_eq_true rfl) rfl ?_
  refine g_iload_n C dX6_whose_36 rfl 2 rfl ?_
  refine g_iload_n C dX6_whose_37 rfl 0 rfl ?_
  refine g_bipush C dX6_whose_38 gk_bipush_100 ?_
  refine g_icmp_eq C dX6_whose_40 rfl h (fun h => ?_) (fun h => ?_)
  · exact g_sub [(0, .ref E.2.2.1), (2, .int x2)] [1, 3] rfl (wk_whose_b53 C M hk4 x2 x1 z h)
  · refine g_iload_n C dX6_whose_43 rfl 0 rfl ?_
    refine g_if_eq C dX6_whose_44 rfl h (fun h => ?_) (fun h => ?_)
    · exact g_sub [(0, .ref E.2.2.1), (2, .int x2)] [1, 3] rfl (wk_whose_b53 C M hk4 x2 x1 z h)
    · refine g_iconst C dX6_whose_47 gk_iconst_1 ?_
      refine g_iload_n C dX6_whose_48 rfl 3 rfl ?_
      refine g_ishl C dX6_whose_49 ?_
      refine g_goto C dX6_whose_50 rfl ?_
      exact g_sub [(0, .ref E.2.2.1), (2, .int x2)] [1, 3] rfl (wk_whose_b54 C M hk4 x2 x1 ((1 : Int32) <<< (x2 &&& 31)) z h)
def mo_whose_b4 : Nat → Int32 → Int32 → mm_S → Option (Int32 × mm_S)
  | 0, _, _, _ => none
  | n + 1, x1, x2, z => mm_gI 12 z (fun v1 => mm_lI 19 v1 z (fun v2 => if v2 ≤ x2 then (some (x1, z)) else (g_call (mo_liesOf x2 z) (fun v4 z3 => if v4 ≤ 0 then (mo_whose_b35 (mo_whose_b4 n) x1 x2 (100 : Int32) z3) else (g_call (mo_offOf x2 z3) (fun v6 z5 => mo_whose_b35 (mo_whose_b4 n) x1 x2 v6 z5))))))
theorem wk_whose_b4 {X : gX} {E : mm_E} {r : Int32 × mm_S} (C : gC X cX6_whose 4 (some .int) RX6 8 188) (M : mm_C X E) : ∀ (n : Nat) (x1 : Int32) (x2 : Int32) (z : mm_S), mo_whose_b4 n x1 x2 z = some r → gW X (mm_G E) (.returned (some (.int r.1)), r.2) z 4 [(0, .ref E.2.2.1), (1, .int x1), (2, .int x2)] [] := by
  intro n
  induction n with
  | zero =>
    intro x1 x2 z h
    have h : (none : Option (Int32 × mm_S)) = some r := h
    cases h
  | succ n ih =>
    intro x1 x2 z h
    rw [mo_whose_b4] at h
    refine g_iload_n C dX6_whose_4 rfl 2 rfl ?_
    refine g_aload_n C dX6_whose_5 rfl 0 rfl ?_
    refine mm_getA C M 19 (Nat.le_of_ble_eq_true rfl) (Nat.le_of_ble_eq_true rfl) q2022 rfl dX6_whose_6 ?_
    refine g_aload_n C dX6_whose_9 rfl 0 rfl ?_
    refine mm_getI C M 12 (Nat.le_of_ble_eq_true rfl) (Nat.le_of_ble_eq_true rfl) q2015 rfl dX6_whose_10 h (fun v1 h => ?_)
    refine mm_ldI C M 19 (Nat.le_of_ble_eq_true rfl) rfl dX6_whose_13 h (fun v2 h => ?_)
    refine g_icmp_ge C dX6_whose_14 rfl h (fun h => ?_) (fun h => ?_)
    · refine g_iload_n C dX6_whose_62 rfl 1 rfl ?_
      exact g_iret C (fun _ => trivial) dX6_whose_63 h
    · refine g_aload_n C dX6_whose_17 rfl 0 rfl ?_
      refine g_iload_n C dX6_whose_18 rfl 2 rfl ?_
      obtain ⟨v4, z3, e, h⟩ := g_callE h
      refine mm_callV C M 1 [.int x2] (st := []) (v := some (.int v4)) (z' := z3) (fun l => ct_liesOf l x2 z v4 z3 e) (lw_V q2705 q2707 qs157 q178 q2708) rfl rfl rfl (Nat.le_of_ble_eq_true rfl) (Nat.le_of_ble_eq_true rfl) (Nat.le_of_ble_eq_true rfl) dX6_whose_19 ?_
      refine gW_st (st' := [.int v4]) rfl ?_
      refine g_if_le C dX6_whose_22 rfl h (fun h => ?_) (fun h => ?_)
      · refine g_bipush C dX6_whose_33 gk_bipush_100 ?_
        exact wk_whose_b35 C M ih x1 x2 (100 : Int32) z3 h
      · refine g_aload_n C dX6_whose_25 rfl 0 rfl ?_
        refine g_iload_n C dX6_whose_26 rfl 2 rfl ?_
        obtain ⟨v6, z5, e, h⟩ := g_callE h
        refine mm_callV C M 1 [.int x2] (st := []) (v := some (.int v6)) (z' := z5) (fun l => ct_offOf l x2 z3 v6 z5 e) (lw_V q2769 q2771 qs162 q178 q2772) rfl rfl rfl (Nat.le_of_ble_eq_true rfl) (Nat.le_of_ble_eq_true rfl) (Nat.le_of_ble_eq_true rfl) dX6_whose_27 ?_
        refine gW_st (st' := [.int v6]) rfl ?_
        refine g_goto C dX6_whose_30 rfl ?_
        exact wk_whose_b35 C M ih x1 x2 v6 z5 h
def mo_whose (z : mm_S) : Option (Int32 × mm_S) := mo_whose_b4 g_fu (0 : Int32) (0 : Int32) z
theorem wk_whose {X : gX} {E : mm_E} {r : Int32 × mm_S} (C : gC X cX6_whose 4 (some .int) RX6 8 188) (M : mm_C X E) (z : mm_S) (h : mo_whose z = some r) : gW X (mm_G E) (.returned (some (.int r.1)), r.2) z 0 [(0, .ref E.2.2.1)] [] := by
  unfold mo_whose at h
  refine g_iconst C dX6_whose_0 gk_iconst_0 ?_
  refine g_istore_n [(1, .int (0 : Int32)), (0, .ref E.2.2.1)] C dX6_whose_1 rfl (Nat.le_of_ble_eq_true rfl) rfl ?_
  refine g_iconst C dX6_whose_2 gk_iconst_0 ?_
  refine g_istore_n [(2, .int (0 : Int32)), (1, .int (0 : Int32)), (0, .ref E.2.2.1)] C dX6_whose_3 rfl (Nat.le_of_ble_eq_true rfl) rfl ?_
  exact g_sub [(0, .ref E.2.2.1), (1, .int (0 : Int32)), (2, .int (0 : Int32))] [2, 1, 0] rfl (wk_whose_b4 C M g_fu (0 : Int32) (0 : Int32) z h)
theorem ct_whose (l : Launch) (z : mm_S) (r : Int32) (z' : mm_S) (h : mo_whose z = some (r, z')) : mm_MetV l yX6_whose cX6_whose 4 (some .int) 8 188 [] z (.returned (some (.int r)), z') := by
  intro E hD
  exact mm_enter E hD rfl ⟨_, rfl⟩ (.ref E.2.2.1 :: []) (Nat.le_of_ble_eq_true rfl) (fun X C M => wk_whose C M z h)
def mo_says_2 (x1 : Int32) (x2 : Int32) (x3 : Int32) (x4 : Int32) (z : mm_S) : Option (Unit × mm_S) := mm_gI 12 z (fun v1 => mm_sI 26 ((((384 : Int32) * v1) + ((48 : Int32) * x1)) + x2) x3 z (fun z2 => mm_gI 12 z2 (fun v3 => mm_sZ 27 ((((384 : Int32) * v3) + ((48 : Int32) * x1)) + x2) x4 z2 (fun z4 => mm_gI 12 z4 (fun v5 => mm_lI 25 v5 z4 (fun v6 => mm_sI 25 v5 (v6 + (1 : Int32)) z4 (fun z7 => some ((), z7))))))))
theorem wk_says_2 {X : gX} {E : mm_E} {r : Unit × mm_S} (C : gC X cX6_says_2 5 none RX6 0 0) (M : mm_C X E) (x1 : Int32) (x2 : Int32) (x3 : Int32) (x4 : Int32) (z : mm_S) (h : mo_says_2 x1 x2 x3 x4 z = some r) : gW X (mm_G E) (.returned none, r.2) z 0 [(0, .ref E.2.2.1), (1, .int x1), (2, .int x2), (3, .int x3), (4, .int x4)] [] := by
  unfold mo_says_2 at h
  refine g_aload_n C dX6_says_2_0 rfl 0 rfl ?_
  refine mm_getA C M 26 (Nat.le_of_ble_eq_true rfl) (Nat.le_of_ble_eq_true rfl) q2029 rfl dX6_says_2_1 ?_
  refine g_sipush C dX6_says_2_4 gk_sipush_384 ?_
  refine g_aload_n C dX6_says_2_7 rfl 0 rfl ?_
  refine mm_getI C M 12 (Nat.le_of_ble_eq_true rfl) (Nat.le_of_ble_eq_true rfl) q2015 rfl dX6_says_2_8 h (fun v1 h => ?_)
  refine g_imul C dX6_says_2_11 ?_
  refine g_bipush C dX6_says_2_12 gk_bipush_48 ?_
  refine g_iload_n C dX6_says_2_14 rfl 1 rfl ?_
  refine g_imul C dX6_says_2_15 ?_
  refine g_iadd C dX6_says_2_16 ?_
  refine g_iload_n C dX6_says_2_17 rfl 2 rfl ?_
  refine g_iadd C dX6_says_2_18 ?_
  refine g_iload_n C dX6_says_2_19 rfl 3 rfl ?_
  refine mm_stI C M 26 (Nat.le_of_ble_eq_true rfl) rfl dX6_says_2_20 h (fun z2 h => ?_)
  refine g_aload_n C dX6_says_2_21 rfl 0 rfl ?_
  refine mm_getA C M 27 (Nat.le_of_ble_eq_true rfl) (Nat.le_of_ble_eq_true rfl) q2030 rfl dX6_says_2_22 ?_
  refine g_sipush C dX6_says_2_25 gk_sipush_384 ?_
  refine g_aload_n C dX6_says_2_28 rfl 0 rfl ?_
  refine mm_getI C M 12 (Nat.le_of_ble_eq_true rfl) (Nat.le_of_ble_eq_true rfl) q2015 rfl dX6_says_2_29 h (fun v3 h => ?_)
  refine g_imul C dX6_says_2_32 ?_
  refine g_bipush C dX6_says_2_33 gk_bipush_48 ?_
  refine g_iload_n C dX6_says_2_35 rfl 1 rfl ?_
  refine g_imul C dX6_says_2_36 ?_
  refine g_iadd C dX6_says_2_37 ?_
  refine g_iload_n C dX6_says_2_38 rfl 2 rfl ?_
  refine g_iadd C dX6_says_2_39 ?_
  refine g_iload C dX6_says_2_40 4 rfl ?_
  refine mm_stZ C M 27 (Nat.le_of_ble_eq_true rfl) rfl dX6_says_2_42 h (fun z4 h => ?_)
  refine g_aload_n C dX6_says_2_43 rfl 0 rfl ?_
  refine mm_getA C M 25 (Nat.le_of_ble_eq_true rfl) (Nat.le_of_ble_eq_true rfl) q2028 rfl dX6_says_2_44 ?_
  refine g_aload_n C dX6_says_2_47 rfl 0 rfl ?_
  refine mm_getI C M 12 (Nat.le_of_ble_eq_true rfl) (Nat.le_of_ble_eq_true rfl) q2015 rfl dX6_says_2_48 h (fun v5 h => ?_)
  refine g_dup2_11 C dX6_says_2_51 rfl rfl ?_
  refine mm_ldI C M 25 (Nat.le_of_ble_eq_true rfl) rfl dX6_says_2_52 h (fun v6 h => ?_)
  refine g_iconst C dX6_says_2_53 gk_iconst_1 ?_
  refine g_iadd C dX6_says_2_54 ?_
  refine mm_stI C M 25 (Nat.le_of_ble_eq_true rfl) rfl dX6_says_2_55 h (fun z7 h => ?_)
  exact g_vret C (fun _ => trivial) dX6_says_2_56 h
theorem ct_says_2 (l : Launch) (x1 : Int32) (x2 : Int32) (x3 : Int32) (x4 : Int32) (z : mm_S) (r : Unit) (z' : mm_S) (h : mo_says_2 x1 x2 x3 x4 z = some (r, z')) : mm_MetV l yX6_says_2 cX6_says_2 5 none 0 0 [.int x1, .int x2, .int x3, .int x4] z (.returned none, z') := by
  intro E hD
  exact mm_enter E hD rfl ⟨_, rfl⟩ (.ref E.2.2.1 :: [.int x1, .int x2, .int x3, .int x4]) (Nat.le_of_ble_eq_true rfl) (fun X C M => wk_says_2 C M x1 x2 x3 x4 z h)
def mo_numberOf_b28 (k5 : Int32 → Int32 → Int32 → Int32 → mm_S → Option (Int32 × mm_S)) (x1 : Int32) (x2 : Int32) (x4 : Int32) (s0 : Int32) (s1 : Int32) (z : mm_S) : Option (Int32 × mm_S) := k5 x1 x2 (s0 + s1) (x4 + (1 : Int32)) z
theorem wk_numberOf_b28 {X : gX} {E : mm_E} {r : Int32 × mm_S} (C : gC X cX6_numberOf 5 (some .int) RX6 1 22) (M : mm_C X E) {k5 : Int32 → Int32 → Int32 → Int32 → mm_S → Option (Int32 × mm_S)} (hk5 : ∀ (x1 : Int32) (x2 : Int32) (x3 : Int32) (x4 : Int32) (z : mm_S), k5 x1 x2 x3 x4 z = some r → gW X (mm_G E) (.returned (some (.int r.1)), r.2) z 5 [(0, .ref E.2.2.1), (1, .int x1), (2, .int x2), (3, .int x3), (4, .int x4)] []) (x1 : Int32) (x2 : Int32) (x4 : Int32) (s0 : Int32) (s1 : Int32) (z : mm_S) (h : mo_numberOf_b28 k5 x1 x2 x4 s0 s1 z = some r) : gW X (mm_G E) (.returned (some (.int r.1)), r.2) z 28 [(0, .ref E.2.2.1), (1, .int x1), (2, .int x2), (4, .int x4)] [.int s1, .int s0] := by
  unfold mo_numberOf_b28 at h
  refine g_iadd C dX6_numberOf_28 ?_
  refine g_istore_n [(3, .int (s0 + s1)), (0, .ref E.2.2.1), (1, .int x1), (2, .int x2), (4, .int x4)] C dX6_numberOf_29 rfl (Nat.le_of_ble_eq_true rfl) rfl ?_
  refine g_iinc [(4, .int (x4 + (1 : Int32))), (3, .int (s0 + s1)), (0, .ref E.2.2.1), (1, .int x1), (2, .int x2)] C dX6_numberOf_30 (j := 4) rfl (gk_inc_1 _) (Nat.le_of_ble_eq_true rfl) rfl ?_
  refine g_goto C dX6_numberOf_33 rfl ?_
  exact g_sub [(0, .ref E.2.2.1), (1, .int x1), (2, .int x2), (3, .int (s0 + s1)), (4, .int (x4 + (1 : Int32)))] [2, 3, 4, 1, 0] rfl (hk5 x1 x2 (s0 + s1) (x4 + (1 : Int32)) z h)
def mo_numberOf_b5 : Nat → Int32 → Int32 → Int32 → Int32 → mm_S → Option (Int32 × mm_S)
  | 0, _, _, _, _, _ => none
  | n + 1, x1, x2, x3, x4, z => if x2 ≤ x4 then (some (x3, z)) else (g_call (mo_said x1 x4 z) (fun v2 z1 => if v2 = (-1 : Int32) then (mo_numberOf_b28 (mo_numberOf_b5 n) x1 x2 x4 x3 (0 : Int32) z1) else (mo_numberOf_b28 (mo_numberOf_b5 n) x1 x2 x4 x3 (1 : Int32) z1)))
theorem wk_numberOf_b5 {X : gX} {E : mm_E} {r : Int32 × mm_S} (C : gC X cX6_numberOf 5 (some .int) RX6 1 22) (M : mm_C X E) : ∀ (n : Nat) (x1 : Int32) (x2 : Int32) (x3 : Int32) (x4 : Int32) (z : mm_S), mo_numberOf_b5 n x1 x2 x3 x4 z = some r → gW X (mm_G E) (.returned (some (.int r.1)), r.2) z 5 [(0, .ref E.2.2.1), (1, .int x1), (2, .int x2), (3, .int x3), (4, .int x4)] [] := by
  intro n
  induction n with
  | zero =>
    intro x1 x2 x3 x4 z h
    have h : (none : Option (Int32 × mm_S)) = some r := h
    cases h
  | succ n ih =>
    intro x1 x2 x3 x4 z h
    rw [mo_numberOf_b5] at h
    refine g_iload C dX6_numberOf_5 4 rfl ?_
    refine g_iload_n C dX6_numberOf_7 rfl 2 rfl ?_
    refine g_icmp_ge C dX6_numberOf_8 rfl h (fun h => ?_) (fun h => ?_)
    · refine g_iload_n C dX6_numberOf_36 rfl 3 rfl ?_
      exact g_iret C (fun _ => trivial) dX6_numberOf_37 h
    · refine g_iload_n C dX6_numberOf_11 rfl 3 rfl ?_
      refine g_aload_n C dX6_numberOf_12 rfl 0 rfl ?_
      refine g_iload_n C dX6_numberOf_13 rfl 1 rfl ?_
      refine g_iload C dX6_numberOf_14 4 rfl ?_
      obtain ⟨v2, z1, e, h⟩ := g_callE h
      refine mm_callV C M 2 [.int x1, .int x4] (st := [.int x3]) (v := some (.int v2)) (z' := z1) (fun l => ct_said l x1 x4 z v2 z1 e) (lw_V q2513 q2515 qs125 q178 q2516) rfl rfl rfl (Nat.le_of_ble_eq_true rfl) (Nat.le_of_ble_eq_true rfl) (Nat.le_of_ble_eq_true rfl) dX6_numberOf_16 ?_
      refine gW_st (st' := [.int v2, .int x3]) rfl ?_
      refine g_iconst C dX6_numberOf_19 gk_iconst_m1 ?_
      refine g_icmp_eq C dX6_numberOf_20 rfl h (fun h => ?_) (fun h => ?_)
      · refine g_iconst C dX6_numberOf_27 gk_iconst_0 ?_
        exact g_sub [(0, .ref E.2.2.1), (1, .int x1), (2, .int x2), (4, .int x4)] [0, 1, 2, 4] rfl (wk_numberOf_b28 C M ih x1 x2 x4 x3 (0 : Int32) z1 h)
      · refine g_iconst C dX6_numberOf_23 gk_iconst_1 ?_
        refine g_goto C dX6_numberOf_24 rfl ?_
        exact g_sub [(0, .ref E.2.2.1), (1, .int x1), (2, .int x2), (4, .int x4)] [0, 1, 2, 4] rfl (wk_numberOf_b28 C M ih x1 x2 x4 x3 (1 : Int32) z1 h)
def mo_numberOf (x1 : Int32) (x2 : Int32) (z : mm_S) : Option (Int32 × mm_S) := mo_numberOf_b5 g_fu x1 x2 (0 : Int32) (0 : Int32) z
theorem wk_numberOf {X : gX} {E : mm_E} {r : Int32 × mm_S} (C : gC X cX6_numberOf 5 (some .int) RX6 1 22) (M : mm_C X E) (x1 : Int32) (x2 : Int32) (z : mm_S) (h : mo_numberOf x1 x2 z = some r) : gW X (mm_G E) (.returned (some (.int r.1)), r.2) z 0 [(0, .ref E.2.2.1), (1, .int x1), (2, .int x2)] [] := by
  unfold mo_numberOf at h
  refine g_iconst C dX6_numberOf_0 gk_iconst_0 ?_
  refine g_istore_n [(3, .int (0 : Int32)), (0, .ref E.2.2.1), (1, .int x1), (2, .int x2)] C dX6_numberOf_1 rfl (Nat.le_of_ble_eq_true rfl) rfl ?_
  refine g_iconst C dX6_numberOf_2 gk_iconst_0 ?_
  refine g_istore [(4, .int (0 : Int32)), (3, .int (0 : Int32)), (0, .ref E.2.2.1), (1, .int x1), (2, .int x2)] C dX6_numberOf_3 (Nat.le_of_ble_eq_true rfl) rfl ?_
  exact g_sub [(0, .ref E.2.2.1), (1, .int x1), (2, .int x2), (3, .int (0 : Int32)), (4, .int (0 : Int32))] [2, 3, 4, 1, 0] rfl (wk_numberOf_b5 C M g_fu x1 x2 (0 : Int32) (0 : Int32) z h)
theorem ct_numberOf (l : Launch) (x1 : Int32) (x2 : Int32) (z : mm_S) (r : Int32) (z' : mm_S) (h : mo_numberOf x1 x2 z = some (r, z')) : mm_MetV l yX6_numberOf cX6_numberOf 5 (some .int) 1 22 [.int x1, .int x2] z (.returned (some (.int r)), z') := by
  intro E hD
  exact mm_enter E hD rfl ⟨_, rfl⟩ (.ref E.2.2.1 :: [.int x1, .int x2]) (Nat.le_of_ble_eq_true rfl) (fun X C M => wk_numberOf C M x1 x2 z h)
def mo_add_2_b49 (z : mm_S) : Option (Int32 × mm_S) := g_call (mo_refuses (2 : Int32) z) (fun v2 z1 => some (v2, z1))
theorem wk_add_2_b49 {X : gX} {E : mm_E} {r : Int32 × mm_S} (C : gC X cX6_add_2 6 (some .int) RX6 2 46) (M : mm_C X E) (z : mm_S) (h : mo_add_2_b49 z = some r) : gW X (mm_G E) (.returned (some (.int r.1)), r.2) z 49 [(0, .ref E.2.2.1)] [] := by
  unfold mo_add_2_b49 at h
  refine g_aload_n C dX6_add_2_49 rfl 0 rfl ?_
  refine g_iconst C dX6_add_2_50 gk_iconst_2 ?_
  obtain ⟨v2, z1, e, h⟩ := g_callE h
  refine mm_callV C M 1 [.int (2 : Int32)] (st := []) (v := some (.int v2)) (z' := z1) (fun l => ct_refuses l (2 : Int32) z v2 z1 e) (lw_V q2258 q2260 qs83 q178 q2261) rfl rfl rfl (Nat.le_of_ble_eq_true rfl) (Nat.le_of_ble_eq_true rfl) (Nat.le_of_ble_eq_true rfl) dX6_add_2_51 ?_
  refine gW_st (st' := [.int v2]) rfl ?_
  exact g_iret C (fun _ => trivial) dX6_add_2_54 h
def mo_add_2 (x1 : Int32) (x2 : Int32) (x3 : Int32) (x4 : Int32) (x5 : Int32) (z : mm_S) : Option (Int32 × mm_S) := g_call (mo_isShip x1 z) (fun v2 z1 => if v2 = 0 then (mo_add_2_b49 z1) else (g_call (mo_isHour x2 z1) (fun v4 z3 => if v4 = 0 then (mo_add_2_b49 z3) else (g_call (mo_isCell x3 x4 z3) (fun v6 z5 => if v6 = 0 then (mo_add_2_b49 z5) else (g_call (mo_said x1 x2 z5) (fun v8 z7 => if v8 = (-1 : Int32) then (mm_gI 12 z7 (fun v9 => mm_lI 25 v9 z7 (fun v10 => if v10 = (96 : Int32) then (mo_add_2_b49 z7) else (g_call (mo_at x3 x4 z7) (fun v12 z11 => g_call (mo_says_2 x1 x2 v12 x5 z11) (fun _ z13 => g_call (mo_numberOf x1 x2 z13) (fun v16 z15 => some (v16, z15)))))))) else (mo_add_2_b49 z7))))))))
theorem wk_add_2 {X : gX} {E : mm_E} {r : Int32 × mm_S} (C : gC X cX6_add_2 6 (some .int) RX6 2 46) (M : mm_C X E) (x1 : Int32) (x2 : Int32) (x3 : Int32) (x4 : Int32) (x5 : Int32) (z : mm_S) (h : mo_add_2 x1 x2 x3 x4 x5 z = some r) : gW X (mm_G E) (.returned (some (.int r.1)), r.2) z 0 [(0, .ref E.2.2.1), (1, .int x1), (2, .int x2), (3, .int x3), (4, .int x4), (5, .int x5)] [] := by
  unfold mo_add_2 at h
  refine g_aload_n C dX6_add_2_0 rfl 0 rfl ?_
  refine g_iload_n C dX6_add_2_1 rfl 1 rfl ?_
  obtain ⟨v2, z1, e, h⟩ := g_callE h
  refine mm_callV C M 1 [.int x1] (st := []) (v := some (.int v2)) (z' := z1) (fun l => ct_isShip l x1 z v2 z1 e) (lw_V q2521 q2523 qs126 q178 q2524) rfl rfl rfl (Nat.le_of_ble_eq_true rfl) (Nat.le_of_ble_eq_true rfl) (Nat.le_of_ble_eq_true rfl) dX6_add_2_2 ?_
  refine gW_st (st' := [.int v2]) rfl ?_
  refine g_if_eq C dX6_add_2_5 rfl h (fun h => ?_) (fun h => ?_)
  · exact g_sub [(0, .ref E.2.2.1)] [0] rfl (wk_add_2_b49 C M z1 h)
  · refine g_iload_n C dX6_add_2_8 rfl 2 rfl ?_
    obtain ⟨v4, z3, e, h⟩ := g_callE h
    refine mm_callS C M 1 [.int x2] (st := []) (v := some (.int v4)) (z' := z3) (fun l => ct_isHour l x2 z1 v4 z3 e) (lw_S q2494 q2495 q178 q2496) rfl rfl rfl (Nat.le_of_ble_eq_true rfl) (Nat.le_of_ble_eq_true rfl) (Nat.le_of_ble_eq_true rfl) dX6_add_2_9 ?_
    refine gW_st (st' := [.int v4]) rfl ?_
    refine g_if_eq C dX6_add_2_12 rfl h (fun h => ?_) (fun h => ?_)
    · exact g_sub [(0, .ref E.2.2.1)] [0] rfl (wk_add_2_b49 C M z3 h)
    · refine g_aload_n C dX6_add_2_15 rfl 0 rfl ?_
      refine g_iload_n C dX6_add_2_16 rfl 3 rfl ?_
      refine g_iload C dX6_add_2_17 4 rfl ?_
      obtain ⟨v6, z5, e, h⟩ := g_callE h
      refine mm_callV C M 2 [.int x3, .int x4] (st := []) (v := some (.int v6)) (z' := z5) (fun l => ct_isCell l x3 x4 z3 v6 z5 e) (lw_V q2490 q2492 qs121 q178 q2493) rfl rfl rfl (Nat.le_of_ble_eq_true rfl) (Nat.le_of_ble_eq_true rfl) (Nat.le_of_ble_eq_true rfl) dX6_add_2_19 ?_
      refine gW_st (st' := [.int v6]) rfl ?_
      refine g_if_eq C dX6_add_2_22 rfl h (fun h => ?_) (fun h => ?_)
      · exact g_sub [(0, .ref E.2.2.1)] [0] rfl (wk_add_2_b49 C M z5 h)
      · refine g_aload_n C dX6_add_2_25 rfl 0 rfl ?_
        refine g_iload_n C dX6_add_2_26 rfl 1 rfl ?_
        refine g_iload_n C dX6_add_2_27 rfl 2 rfl ?_
        obtain ⟨v8, z7, e, h⟩ := g_callE h
        refine mm_callV C M 2 [.int x1, .int x2] (st := []) (v := some (.int v8)) (z' := z7) (fun l => ct_said l x1 x2 z5 v8 z7 e) (lw_V q2513 q2515 qs125 q178 q2516) rfl rfl rfl (Nat.le_of_ble_eq_true rfl) (Nat.le_of_ble_eq_true rfl) (Nat.le_of_ble_eq_true rfl) dX6_add_2_28 ?_
        refine gW_st (st' := [.int v8]) rfl ?_
        refine g_iconst C dX6_add_2_31 gk_iconst_m1 ?_
        refine g_icmp_ne C dX6_add_2_32 rfl h (fun h => ?_) (fun h => ?_)
        · exact g_sub [(0, .ref E.2.2.1)] [0] rfl (wk_add_2_b49 C M z7 h)
        · refine g_aload_n C dX6_add_2_35 rfl 0 rfl ?_
          refine mm_getA C M 25 (Nat.le_of_ble_eq_true rfl) (Nat.le_of_ble_eq_true rfl) q2028 rfl dX6_add_2_36 ?_
          refine g_aload_n C dX6_add_2_39 rfl 0 rfl ?_
          refine mm_getI C M 12 (Nat.le_of_ble_eq_true rfl) (Nat.le_of_ble_eq_true rfl) q2015 rfl dX6_add_2_40 h (fun v9 h => ?_)
          refine mm_ldI C M 25 (Nat.le_of_ble_eq_true rfl) rfl dX6_add_2_43 h (fun v10 h => ?_)
          refine g_bipush C dX6_add_2_44 gk_bipush_96 ?_
          refine g_icmp_ne C dX6_add_2_46 rfl h (fun h => ?_) (fun h => ?_)
          · refine g_aload_n C dX6_add_2_55 rfl 0 rfl ?_
            refine g_iload_n C dX6_add_2_56 rfl 1 rfl ?_
            refine g_iload_n C dX6_add_2_57 rfl 2 rfl ?_
            refine g_aload_n C dX6_add_2_58 rfl 0 rfl ?_
            refine g_iload_n C dX6_add_2_59 rfl 3 rfl ?_
            refine g_iload C dX6_add_2_60 4 rfl ?_
            obtain ⟨v12, z11, e, h⟩ := g_callE h
            refine mm_callV C M 2 [.int x3, .int x4] (st := [.int x2, .int x1, .ref E.2.2.1]) (v := some (.int v12)) (z' := z11) (fun l => ct_at l x3 x4 z7 v12 z11 e) (lw_V q2497 q2499 qs122 q178 q2500) rfl rfl rfl (Nat.le_of_ble_eq_true rfl) (Nat.le_of_ble_eq_true rfl) (Nat.le_of_ble_eq_true rfl) dX6_add_2_62 ?_
            refine gW_st (st' := [.int v12, .int x2, .int x1, .ref E.2.2.1]) rfl ?_
            refine g_iload C dX6_add_2_65 5 rfl ?_
            obtain ⟨u14, z13, e, h⟩ := g_callE h
            refine mm_callV C M 4 [.int x1, .int x2, .int v12, .int x5] (st := []) (v := none) (z' := z13) (fun l => ct_says_2 l x1 x2 v12 x5 z11 u14 z13 e) (lw_V q2781 q2783 qs163 q178 q2784) rfl rfl rfl (Nat.le_of_ble_eq_true rfl) (Nat.le_of_ble_eq_true rfl) (Nat.le_of_ble_eq_true rfl) dX6_add_2_67 ?_
            refine gW_st (st' := []) rfl ?_
            refine g_aload_n C dX6_add_2_70 rfl 0 rfl ?_
            refine g_iload_n C dX6_add_2_71 rfl 1 rfl ?_
            refine g_iload_n C dX6_add_2_72 rfl 2 rfl ?_
            obtain ⟨v16, z15, e, h⟩ := g_callE h
            refine mm_callV C M 2 [.int x1, .int x2] (st := []) (v := some (.int v16)) (z' := z15) (fun l => ct_numberOf l x1 x2 z13 v16 z15 e) (lw_V q2785 q2787 qs164 q178 q2788) rfl rfl rfl (Nat.le_of_ble_eq_true rfl) (Nat.le_of_ble_eq_true rfl) (Nat.le_of_ble_eq_true rfl) dX6_add_2_73 ?_
            refine gW_st (st' := [.int v16]) rfl ?_
            exact g_iret C (fun _ => trivial) dX6_add_2_76 h
          · exact g_sub [(0, .ref E.2.2.1)] [0] rfl (wk_add_2_b49 C M z7 h)
theorem ct_add_2 (l : Launch) (x1 : Int32) (x2 : Int32) (x3 : Int32) (x4 : Int32) (x5 : Int32) (z : mm_S) (r : Int32) (z' : mm_S) (h : mo_add_2 x1 x2 x3 x4 x5 z = some (r, z')) : mm_MetV l yX6_add_2 cX6_add_2 6 (some .int) 2 46 [.int x1, .int x2, .int x3, .int x4, .int x5] z (.returned (some (.int r)), z') := by
  intro E hD
  exact mm_enter E hD rfl ⟨_, rfl⟩ (.ref E.2.2.1 :: [.int x1, .int x2, .int x3, .int x4, .int x5]) (Nat.le_of_ble_eq_true rfl) (fun X C M => wk_add_2 C M x1 x2 x3 x4 x5 z h)
def mo_drop_b18 (x1 : Int32) (s0 : Int32) (z : mm_S) : Option (Int32 × mm_S) := if s0 = (-1 : Int32) then (g_call (mo_refuses (2 : Int32) z) (fun v9 z8 => some (v9, z8))) else (mm_gI 12 z (fun v1 => mm_sI 26 ((((384 : Int32) * v1) + ((48 : Int32) * x1)) + s0) (-1 : Int32) z (fun z2 => mm_gI 12 z2 (fun v3 => mm_lI 25 v3 z2 (fun v4 => mm_sI 25 v3 (v4 - (1 : Int32)) z2 (fun z5 => g_call (mo_sayingsOf x1 z5) (fun v7 z6 => some (v7, z6))))))))
theorem wk_drop_b18 {X : gX} {E : mm_E} {r : Int32 × mm_S} (C : gC X cX6_drop 4 (some .int) RX6 2 46) (M : mm_C X E) (x1 : Int32) (s0 : Int32) (z : mm_S) (h : mo_drop_b18 x1 s0 z = some r) : gW X (mm_G E) (.returned (some (.int r.1)), r.2) z 18 [(0, .ref E.2.2.1), (1, .int x1)] [.int s0] := by
  unfold mo_drop_b18 at h
  refine g_istore_n [(3, .int s0), (0, .ref E.2.2.1), (1, .int x1)] C dX6_drop_18 rfl (Nat.le_of_ble_eq_true rfl) rfl ?_
  refine g_iload_n C dX6_drop_19 rfl 0 rfl ?_
  refine g_iconst C dX6_drop_20 gk_iconst_m1 ?_
  refine g_icmp_ne C dX6_drop_21 rfl h (fun h => ?_) (fun h => ?_)
  · refine g_aload_n C dX6_drop_30 rfl 1 rfl ?_
    refine mm_getA C M 26 (Nat.le_of_ble_eq_true rfl) (Nat.le_of_ble_eq_true rfl) q2029 rfl dX6_drop_31 ?_
    refine g_sipush C dX6_drop_34 gk_sipush_384 ?_
    refine g_aload_n C dX6_drop_37 rfl 1 rfl ?_
    refine mm_getI C M 12 (Nat.le_of_ble_eq_true rfl) (Nat.le_of_ble_eq_true rfl) q2015 rfl dX6_drop_38 h (fun v1 h => ?_)
    refine g_imul C dX6_drop_41 ?_
    refine g_bipush C dX6_drop_42 gk_bipush_48 ?_
    refine g_iload_n C dX6_drop_44 rfl 2 rfl ?_
    refine g_imul C dX6_drop_45 ?_
    refine g_iadd C dX6_drop_46 ?_
    refine g_iload_n C dX6_drop_47 rfl 0 rfl ?_
    refine g_iadd C dX6_drop_48 ?_
    refine g_iconst C dX6_drop_49 gk_iconst_m1 ?_
    refine mm_stI C M 26 (Nat.le_of_ble_eq_true rfl) rfl dX6_drop_50 h (fun z2 h => ?_)
    refine g_aload_n C dX6_drop_51 rfl 1 rfl ?_
    refine mm_getA C M 25 (Nat.le_of_ble_eq_true rfl) (Nat.le_of_ble_eq_true rfl) q2028 rfl dX6_drop_52 ?_
    refine g_aload_n C dX6_drop_55 rfl 1 rfl ?_
    refine mm_getI C M 12 (Nat.le_of_ble_eq_true rfl) (Nat.le_of_ble_eq_true rfl) q2015 rfl dX6_drop_56 h (fun v3 h => ?_)
    refine g_dup2_11 C dX6_drop_59 rfl rfl ?_
    refine mm_ldI C M 25 (Nat.le_of_ble_eq_true rfl) rfl dX6_drop_60 h (fun v4 h => ?_)
    refine g_iconst C dX6_drop_61 gk_iconst_1 ?_
    refine g_isub C dX6_drop_62 ?_
    refine mm_stI C M 25 (Nat.le_of_ble_eq_true rfl) rfl dX6_drop_63 h (fun z5 h => ?_)
    refine g_aload_n C dX6_drop_64 rfl 1 rfl ?_
    refine g_iload_n C dX6_drop_65 rfl 2 rfl ?_
    obtain ⟨v7, z6, e, h⟩ := g_callE h
    refine mm_callV C M 1 [.int x1] (st := []) (v := some (.int v7)) (z' := z6) (fun l => ct_sayingsOf l x1 z5 v7 z6 e) (lw_V q2509 q2511 qs124 q178 q2512) rfl rfl rfl (Nat.le_of_ble_eq_true rfl) (Nat.le_of_ble_eq_true rfl) (Nat.le_of_ble_eq_true rfl) dX6_drop_66 ?_
    refine gW_st (st' := [.int v7]) rfl ?_
    exact g_iret C (fun _ => trivial) dX6_drop_69 h
  · refine g_aload_n C dX6_drop_24 rfl 1 rfl ?_
    refine g_iconst C dX6_drop_25 gk_iconst_2 ?_
    obtain ⟨v9, z8, e, h⟩ := g_callE h
    refine mm_callV C M 1 [.int (2 : Int32)] (st := []) (v := some (.int v9)) (z' := z8) (fun l => ct_refuses l (2 : Int32) z v9 z8 e) (lw_V q2258 q2260 qs83 q178 q2261) rfl rfl rfl (Nat.le_of_ble_eq_true rfl) (Nat.le_of_ble_eq_true rfl) (Nat.le_of_ble_eq_true rfl) dX6_drop_26 ?_
    refine gW_st (st' := [.int v9]) rfl ?_
    exact g_iret C (fun _ => trivial) dX6_drop_29 h
def mo_drop (x1 : Int32) (x2 : Int32) (z : mm_S) : Option (Int32 × mm_S) := g_call (mo_isShip x1 z) (fun v2 z1 => if v2 = 0 then (mo_drop_b18 x1 (-1 : Int32) z1) else (g_call (mo_hourOf x1 x2 z1) (fun v4 z3 => mo_drop_b18 x1 v4 z3)))
theorem wk_drop {X : gX} {E : mm_E} {r : Int32 × mm_S} (C : gC X cX6_drop 4 (some .int) RX6 2 46) (M : mm_C X E) (x1 : Int32) (x2 : Int32) (z : mm_S) (h : mo_drop x1 x2 z = some r) : gW X (mm_G E) (.returned (some (.int r.1)), r.2) z 0 [(0, .ref E.2.2.1), (1, .int x1), (2, .int x2)] [] := by
  unfold mo_drop at h
  refine g_aload_n C dX6_drop_0 rfl 0 rfl ?_
  refine g_iload_n C dX6_drop_1 rfl 1 rfl ?_
  obtain ⟨v2, z1, e, h⟩ := g_callE h
  refine mm_callV C M 1 [.int x1] (st := []) (v := some (.int v2)) (z' := z1) (fun l => ct_isShip l x1 z v2 z1 e) (lw_V q2521 q2523 qs126 q178 q2524) rfl rfl rfl (Nat.le_of_ble_eq_true rfl) (Nat.le_of_ble_eq_true rfl) (Nat.le_of_ble_eq_true rfl) dX6_drop_2 ?_
  refine gW_st (st' := [.int v2]) rfl ?_
  refine g_if_eq C dX6_drop_5 rfl h (fun h => ?_) (fun h => ?_)
  · refine g_iconst C dX6_drop_17 gk_iconst_m1 ?_
    exact g_sub [(0, .ref E.2.2.1), (1, .int x1)] [0, 1] rfl (wk_drop_b18 C M x1 (-1 : Int32) z1 h)
  · refine g_aload_n C dX6_drop_8 rfl 0 rfl ?_
    refine g_iload_n C dX6_drop_9 rfl 1 rfl ?_
    refine g_iload_n C dX6_drop_10 rfl 2 rfl ?_
    obtain ⟨v4, z3, e, h⟩ := g_callE h
    refine mm_callV C M 2 [.int x1, .int x2] (st := []) (v := some (.int v4)) (z' := z3) (fun l => ct_hourOf l x1 x2 z1 v4 z3 e) (lw_V q2597 q2599 qs141 q178 q2600) rfl rfl rfl (Nat.le_of_ble_eq_true rfl) (Nat.le_of_ble_eq_true rfl) (Nat.le_of_ble_eq_true rfl) dX6_drop_11 ?_
    refine gW_st (st' := [.int v4]) rfl ?_
    refine g_goto C dX6_drop_14 rfl ?_
    exact g_sub [(0, .ref E.2.2.1), (1, .int x1)] [0, 1] rfl (wk_drop_b18 C M x1 v4 z3 h)
theorem ct_drop (l : Launch) (x1 : Int32) (x2 : Int32) (z : mm_S) (r : Int32) (z' : mm_S) (h : mo_drop x1 x2 z = some (r, z')) : mm_MetV l yX6_drop cX6_drop 4 (some .int) 2 46 [.int x1, .int x2] z (.returned (some (.int r)), z') := by
  intro E hD
  exact mm_enter E hD rfl ⟨_, rfl⟩ (.ref E.2.2.1 :: [.int x1, .int x2]) (Nat.le_of_ble_eq_true rfl) (fun X C M => wk_drop C M x1 x2 z h)
