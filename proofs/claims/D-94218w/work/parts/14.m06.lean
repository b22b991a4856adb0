set_option maxRecDepth 100000
def mo_spots (x1 : Int32) (x2 : Int32) (x3 : Int32) (z : mm_S) : Option (Unit × mm_S) := mm_gI 12 z (fun v1 => mm_gI 12 z (fun v2 => mm_lI 33 v2 z (fun v3 => mm_sI 34 (((40 : Int32) * v1) + v3) x1 z (fun z4 => mm_sI 35 (((40 : Int32) * v1) + v3) x2 z4 (fun z5 => mm_sI 36 (((40 : Int32) * v1) + v3) x3 z5 (fun z6 => mm_gI 12 z6 (fun v7 => mm_lI 33 v7 z6 (fun v8 => mm_sI 33 v7 (v8 + (1 : Int32)) z6 (fun z9 => some ((), z9))))))))))
theorem wk_spots {X : gX} {E : mm_E} {r : Unit × mm_S} (C : gC X cX6_spots 5 none RX6 0 0) (M : mm_C X E) (x1 : Int32) (x2 : Int32) (x3 : Int32) (z : mm_S) (h : mo_spots x1 x2 x3 z = some r) : gW X (mm_G E) (.returned none, r.2) z 0 [(0, .ref E.2.2.1), (1, .int x1), (2, .int x2), (3, .int x3)] [] := by
  unfold mo_spots at h
  refine g_bipush C dX6_spots_0 gk_bipush_40 ?_
  refine g_aload_n C dX6_spots_2 rfl 0 rfl ?_
  refine mm_getI C M 12 (Nat.le_of_ble_eq_true rfl) (Nat.le_of_ble_eq_true rfl) q2015 rfl dX6_spots_3 h (fun v1 h => ?_)
  refine g_imul C dX6_spots_6 ?_
  refine g_aload_n C dX6_spots_7 rfl 0 rfl ?_
  refine mm_getA C M 33 (Nat.le_of_ble_eq_true rfl) (Nat.le_of_ble_eq_true rfl) q2036 rfl dX6_spots_8 ?_
  refine g_aload_n C dX6_spots_11 rfl 0 rfl ?_
  refine mm_getI C M 12 (Nat.le_of_ble_eq_true rfl) (Nat.le_of_ble_eq_true rfl) q2015 rfl dX6_spots_12 h (fun v2 h => ?_)
  refine mm_ldI C M 33 (Nat.le_of_ble_eq_true rfl) rfl dX6_spots_15 h (fun v3 h => ?_)
  refine g_iadd C dX6_spots_16 ?_
  refine g_istore [(4, .int (((40 : Int32) * v1) + v3)), (0, .ref E.2.2.1), (1, .int x1), (2, .int x2), (3, .int x3)] C dX6_spots_17 (Nat.le_of_ble_eq_true rfl) rfl ?_
  refine g_aload_n C dX6_spots_19 rfl 1 rfl ?_
  refine mm_getA C M 34 (Nat.le_of_ble_eq_true rfl) (Nat.le_of_ble_eq_true rfl) q2037 rfl dX6_spots_20 ?_
  refine g_iload C dX6_spots_23 0 rfl ?_
  refine g_iload_n C dX6_spots_25 rfl 2 rfl ?_
  refine mm_stI C M 34 (Nat.le_of_ble_eq_true rfl) rfl dX6_spots_26 h (fun z4 h => ?_)
  refine g_aload_n C dX6_spots_27 rfl 1 rfl ?_
  refine mm_getA C M 35 (Nat.le_of_ble_eq_true rfl) (Nat.le_of_ble_eq_true rfl) q2038 rfl dX6_spots_28 ?_
  refine g_iload C dX6_spots_31 0 rfl ?_
  refine g_iload_n C dX6_spots_33 rfl 3 rfl ?_
  refine mm_stI C M 35 (Nat.le_of_ble_eq_true rfl) rfl dX6_spots_34 h (fun z5 h => ?_)
  refine g_aload_n C dX6_spots_35 rfl 1 rfl ?_
  refine mm_getA C M 36 (Nat.le_of_ble_eq_true rfl) (Nat.le_of_ble_eq_true rfl) q2039 rfl dX6_spots_36 ?_
  refine g_iload C dX6_spots_39 0 rfl ?_
  refine g_iload_n C dX6_spots_41 rfl 4 rfl ?_
  refine mm_stI C M 36 (Nat.le_of_ble_eq_true rfl) rfl dX6_spots_42 h (fun z6 h => ?_)
  refine g_aload_n C dX6_spots_43 rfl 1 rfl ?_
  refine mm_getA C M 33 (Nat.le_of_ble_eq_true rfl) (Nat.le_of_ble_eq_true rfl) q2036 rfl dX6_spots_44 ?_
  refine g_aload_n C dX6_spots_47 rfl 1 rfl ?_
  refine mm_getI C M 12 (Nat.le_of_ble_eq_true rfl) (Nat.le_of_ble_eq_true rfl) q2015 rfl dX6_spots_48 h (fun v7 h => ?_)
  refine g_dup2_11 C dX6_spots_51 rfl rfl ?_
  refine mm_ldI C M 33 (Nat.le_of_ble_eq_true rfl) rfl dX6_spots_52 h (fun v8 h => ?_)
  refine g_iconst C dX6_spots_53 gk_iconst_1 ?_
  refine g_iadd C dX6_spots_54 ?_
  refine mm_stI C M 33 (Nat.le_of_ble_eq_true rfl) rfl dX6_spots_55 h (fun z9 h => ?_)
  exact g_vret C (fun _ => trivial) dX6_spots_56 h
theorem ct_spots (l : Launch) (x1 : Int32) (x2 : Int32) (x3 : Int32) (z : mm_S) (r : Unit) (z' : mm_S) (h : mo_spots x1 x2 x3 z = some (r, z')) : mm_MetV l yX6_spots cX6_spots 5 none 0 0 [.int x1, .int x2, .int x3] z (.returned none, z') := by
  intro E hD
  exact mm_enter E hD rfl ⟨_, rfl⟩ (.ref E.2.2.1 :: [.int x1, .int x2, .int x3]) (Nat.le_of_ble_eq_true rfl) (fun X C M => wk_spots C M x1 x2 x3 z h)
def mo_spot_b40 (z : mm_S) : Option (Int32 × mm_S) := g_call (mo_refuses (3 : Int32) z) (fun v2 z1 => some (v2, z1))
theorem wk_spot_b40 {X : gX} {E : mm_E} {r : Int32 × mm_S} (C : gC X cX6_spot 5 (some .int) RX6 2 44) (M : mm_C X E) (z : mm_S) (h : mo_spot_b40 z = some r) : gW X (mm_G E) (.returned (some (.int r.1)), r.2) z 40 [(0, .ref E.2.2.1)] [] := by
  unfold mo_spot_b40 at h
  refine g_aload_n C dX6_spot_40 rfl 0 rfl ?_
  refine g_iconst C dX6_spot_41 gk_iconst_3 ?_
  obtain ⟨v2, z1, e, h⟩ := g_callE h
  refine mm_callV C M 1 [.int (3 : Int32)] (st := []) (v := some (.int v2)) (z' := z1) (fun l => ct_refuses l (3 : Int32) z v2 z1 e) (lw_V q2258 q2260 qs83 q178 q2261) rfl rfl rfl (Nat.le_of_ble_eq_true rfl) (Nat.le_of_ble_eq_true rfl) (Nat.le_of_ble_eq_true rfl) dX6_spot_42 ?_
  refine gW_st (st' := [.int v2]) rfl ?_
  exact g_iret C (fun _ => trivial) dX6_spot_45 h
def mo_spot (x1 : Int32) (x2 : Int32) (x3 : Int32) (x4 : Int32) (z : mm_S) : Option (Int32 × mm_S) := g_call (mo_is x1 (0 : Int32) (3 : Int32) z) (fun v2 z1 => if v2 = 0 then (mo_spot_b40 z1) else (g_call (mo_isCell x2 x3 z1) (fun v4 z3 => if v4 = 0 then (mo_spot_b40 z3) else (g_call (mo_isHour x4 z3) (fun v6 z5 => if v6 = 0 then (mo_spot_b40 z5) else (mm_gI 12 z5 (fun v7 => mm_lI 33 v7 z5 (fun v8 => if v8 = (40 : Int32) then (mo_spot_b40 z5) else (g_call (mo_at x2 x3 z5) (fun v10 z9 => g_call (mo_spots x1 v10 x4 z9) (fun _ z11 => mm_gI 12 z11 (fun v13 => mm_lI 33 v13 z11 (fun v14 => some (v14, z11))))))))))))))
theorem wk_spot {X : gX} {E : mm_E} {r : Int32 × mm_S} (C : gC X cX6_spot 5 (some .int) RX6 2 44) (M : mm_C X E) (x1 : Int32) (x2 : Int32) (x3 : Int32) (x4 : Int32) (z : mm_S) (h : mo_spot x1 x2 x3 x4 z = some r) : gW X (mm_G E) (.returned (some (.int r.1)), r.2) z 0 [(0, .ref E.2.2.1), (1, .int x1), (2, .int x2), (3, .int x3), (4, .int x4)] [] := by
  unfold mo_spot at h
  refine g_iload_n C dX6_spot_0 rfl 1 rfl ?_
  refine g_iconst C dX6_spot_1 gk_iconst_0 ?_
  refine g_iconst C dX6_spot_2 gk_iconst_3 ?_
  obtain ⟨v2, z1, e, h⟩ := g_callE h
  refine mm_callS C M 3 [.int x1, .int (0 : Int32), .int (3 : Int32)] (st := []) (v := some (.int v2)) (z' := z1) (fun l => ct_is l x1 (0 : Int32) (3 : Int32) z v2 z1 e) (lw_S q2301 q2302 q178 q2303) rfl rfl rfl (Nat.le_of_ble_eq_true rfl) (Nat.le_of_ble_eq_true rfl) (Nat.le_of_ble_eq_true rfl) dX6_spot_3 ?_
  refine gW_st (st' := [.int v2]) rfl ?_
  refine g_if_eq C dX6_spot_6 rfl h (fun h => ?_) (fun h => ?_)
  · exact g_sub [(0, .ref E.2.2.1)] [0] rfl (wk_spot_b40 C M z1 h)
  · refine g_aload_n C dX6_spot_9 rfl 0 rfl ?_
    refine g_iload_n C dX6_spot_10 rfl 2 rfl ?_
    refine g_iload_n C dX6_spot_11 rfl 3 rfl ?_
    obtain ⟨v4, z3, e, h⟩ := g_callE h
    refine mm_callV C M 2 [.int x2, .int x3] (st := []) (v := some (.int v4)) (z' := z3) (fun l => ct_isCell l x2 x3 z1 v4 z3 e) (lw_V q2490 q2492 qs121 q178 q2493) rfl rfl rfl (Nat.le_of_ble_eq_true rfl) (Nat.le_of_ble_eq_true rfl) (Nat.le_of_ble_eq_true rfl) dX6_spot_12 ?_
    refine gW_st (st' := [.int v4]) rfl ?_
    refine g_if_eq C dX6_spot_15 rfl h (fun h => ?_) (fun h => ?_)
    · exact g_sub [(0, .ref E.2.2.1)] [0] rfl (wk_spot_b40 C M z3 h)
    · refine g_iload C dX6_spot_18 4 rfl ?_
      obtain ⟨v6, z5, e, h⟩ := g_callE h
      refine mm_callS C M 1 [.int x4] (st := []) (v := some (.int v6)) (z' := z5) (fun l => ct_isHour l x4 z3 v6 z5 e) (lw_S q2494 q2495 q178 q2496) rfl rfl rfl (Nat.le_of_ble_eq_true rfl) (Nat.le_of_ble_eq_true rfl) (Nat.le_of_ble_eq_true rfl) dX6_spot_20 ?_
      refine gW_st (st' := [.int v6]) rfl ?_
      refine g_if_eq C dX6_spot_23 rfl h (fun h => ?_) (fun h => ?_)
      · exact g_sub [(0, .ref E.2.2.1)] [0] rfl (wk_spot_b40 C M z5 h)
      · refine g_aload_n C dX6_spot_26 rfl 0 rfl ?_
        refine mm_getA C M 33 (Nat.le_of_ble_eq_true rfl) (Nat.le_of_ble_eq_true rfl) q2036 rfl dX6_spot_27 ?_
        refine g_aload_n C dX6_spot_30 rfl 0 rfl ?_
        refine mm_getI C M 12 (Nat.le_of_ble_eq_true rfl) (Nat.le_of_ble_eq_true rfl) q2015 rfl dX6_spot_31 h (fun v7 h => ?_)
        refine mm_ldI C M 33 (Nat.le_of_ble_eq_true rfl) rfl dX6_spot_34 h (fun v8 h => ?_)
        refine g_bipush C dX6_spot_35 gk_bipush_40 ?_
        refine g_icmp_ne C dX6_spot_37 rfl h (fun h => ?_) (fun h => ?_)
        · refine g_aload_n C dX6_spot_46 rfl 0 rfl ?_
          refine g_iload_n C dX6_spot_47 rfl 1 rfl ?_
          refine g_aload_n C dX6_spot_48 rfl 0 rfl ?_
          refine g_iload_n C dX6_spot_49 rfl 2 rfl ?_
          refine g_iload_n C dX6_spot_50 rfl 3 rfl ?_
          obtain ⟨v10, z9, e, h⟩ := g_callE h
          refine mm_callV C M 2 [.int x2, .int x3] (st := [.int x1, .ref E.2.2.1]) (v := some (.int v10)) (z' := z9) (fun l => ct_at l x2 x3 z5 v10 z9 e) (lw_V q2497 q2499 qs122 q178 q2500) rfl rfl rfl (Nat.le_of_ble_eq_true rfl) (Nat.le_of_ble_eq_true rfl) (Nat.le_of_ble_eq_true rfl) dX6_spot_51 ?_
          refine gW_st (st' := [.int v10, .int x1, .ref E.2.2.1]) rfl ?_
          refine g_iload C dX6_spot_54 4 rfl ?_
          obtain ⟨u12, z11, e, h⟩ := g_callE h
          refine mm_callV C M 3 [.int x1, .int v10, .int x4] (st := []) (v := none) (z' := z11) (fun l => ct_spots l x1 v10 x4 z9 u12 z11 e) (lw_V q2797 q2799 qs165 q178 q2800) rfl rfl rfl (Nat.le_of_ble_eq_true rfl) (Nat.le_of_ble_eq_true rfl) (Nat.le_of_ble_eq_true rfl) dX6_spot_56 ?_
          refine gW_st (st' := []) rfl ?_
          refine g_aload_n C dX6_spot_59 rfl 0 rfl ?_
          refine mm_getA C M 33 (Nat.le_of_ble_eq_true rfl) (Nat.le_of_ble_eq_true rfl) q2036 rfl dX6_spot_60 ?_
          refine g_aload_n C dX6_spot_63 rfl 0 rfl ?_
          refine mm_getI C M 12 (Nat.le_of_ble_eq_true rfl) (Nat.le_of_ble_eq_true rfl) q2015 rfl dX6_spot_64 h (fun v13 h => ?_)
          refine mm_ldI C M 33 (Nat.le_of_ble_eq_true rfl) rfl dX6_spot_67 h (fun v14 h => ?_)
          exact g_iret C (fun _ => trivial) dX6_spot_68 h
        · exact g_sub [(0, .ref E.2.2.1)] [0] rfl (wk_spot_b40 C M z5 h)
theorem ct_spot (l : Launch) (x1 : Int32) (x2 : Int32) (x3 : Int32) (x4 : Int32) (z : mm_S) (r : Int32) (z' : mm_S) (h : mo_spot x1 x2 x3 x4 z = some (r, z')) : mm_MetV l yX6_spot cX6_spot 5 (some .int) 2 44 [.int x1, .int x2, .int x3, .int x4] z (.returned (some (.int r)), z') := by
  intro E hD
  exact mm_enter E hD rfl ⟨_, rfl⟩ (.ref E.2.2.1 :: [.int x1, .int x2, .int x3, .int x4]) (Nat.le_of_ble_eq_true rfl) (fun X C M => wk_spot C M x1 x2 x3 x4 z h)
def mo_writes (x1 : Int32) (z : mm_S) : Option (Unit × mm_S) := mm_gI 82 z (fun v1 => mm_sI 81 v1 (x1 &&& (255 : Int32)) z (fun z2 => mm_gI 82 z2 (fun v3 => mm_pI 82 (v3 + (1 : Int32)) z2 (fun z4 => some ((), z4)))))
theorem wk_writes {X : gX} {E : mm_E} {r : Unit × mm_S} (C : gC X cX6_writes 2 none RX6 0 0) (M : mm_C X E) (x1 : Int32) (z : mm_S) (h : mo_writes x1 z = some r) : gW X (mm_G E) (.returned none, r.2) z 0 [(0, .ref E.2.2.1), (1, .int x1)] [] := by
  unfold mo_writes at h
  refine g_aload_n C dX6_writes_0 rfl 0 rfl ?_
  refine mm_getA C M 81 (Nat.le_of_ble_eq_true rfl) (Nat.le_of_ble_eq_true rfl) q2084 rfl dX6_writes_1 ?_
  refine g_aload_n C dX6_writes_4 rfl 0 rfl ?_
  refine mm_getI C M 82 (Nat.le_of_ble_eq_true rfl) (Nat.le_of_ble_eq_true rfl) q2085 rfl dX6_writes_5 h (fun v1 h => ?_)
  refine g_iload_n C dX6_writes_8 rfl 1 rfl ?_
  refine g_sipush C dX6_writes_9 gk_sipush_255 ?_
  refine g_iand C dX6_writes_12 ?_
  refine mm_stI C M 81 (Nat.le_of_ble_eq_true rfl) rfl dX6_writes_13 h (fun z2 h => ?_)
  refine g_aload_n C dX6_writes_14 rfl 0 rfl ?_
  refine g_dup C dX6_writes_15 rfl ?_
  refine mm_getI C M 82 (Nat.le_of_ble_eq_true rfl) (Nat.le_of_ble_eq_true rfl) q2085 rfl dX6_writes_16 h (fun v3 h => ?_)
  refine g_iconst C dX6_writes_19 gk_iconst_1 ?_
  refine g_iadd C dX6_writes_20 ?_
  refine mm_putI C M 82 (Nat.le_of_ble_eq_true rfl) (Nat.le_of_ble_eq_true rfl) q2085 rfl rfl rfl dX6_writes_21 h (fun z4 h => ?_)
  exact g_vret C (fun _ => trivial) dX6_writes_24 h
theorem ct_writes (l : Launch) (x1 : Int32) (z : mm_S) (r : Unit) (z' : mm_S) (h : mo_writes x1 z = some (r, z')) : mm_MetV l yX6_writes cX6_writes 2 none 0 0 [.int x1] z (.returned none, z') := by
  intro E hD
  exact mm_enter E hD rfl ⟨_, rfl⟩ (.ref E.2.2.1 :: [.int x1]) (Nat.le_of_ble_eq_true rfl) (fun X C M => wk_writes C M x1 z h)
def mo_image_b187 : Nat → Int32 → Int32 → mm_S → Option (Int32 × mm_S)
  | 0, _, _, _ => none
  | n + 1, x1, x2, z => mm_gI 82 z (fun v1 => if v1 ≤ x2 then (g_call (mo_writes x1 z) (fun _ z2 => mm_gI 82 z2 (fun v4 => some (v4, z2)))) else (mm_lI 81 x2 z (fun v5 => (mo_image_b187 n) ((((3 : Int32) * x1) + v5) - (((3 : Int32) * x1) + v5) / (241 : Int32) * (241 : Int32)) (x2 + (1 : Int32)) z)))
theorem wk_image_b187 {X : gX} {E : mm_E} {r : Int32 × mm_S} (C : gC X cX6_image 3 (some .int) RX6 1 22) (M : mm_C X E) : ∀ (n : Nat) (x1 : Int32) (x2 : Int32) (z : mm_S), mo_image_b187 n x1 x2 z = some r → gW X (mm_G E) (.returned (some (.int r.1)), r.2) z 187 [(0, .ref E.2.2.1), (1, .int x1), (2, .int x2)] [] := by
  intro n
  induction n with
  | zero =>
    intro x1 x2 z h
    have h : (none : Option (Int32 × mm_S)) = some r := h
    cases h
  | succ n ih =>
    intro x1 x2 z h
    rw [mo_image_b187] at h
    refine g_iload_n C dX6_image_187 rfl 2 rfl ?_
    refine g_aload_n C dX6_image_188 rfl 0 rfl ?_
    refine mm_getI C M 82 (Nat.le_of_ble_eq_true rfl) (Nat.le_of_ble_eq_true rfl) q2085 rfl dX6_image_189 h (fun v1 h => ?_)
    refine g_icmp_ge C dX6_image_192 rfl h (fun h => ?_) (fun h => ?_)
    · refine g_aload_n C dX6_image_216 rfl 0 rfl ?_
      refine g_iload_n C dX6_image_217 rfl 1 rfl ?_
      obtain ⟨u3, z2, e, h⟩ := g_callE h
      refine mm_callV C M 1 [.int x1] (st := []) (v := none) (z' := z2) (fun l => ct_writes l x1 z u3 z2 e) (lw_V q2805 q2807 qs166 q178 q2808) rfl rfl rfl (Nat.le_of_ble_eq_true rfl) (Nat.le_of_ble_eq_true rfl) (Nat.le_of_ble_eq_true rfl) dX6_image_218 ?_
      refine gW_st (st' := []) rfl ?_
      refine g_aload_n C dX6_image_221 rfl 0 rfl ?_
      refine mm_getI C M 82 (Nat.le_of_ble_eq_true rfl) (Nat.le_of_ble_eq_true rfl) q2085 rfl dX6_image_222 h (fun v4 h => ?_)
      exact g_iret C (fun _ => trivial) dX6_image_225 h
    · refine g_iconst C dX6_image_195 gk_iconst_3 ?_
      refine g_iload_n C dX6_image_196 rfl 1 rfl ?_
      refine g_imul C dX6_image_197 ?_
      refine g_aload_n C dX6_image_198 rfl 0 rfl ?_
      refine mm_getA C M 81 (Nat.le_of_ble_eq_true rfl) (Nat.le_of_ble_eq_true rfl) q2084 rfl dX6_image_199 ?_
      refine g_iload_n C dX6_image_202 rfl 2 rfl ?_
      refine mm_ldI C M 81 (Nat.le_of_ble_eq_true rfl) rfl dX6_image_203 h (fun v5 h => ?_)
      refine g_iadd C dX6_image_204 ?_
      refine g_sipush C dX6_image_205 gk_sipush_241 ?_
      refine g_irem C dX6_image_208 (by decide) ?_
      refine g_istore_n [(1, .int ((((3 : Int32) * x1) + v5) - (((3 : Int32) * x1) + v5) / (241 : Int32) * (241 : Int32))), (0, .ref E.2.2.1), (2, .int x2)] C dX6_image_209 rfl (Nat.le_of_ble_eq_true rfl) rfl ?_
      refine g_iinc [(2, .int (x2 + (1 : Int32))), (1, .int ((((3 : Int32) * x1) + v5) - (((3 : Int32) * x1) + v5) / (241 : Int32) * (241 : Int32))), (0, .ref E.2.2.1)] C dX6_image_210 (j := 2) rfl (gk_inc_1 _) (Nat.le_of_ble_eq_true rfl) rfl ?_
      refine g_goto C dX6_image_213 rfl ?_
      exact g_sub [(0, .ref E.2.2.1), (1, .int ((((3 : Int32) * x1) + v5) - (((3 : Int32) * x1) + v5) / (241 : Int32) * (241 : Int32))), (2, .int (x2 + (1 : Int32)))] [2, 1, 0] rfl (ih ((((3 : Int32) * x1) + v5) - (((3 : Int32) * x1) + v5) / (241 : Int32) * (241 : Int32)) (x2 + (1 : Int32)) z h)
def mo_image_b125 : Nat → Int32 → mm_S → Option (Int32 × mm_S)
  | 0, _, _ => none
  | n + 1, x1, z => mm_gI 12 z (fun v1 => mm_gI 12 z (fun v2 => mm_lI 33 v2 z (fun v3 => if (((40 : Int32) * v1) + v3) ≤ x1 then (mo_image_b187 g_fu (29 : Int32) (0 : Int32) z) else (mm_lI 34 x1 z (fun v4 => g_call (mo_writes v4 z) (fun _ z5 => mm_lI 35 x1 z5 (fun v7 => g_call (mo_writes v7 z5) (fun _ z8 => mm_lI 36 x1 z8 (fun v10 => g_call (mo_writes v10 z8) (fun _ z11 => (mo_image_b125 n) (x1 + (1 : Int32)) z11))))))))))
theorem wk_image_b125 {X : gX} {E : mm_E} {r : Int32 × mm_S} (C : gC X cX6_image 3 (some .int) RX6 1 22) (M : mm_C X E) : ∀ (n : Nat) (x1 : Int32) (z : mm_S), mo_image_b125 n x1 z = some r → gW X (mm_G E) (.returned (some (.int r.1)), r.2) z 125 [(0, .ref E.2.2.1), (1, .int x1)] [] := by
  intro n
  induction n with
  | zero =>
    intro x1 z h
    have h : (none : Option (Int32 × mm_S)) = some r := h
    cases h
  | succ n ih =>
    intro x1 z h
    rw [mo_image_b125] at h
    refine g_iload_n C dX6_image_125 rfl 1 rfl ?_
    refine g_bipush C dX6_image_126 gk_bipush_40 ?_
    refine g_aload_n C dX6_image_128 rfl 0 rfl ?_
    refine mm_getI C M 12 (Nat.le_of_ble_eq_true rfl) (Nat.le_of_ble_eq_true rfl) q2015 rfl dX6_image_129 h (fun v1 h => ?_)
    refine g_imul C dX6_image_132 ?_
    refine g_aload_n C dX6_image_133 rfl 0 rfl ?_
    refine mm_getA C M 33 (Nat.le_of_ble_eq_true rfl) (Nat.le_of_ble_eq_true rfl) q2036 rfl dX6_image_134 ?_
    refine g_aload_n C dX6_image_137 rfl 0 rfl ?_
    refine mm_getI C M 12 (Nat.le_of_ble_eq_true rfl) (Nat.le_of_ble_eq_true rfl) q2015 rfl dX6_image_138 h (fun v2 h => ?_)
    refine mm_ldI C M 33 (Nat.le_of_ble_eq_true rfl) rfl dX6_image_141 h (fun v3 h => ?_)
    refine g_iadd C dX6_image_142 ?_
    refine g_icmp_ge C dX6_image_143 rfl h (fun h => ?_) (fun h => ?_)
    · refine g_bipush C dX6_image_182 gk_bipush_29 ?_
      refine g_istore_n [(1, .int (29 : Int32)), (0, .ref E.2.2.1)] C dX6_image_184 rfl (Nat.le_of_ble_eq_true rfl) rfl ?_
      refine g_iconst C dX6_image_185 gk_iconst_0 ?_
      refine g_istore_n [(2, .int (0 : Int32)), (1, .int (29 : Int32)), (0, .ref E.2.2.1)] C dX6_image_186 rfl (Nat.le_of_ble_eq_true rfl) rfl ?_
      exact g_sub [(0, .ref E.2.2.1), (1, .int (29 : Int32)), (2, .int (0 : Int32))] [2, 1, 0] rfl (wk_image_b187 C M g_fu (29 : Int32) (0 : Int32) z h)
    · refine g_aload_n C dX6_image_146 rfl 0 rfl ?_
      refine g_aload_n C dX6_image_147 rfl 0 rfl ?_
      refine mm_getA C M 34 (Nat.le_of_ble_eq_true rfl) (Nat.le_of_ble_eq_true rfl) q2037 rfl dX6_image_148 ?_
      refine g_iload_n C dX6_image_151 rfl 1 rfl ?_
      refine mm_ldI C M 34 (Nat.le_of_ble_eq_true rfl) rfl dX6_image_152 h (fun v4 h => ?_)
      obtain ⟨u6, z5, e, h⟩ := g_callE h
      refine mm_callV C M 1 [.int v4] (st := []) (v := none) (z' := z5) (fun l => ct_writes l v4 z u6 z5 e) (lw_V q2805 q2807 qs166 q178 q2808) rfl rfl rfl (Nat.le_of_ble_eq_true rfl) (Nat.le_of_ble_eq_true rfl) (Nat.le_of_ble_eq_true rfl) dX6_image_153 ?_
      refine gW_st (st' := []) rfl ?_
      refine g_aload_n C dX6_image_156 rfl 0 rfl ?_
      refine g_aload_n C dX6_image_157 rfl 0 rfl ?_
      refine mm_getA C M 35 (Nat.le_of_ble_eq_true rfl) (Nat.le_of_ble_eq_true rfl) q2038 rfl dX6_image_158 ?_
      refine g_iload_n C dX6_image_161 rfl 1 rfl ?_
      refine mm_ldI C M 35 (Nat.le_of_ble_eq_true rfl) rfl dX6_image_162 h (fun v7 h => ?_)
      obtain ⟨u9, z8, e, h⟩ := g_callE h
      refine mm_callV C M 1 [.int v7] (st := []) (v := none) (z' := z8) (fun l => ct_writes l v7 z5 u9 z8 e) (lw_V q2805 q2807 qs166 q178 q2808) rfl rfl rfl (Nat.le_of_ble_eq_true rfl) (Nat.le_of_ble_eq_true rfl) (Nat.le_of_ble_eq_true rfl) dX6_image_163 ?_
      refine gW_st (st' := []) rfl ?_
      refine g_aload_n C dX6_image_166 rfl 0 rfl ?_
      refine g_aload_n C dX6_image_167 rfl 0 rfl ?_
      refine mm_getA C M 36 (Nat.le_of_ble_eq_true rfl) (Nat.le_of_ble_eq_true rfl) q2039 rfl dX6_image_168 ?_
      refine g_iload_n C dX6_image_171 rfl 1 rfl ?_
      refine mm_ldI C M 36 (Nat.le_of_ble_eq_true rfl) rfl dX6_image_172 h (fun v10 h => ?_)
      obtain ⟨u12, z11, e, h⟩ := g_callE h
      refine mm_callV C M 1 [.int v10] (st := []) (v := none) (z' := z11) (fun l => ct_writes l v10 z8 u12 z11 e) (lw_V q2805 q2807 qs166 q178 q2808) rfl rfl rfl (Nat.le_of_ble_eq_true rfl) (Nat.le_of_ble_eq_true rfl) (Nat.le_of_ble_eq_true rfl) dX6_image_173 ?_
      refine gW_st (st' := []) rfl ?_
      refine g_iinc [(1, .int (x1 + (1 : Int32))), (0, .ref E.2.2.1)] C dX6_image_176 (j := 1) rfl (gk_inc_1 _) (Nat.le_of_ble_eq_true rfl) rfl ?_
      refine g_goto C dX6_image_179 rfl ?_
      exact g_sub [(0, .ref E.2.2.1), (1, .int (x1 + (1 : Int32)))] [1, 0] rfl (ih (x1 + (1 : Int32)) z11 h)
def mo_image_b92 (k20 : Int32 → mm_S → Option (Int32 × mm_S)) (k35 : Int32 → Int32 → mm_S → Option (Int32 × mm_S)) (x1 : Int32) (x2 : Int32) (z : mm_S) : Option (Int32 × mm_S) := k35 x1 (x2 + (1 : Int32)) z
theorem wk_image_b92 {X : gX} {E : mm_E} {r : Int32 × mm_S} (C : gC X cX6_image 3 (some .int) RX6 1 22) (M : mm_C X E) {k20 : Int32 → mm_S → Option (Int32 × mm_S)} (hk20 : ∀ (x1 : Int32) (z : mm_S), k20 x1 z = some r → gW X (mm_G E) (.returned (some (.int r.1)), r.2) z 20 [(0, .ref E.2.2.1), (1, .int x1)] []) {k35 : Int32 → Int32 → mm_S → Option (Int32 × mm_S)} (hk35 : ∀ (x1 : Int32) (x2 : Int32) (z : mm_S), k35 x1 x2 z = some r → gW X (mm_G E) (.returned (some (.int r.1)), r.2) z 35 [(0, .ref E.2.2.1), (1, .int x1), (2, .int x2)] []) (x1 : Int32) (x2 : Int32) (z : mm_S) (h : mo_image_b92 k20 k35 x1 x2 z = some r) : gW X (mm_G E) (.returned (some (.int r.1)), r.2) z 92 [(0, .ref E.2.2.1), (1, .int x1), (2, .int x2)] [] := by
  unfold mo_image_b92 at h
  refine g_iinc [(2, .int (x2 + (1 : Int32))), (0, .ref E.2.2.1), (1, .int x1)] C dX6_image_92 (j := 2) rfl (gk_inc_1 _) (Nat.le_of_ble_eq_true rfl) rfl ?_
  refine g_goto C dX6_image_95 rfl ?_
  exact g_sub [(0, .ref E.2.2.1), (1, .int x1), (2, .int (x2 + (1 : Int32)))] [1, 2, 0] rfl (hk35 x1 (x2 + (1 : Int32)) z h)
def mo_image_b89 (k20 : Int32 → mm_S → Option (Int32 × mm_S)) (k35 : Int32 → Int32 → mm_S → Option (Int32 × mm_S)) (x1 : Int32) (x2 : Int32) (s1 : Int32) (z : mm_S) : Option (Int32 × mm_S) := g_call (mo_writes s1 z) (fun _ z1 => mo_image_b92 k20 k35 x1 x2 z1)
theorem wk_image_b89 {X : gX} {E : mm_E} {r : Int32 × mm_S} (C : gC X cX6_image 3 (some .int) RX6 1 22) (M : mm_C X E) {k20 : Int32 → mm_S → Option (Int32 × mm_S)} (hk20 : ∀ (x1 : Int32) (z : mm_S), k20 x1 z = some r → gW X (mm_G E) (.returned (some (.int r.1)), r.2) z 20 [(0, .ref E.2.2.1), (1, .int x1)] []) {k35 : Int32 → Int32 → mm_S → Option (Int32 × mm_S)} (hk35 : ∀ (x1 : Int32) (x2 : Int32) (z : mm_S), k35 x1 x2 z = some r → gW X (mm_G E) (.returned (some (.int r.1)), r.2) z 35 [(0, .ref E.2.2.1), (1, .int x1), (2, .int x2)] []) (x1 : Int32) (x2 : Int32) (s1 : Int32) (z : mm_S) (h : mo_image_b89 k20 k35 x1 x2 s1 z = some r) : gW X (mm_G E) (.returned (some (.int r.1)), r.2) z 89 [(0, .ref E.2.2.1), (1, .int x1), (2, .int x2)] [.int s1, .ref E.2.2.1] := by
  unfold mo_image_b89 at h
  obtain ⟨u2, z1, e, h⟩ := g_callE h
  refine mm_callV C M 1 [.int s1] (st := []) (v := none) (z' := z1) (fun l => ct_writes l s1 z u2 z1 e) (lw_V q2805 q2807 qs166 q178 q2808) rfl rfl rfl (Nat.le_of_ble_eq_true rfl) (Nat.le_of_ble_eq_true rfl) (Nat.le_of_ble_eq_true rfl) dX6_image_89 ?_
  refine gW_st (st' := []) rfl ?_
  exact wk_image_b92 C M hk20 hk35 x1 x2 z1 h
def mo_image_b35 (k20 : Int32 → mm_S → Option (Int32 × mm_S)) : Nat → Int32 → Int32 → mm_S → Option (Int32 × mm_S)
  | 0, _, _, _ => none
  | n + 1, x1, x2, z => if (48 : Int32) ≤ x2 then (k20 (x1 + (1 : Int32)) z) else (g_call (mo_said x1 x2 z) (fun v2 z1 => if v2 = (-1 : Int32) then (mo_image_b92 k20 (mo_image_b35 k20 n) x1 x2 z1) else (g_call (mo_writes x1 z1) (fun _ z3 => g_call (mo_writes x2 z3) (fun _ z5 => g_call (mo_said x1 x2 z5) (fun v8 z7 => g_call (mo_writes v8 z7) (fun _ z9 => g_call (mo_laden x1 x2 z9) (fun v12 z11 => if v12 = 0 then (mo_image_b89 k20 (mo_image_b35 k20 n) x1 x2 (0 : Int32) z11) else (mo_image_b89 k20 (mo_image_b35 k20 n) x1 x2 (1 : Int32) z11)))))))))
theorem wk_image_b35 {X : gX} {E : mm_E} {r : Int32 × mm_S} (C : gC X cX6_image 3 (some .int) RX6 1 22) (M : mm_C X E) {k20 : Int32 → mm_S → Option (Int32 × mm_S)} (hk20 : ∀ (x1 : Int32) (z : mm_S), k20 x1 z = some r → gW X (mm_G E) (.returned (some (.int r.1)), r.2) z 20 [(0, .ref E.2.2.1), (1, .int x1)] []) : ∀ (n : Nat) (x1 : Int32) (x2 : Int32) (z : mm_S), mo_image_b35 k20 n x1 x2 z = some r → gW X (mm_G E) (.returned (some (.int r.1)), r.2) z 35 [(0, .ref E.2.2.1), (1, .int x1), (2, .int x2)] [] := by
  intro n
  induction n with
  | zero =>
    intro x1 x2 z h
    have h : (none : Option (Int32 × mm_S)) = some r := h
    cases h
  | succ n ih =>
    intro x1 x2 z h
    rw [mo_image_b35] at h
    refine g_iload_n C dX6_image_35 rfl 2 rfl ?_
    refine g_bipush C dX6_image_36 gk_bipush_48 ?_
    refine g_icmp_ge C dX6_image_38 rfl h (fun h => ?_) (fun h => ?_)
    · refine g_iinc [(1, .int (x1 + (1 : Int32))), (0, .ref E.2.2.1), (2, .int x2)] C dX6_image_98 (j := 1) rfl (gk_inc_1 _) (Nat.le_of_ble_eq_true rfl) rfl ?_
      refine g_goto C dX6_image_101 rfl ?_
      exact g_sub [(0, .ref E.2.2.1), (1, .int (x1 + (1 : Int32)))] [1, 0] rfl (hk20 (x1 + (1 : Int32)) z h)
    · refine g_aload_n C dX6_image_41 rfl 0 rfl ?_
      refine g_iload_n C dX6_image_42 rfl 1 rfl ?_
      refine g_iload_n C dX6_image_43 rfl 2 rfl ?_
      obtain ⟨v2, z1, e, h⟩ := g_callE h
      refine mm_callV C M 2 [.int x1, .int x2] (st := []) (v := some (.int v2)) (z' := z1) (fun l => ct_said l x1 x2 z v2 z1 e) (lw_V q2513 q2515 qs125 q178 q2516) rfl rfl rfl (Nat.le_of_ble_eq_true rfl) (Nat.le_of_ble_eq_true rfl) (Nat.le_of_ble_eq_true rfl) dX6_image_44 ?_
      refine gW_st (st' := [.int v2]) rfl ?_
      refine g_iconst C dX6_image_47 gk_iconst_m1 ?_
      refine g_icmp_ne C dX6_image_48 rfl h (fun h => ?_) (fun h => ?_)
      · refine g_aload_n C dX6_image_54 rfl 0 rfl ?_
        refine g_iload_n C dX6_image_55 rfl 1 rfl ?_
        obtain ⟨u4, z3, e, h⟩ := g_callE h
        refine mm_callV C M 1 [.int x1] (st := []) (v := none) (z' := z3) (fun l => ct_writes l x1 z1 u4 z3 e) (lw_V q2805 q2807 qs166 q178 q2808) rfl rfl rfl (Nat.le_of_ble_eq_true rfl) (Nat.le_of_ble_eq_true rfl) (Nat.le_of_ble_eq_true rfl) dX6_image_56 ?_
        refine gW_st (st' := []) rfl ?_
        refine g_aload_n C dX6_image_59 rfl 0 rfl ?_
        refine g_iload_n C dX6_image_60 rfl 2 rfl ?_
        obtain ⟨u6, z5, e, h⟩ := g_callE h
        refine mm_callV C M 1 [.int x2] (st := []) (v := none) (z' := z5) (fun l => ct_writes l x2 z3 u6 z5 e) (lw_V q2805 q2807 qs166 q178 q2808) rfl rfl rfl (Nat.le_of_ble_eq_true rfl) (Nat.le_of_ble_eq_true rfl) (Nat.le_of_ble_eq_true rfl) dX6_image_61 ?_
        refine gW_st (st' := []) rfl ?_
        refine g_aload_n C dX6_image_64 rfl 0 rfl ?_
        refine g_aload_n C dX6_image_65 rfl 0 rfl ?_
        refine g_iload_n C dX6_image_66 rfl 1 rfl ?_
        refine g_iload_n C dX6_image_67 rfl 2 rfl ?_
        obtain ⟨v8, z7, e, h⟩ := g_callE h
        refine mm_callV C M 2 [.int x1, .int x2] (st := [.ref E.2.2.1]) (v := some (.int v8)) (z' := z7) (fun l => ct_said l x1 x2 z5 v8 z7 e) (lw_V q2513 q2515 qs125 q178 q2516) rfl rfl rfl (Nat.le_of_ble_eq_true rfl) (Nat.le_of_ble_eq_true rfl) (Nat.le_of_ble_eq_true rfl) dX6_image_68 ?_
        refine gW_st (st' := [.int v8, .ref E.2.2.1]) rfl ?_
        obtain ⟨u10, z9, e, h⟩ := g_callE h
        refine mm_callV C M 1 [.int v8] (st := []) (v := none) (z' := z9) (fun l => ct_writes l v8 z7 u10 z9 e) (lw_V q2805 q2807 qs166 q178 q2808) rfl rfl rfl (Nat.le_of_ble_eq_true rfl) (Nat.le_of_ble_eq_true rfl) (Nat.le_of_ble_eq_true rfl) dX6_image_71 ?_
        refine gW_st (st' := []) rfl ?_
        refine g_aload_n C dX6_image_74 rfl 0 rfl ?_
        refine g_aload_n C dX6_image_75 rfl 0 rfl ?_
        refine g_iload_n C dX6_image_76 rfl 1 rfl ?_
        refine g_iload_n C dX6_image_77 rfl 2 rfl ?_
        obtain ⟨v12, z11, e, h⟩ := g_callE h
        refine mm_callV C M 2 [.int x1, .int x2] (st := [.ref E.2.2.1]) (v := some (.int v12)) (z' := z11) (fun l => ct_laden l x1 x2 z9 v12 z11 e) (lw_V q2581 q2583 qs138 q178 q2584) rfl rfl rfl (Nat.le_of_ble_eq_true rfl) (Nat.le_of_ble_eq_true rfl) (Nat.le_of_ble_eq_true rfl) dX6_image_78 ?_
        refine gW_st (st' := [.int v12, .ref E.2.2.1]) rfl ?_
        refine g_if_eq C dX6_image_81 rfl h (fun h => ?_) (fun h => ?_)
        · refine g_iconst C dX6_image_88 gk_iconst_0 ?_
          exact wk_image_b89 C M hk20 ih x1 x2 (0 : Int32) z11 h
        · refine g_iconst C dX6_image_84 gk_iconst_1 ?_
          refine g_goto C dX6_image_85 rfl ?_
          exact wk_image_b89 C M hk20 ih x1 x2 (1 : Int32) z11 h
      · refine g_goto C dX6_image_51 rfl ?_
        exact wk_image_b92 C M hk20 ih x1 x2 z1 h
def mo_image_b20 : Nat → Int32 → mm_S → Option (Int32 × mm_S)
  | 0, _, _ => none
  | n + 1, x1, z => mm_gI 12 z (fun v1 => mm_lI 19 v1 z (fun v2 => if v2 ≤ x1 then (mm_gI 12 z (fun v3 => mm_lI 33 v3 z (fun v4 => g_call (mo_writes v4 z) (fun _ z5 => mm_gI 12 z5 (fun v7 => mo_image_b125 g_fu ((40 : Int32) * v7) z5))))) else (mo_image_b35 (mo_image_b20 n) g_fu x1 (0 : Int32) z)))
theorem wk_image_b20 {X : gX} {E : mm_E} {r : Int32 × mm_S} (C : gC X cX6_image 3 (some .int) RX6 1 22) (M : mm_C X E) : ∀ (n : Nat) (x1 : Int32) (z : mm_S), mo_image_b20 n x1 z = some r → gW X (mm_G E) (.returned (some (.int r.1)), r.2) z 20 [(0, .ref E.2.2.1), (1, .int x1)] [] := by
  intro n
  induction n with
  | zero =>
    intro x1 z h
    have h : (none : Option (Int32 × mm_S)) = some r := h
    cases h
  | succ n ih =>
    intro x1 z h
    rw [mo_image_b20] at h
    refine g_iload_n C dX6_image_20 rfl 1 rfl ?_
    refine g_aload_n C dX6_image_21 rfl 0 rfl ?_
    refine mm_getA C M 19 (Nat.le_of_ble_eq_true rfl) (Nat.le_of_ble_eq_true rfl) q2022 rfl dX6_image_22 ?_
    refine g_aload_n C dX6_image_25 rfl 0 rfl ?_
    refine mm_getI C M 12 (Nat.le_of_ble_eq_true rfl) (Nat.le_of_ble_eq_true rfl) q2015 rfl dX6_image_26 h (fun v1 h => ?_)
    refine mm_ldI C M 19 (Nat.le_of_ble_eq_true rfl) rfl dX6_image_29 h (fun v2 h => ?_)
    refine g_icmp_ge C dX6_image_30 rfl h (fun h => ?_) (fun h => ?_)
    · refine g_aload_n C dX6_image_104 rfl 0 rfl ?_
      refine g_aload_n C dX6_image_105 rfl 0 rfl ?_
      refine mm_getA C M 33 (Nat.le_of_ble_eq_true rfl) (Nat.le_of_ble_eq_true rfl) q2036 rfl dX6_image_106 ?_
      refine g_aload_n C dX6_image_109 rfl 0 rfl ?_
      refine mm_getI C M 12 (Nat.le_of_ble_eq_true rfl) (Nat.le_of_ble_eq_true rfl) q2015 rfl dX6_image_110 h (fun v3 h => ?_)
      refine mm_ldI C M 33 (Nat.le_of_ble_eq_true rfl) rfl dX6_image_113 h (fun v4 h => ?_)
      obtain ⟨u6, z5, e, h⟩ := g_callE h
      refine mm_callV C M 1 [.int v4] (st := []) (v := none) (z' := z5) (fun l => ct_writes l v4 z u6 z5 e) (lw_V q2805 q2807 qs166 q178 q2808) rfl rfl rfl (Nat.le_of_ble_eq_true rfl) (Nat.le_of_ble_eq_true rfl) (Nat.le_of_ble_eq_true rfl) dX6_image_114 ?_
      refine gW_st (st' := []) rfl ?_
      refine g_bipush C dX6_image_117 gk_bipush_40 ?_
      refine g_aload_n C dX6_image_119 rfl 0 rfl ?_
      refine mm_getI C M 12 (Nat.le_of_ble_eq_true rfl) (Nat.le_of_ble_eq_true rfl) q2015 rfl dX6_image_120 h (fun v7 h => ?_)
      refine g_imul C dX6_image_123 ?_
      refine g_istore_n [(1, .int ((40 : Int32) * v7)), (0, .ref E.2.2.1)] C dX6_image_124 rfl (Nat.le_of_ble_eq_true rfl) rfl ?_
      exact g_sub [(0, .ref E.2.2.1), (1, .int ((40 : Int32) * v7))] [1, 0] rfl (wk_image_b125 C M g_fu ((40 : Int32) * v7) z5 h)
    · refine g_iconst C dX6_image_33 gk_iconst_0 ?_
      refine g_istore_n [(2, .int (0 : Int32)), (0, .ref E.2.2.1), (1, .int x1)] C dX6_image_34 rfl (Nat.le_of_ble_eq_true rfl) rfl ?_
      exact g_sub [(0, .ref E.2.2.1), (1, .int x1), (2, .int (0 : Int32))] [1, 2, 0] rfl (wk_image_b35 C M ih g_fu x1 (0 : Int32) z h)
def mo_image (z : mm_S) : Option (Int32 × mm_S) := mm_pI 82 (0 : Int32) z (fun z1 => mm_gI 12 z1 (fun v2 => mm_lI 25 v2 z1 (fun v3 => g_call (mo_writes v3 z1) (fun _ z4 => mo_image_b20 g_fu (0 : Int32) z4))))
theorem wk_image {X : gX} {E : mm_E} {r : Int32 × mm_S} (C : gC X cX6_image 3 (some .int) RX6 1 22) (M : mm_C X E) (z : mm_S) (h : mo_image z = some r) : gW X (mm_G E) (.returned (some (.int r.1)), r.2) z 0 [(0, .ref E.2.2.1)] [] := by
  unfold mo_image at h
  refine g_aload_n C dX6_image_0 rfl 0 rfl ?_
  refine g_iconst C dX6_image_1 gk_iconst_0 ?_
  refine mm_putI C M 82 (Nat.le_of_ble_eq_true rfl) (Nat.le_of_ble_eq_true rfl) q2085 rfl rfl rfl dX6_image_2 h (fun z1 h => ?_)
  refine g_aload_n C dX6_image_5 rfl 0 rfl ?_
  refine g_aload_n C dX6_image_6 rfl 0 rfl ?_
  refine mm_getA C M 25 (Nat.le_of_ble_eq_true rfl) (Nat.le_of_ble_eq_true rfl) q2028 rfl dX6_image_7 ?_
  refine g_aload_n C dX6_image_10 rfl 0 rfl ?_
  refine mm_getI C M 12 (Nat.le_of_ble_eq_true rfl) (Nat.le_of_ble_eq_true rfl) q2015 rfl dX6_image_11 h (fun v2 h => ?_)
  refine mm_ldI C M 25 (Nat.le_of_ble_eq_true rfl) rfl dX6_image_14 h (fun v3 h => ?_)
  obtain ⟨u5, z4, e, h⟩ := g_callE h
  refine mm_callV C M 1 [.int v3] (st := []) (v := none) (z' := z4) (fun l => ct_writes l v3 z1 u5 z4 e) (lw_V q2805 q2807 qs166 q178 q2808) rfl rfl rfl (Nat.le_of_ble_eq_true rfl) (Nat.le_of_ble_eq_true rfl) (Nat.le_of_ble_eq_true rfl) dX6_image_15 ?_
  refine gW_st (st' := []) rfl ?_
  refine g_iconst C dX6_image_18 gk_iconst_0 ?_
  refine g_istore_n [(1, .int (0 : Int32)), (0, .ref E.2.2.1)] C dX6_image_19 rfl (Nat.le_of_ble_eq_true rfl) rfl ?_
  exact g_sub [(0, .ref E.2.2.1), (1, .int (0 : Int32))] [1, 0] rfl (wk_image_b20 C M g_fu (0 : Int32) z4 h)
theorem ct_image (l : Launch) (z : mm_S) (r : Int32) (z' : mm_S) (h : mo_image z = some (r, z')) : mm_MetV l yX6_image cX6_image 3 (some .int) 1 22 [] z (.returned (some (.int r)), z') := by
  intro E hD
  exact mm_enter E hD rfl ⟨_, rfl⟩ (.ref E.2.2.1 :: []) (Nat.le_of_ble_eq_true rfl) (fun X C M => wk_image C M z h)
def mo_octet (x1 : Int32) (z : mm_S) : Option (Int32 × mm_S) := if x1 < 0 then (some ((-1 : Int32), z)) else (mm_gI 82 z (fun v1 => if v1 ≤ x1 then (some ((-1 : Int32), z)) else (mm_lI 81 x1 z (fun v2 => some (v2, z)))))
theorem wk_octet {X : gX} {E : mm_E} {r : Int32 × mm_S} (C : gC X cX6_octet 2 (some .int) RX6 0 0) (M : mm_C X E) (x1 : Int32) (z : mm_S) (h : mo_octet x1 z = some r) : gW X (mm_G E) (.returned (some (.int r.1)), r.2) z 0 [(0, .ref E.2.2.1), (1, .int x1)] [] := by
  unfold mo_octet at h
  refine g_iload_n C dX6_octet_0 rfl 1 rfl ?_
  refine g_if_lt C dX6_octet_1 rfl h (fun h => ?_) (fun h => ?_)
  · refine g_iconst C dX6_octet_21 gk_iconst_m1 ?_
    exact g_iret C (fun _ => trivial) dX6_octet_22 h
  · refine g_iload_n C dX6_octet_4 rfl 1 rfl ?_
    refine g_aload_n C dX6_octet_5 rfl 0 rfl ?_
    refine mm_getI C M 82 (Nat.le_of_ble_eq_true rfl) (Nat.le_of_ble_eq_true rfl) q2085 rfl dX6_octet_6 h (fun v1 h => ?_)
    refine g_icmp_ge C dX6_octet_9 rfl h (fun h => ?_) (fun h => ?_)
    · refine g_iconst C dX6_octet_21 gk_iconst_m1 ?_
      exact g_iret C (fun _ => trivial) dX6_octet_22 h
    · refine g_aload_n C dX6_octet_12 rfl 0 rfl ?_
      refine mm_getA C M 81 (Nat.le_of_ble_eq_true rfl) (Nat.le_of_ble_eq_true rfl) q2084 rfl dX6_octet_13 ?_
      refine g_iload_n C dX6_octet_16 rfl 1 rfl ?_
      refine mm_ldI C M 81 (Nat.le_of_ble_eq_true rfl) rfl dX6_octet_17 h (fun v2 h => ?_)
      refine g_goto C dX6_octet_18 rfl ?_
      exact g_iret C (fun _ => trivial) dX6_octet_22 h
theorem ct_octet (l : Launch) (x1 : Int32) (z : mm_S) (r : Int32) (z' : mm_S) (h : mo_octet x1 z = some (r, z')) : mm_MetV l yX6_octet cX6_octet 2 (some .int) 0 0 [.int x1] z (.returned (some (.int r)), z') := by
  intro E hD
  exact mm_enter E hD rfl ⟨_, rfl⟩ (.ref E.2.2.1 :: [.int x1]) (Nat.le_of_ble_eq_true rfl) (fun X C M => wk_octet C M x1 z h)
def mo_isWhole_b231 : Nat → Int32 → Int32 → mm_S → Option (Int32 × mm_S)
  | 0, _, _, _ => none
  | n + 1, x1, x5, z => if (x1 - (1 : Int32)) ≤ x5 then (some ((1 : Int32), z)) else (mm_lI 0 x5 z (fun v1 => if (3 : Int32) < v1 then (some ((0 : Int32), z)) else (mm_lI 0 (x5 + (1 : Int32)) z (fun v2 => g_call (mo_cells z) (fun v4 z3 => if v4 ≤ v2 then (some ((0 : Int32), z3)) else (mm_lI 0 (x5 + (2 : Int32)) z3 (fun v5 => g_call (mo_isHour v5 z3) (fun v7 z6 => if v7 = 0 then (some ((0 : Int32), z6)) else ((mo_isWhole_b231 n) x1 (x5 + (3 : Int32)) z6)))))))))
theorem wk_isWhole_b231 {X : gX} {E : mm_E} {r : Int32 × mm_S} (C : gC X cX6_isWhole 7 (some .boolean) RX6 2 43) (M : mm_C X E) : ∀ (n : Nat) (x1 : Int32) (x5 : Int32) (z : mm_S), mo_isWhole_b231 n x1 x5 z = some r → gW X (mm_G E) (.returned (some (.int r.1)), r.2) z 231 [(0, .ref E.2.2.1), (1, .int x1), (5, .int x5)] [] := by
  intro n
  induction n with
  | zero =>
    intro x1 x5 z h
    have h : (none : Option (Int32 × mm_S)) = some r := h
    cases h
  | succ n ih =>
    intro x1 x5 z h
    rw [mo_isWhole_b231] at h
    refine g_iload C dX6_isWhole_231 2 rfl ?_
    refine g_iload_n C dX6_isWhole_233 rfl 1 rfl ?_
    refine g_iconst C dX6_isWhole_234 gk_iconst_1 ?_
    refine g_isub C dX6_isWhole_235 ?_
    refine g_icmp_ge C dX6_isWhole_236 rfl h (fun h => ?_) (fun h => ?_)
    · refine g_iconst C dX6_isWhole_289 gk_iconst_1 ?_
      exact g_zretc C (fun _ => trivial) dX6_isWhole_290 (Or.inr rfl) h
    · refine g_aload_n C dX6_isWhole_239 rfl 0 rfl ?_
      refine mm_getA C M 0 (Nat.le_of_ble_eq_true rfl) (Nat.le_of_ble_eq_true rfl) q2003 rfl dX6_isWhole_240 ?_
      refine g_iload C dX6_isWhole_243 2 rfl ?_
      refine mm_ldI C M 0 (Nat.le_of_ble_eq_true rfl) rfl dX6_isWhole_245 h (fun v1 h => ?_)
      refine g_iconst C dX6_isWhole_246 gk_iconst_3 ?_
      refine g_icmp_gt C dX6_isWhole_247 rfl h (fun h => ?_) (fun h => ?_)
      · refine g_iconst C dX6_isWhole_281 gk_iconst_0 ?_
        exact g_zretc C (fun _ => trivial) dX6_isWhole_282 (Or.inl rfl) h
      · refine g_aload_n C dX6_isWhole_250 rfl 0 rfl ?_
        refine mm_getA C M 0 (Nat.le_of_ble_eq_true rfl) (Nat.le_of_ble_eq_true rfl) q2003 rfl dX6_isWhole_251 ?_
        refine g_iload C dX6_isWhole_254 2 rfl ?_
        refine g_iconst C dX6_isWhole_256 gk_iconst_1 ?_
        refine g_iadd C dX6_isWhole_257 ?_
        refine mm_ldI C M 0 (Nat.le_of_ble_eq_true rfl) rfl dX6_isWhole_258 h (fun v2 h => ?_)
        refine g_aload_n C dX6_isWhole_259 rfl 0 rfl ?_
        obtain ⟨v4, z3, e, h⟩ := g_callE h
        refine mm_callV C M 0 [] (st := [.int v2]) (v := some (.int v4)) (z' := z3) (fun l => ct_cells l z v4 z3 e) (lw_V q2442 q2444 qs115 q178 q2445) rfl rfl rfl (Nat.le_of_ble_eq_true rfl) (Nat.le_of_ble_eq_true rfl) (Nat.le_of_ble_eq_true rfl) dX6_isWhole_260 ?_
        refine gW_st (st' := [.int v4, .int v2]) rfl ?_
        refine g_icmp_ge C dX6_isWhole_263 rfl h (fun h => ?_) (fun h => ?_)
        · refine g_iconst C dX6_isWhole_281 gk_iconst_0 ?_
          exact g_zretc C (fun _ => trivial) dX6_isWhole_282 (Or.inl rfl) h
        · refine g_aload_n C dX6_isWhole_266 rfl 0 rfl ?_
          refine mm_getA C M 0 (Nat.le_of_ble_eq_true rfl) (Nat.le_of_ble_eq_true rfl) q2003 rfl dX6_isWhole_267 ?_
          refine g_iload C dX6_isWhole_270 2 rfl ?_
          refine g_iconst C dX6_isWhole_272 gk_iconst_2 ?_
          refine g_iadd C dX6_isWhole_273 ?_
          refine mm_ldI C M 0 (Nat.le_of_ble_eq_true rfl) rfl dX6_isWhole_274 h (fun v5 h => ?_)
          obtain ⟨v7, z6, e, h⟩ := g_callE h
          refine mm_callS C M 1 [.int v5] (st := []) (v := some (.int v7)) (z' := z6) (fun l => ct_isHour l v5 z3 v7 z6 e) (lw_S q2494 q2495 q178 q2496) rfl rfl rfl (Nat.le_of_ble_eq_true rfl) (Nat.le_of_ble_eq_true rfl) (Nat.le_of_ble_eq_true rfl) dX6_isWhole_275 ?_
          refine gW_st (st' := [.int v7]) rfl ?_
          refine g_if_ne C dX6_isWhole_278 rfl h (fun h => ?_) (fun h => ?_)
          · refine g_iinc [(5, .int (x5 + (3 : Int32))), (0, .ref E.2.2.1), (1, .int x1)] C dX6_isWhole_283 (j := 2) rfl (gk_inc_3 _) (Nat.le_of_ble_eq_true rfl) rfl ?_
            refine g_goto C dX6_isWhole_286 rfl ?_
            exact g_sub [(0, .ref E.2.2.1), (1, .int x1), (5, .int (x5 + (3 : Int32)))] [1, 2, 0] rfl (ih x1 (x5 + (3 : Int32)) z6 h)
          · refine g_iconst C dX6_isWhole_281 gk_iconst_0 ?_
            exact g_zretc C (fun _ => trivial) dX6_isWhole_282 (Or.inl rfl) h
def mo_isWhole_b121 : Nat → Int32 → Int32 → Int32 → Int32 → mm_S → Option (Int32 × mm_S)
  | 0, _, _, _, _, _ => none
  | n + 1, x1, x2, x4, x5, z => if x2 ≤ x5 then (mo_isWhole_b231 g_fu x1 (x2 + (1 : Int32)) z) else (mm_lI 0 x5 z (fun v1 => mm_lI 0 (x5 + (1 : Int32)) z (fun v2 => mm_lI 0 x5 z (fun v3 => g_call (mo_isShip v3 z) (fun v5 z4 => if v5 = 0 then (some ((0 : Int32), z4)) else (mm_lI 0 (x5 + (1 : Int32)) z4 (fun v6 => g_call (mo_isHour v6 z4) (fun v8 z7 => if v8 = 0 then (some ((0 : Int32), z7)) else (if (((48 : Int32) * v1) + v2) ≤ x4 then (some ((0 : Int32), z7)) else (mm_lI 0 (x5 + (2 : Int32)) z7 (fun v9 => g_call (mo_cells z7) (fun v11 z10 => if v11 ≤ v9 then (some ((0 : Int32), z10)) else (mm_lI 0 (x5 + (3 : Int32)) z10 (fun v12 => if v12 ≤ (1 : Int32) then ((mo_isWhole_b121 n) x1 x2 (((48 : Int32) * v1) + v2) (x5 + (4 : Int32)) z10) else (some ((0 : Int32), z10))))))))))))))))
theorem wk_isWhole_b121 {X : gX} {E : mm_E} {r : Int32 × mm_S} (C : gC X cX6_isWhole 7 (some .boolean) RX6 2 43) (M : mm_C X E) : ∀ (n : Nat) (x1 : Int32) (x2 : Int32) (x4 : Int32) (x5 : Int32) (z : mm_S), mo_isWhole_b121 n x1 x2 x4 x5 z = some r → gW X (mm_G E) (.returned (some (.int r.1)), r.2) z 121 [(0, .ref E.2.2.1), (1, .int x1), (2, .int x2), (4, .int x4), (5, .int x5)] [] := by
  intro n
  induction n with
  | zero =>
    intro x1 x2 x4 x5 z h
    have h : (none : Option (Int32 × mm_S)) = some r := h
    cases h
  | succ n ih =>
    intro x1 x2 x4 x5 z h
    rw [mo_isWhole_b121] at h
    refine g_iload C dX6_isWhole_121 4 rfl ?_
    refine g_iload_n C dX6_isWhole_123 rfl 2 rfl ?_
    refine g_icmp_ge C dX6_isWhole_124 rfl h (fun h => ?_) (fun h => ?_)
    · refine g_iload_n C dX6_isWhole_226 rfl 2 rfl ?_
      refine g_iconst C dX6_isWhole_227 gk_iconst_1 ?_
      refine g_iadd C dX6_isWhole_228 ?_
      refine g_istore [(5, .int (x2 + (1 : Int32))), (0, .ref E.2.2.1), (1, .int x1), (2, .int x2), (4, .int x4)] C dX6_isWhole_229 (Nat.le_of_ble_eq_true rfl) rfl ?_
      exact g_sub [(0, .ref E.2.2.1), (1, .int x1), (5, .int (x2 + (1 : Int32)))] [1, 2, 0] rfl (wk_isWhole_b231 C M g_fu x1 (x2 + (1 : Int32)) z h)
    · refine g_bipush C dX6_isWhole_127 gk_bipush_48 ?_
      refine g_aload_n C dX6_isWhole_129 rfl 0 rfl ?_
      refine mm_getA C M 0 (Nat.le_of_ble_eq_true rfl) (Nat.le_of_ble_eq_true rfl) q2003 rfl dX6_isWhole_130 ?_
      refine g_iload C dX6_isWhole_133 4 rfl ?_
      refine mm_ldI C M 0 (Nat.le_of_ble_eq_true rfl) rfl dX6_isWhole_135 h (fun v1 h => ?_)
      refine g_imul C dX6_isWhole_136 ?_
      refine g_aload_n C dX6_isWhole_137 rfl 0 rfl ?_
      refine mm_getA C M 0 (Nat.le_of_ble_eq_true rfl) (Nat.le_of_ble_eq_true rfl) q2003 rfl dX6_isWhole_138 ?_
      refine g_iload C dX6_isWhole_141 4 rfl ?_
      refine g_iconst C dX6_isWhole_143 gk_iconst_1 ?_
      refine g_iadd C dX6_isWhole_144 ?_
      refine mm_ldI C M 0 (Nat.le_of_ble_eq_true rfl) rfl dX6_isWhole_145 h (fun v2 h => ?_)
      refine g_iadd C dX6_isWhole_146 ?_
      refine g_istore [(6, .int (((48 : Int32) * v1) + v2)), (0, .ref E.2.2.1), (1, .int x1), (2, .int x2), (4, .int x4), (5, .int x5)] C dX6_isWhole_147 (Nat.le_of_ble_eq_true rfl) rfl ?_
      refine g_aload_n C dX6_isWhole_149 rfl 1 rfl ?_
      refine g_aload_n C dX6_isWhole_150 rfl 1 rfl ?_
      refine mm_getA C M 0 (Nat.le_of_ble_eq_true rfl) (Nat.le_of_ble_eq_true rfl) q2003 rfl dX6_isWhole_151 ?_
      refine g_iload C dX6_isWhole_154 5 rfl ?_
      refine mm_ldI C M 0 (Nat.le_of_ble_eq_true rfl) rfl dX6_isWhole_156 h (fun v3 h => ?_)
      obtain ⟨v5, z4, e, h⟩ := g_callE h
      refine mm_callV C M 1 [.int v3] (st := []) (v := some (.int v5)) (z' := z4) (fun l => ct_isShip l v3 z v5 z4 e) (lw_V q2521 q2523 qs126 q178 q2524) rfl rfl rfl (Nat.le_of_ble_eq_true rfl) (Nat.le_of_ble_eq_true rfl) (Nat.le_of_ble_eq_true rfl) dX6_isWhole_157 ?_
      refine gW_st (st' := [.int v5]) rfl ?_
      refine g_if_eq C dX6_isWhole_160 rfl h (fun h => ?_) (fun h => ?_)
      · refine g_iconst C dX6_isWhole_214 gk_iconst_0 ?_
        exact g_zretc C (fun _ => trivial) dX6_isWhole_215 (Or.inl rfl) h
      · refine g_aload_n C dX6_isWhole_163 rfl 1 rfl ?_
        refine mm_getA C M 0 (Nat.le_of_ble_eq_true rfl) (Nat.le_of_ble_eq_true rfl) q2003 rfl dX6_isWhole_164 ?_
        refine g_iload C dX6_isWhole_167 5 rfl ?_
        refine g_iconst C dX6_isWhole_169 gk_iconst_1 ?_
        refine g_iadd C dX6_isWhole_170 ?_
        refine mm_ldI C M 0 (Nat.le_of_ble_eq_true rfl) rfl dX6_isWhole_171 h (fun v6 h => ?_)
        obtain ⟨v8, z7, e, h⟩ := g_callE h
        refine mm_callS C M 1 [.int v6] (st := []) (v := some (.int v8)) (z' := z7) (fun l => ct_isHour l v6 z4 v8 z7 e) (lw_S q2494 q2495 q178 q2496) rfl rfl rfl (Nat.le_of_ble_eq_true rfl) (Nat.le_of_ble_eq_true rfl) (Nat.le_of_ble_eq_true rfl) dX6_isWhole_172 ?_
        refine gW_st (st' := [.int v8]) rfl ?_
        refine g_if_eq C dX6_isWhole_175 rfl h (fun h => ?_) (fun h => ?_)
        · refine g_iconst C dX6_isWhole_214 gk_iconst_0 ?_
          exact g_zretc C (fun _ => trivial) dX6_isWhole_215 (Or.inl rfl) h
        · refine g_iload C dX6_isWhole_178 0 rfl ?_
          refine g_iload C dX6_isWhole_180 4 rfl ?_
          refine g_icmp_le C dX6_isWhole_182 rfl h (fun h => ?_) (fun h => ?_)
          · refine g_iconst C dX6_isWhole_214 gk_iconst_0 ?_
            exact g_zretc C (fun _ => trivial) dX6_isWhole_215 (Or.inl rfl) h
          · refine g_aload_n C dX6_isWhole_185 rfl 1 rfl ?_
            refine mm_getA C M 0 (Nat.le_of_ble_eq_true rfl) (Nat.le_of_ble_eq_true rfl) q2003 rfl dX6_isWhole_186 ?_
            refine g_iload C dX6_isWhole_189 5 rfl ?_
            refine g_iconst C dX6_isWhole_191 gk_iconst_2 ?_
            refine g_iadd C dX6_isWhole_192 ?_
            refine mm_ldI C M 0 (Nat.le_of_ble_eq_true rfl) rfl dX6_isWhole_193 h (fun v9 h => ?_)
            refine g_aload_n C dX6_isWhole_194 rfl 1 rfl ?_
            obtain ⟨v11, z10, e, h⟩ := g_callE h
            refine mm_callV C M 0 [] (st := [.int v9]) (v := some (.int v11)) (z' := z10) (fun l => ct_cells l z7 v11 z10 e) (lw_V q2442 q2444 qs115 q178 q2445) rfl rfl rfl (Nat.le_of_ble_eq_true rfl) (Nat.le_of_ble_eq_true rfl) (Nat.le_of_ble_eq_true rfl) dX6_isWhole_195 ?_
            refine gW_st (st' := [.int v11, .int v9]) rfl ?_
            refine g_icmp_ge C dX6_isWhole_198 rfl h (fun h => ?_) (fun h => ?_)
            · refine g_iconst C dX6_isWhole_214 gk_iconst_0 ?_
              exact g_zretc C (fun _ => trivial) dX6_isWhole_215 (Or.inl rfl) h
            · refine g_aload_n C dX6_isWhole_201 rfl 1 rfl ?_
              refine mm_getA C M 0 (Nat.le_of_ble_eq_true rfl) (Nat.le_of_ble_eq_true rfl) q2003 rfl dX6_isWhole_202 ?_
              refine g_iload C dX6_isWhole_205 5 rfl ?_
              refine g_iconst C dX6_isWhole_207 gk_iconst_3 ?_
              refine g_iadd C dX6_isWhole_208 ?_
              refine mm_ldI C M 0 (Nat.le_of_ble_eq_true rfl) rfl dX6_isWhole_209 h (fun v12 h => ?_)
              refine g_iconst C dX6_isWhole_210 gk_iconst_1 ?_
              refine g_icmp_le C dX6_isWhole_211 rfl h (fun h => ?_) (fun h => ?_)
              · refine g_iload C dX6_isWhole_216 0 rfl ?_
                refine g_istore [(4, .int (((48 : Int32) * v1) + v2)), (6, .int (((48 : Int32) * v1) + v2)), (0, .ref E.2.2.1), (1, .int x1), (2, .int x2), (5, .int x5)] C dX6_isWhole_218 (Nat.le_of_ble_eq_true rfl) rfl ?_
                refine g_iinc [(5, .int (x5 + (4 : Int32))), (4, .int (((48 : Int32) * v1) + v2)), (6, .int (((48 : Int32) * v1) + v2)), (0, .ref E.2.2.1), (1, .int x1), (2, .int x2)] C dX6_isWhole_220 (j := 5) rfl (gk_inc_4 _) (Nat.le_of_ble_eq_true rfl) rfl ?_
                refine g_goto C dX6_isWhole_223 rfl ?_
                exact g_sub [(0, .ref E.2.2.1), (1, .int x1), (2, .int x2), (4, .int (((48 : Int32) * v1) + v2)), (5, .int (x5 + (4 : Int32)))] [3, 4, 5, 1, 0] rfl (ih x1 x2 (((48 : Int32) * v1) + v2) (x5 + (4 : Int32)) z10 h)
              · refine g_iconst C dX6_isWhole_214 gk_iconst_0 ?_
                exact g_zretc C (fun _ => trivial) dX6_isWhole_215 (Or.inl rfl) h
def mo_isWhole_b71 : Nat → Int32 → Int32 → Int32 → Int32 → mm_S → Option (Int32 × mm_S)
  | 0, _, _, _, _, _ => none
  | n + 1, x1, x2, x3, x4, z => if (x1 - (1 : Int32)) ≤ x4 then (mm_lI 0 (x1 - (1 : Int32)) z (fun v1 => if v1 = x3 then (mo_isWhole_b121 g_fu x1 x2 (-1 : Int32) (1 : Int32) z) else (some ((0 : Int32), z)))) else (mm_lI 0 x4 z (fun v2 => (mo_isWhole_b71 n) x1 x2 ((((3 : Int32) * x3) + v2) - (((3 : Int32) * x3) + v2) / (241 : Int32) * (241 : Int32)) (x4 + (1 : Int32)) z))
theorem wk_isWhole_b71 {X : gX} {E : mm_E} {r : Int32 × mm_S} (C : gC X cX6_isWhole 7 (some .boolean) RX6 2 43) (M : mm_C X E) : ∀ (n : Nat) (x1 : Int32) (x2 : Int32) (x3 : Int32) (x4 : Int32) (z : mm_S), mo_isWhole_b71 n x1 x2 x3 x4 z = some r → gW X (mm_G E) (.returned (some (.int r.1)), r.2) z 71 [(0, .ref E.2.2.1), (1, .int x1), (2, .int x2), (3, .int x3), (4, .int x4)] [] := by
  intro n
  induction n with
  | zero =>
    intro x1 x2 x3 x4 z h
    have h : (none : Option (Int32 × mm_S)) = some r := h
    cases h
  | succ n ih =>
    intro x1 x2 x3 x4 z h
    rw [mo_isWhole_b71] at h
    refine g_iload C dX6_isWhole_71 4 rfl ?_
    refine g_iload_n C dX6_isWhole_73 rfl 1 rfl ?_
    refine g_iconst C dX6_isWhole_74 gk_iconst_1 ?_
    refine g_isub C dX6_isWhole_75 ?_
    refine g_icmp_ge C dX6_isWhole_76 rfl h (fun h => ?_) (fun h => ?_)
    · refine g_aload_n C dX6_isWhole_101 rfl 0 rfl ?_
      refine mm_getA C M 0 (Nat.le_of_ble_eq_true rfl) (Nat.le_of_ble_eq_true rfl) q2003 rfl dX6_isWhole_102 ?_
      refine g_iload_n C dX6_isWhole_105 rfl 1 rfl ?_
      refine g_iconst C dX6_isWhole_106 gk_iconst_1 ?_
      refine g_isub C dX6_isWhole_107 ?_
      refine mm_ldI C M 0 (Nat.le_of_ble_eq_true rfl) rfl dX6_isWhole_108 h (fun v1 h => ?_)
      refine g_iload_n C dX6_isWhole_109 rfl 3 rfl ?_
      refine g_icmp_eq C dX6_isWhole_110 rfl h (fun h => ?_) (fun h => ?_)
      · refine g_iconst C dX6_isWhole_115 gk_iconst_m1 ?_
        refine g_istore [(4, .int (-1 : Int32)), (0, .ref E.2.2.1), (1, .int x1), (2, .int x2), (3, .int x3)] C dX6_isWhole_116 (Nat.le_of_ble_eq_true rfl) rfl ?_
        refine g_iconst C dX6_isWhole_118 gk_iconst_1 ?_
        refine g_istore [(5, .int (1 : Int32)), (4, .int (-1 : Int32)), (0, .ref E.2.2.1), (1, .int x1), (2, .int x2), (3, .int x3)] C dX6_isWhole_119 (Nat.le_of_ble_eq_true rfl) rfl ?_
        exact g_sub [(0, .ref E.2.2.1), (1, .int x1), (2, .int x2), (4, .int (-1 : Int32)), (5, .int (1 : Int32))] [2, 3, 4, 1, 0] rfl (wk_isWhole_b121 C M g_fu x1 x2 (-1 : Int32) (1 : Int32) z h)
      · refine g_iconst C dX6_isWhole_113 gk_iconst_0 ?_
        exact g_zretc C (fun _ => trivial) dX6_isWhole_114 (Or.inl rfl) h
    · refine g_iconst C dX6_isWhole_79 gk_iconst_3 ?_
      refine g_iload_n C dX6_isWhole_80 rfl 3 rfl ?_
      refine g_imul C dX6_isWhole_81 ?_
      refine g_aload_n C dX6_isWhole_82 rfl 0 rfl ?_
      refine mm_getA C M 0 (Nat.le_of_ble_eq_true rfl) (Nat.le_of_ble_eq_true rfl) q2003 rfl dX6_isWhole_83 ?_
      refine g_iload C dX6_isWhole_86 4 rfl ?_
      refine mm_ldI C M 0 (Nat.le_of_ble_eq_true rfl) rfl dX6_isWhole_88 h (fun v2 h => ?_)
      refine g_iadd C dX6_isWhole_89 ?_
      refine g_sipush C dX6_isWhole_90 gk_sipush_241 ?_
      refine g_irem C dX6_isWhole_93 (by decide) ?_
      refine g_istore_n [(3, .int ((((3 : Int32) * x3) + v2) - (((3 : Int32) * x3) + v2) / (241 : Int32) * (241 : Int32))), (0, .ref E.2.2.1), (1, .int x1), (2, .int x2), (4, .int x4)] C dX6_isWhole_94 rfl (Nat.le_of_ble_eq_true rfl) rfl ?_
      refine g_iinc [(4, .int (x4 + (1 : Int32))), (3, .int ((((3 : Int32) * x3) + v2) - (((3 : Int32) * x3) + v2) / (241 : Int32) * (241 : Int32))), (0, .ref E.2.2.1), (1, .int x1), (2, .int x2)] C dX6_isWhole_95 (j := 4) rfl (gk_inc_1 _) (Nat.le_of_ble_eq_true rfl) rfl ?_
      refine g_goto C dX6_isWhole_98 rfl ?_
      exact g_sub [(0, .ref E.2.2.1), (1, .int x1), (2, .int x2), (3, .int ((((3 : Int32) * x3) + v2) - (((3 : Int32) * x3) + v2) / (241 : Int32) * (241 : Int32))), (4, .int (x4 + (1 : Int32)))] [2, 3, 4, 1, 0] rfl (ih x1 x2 ((((3 : Int32) * x3) + v2) - (((3 : Int32) * x3) + v2) / (241 : Int32) * (241 : Int32)) (x4 + (1 : Int32)) z h)
def mo_isWhole (x1 : Int32) (z : mm_S) : Option (Int32 × mm_S) := if x1 < (3 : Int32) then (some ((0 : Int32), z)) else (mm_lI 0 (0 : Int32) z (fun v1 => if v1 ≤ (96 : Int32) then (mm_lI 0 (0 : Int32) z (fun v2 => if (x1 - (1 : Int32)) ≤ ((1 : Int32) + ((4 : Int32) * v2)) then (some ((0 : Int32), z)) else (mm_lI 0 ((1 : Int32) + ((4 : Int32) * v2)) z (fun v3 => if (40 : Int32) < v3 then (some ((0 : Int32), z)) else (mm_lI 0 ((1 : Int32) + ((4 : Int32) * v2)) z (fun v4 => if x1 = ((((1 : Int32) + ((4 : Int32) * v2)) + (2 : Int32)) + ((3 : Int32) * v4)) then (mo_isWhole_b71 g_fu x1 ((1 : Int32) + ((4 : Int32) * v2)) (29 : Int32) (0 : Int32) z) else (some ((0 : Int32), z)))))))) else (some ((0 : Int32), z))))
theorem wk_isWhole {X : gX} {E : mm_E} {r : Int32 × mm_S} (C : gC X cX6_isWhole 7 (some .boolean) RX6 2 43) (M : mm_C X E) (x1 : Int32) (z : mm_S) (h : mo_isWhole x1 z = some r) : gW X (mm_G E) (.returned (some (.int r.1)), r.2) z 0 [(0, .ref E.2.2.1), (1, .int x1)] [] := by
  unfold mo_isWhole at h
  refine g_iload_n C dX6_isWhole_0 rfl 1 rfl ?_
  refine g_iconst C dX6_isWhole_1 gk_iconst_3 ?_
  refine g_icmp_lt C dX6_isWhole_2 rfl h (fun h => ?_) (fun h => ?_)
  · refine g_iconst C dX6_isWhole_16 gk_iconst_0 ?_
    exact g_zretc C (fun _ => trivial) dX6_isWhole_17 (Or.inl rfl) h
  · refine g_aload_n C dX6_isWhole_5 rfl 0 rfl ?_
    refine mm_getA C M 0 (Nat.le_of_ble_eq_true rfl) (Nat.le_of_ble_eq_true rfl) q2003 rfl dX6_isWhole_6 ?_
    refine g_iconst C dX6_isWhole_9 gk_iconst_0 ?_
    refine mm_ldI C M 0 (Nat.le_of_ble_eq_true rfl) rfl dX6_isWhole_10 h (fun v1 h => ?_)
    refine g_bipush C dX6_isWhole_11 gk_bipush_96 ?_
    refine g_icmp_le C dX6_isWhole_13 rfl h (fun h => ?_) (fun h => ?_)
    · refine g_iconst C dX6_isWhole_18 gk_iconst_1 ?_
      refine g_iconst C dX6_isWhole_19 gk_iconst_4 ?_
      refine g_aload_n C dX6_isWhole_20 rfl 0 rfl ?_
      refine mm_getA C M 0 (Nat.le_of_ble_eq_true rfl) (Nat.le_of_ble_eq_true rfl) q2003 rfl dX6_isWhole_21 ?_
      refine g_iconst C dX6_isWhole_24 gk_iconst_0 ?_
      refine mm_ldI C M 0 (Nat.le_of_ble_eq_true rfl) rfl dX6_isWhole_25 h (fun v2 h => ?_)
      refine g_imul C dX6_isWhole_26 ?_
      refine g_iadd C dX6_isWhole_27 ?_
      refine g_istore_n [(2, .int ((1 : Int32) + ((4 : Int32) * v2))), (0, .ref E.2.2.1), (1, .int x1)] C dX6_isWhole_28 rfl (Nat.le_of_ble_eq_true rfl) rfl ?_
      refine g_iload_n C dX6_isWhole_29 rfl 0 rfl ?_
      refine g_iload_n C dX6_isWhole_30 rfl 2 rfl ?_
      refine g_iconst C dX6_isWhole_31 gk_iconst_1 ?_
      refine g_isub C dX6_isWhole_32 ?_
      refine g_icmp_ge C dX6_isWhole_33 rfl h (fun h => ?_) (fun h => ?_)
      · refine g_iconst C dX6_isWhole_63 gk_iconst_0 ?_
        exact g_zretc C (fun _ => trivial) dX6_isWhole_64 (Or.inl rfl) h
      · refine g_aload_n C dX6_isWhole_36 rfl 1 rfl ?_
        refine mm_getA C M 0 (Nat.le_of_ble_eq_true rfl) (Nat.le_of_ble_eq_true rfl) q2003 rfl dX6_isWhole_37 ?_
        refine g_iload_n C dX6_isWhole_40 rfl 0 rfl ?_
        refine mm_ldI C M 0 (Nat.le_of_ble_eq_true rfl) rfl dX6_isWhole_41 h (fun v3 h => ?_)
        refine g_bipush C dX6_isWhole_42 gk_bipush_40 ?_
        refine g_icmp_gt C dX6_isWhole_44 rfl h (fun h => ?_) (fun h => ?_)
        · refine g_iconst C dX6_isWhole_63 gk_iconst_0 ?_
          exact g_zretc C (fun _ => trivial) dX6_isWhole_64 (Or.inl rfl) h
        · refine g_iload_n C dX6_isWhole_47 rfl 2 rfl ?_
          refine g_iload_n C dX6_isWhole_48 rfl 0 rfl ?_
          refine g_iconst C dX6_isWhole_49 gk_iconst_2 ?_
          refine g_iadd C dX6_isWhole_50 ?_
          refine g_iconst C dX6_isWhole_51 gk_iconst_3 ?_
          refine g_aload_n C dX6_isWhole_52 rfl 1 rfl ?_
          refine mm_getA C M 0 (Nat.le_of_ble_eq_true rfl) (Nat.le_of_ble_eq_true rfl) q2003 rfl dX6_isWhole_53 ?_
          refine g_iload_n C dX6_isWhole_56 rfl 0 rfl ?_
          refine mm_ldI C M 0 (Nat.le_of_ble_eq_true rfl) rfl dX6_isWhole_57 h (fun v4 h => ?_)
          refine g_imul C dX6_isWhole_58 ?_
          refine g_iadd C dX6_isWhole_59 ?_
          refine g_icmp_eq C dX6_isWhole_60 rfl h (fun h => ?_) (fun h => ?_)
          · refine g_bipush C dX6_isWhole_65 gk_bipush_29 ?_
            refine g_istore_n [(3, .int (29 : Int32)), (2, .int ((1 : Int32) + ((4 : Int32) * v2))), (0, .ref E.2.2.1), (1, .int x1)] C dX6_isWhole_67 rfl (Nat.le_of_ble_eq_true rfl) rfl ?_
            refine g_iconst C dX6_isWhole_68 gk_iconst_0 ?_
            refine g_istore [(4, .int (0 : Int32)), (3, .int (29 : Int32)), (2, .int ((1 : Int32) + ((4 : Int32) * v2))), (0, .ref E.2.2.1), (1, .int x1)] C dX6_isWhole_69 (Nat.le_of_ble_eq_true rfl) rfl ?_
            exact g_sub [(0, .ref E.2.2.1), (1, .int x1), (2, .int ((1 : Int32) + ((4 : Int32) * v2))), (3, .int (29 : Int32)), (4, .int (0 : Int32))] [3, 4, 2, 1, 0] rfl (wk_isWhole_b71 C M g_fu x1 ((1 : Int32) + ((4 : Int32) * v2)) (29 : Int32) (0 : Int32) z h)
          · refine g_iconst C dX6_isWhole_63 gk_iconst_0 ?_
            exact g_zretc C (fun _ => trivial) dX6_isWhole_64 (Or.inl rfl) h
    · refine g_iconst C dX6_isWhole_16 gk_iconst_0 ?_
      exact g_zretc C (fun _ => trivial) dX6_isWhole_17 (Or.inl rfl) h
theorem ct_isWhole (l : Launch) (x1 : Int32) (z : mm_S) (r : Int32) (z' : mm_S) (h : mo_isWhole x1 z = some (r, z')) : mm_MetV l yX6_isWhole cX6_isWhole 7 (some .boolean) 2 43 [.int x1] z (.returned (some (.int r)), z') := by
  intro E hD
  exact mm_enter E hD rfl ⟨_, rfl⟩ (.ref E.2.2.1 :: [.int x1]) (Nat.le_of_ble_eq_true rfl) (fun X C M => wk_isWhole C M x1 z h)
def mo_on_b154 : Nat → Int32 → Int32 → mm_S → Option (Int32 × mm_S)
  | 0, _, _, _ => none
  | n + 1, x1, x3, z => if (x1 - (1 : Int32)) ≤ x3 then (some ((1 : Int32), z)) else (mm_lI 0 x3 z (fun v1 => mm_lI 0 (x3 + (1 : Int32)) z (fun v2 => mm_lI 0 (x3 + (2 : Int32)) z (fun v3 => g_call (mo_spots v1 v2 v3 z) (fun _ z4 => (mo_on_b154 n) x1 (x3 + (3 : Int32)) z4)))))
theorem wk_on_b154 {X : gX} {E : mm_E} {r : Int32 × mm_S} (C : gC X cX6_on 4 (some .boolean) RX6 3 69) (M : mm_C X E) : ∀ (n : Nat) (x1 : Int32) (x3 : Int32) (z : mm_S), mo_on_b154 n x1 x3 z = some r → gW X (mm_G E) (.returned (some (.int r.1)), r.2) z 154 [(0, .ref E.2.2.1), (1, .int x1), (3, .int x3)] [] := by
  intro n
  induction n with
  | zero =>
    intro x1 x3 z h
    have h : (none : Option (Int32 × mm_S)) = some r := h
    cases h
  | succ n ih =>
    intro x1 x3 z h
    rw [mo_on_b154] at h
    refine g_iload_n C dX6_on_154 rfl 2 rfl ?_
    refine g_iload_n C dX6_on_155 rfl 1 rfl ?_
    refine g_iconst C dX6_on_156 gk_iconst_1 ?_
    refine g_isub C dX6_on_157 ?_
    refine g_icmp_ge C dX6_on_158 rfl h (fun h => ?_) (fun h => ?_)
    · refine g_iconst C dX6_on_193 gk_iconst_1 ?_
      exact g_zretc C (fun _ => trivial) dX6_on_194 (Or.inr rfl) h
    · refine g_aload_n C dX6_on_161 rfl 0 rfl ?_
      refine g_aload_n C dX6_on_162 rfl 0 rfl ?_
      refine mm_getA C M 0 (Nat.le_of_ble_eq_true rfl) (Nat.le_of_ble_eq_true rfl) q2003 rfl dX6_on_163 ?_
      refine g_iload_n C dX6_on_166 rfl 2 rfl ?_
      refine mm_ldI C M 0 (Nat.le_of_ble_eq_true rfl) rfl dX6_on_167 h (fun v1 h => ?_)
      refine g_aload_n C dX6_on_168 rfl 0 rfl ?_
      refine mm_getA C M 0 (Nat.le_of_ble_eq_true rfl) (Nat.le_of_ble_eq_true rfl) q2003 rfl dX6_on_169 ?_
      refine g_iload_n C dX6_on_172 rfl 2 rfl ?_
      refine g_iconst C dX6_on_173 gk_iconst_1 ?_
      refine g_iadd C dX6_on_174 ?_
      refine mm_ldI C M 0 (Nat.le_of_ble_eq_true rfl) rfl dX6_on_175 h (fun v2 h => ?_)
      refine g_aload_n C dX6_on_176 rfl 0 rfl ?_
      refine mm_getA C M 0 (Nat.le_of_ble_eq_true rfl) (Nat.le_of_ble_eq_true rfl) q2003 rfl dX6_on_177 ?_
      refine g_iload_n C dX6_on_180 rfl 2 rfl ?_
      refine g_iconst C dX6_on_181 gk_iconst_2 ?_
      refine g_iadd C dX6_on_182 ?_
      refine mm_ldI C M 0 (Nat.le_of_ble_eq_true rfl) rfl dX6_on_183 h (fun v3 h => ?_)
      obtain ⟨u5, z4, e, h⟩ := g_callE h
      refine mm_callV C M 3 [.int v1, .int v2, .int v3] (st := []) (v := none) (z' := z4) (fun l => ct_spots l v1 v2 v3 z u5 z4 e) (lw_V q2797 q2799 qs165 q178 q2800) rfl rfl rfl (Nat.le_of_ble_eq_true rfl) (Nat.le_of_ble_eq_true rfl) (Nat.le_of_ble_eq_true rfl) dX6_on_184 ?_
      refine gW_st (st' := []) rfl ?_
      refine g_iinc [(3, .int (x3 + (3 : Int32))), (0, .ref E.2.2.1), (1, .int x1)] C dX6_on_187 (j := 2) rfl (gk_inc_3 _) (Nat.le_of_ble_eq_true rfl) rfl ?_
      refine g_goto C dX6_on_190 rfl ?_
      exact g_sub [(0, .ref E.2.2.1), (1, .int x1), (3, .int (x3 + (3 : Int32)))] [1, 2, 0] rfl (ih x1 (x3 + (3 : Int32)) z4 h)
def mo_on_b141 (k96 : Int32 → Int32 → Int32 → mm_S → Option (Int32 × mm_S)) (x1 : Int32) (x2 : Int32) (x3 : Int32) (s1 : Int32) (s2 : Int32) (s3 : Int32) (s4 : Int32) (z : mm_S) : Option (Int32 × mm_S) := g_call (mo_says_2 s1 s2 s3 s4 z) (fun _ z1 => k96 x1 x2 (x3 + (4 : Int32)) z1)
theorem wk_on_b141 {X : gX} {E : mm_E} {r : Int32 × mm_S} (C : gC X cX6_on 4 (some .boolean) RX6 3 69) (M : mm_C X E) {k96 : Int32 → Int32 → Int32 → mm_S → Option (Int32 × mm_S)} (hk96 : ∀ (x1 : Int32) (x2 : Int32) (x3 : Int32) (z : mm_S), k96 x1 x2 x3 z = some r → gW X (mm_G E) (.returned (some (.int r.1)), r.2) z 96 [(0, .ref E.2.2.1), (1, .int x1), (2, .int x2), (3, .int x3)] []) (x1 : Int32) (x2 : Int32) (x3 : Int32) (s1 : Int32) (s2 : Int32) (s3 : Int32) (s4 : Int32) (z : mm_S) (h : mo_on_b141 k96 x1 x2 x3 s1 s2 s3 s4 z = some r) : gW X (mm_G E) (.returned (some (.int r.1)), r.2) z 141 [(0, .ref E.2.2.1), (1, .int x1), (2, .int x2), (3, .int x3)] [.int s4, .int s3, .int s2, .int s1, .ref E.2.2.1] := by
  unfold mo_on_b141 at h
  obtain ⟨u2, z1, e, h⟩ := g_callE h
  refine mm_callV C M 4 [.int s1, .int s2, .int s3, .int s4] (st := []) (v := none) (z' := z1) (fun l => ct_says_2 l s1 s2 s3 s4 z u2 z1 e) (lw_V q2781 q2783 qs163 q178 q2784) rfl rfl rfl (Nat.le_of_ble_eq_true rfl) (Nat.le_of_ble_eq_true rfl) (Nat.le_of_ble_eq_true rfl) dX6_on_141 ?_
  refine gW_st (st' := []) rfl ?_
  refine g_iinc [(3, .int (x3 + (4 : Int32))), (0, .ref E.2.2.1), (1, .int x1), (2, .int x2)] C dX6_on_144 (j := 3) rfl (gk_inc_4 _) (Nat.le_of_ble_eq_true rfl) rfl ?_
  refine g_goto C dX6_on_147 rfl ?_
  exact g_sub [(0, .ref E.2.2.1), (1, .int x1), (2, .int x2), (3, .int (x3 + (4 : Int32)))] [1, 2, 3, 0] rfl (hk96 x1 x2 (x3 + (4 : Int32)) z1 h)
def mo_on_b96 : Nat → Int32 → Int32 → Int32 → mm_S → Option (Int32 × mm_S)
  | 0, _, _, _, _ => none
  | n + 1, x1, x2, x3, z => if x2 ≤ x3 then (mo_on_b154 g_fu x1 (x2 + (1 : Int32)) z) else (mm_lI 0 x3 z (fun v1 => mm_lI 0 (x3 + (1 : Int32)) z (fun v2 => mm_lI 0 (x3 + (2 : Int32)) z (fun v3 => mm_lI 0 (x3 + (3 : Int32)) z (fun v4 => if v4 = (1 : Int32) then (mo_on_b141 (mo_on_b96 n) x1 x2 x3 v1 v2 v3 (1 : Int32) z) else (mo_on_b141 (mo_on_b96 n) x1 x2 x3 v1 v2 v3 (0 : Int32) z))))))
theorem wk_on_b96 {X : gX} {E : mm_E} {r : Int32 × mm_S} (C : gC X cX6_on 4 (some .boolean) RX6 3 69) (M : mm_C X E) : ∀ (n : Nat) (x1 : Int32) (x2 : Int32) (x3 : Int32) (z : mm_S), mo_on_b96 n x1 x2 x3 z = some r → gW X (mm_G E) (.returned (some (.int r.1)), r.2) z 96 [(0, .ref E.2.2.1), (1, .int x1), (2, .int x2), (3, .int x3)] [] := by
  intro n
  induction n with
  | zero =>
    intro x1 x2 x3 z h
    have h : (none : Option (Int32 × mm_S)) = some r := h
    cases h
  | succ n ih =>
    intro x1 x2 x3 z h
    rw [mo_on_b96] at h
    refine g_iload_n C dX6_on_96 rfl 3 rfl ?_
    refine g_iload_n C dX6_on_97 rfl 2 rfl ?_
    refine g_icmp_ge C dX6_on_98 rfl h (fun h => ?_) (fun h => ?_)
    · refine g_iload_n C dX6_on_150 rfl 2 rfl ?_
      refine g_iconst C dX6_on_151 gk_iconst_1 ?_
      refine g_iadd C dX6_on_152 ?_
      refine g_istore_n [(3, .int (x2 + (1 : Int32))), (0, .ref E.2.2.1), (1, .int x1), (2, .int x2)] C dX6_on_153 rfl (Nat.le_of_ble_eq_true rfl) rfl ?_
      exact g_sub [(0, .ref E.2.2.1), (1, .int x1), (3, .int (x2 + (1 : Int32)))] [1, 2, 0] rfl (wk_on_b154 C M g_fu x1 (x2 + (1 : Int32)) z h)
    · refine g_aload_n C dX6_on_101 rfl 0 rfl ?_
      refine g_aload_n C dX6_on_102 rfl 0 rfl ?_
      refine mm_getA C M 0 (Nat.le_of_ble_eq_true rfl) (Nat.le_of_ble_eq_true rfl) q2003 rfl dX6_on_103 ?_
      refine g_iload_n C dX6_on_106 rfl 3 rfl ?_
      refine mm_ldI C M 0 (Nat.le_of_ble_eq_true rfl) rfl dX6_on_107 h (fun v1 h => ?_)
      refine g_aload_n C dX6_on_108 rfl 0 rfl ?_
      refine mm_getA C M 0 (Nat.le_of_ble_eq_true rfl) (Nat.le_of_ble_eq_true rfl) q2003 rfl dX6_on_109 ?_
      refine g_iload_n C dX6_on_112 rfl 3 rfl ?_
      refine g_iconst C dX6_on_113 gk_iconst_1 ?_
      refine g_iadd C dX6_on_114 ?_
      refine mm_ldI C M 0 (Nat.le_of_ble_eq_true rfl) rfl dX6_on_115 h (fun v2 h => ?_)
      refine g_aload_n C dX6_on_116 rfl 0 rfl ?_
      refine mm_getA C M 0 (Nat.le_of_ble_eq_true rfl) (Nat.le_of_ble_eq_true rfl) q2003 rfl dX6_on_117 ?_
      refine g_iload_n C dX6_on_120 rfl 3 rfl ?_
      refine g_iconst C dX6_on_121 gk_iconst_2 ?_
      refine g_iadd C dX6_on_122 ?_
      refine mm_ldI C M 0 (Nat.le_of_ble_eq_true rfl) rfl dX6_on_123 h (fun v3 h => ?_)
      refine g_aload_n C dX6_on_124 rfl 0 rfl ?_
      refine mm_getA C M 0 (Nat.le_of_ble_eq_true rfl) (Nat.le_of_ble_eq_true rfl) q2003 rfl dX6_on_125 ?_
      refine g_iload_n C dX6_on_128 rfl 3 rfl ?_
      refine g_iconst C dX6_on_129 gk_iconst_3 ?_
      refine g_iadd C dX6_on_130 ?_
      refine mm_ldI C M 0 (Nat.le_of_ble_eq_true rfl) rfl dX6_on_131 h (fun v4 h => ?_)
      refine g_iconst C dX6_on_132 gk_iconst_1 ?_
      refine g_icmp_ne C dX6_on_133 rfl h (fun h => ?_) (fun h => ?_)
      · refine g_iconst C dX6_on_140 gk_iconst_0 ?_
        exact wk_on_b141 C M ih x1 x2 x3 v1 v2 v3 (0 : Int32) z h
      · refine g_iconst C dX6_on_136 gk_iconst_1 ?_
        refine g_goto C dX6_on_137 rfl ?_
        exact wk_on_b141 C M ih x1 x2 x3 v1 v2 v3 (1 : Int32) z h
def mo_on_b34 : Nat → Int32 → Int32 → mm_S → Option (Int32 × mm_S)
  | 0, _, _, _ => none
  | n + 1, x1, x2, z => if (384 : Int32) ≤ x2 then (mm_gI 12 z (fun v1 => mm_sI 25 v1 (0 : Int32) z (fun z2 => mm_gI 12 z2 (fun v3 => mm_sI 33 v3 (0 : Int32) z2 (fun z4 => mm_lI 0 (0 : Int32) z4 (fun v5 => mo_on_b96 g_fu x1 ((1 : Int32) + ((4 : Int32) * v5)) (1 : Int32) z4)))))) else (mm_gI 12 z (fun v6 => mm_sI 26 (((384 : Int32) * v6) + x2) (-1 : Int32) z (fun z7 => (mo_on_b34 n) x1 (x2 + (1 : Int32)) z7)))
theorem wk_on_b34 {X : gX} {E : mm_E} {r : Int32 × mm_S} (C : gC X cX6_on 4 (some .boolean) RX6 3 69) (M : mm_C X E) : ∀ (n : Nat) (x1 : Int32) (x2 : Int32) (z : mm_S), mo_on_b34 n x1 x2 z = some r → gW X (mm_G E) (.returned (some (.int r.1)), r.2) z 34 [(0, .ref E.2.2.1), (1, .int x1), (2, .int x2)] [] := by
  intro n
  induction n with
  | zero =>
    intro x1 x2 z h
    have h : (none : Option (Int32 × mm_S)) = some r := h
    cases h
  | succ n ih =>
    intro x1 x2 z h
    rw [mo_on_b34] at h
    refine g_iload_n C dX6_on_34 rfl 2 rfl ?_
    refine g_sipush C dX6_on_35 gk_sipush_384 ?_
    refine g_icmp_ge C dX6_on_38 rfl h (fun h => ?_) (fun h => ?_)
    · refine g_aload_n C dX6_on_63 rfl 0 rfl ?_
      refine mm_getA C M 25 (Nat.le_of_ble_eq_true rfl) (Nat.le_of_ble_eq_true rfl) q2028 rfl dX6_on_64 ?_
      refine g_aload_n C dX6_on_67 rfl 0 rfl ?_
      refine mm_getI C M 12 (Nat.le_of_ble_eq_true rfl) (Nat.le_of_ble_eq_true rfl) q2015 rfl dX6_on_68 h (fun v1 h => ?_)
      refine g_iconst C dX6_on_71 gk_iconst_0 ?_
      refine mm_stI C M 25 (Nat.le_of_ble_eq_true rfl) rfl dX6_on_72 h (fun z2 h => ?_)
      refine g_aload_n C dX6_on_73 rfl 0 rfl ?_
      refine mm_getA C M 33 (Nat.le_of_ble_eq_true rfl) (Nat.le_of_ble_eq_true rfl) q2036 rfl dX6_on_74 ?_
      refine g_aload_n C dX6_on_77 rfl 0 rfl ?_
      refine mm_getI C M 12 (Nat.le_of_ble_eq_true rfl) (Nat.le_of_ble_eq_true rfl) q2015 rfl dX6_on_78 h (fun v3 h => ?_)
      refine g_iconst C dX6_on_81 gk_iconst_0 ?_
      refine mm_stI C M 33 (Nat.le_of_ble_eq_true rfl) rfl dX6_on_82 h (fun z4 h => ?_)
      refine g_iconst C dX6_on_83 gk_iconst_1 ?_
      refine g_iconst C dX6_on_84 gk_iconst_4 ?_
      refine g_aload_n C dX6_on_85 rfl 0 rfl ?_
      refine mm_getA C M 0 (Nat.le_of_ble_eq_true rfl) (Nat.le_of_ble_eq_true rfl) q2003 rfl dX6_on_86 ?_
      refine g_iconst C dX6_on_89 gk_iconst_0 ?_
      refine mm_ldI C M 0 (Nat.le_of_ble_eq_true rfl) rfl dX6_on_90 h (fun v5 h => ?_)
      refine g_imul C dX6_on_91 ?_
      refine g_iadd C dX6_on_92 ?_
      refine g_istore_n [(2, .int ((1 : Int32) + ((4 : Int32) * v5))), (0, .ref E.2.2.1), (1, .int x1)] C dX6_on_93 rfl (Nat.le_of_ble_eq_true rfl) rfl ?_
      refine g_iconst C dX6_on_94 gk_iconst_1 ?_
      refine g_istore_n [(3, .int (1 : Int32)), (2, .int ((1 : Int32) + ((4 : Int32) * v5))), (0, .ref E.2.2.1), (1, .int x1)] C dX6_on_95 rfl (Nat.le_of_ble_eq_true rfl) rfl ?_
      exact g_sub [(0, .ref E.2.2.1), (1, .int x1), (2, .int ((1 : Int32) + ((4 : Int32) * v5))), (3, .int (1 : Int32))] [2, 3, 1, 0] rfl (wk_on_b96 C M g_fu x1 ((1 : Int32) + ((4 : Int32) * v5)) (1 : Int32) z4 h)
    · refine g_aload_n C dX6_on_41 rfl 0 rfl ?_
      refine mm_getA C M 26 (Nat.le_of_ble_eq_true rfl) (Nat.le_of_ble_eq_true rfl) q2029 rfl dX6_on_42 ?_
      refine g_sipush C dX6_on_45 gk_sipush_384 ?_
      refine g_aload_n C dX6_on_48 rfl 0 rfl ?_
      refine mm_getI C M 12 (Nat.le_of_ble_eq_true rfl) (Nat.le_of_ble_eq_true rfl) q2015 rfl dX6_on_49 h (fun v6 h => ?_)
      refine g_imul C dX6_on_52 ?_
      refine g_iload_n C dX6_on_53 rfl 2 rfl ?_
      refine g_iadd C dX6_on_54 ?_
      refine g_iconst C dX6_on_55 gk_iconst_m1 ?_
      refine mm_stI C M 26 (Nat.le_of_ble_eq_true rfl) rfl dX6_on_56 h (fun z7 h => ?_)
      refine g_iinc [(2, .int (x2 + (1 : Int32))), (0, .ref E.2.2.1), (1, .int x1)] C dX6_on_57 (j := 2) rfl (gk_inc_1 _) (Nat.le_of_ble_eq_true rfl) rfl ?_
      refine g_goto C dX6_on_60 rfl ?_
      exact g_sub [(0, .ref E.2.2.1), (1, .int x1), (2, .int (x2 + (1 : Int32)))] [1, 2, 0] rfl (ih x1 (x2 + (1 : Int32)) z7 h)
def mo_on (z : mm_S) : Option (Int32 × mm_S) := mm_gI 1 z (fun v1 => mm_pI 1 (0 : Int32) z (fun z2 => g_call (mo_isWhole v1 z2) (fun v4 z3 => if v4 = 0 then (g_call (mo_refuses (4 : Int32) z3) (fun v6 z5 => if v6 < 0 then (some ((0 : Int32), z5)) else (some ((1 : Int32), z5)))) else (mo_on_b34 g_fu v1 (0 : Int32) z3))))
theorem wk_on {X : gX} {E : mm_E} {r : Int32 × mm_S} (C : gC X cX6_on 4 (some .boolean) RX6 3 69) (M : mm_C X E) (z : mm_S) (h : mo_on z = some r) : gW X (mm_G E) (.returned (some (.int r.1)), r.2) z 0 [(0, .ref E.2.2.1)] [] := by
  unfold mo_on at h
  refine g_aload_n C dX6_on_0 rfl 0 rfl ?_
  refine mm_getI C M 1 (Nat.le_of_ble_eq_true rfl) (Nat.le_of_ble_eq_true rfl) q2004 rfl dX6_on_1 h (fun v1 h => ?_)
  refine g_istore_n [(1, .int v1), (0, .ref E.2.2.1)] C dX6_on_4 rfl (Nat.le_of_ble_eq_true rfl) rfl ?_
  refine g_aload_n C dX6_on_5 rfl 1 rfl ?_
  refine g_iconst C dX6_on_6 gk_iconst_0 ?_
  refine mm_putI C M 1 (Nat.le_of_ble_eq_true rfl) (Nat.le_of_ble_eq_true rfl) q2004 rfl rfl rfl dX6_on_7 h (fun z2 h => ?_)
  refine g_aload_n C dX6_on_10 rfl 1 rfl ?_
  refine g_iload_n C dX6_on_11 rfl 0 rfl ?_
  obtain ⟨v4, z3, e, h⟩ := g_callE h
  refine mm_callV C M 1 [.int v1] (st := []) (v := some (.int v4)) (z' := z3) (fun l => ct_isWhole l v1 z2 v4 z3 e) (lw_V q2817 q2819 qs167 q178 q2820) rfl rfl rfl (Nat.le_of_ble_eq_true rfl) (Nat.le_of_ble_eq_true rfl) (Nat.le_of_ble_eq_true rfl) dX6_on_12 ?_
  refine gW_st (st' := [.int v4]) rfl ?_
  refine g_if_ne C dX6_on_15 rfl h (fun h => ?_) (fun h => ?_)
  · refine g_iconst C dX6_on_32 gk_iconst_0 ?_
    refine g_istore_n [(2, .int (0 : Int32)), (1, .int v1), (0, .ref E.2.2.1)] C dX6_on_33 rfl (Nat.le_of_ble_eq_true rfl) rfl ?_
    exact g_sub [(0, .ref E.2.2.1), (1, .int v1), (2, .int (0 : Int32))] [2, 1, 0] rfl (wk_on_b34 C M g_fu v1 (0 : Int32) z3 h)
  · refine g_aload_n C dX6_on_18 rfl 1 rfl ?_
    refine g_iconst C dX6_on_19 gk_iconst_4 ?_
    obtain ⟨v6, z5, e, h⟩ := g_callE h
    refine mm_callV C M 1 [.int (4 : Int32)] (st := []) (v := some (.int v6)) (z' := z5) (fun l => ct_refuses l (4 : Int32) z3 v6 z5 e) (lw_V q2258 q2260 qs83 q178 q2261) rfl rfl rfl (Nat.le_of_ble_eq_true rfl) (Nat.le_of_ble_eq_true rfl) (Nat.le_of_ble_eq_true rfl) dX6_on_20 ?_
    refine gW_st (st' := [.int v6]) rfl ?_
    refine g_if_lt C dX6_on_23 rfl h (fun h => ?_) (fun h => ?_)
    · refine g_iconst C dX6_on_30 gk_iconst_0 ?_
      exact g_zretc C (fun _ => trivial) dX6_on_31 (Or.inl rfl) h
    · refine g_iconst C dX6_on_26 gk_iconst_1 ?_
      refine g_goto C dX6_on_27 rfl ?_
      exact g_zretc C (fun _ => trivial) dX6_on_31 (Or.inr rfl) h
theorem ct_on (l : Launch) (z : mm_S) (r : Int32) (z' : mm_S) (h : mo_on z = some (r, z')) : mm_MetV l yX6_on cX6_on 4 (some .boolean) 3 69 [] z (.returned (some (.int r)), z') := by
  intro E hD
  exact mm_enter E hD rfl ⟨_, rfl⟩ (.ref E.2.2.1 :: []) (Nat.le_of_ble_eq_true rfl) (fun X C M => wk_on C M z h)
