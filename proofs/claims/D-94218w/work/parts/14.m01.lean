set_option maxRecDepth 100000
def mo_reads_b86 (k43 : Int32 → mm_S → Option (Unit × mm_S)) (s0 : Int32) (z : mm_S) : Option (Unit × mm_S) := k43 s0 z
theorem wk_reads_b86 {X : gX} {E : mm_E} {r : Unit × mm_S} (C : gC X cX6_reads 3 none RX6 4 91) (M : mm_C X E) {k43 : Int32 → mm_S → Option (Unit × mm_S)} (hk43 : ∀ (x2 : Int32) (z : mm_S), k43 x2 z = some r → gW X (mm_G E) (.returned none, r.2) z 43 [(0, .ref E.2.2.1), (2, .int x2)] []) (s0 : Int32) (z : mm_S) (h : mo_reads_b86 k43 s0 z = some r) : gW X (mm_G E) (.returned none, r.2) z 86 [(0, .ref E.2.2.1)] [.int s0] := by
  unfold mo_reads_b86 at h
  refine g_istore_n [(2, .int s0), (0, .ref E.2.2.1)] C dX6_reads_86 rfl (Nat.le_of_ble_eq_true rfl) rfl ?_
  refine g_goto C dX6_reads_87 rfl ?_
  exact g_sub [(0, .ref E.2.2.1), (2, .int s0)] [1, 0] rfl (hk43 s0 z h)
def mo_reads_b85 (k43 : Int32 → mm_S → Option (Unit × mm_S)) (z : mm_S) : Option (Unit × mm_S) := mo_reads_b86 k43 (0 : Int32) z
theorem wk_reads_b85 {X : gX} {E : mm_E} {r : Unit × mm_S} (C : gC X cX6_reads 3 none RX6 4 91) (M : mm_C X E) {k43 : Int32 → mm_S → Option (Unit × mm_S)} (hk43 : ∀ (x2 : Int32) (z : mm_S), k43 x2 z = some r → gW X (mm_G E) (.returned none, r.2) z 43 [(0, .ref E.2.2.1), (2, .int x2)] []) (z : mm_S) (h : mo_reads_b85 k43 z = some r) : gW X (mm_G E) (.returned none, r.2) z 85 [(0, .ref E.2.2.1)] [] := by
  unfold mo_reads_b85 at h
  refine g_iconst C dX6_reads_85 gk_iconst_0 ?_
  exact wk_reads_b86 C M hk43 (0 : Int32) z h
def mo_reads_b70 (k43 : Int32 → mm_S → Option (Unit × mm_S)) (x2 : Int32) (z : mm_S) : Option (Unit × mm_S) := if x2 = 0 then (mo_reads_b85 k43 z) else (mm_gI 8 z (fun v1 => if v1 = 0 then (mo_reads_b86 k43 (1 : Int32) z) else (mo_reads_b85 k43 z)))
theorem wk_reads_b70 {X : gX} {E : mm_E} {r : Unit × mm_S} (C : gC X cX6_reads 3 none RX6 4 91) (M : mm_C X E) {k43 : Int32 → mm_S → Option (Unit × mm_S)} (hk43 : ∀ (x2 : Int32) (z : mm_S), k43 x2 z = some r → gW X (mm_G E) (.returned none, r.2) z 43 [(0, .ref E.2.2.1), (2, .int x2)] []) (x2 : Int32) (z : mm_S) (h : mo_reads_b70 k43 x2 z = some r) : gW X (mm_G E) (.returned none, r.2) z 70 [(0, .ref E.2.2.1), (2, .int x2)] [] := by
  unfold mo_reads_b70 at h
  refine g_iload_n C dX6_reads_70 rfl 1 rfl ?_
  refine g_if_eq C dX6_reads_71 rfl h (fun h => ?_) (fun h => ?_)
  · exact g_sub [(0, .ref E.2.2.1)] [0] rfl (wk_reads_b85 C M hk43 z h)
  · refine g_aload_n C dX6_reads_74 rfl 0 rfl ?_
    refine mm_getI C M 8 (Nat.le_of_ble_eq_true rfl) (Nat.le_of_ble_eq_true rfl) q2011 rfl dX6_reads_75 h (fun v1 h => ?_)
    refine g_if_ne C dX6_reads_78 rfl h (fun h => ?_) (fun h => ?_)
    · exact g_sub [(0, .ref E.2.2.1)] [0] rfl (wk_reads_b85 C M hk43 z h)
    · refine g_iconst C dX6_reads_81 gk_iconst_1 ?_
      refine g_goto C dX6_reads_82 rfl ?_
      exact g_sub [(0, .ref E.2.2.1)] [0] rfl (wk_reads_b86 C M hk43 (1 : Int32) z h)
def mo_reads_b43 : Nat → Int32 → mm_S → Option (Unit × mm_S)
  | 0, _, _ => none
  | n + 1, x2, z => if x2 = 0 then (some ((), z)) else (mm_gI 51 z (fun v1 => if v1 = 0 then (g_call (mo_operand z) (fun v5 z4 => mm_pZ 51 v5 z4 (fun z6 => mo_reads_b70 (mo_reads_b43 n) x2 z6))) else (g_call (mo_goesOn z) (fun v3 z2 => mo_reads_b70 (mo_reads_b43 n) v3 z2))))
theorem wk_reads_b43 {X : gX} {E : mm_E} {r : Unit × mm_S} (C : gC X cX6_reads 3 none RX6 4 91) (M : mm_C X E) : ∀ (n : Nat) (x2 : Int32) (z : mm_S), mo_reads_b43 n x2 z = some r → gW X (mm_G E) (.returned none, r.2) z 43 [(0, .ref E.2.2.1), (2, .int x2)] [] := by
  intro n
  induction n with
  | zero =>
    intro x2 z h
    have h : (none : Option (Unit × mm_S)) = some r := h
    cases h
  | succ n ih =>
    intro x2 z h
    rw [mo_reads_b43] at h
    refine g_iload_n C dX6_reads_43 rfl 1 rfl ?_
    refine g_if_eq C dX6_reads_44 rfl h (fun h => ?_) (fun h => ?_)
    · exact g_vret C (fun _ => trivial) dX6_reads_90 h
    · refine g_aload_n C dX6_reads_47 rfl 0 rfl ?_
      refine mm_getI C M 51 (Nat.le_of_ble_eq_true rfl) (Nat.le_of_ble_eq_true rfl) q2054 rfl dX6_reads_48 h (fun v1 h => ?_)
      refine g_if_ne C dX6_reads_51 rfl h (fun h => ?_) (fun h => ?_)
      · refine g_aload_n C dX6_reads_65 rfl 0 rfl ?_
        obtain ⟨v3, z2, e, h⟩ := g_callE h
        refine mm_callV C M 0 [] (st := []) (v := some (.int v3)) (z' := z2) (fun l => ct_goesOn l z v3 z2 e) (lw_V q2365 q2367 qs101 q178 q2368) rfl rfl rfl (Nat.le_of_ble_eq_true rfl) (Nat.le_of_ble_eq_true rfl) (Nat.le_of_ble_eq_true rfl) dX6_reads_66 ?_
        refine gW_st (st' := [.int v3]) rfl ?_
        refine g_istore_n [(2, .int v3), (0, .ref E.2.2.1)] C dX6_reads_69 rfl (Nat.le_of_ble_eq_true rfl) rfl ?_
        exact g_sub [(0, .ref E.2.2.1), (2, .int v3)] [1, 0] rfl (wk_reads_b70 C M ih v3 z2 h)
      · refine g_aload_n C dX6_reads_54 rfl 0 rfl ?_
        refine g_aload_n C dX6_reads_55 rfl 0 rfl ?_
        obtain ⟨v5, z4, e, h⟩ := g_callE h
        refine mm_callV C M 0 [] (st := [.ref E.2.2.1]) (v := some (.int v5)) (z' := z4) (fun l => ct_operand l z v5 z4 e) (lw_V q2339 q2341 qs97 q178 q2342) rfl rfl rfl (Nat.le_of_ble_eq_true rfl) (Nat.le_of_ble_eq_true rfl) (Nat.le_of_ble_eq_true rfl) dX6_reads_56 ?_
        refine gW_st (st' := [.int v5, .ref E.2.2.1]) rfl ?_
        refine mm_putZ C M 51 (Nat.le_of_ble_eq_true rfl) (Nat.le_of_ble_eq_true rfl) q2054 rfl rfl rfl dX6_reads_59 h (fun z6 h => ?_)
        refine g_goto C dX6_reads_62 rfl ?_
        exact wk_reads_b70 C M ih x2 z6 h
def mo_reads_b38 (s1 : Int32) (z : mm_S) : Option (Unit × mm_S) := g_call (mo_pushes s1 z) (fun _ z1 => mo_reads_b43 g_fu (1 : Int32) z1)
theorem wk_reads_b38 {X : gX} {E : mm_E} {r : Unit × mm_S} (C : gC X cX6_reads 3 none RX6 4 91) (M : mm_C X E) (s1 : Int32) (z : mm_S) (h : mo_reads_b38 s1 z = some r) : gW X (mm_G E) (.returned none, r.2) z 38 [(0, .ref E.2.2.1)] [.int s1, .ref E.2.2.1] := by
  unfold mo_reads_b38 at h
  obtain ⟨u2, z1, e, h⟩ := g_callE h
  refine mm_callV C M 1 [.int s1] (st := []) (v := none) (z' := z1) (fun l => ct_pushes l s1 z u2 z1 e) (lw_V q2335 q2337 qs96 q178 q2338) rfl rfl rfl (Nat.le_of_ble_eq_true rfl) (Nat.le_of_ble_eq_true rfl) (Nat.le_of_ble_eq_true rfl) dX6_reads_38 ?_
  refine gW_st (st' := []) rfl ?_
  refine g_iconst C dX6_reads_41 gk_iconst_1 ?_
  refine g_istore_n [(2, .int (1 : Int32)), (0, .ref E.2.2.1)] C dX6_reads_42 rfl (Nat.le_of_ble_eq_true rfl) rfl ?_
  exact g_sub [(0, .ref E.2.2.1), (2, .int (1 : Int32))] [1, 0] rfl (wk_reads_b43 C M g_fu (1 : Int32) z1 h)
def mo_reads (x1 : Int32) (z : mm_S) : Option (Unit × mm_S) := mm_gI 8 z (fun v1 => if v1 ≤ 0 then (mm_pI 47 (0 : Int32) z (fun z2 => mm_pI 48 (0 : Int32) z2 (fun z3 => mm_pI 50 (0 : Int32) z3 (fun z4 => mm_pZ 51 (0 : Int32) z4 (fun z5 => if x1 = 0 then (mo_reads_b38 (0 : Int32) z5) else (mo_reads_b38 (1 : Int32) z5)))))) else (some ((), z)))
theorem wk_reads {X : gX} {E : mm_E} {r : Unit × mm_S} (C : gC X cX6_reads 3 none RX6 4 91) (M : mm_C X E) (x1 : Int32) (z : mm_S) (h : mo_reads x1 z = some r) : gW X (mm_G E) (.returned none, r.2) z 0 [(0, .ref E.2.2.1), (1, .int x1)] [] := by
  unfold mo_reads at h
  refine g_aload_n C dX6_reads_0 rfl 0 rfl ?_
  refine mm_getI C M 8 (Nat.le_of_ble_eq_true rfl) (Nat.le_of_ble_eq_true rfl) q2011 rfl dX6_reads_1 h (fun v1 h => ?_)
  refine g_if_le C dX6_reads_4 rfl h (fun h => ?_) (fun h => ?_)
  · refine g_aload_n C dX6_reads_8 rfl 0 rfl ?_
    refine g_iconst C dX6_reads_9 gk_iconst_0 ?_
    refine mm_putI C M 47 (Nat.le_of_ble_eq_true rfl) (Nat.le_of_ble_eq_true rfl) q2050 rfl rfl rfl dX6_reads_10 h (fun z2 h => ?_)
    refine g_aload_n C dX6_reads_13 rfl 0 rfl ?_
    refine g_iconst C dX6_reads_14 gk_iconst_0 ?_
    refine mm_putI C M 48 (Nat.le_of_ble_eq_true rfl) (Nat.le_of_ble_eq_true rfl) q2051 rfl rfl rfl dX6_reads_15 h (fun z3 h => ?_)
    refine g_aload_n C dX6_reads_18 rfl 0 rfl ?_
    refine g_iconst C dX6_reads_19 gk_iconst_0 ?_
    refine mm_putI C M 50 (Nat.le_of_ble_eq_true rfl) (Nat.le_of_ble_eq_true rfl) q2053 rfl rfl rfl dX6_reads_20 h (fun z4 h => ?_)
    refine g_aload_n C dX6_reads_23 rfl 0 rfl ?_
    refine g_iconst C dX6_reads_24 gk_iconst_0 ?_
    refine mm_putZ C M 51 (Nat.le_of_ble_eq_true rfl) (Nat.le_of_ble_eq_true rfl) q2054 rfl rfl rfl dX6_reads_25 h (fun z5 h => ?_)
    refine g_aload_n C dX6_reads_28 rfl 0 rfl ?_
    refine g_iload_n C dX6_reads_29 rfl 1 rfl ?_
    refine g_if_eq C dX6_reads_30 rfl h (fun h => ?_) (fun h => ?_)
    · refine g_iconst C dX6_reads_37 gk_iconst_0 ?_
      exact g_sub [(0, .ref E.2.2.1)] [0] rfl (wk_reads_b38 C M (0 : Int32) z5 h)
    · refine g_iconst C dX6_reads_33 gk_iconst_1 ?_
      refine g_goto C dX6_reads_34 rfl ?_
      exact g_sub [(0, .ref E.2.2.1)] [0] rfl (wk_reads_b38 C M (1 : Int32) z5 h)
  · exact g_vret C (fun _ => trivial) dX6_reads_7 h
theorem ct_reads (l : Launch) (x1 : Int32) (z : mm_S) (r : Unit) (z' : mm_S) (h : mo_reads x1 z = some (r, z')) : mm_MetV l yX6_reads cX6_reads 3 none 4 91 [.int x1] z (.returned none, z') := by
  intro E hD
  exact mm_enter E hD rfl ⟨_, rfl⟩ (.ref E.2.2.1 :: [.int x1]) (Nat.le_of_ble_eq_true rfl) (fun X C M => wk_reads C M x1 z h)
def mo_must_2_b25 (z : mm_S) : Option (Unit × mm_S) := mm_gI 8 z (fun v1 => if v1 = 0 then (g_call (mo_ahead z) (fun _ z2 => some ((), z2))) else (some ((), z)))
theorem wk_must_2_b25 {X : gX} {E : mm_E} {r : Unit × mm_S} (C : gC X cX6_must_2 3 none RX6 2 47) (M : mm_C X E) (z : mm_S) (h : mo_must_2_b25 z = some r) : gW X (mm_G E) (.returned none, r.2) z 25 [(0, .ref E.2.2.1)] [] := by
  unfold mo_must_2_b25 at h
  refine g_aload_n C dX6_must_2_25 rfl 0 rfl ?_
  refine mm_getI C M 8 (Nat.le_of_ble_eq_true rfl) (Nat.le_of_ble_eq_true rfl) q2011 rfl dX6_must_2_26 h (fun v1 h => ?_)
  refine g_if_ne C dX6_must_2_29 rfl h (fun h => ?_) (fun h => ?_)
  · exact g_vret C (fun _ => trivial) dX6_must_2_36 h
  · refine g_aload_n C dX6_must_2_32 rfl 0 rfl ?_
    obtain ⟨u3, z2, e, h⟩ := g_callE h
    refine mm_callV C M 0 [] (st := []) (v := none) (z' := z2) (fun l => ct_ahead l z u3 z2 e) (lw_V q2274 q2276 qs85 q178 q2277) rfl rfl rfl (Nat.le_of_ble_eq_true rfl) (Nat.le_of_ble_eq_true rfl) (Nat.le_of_ble_eq_true rfl) dX6_must_2_33 ?_
    refine gW_st (st' := []) rfl ?_
    exact g_vret C (fun _ => trivial) dX6_must_2_36 h
def mo_must_2 (x1 : Int64) (z : mm_S) : Option (Unit × mm_S) := mm_gI 8 z (fun v1 => if v1 ≤ 0 then (g_call (mo_isWord x1 z) (fun v3 z2 => if v3 = 0 then (mm_gI 4 z2 (fun v4 => g_call (mo_blame (1 : Int32) v4 z2) (fun _ z5 => mo_must_2_b25 z5))) else (mo_must_2_b25 z2))) else (some ((), z)))
theorem wk_must_2 {X : gX} {E : mm_E} {r : Unit × mm_S} (C : gC X cX6_must_2 3 none RX6 2 47) (M : mm_C X E) (x1 : Int64) (z : mm_S) (h : mo_must_2 x1 z = some r) : gW X (mm_G E) (.returned none, r.2) z 0 [(0, .ref E.2.2.1), (1, .long x1)] [] := by
  unfold mo_must_2 at h
  refine g_aload_n C dX6_must_2_0 rfl 0 rfl ?_
  refine mm_getI C M 8 (Nat.le_of_ble_eq_true rfl) (Nat.le_of_ble_eq_true rfl) q2011 rfl dX6_must_2_1 h (fun v1 h => ?_)
  refine g_if_le C dX6_must_2_4 rfl h (fun h => ?_) (fun h => ?_)
  · refine g_aload_n C dX6_must_2_8 rfl 0 rfl ?_
    refine g_lload_n C dX6_must_2_9 rfl 1 rfl ?_
    obtain ⟨v3, z2, e, h⟩ := g_callE h
    refine mm_callV C M 1 [.long x1] (st := []) (v := some (.int v3)) (z' := z2) (fun l => ct_isWord l x1 z v3 z2 e) (lw_V q2293 q2295 qs88 q178 q2296) rfl rfl rfl (Nat.le_of_ble_eq_true rfl) (Nat.le_of_ble_eq_true rfl) (Nat.le_of_ble_eq_true rfl) dX6_must_2_10 ?_
    refine gW_st (st' := [.int v3]) rfl ?_
    refine g_if_ne C dX6_must_2_13 rfl h (fun h => ?_) (fun h => ?_)
    · exact g_sub [(0, .ref E.2.2.1)] [0] rfl (wk_must_2_b25 C M z2 h)
    · refine g_aload_n C dX6_must_2_16 rfl 0 rfl ?_
      refine g_iconst C dX6_must_2_17 gk_iconst_1 ?_
      refine g_aload_n C dX6_must_2_18 rfl 0 rfl ?_
      refine mm_getI C M 4 (Nat.le_of_ble_eq_true rfl) (Nat.le_of_ble_eq_true rfl) q2007 rfl dX6_must_2_19 h (fun v4 h => ?_)
      obtain ⟨u6, z5, e, h⟩ := g_callE h
      refine mm_callV C M 2 [.int (1 : Int32), .int v4] (st := []) (v := none) (z' := z5) (fun l => ct_blame l (1 : Int32) v4 z2 u6 z5 e) (lw_V q2284 q2286 qs86 q178 q2287) rfl rfl rfl (Nat.le_of_ble_eq_true rfl) (Nat.le_of_ble_eq_true rfl) (Nat.le_of_ble_eq_true rfl) dX6_must_2_22 ?_
      refine gW_st (st' := []) rfl ?_
      exact g_sub [(0, .ref E.2.2.1)] [0] rfl (wk_must_2_b25 C M z5 h)
  · exact g_vret C (fun _ => trivial) dX6_must_2_7 h
theorem ct_must_2 (l : Launch) (x1 : Int64) (z : mm_S) (r : Unit) (z' : mm_S) (h : mo_must_2 x1 z = some (r, z')) : mm_MetV l yX6_must_2 cX6_must_2 3 none 2 47 [.long x1] z (.returned none, z') := by
  intro E hD
  exact mm_enter E hD rfl ⟨_, rfl⟩ (.ref E.2.2.1 :: [.long x1]) (Nat.le_of_ble_eq_true rfl) (fun X C M => wk_must_2 C M x1 z h)
def mo_rule_b109 (x1 : Int32) (x2 : Int32) (z : mm_S) : Option (Unit × mm_S) := mm_gI 40 z (fun v1 => mm_sI 18 x2 v1 z (fun z2 => mm_gI 8 z2 (fun v3 => if v3 = 0 then (mm_gI 41 z2 (fun v4 => mm_lI 15 (((3 : Int32) * v4) + x1) z2 (fun v5 => mm_sI 15 (((3 : Int32) * v4) + x1) (v5 + (1 : Int32)) z2 (fun z6 => some ((), z6))))) else (some ((), z2)))))
theorem wk_rule_b109 {X : gX} {E : mm_E} {r : Unit × mm_S} (C : gC X cX6_rule 3 none RX6 5 113) (M : mm_C X E) (x1 : Int32) (x2 : Int32) (z : mm_S) (h : mo_rule_b109 x1 x2 z = some r) : gW X (mm_G E) (.returned none, r.2) z 109 [(0, .ref E.2.2.1), (1, .int x1), (2, .int x2)] [] := by
  unfold mo_rule_b109 at h
  refine g_aload_n C dX6_rule_109 rfl 0 rfl ?_
  refine mm_getA C M 18 (Nat.le_of_ble_eq_true rfl) (Nat.le_of_ble_eq_true rfl) q2021 rfl dX6_rule_110 ?_
  refine g_iload_n C dX6_rule_113 rfl 2 rfl ?_
  refine g_aload_n C dX6_rule_114 rfl 0 rfl ?_
  refine mm_getI C M 40 (Nat.le_of_ble_eq_true rfl) (Nat.le_of_ble_eq_true rfl) q2043 rfl dX6_rule_115 h (fun v1 h => ?_)
  refine mm_stI C M 18 (Nat.le_of_ble_eq_true rfl) rfl dX6_rule_118 h (fun z2 h => ?_)
  refine g_aload_n C dX6_rule_119 rfl 0 rfl ?_
  refine mm_getI C M 8 (Nat.le_of_ble_eq_true rfl) (Nat.le_of_ble_eq_true rfl) q2011 rfl dX6_rule_120 h (fun v3 h => ?_)
  refine g_if_ne C dX6_rule_123 rfl h (fun h => ?_) (fun h => ?_)
  · exact g_vret C (fun _ => trivial) dX6_rule_143 h
  · refine g_aload_n C dX6_rule_126 rfl 0 rfl ?_
    refine mm_getA C M 15 (Nat.le_of_ble_eq_true rfl) (Nat.le_of_ble_eq_true rfl) q2018 rfl dX6_rule_127 ?_
    refine g_iconst C dX6_rule_130 gk_iconst_3 ?_
    refine g_aload_n C dX6_rule_131 rfl 0 rfl ?_
    refine mm_getI C M 41 (Nat.le_of_ble_eq_true rfl) (Nat.le_of_ble_eq_true rfl) q2044 rfl dX6_rule_132 h (fun v4 h => ?_)
    refine g_imul C dX6_rule_135 ?_
    refine g_iload_n C dX6_rule_136 rfl 1 rfl ?_
    refine g_iadd C dX6_rule_137 ?_
    refine g_dup2_11 C dX6_rule_138 rfl rfl ?_
    refine mm_ldI C M 15 (Nat.le_of_ble_eq_true rfl) rfl dX6_rule_139 h (fun v5 h => ?_)
    refine g_iconst C dX6_rule_140 gk_iconst_1 ?_
    refine g_iadd C dX6_rule_141 ?_
    refine mm_stI C M 15 (Nat.le_of_ble_eq_true rfl) rfl dX6_rule_142 h (fun z6 h => ?_)
    exact g_vret C (fun _ => trivial) dX6_rule_143 h
def mo_rule_b80 (x1 : Int32) (x2 : Int32) (z : mm_S) : Option (Unit × mm_S) := g_call (mo_must_2 (2003330414 : Int64) z) (fun _ z1 => mm_gI 40 z1 (fun v3 => mm_sI 17 x2 v3 z1 (fun z4 => mm_gI 8 z4 (fun v5 => if v5 = 0 then (g_call (mo_reads (1 : Int32) z4) (fun _ z6 => mo_rule_b109 x1 x2 z6)) else (mo_rule_b109 x1 x2 z4)))))
theorem wk_rule_b80 {X : gX} {E : mm_E} {r : Unit × mm_S} (C : gC X cX6_rule 3 none RX6 5 113) (M : mm_C X E) (x1 : Int32) (x2 : Int32) (z : mm_S) (h : mo_rule_b80 x1 x2 z = some r) : gW X (mm_G E) (.returned none, r.2) z 80 [(0, .ref E.2.2.1), (1, .int x1), (2, .int x2)] [] := by
  unfold mo_rule_b80 at h
  refine g_aload_n C dX6_rule_80 rfl 0 rfl ?_
  refine g_ldc2 C dX6_rule_81 q2378 ?_
  obtain ⟨u2, z1, e, h⟩ := g_callE h
  refine mm_callV C M 1 [.long (2003330414 : Int64)] (st := []) (v := none) (z' := z1) (fun l => ct_must_2 l (2003330414 : Int64) z u2 z1 e) (lw_V q2379 q2381 qs103 q178 q2382) rfl rfl rfl (Nat.le_of_ble_eq_true rfl) (Nat.le_of_ble_eq_true rfl) (Nat.le_of_ble_eq_true rfl) dX6_rule_84 ?_
  refine gW_st (st' := []) rfl ?_
  refine g_aload_n C dX6_rule_87 rfl 0 rfl ?_
  refine mm_getA C M 17 (Nat.le_of_ble_eq_true rfl) (Nat.le_of_ble_eq_true rfl) q2020 rfl dX6_rule_88 ?_
  refine g_iload_n C dX6_rule_91 rfl 2 rfl ?_
  refine g_aload_n C dX6_rule_92 rfl 0 rfl ?_
  refine mm_getI C M 40 (Nat.le_of_ble_eq_true rfl) (Nat.le_of_ble_eq_true rfl) q2043 rfl dX6_rule_93 h (fun v3 h => ?_)
  refine mm_stI C M 17 (Nat.le_of_ble_eq_true rfl) rfl dX6_rule_96 h (fun z4 h => ?_)
  refine g_aload_n C dX6_rule_97 rfl 0 rfl ?_
  refine mm_getI C M 8 (Nat.le_of_ble_eq_true rfl) (Nat.le_of_ble_eq_true rfl) q2011 rfl dX6_rule_98 h (fun v5 h => ?_)
  refine g_if_ne C dX6_rule_101 rfl h (fun h => ?_) (fun h => ?_)
  · exact wk_rule_b109 C M x1 x2 z4 h
  · refine g_aload_n C dX6_rule_104 rfl 0 rfl ?_
    refine g_iconst C dX6_rule_105 gk_iconst_1 ?_
    obtain ⟨u7, z6, e, h⟩ := g_callE h
    refine mm_callV C M 1 [.int (1 : Int32)] (st := []) (v := none) (z' := z6) (fun l => ct_reads l (1 : Int32) z4 u7 z6 e) (lw_V q2331 q2333 qs95 q178 q2334) rfl rfl rfl (Nat.le_of_ble_eq_true rfl) (Nat.le_of_ble_eq_true rfl) (Nat.le_of_ble_eq_true rfl) dX6_rule_106 ?_
    refine gW_st (st' := []) rfl ?_
    exact wk_rule_b109 C M x1 x2 z6 h
def mo_rule_b26 (x1 : Int32) (s1 : Int32) (z : mm_S) : Option (Unit × mm_S) := g_call (mo_counts s1 z) (fun v2 z1 => if v2 = 0 then (some ((), z1)) else (mm_gI 41 z1 (fun v3 => g_call (mo_firstRule x1 z1) (fun v5 z4 => mm_gI 41 z4 (fun v6 => mm_lI 15 (((3 : Int32) * v6) + x1) z4 (fun v7 => mm_gI 40 z4 (fun v8 => mm_sI 16 ((((30 : Int32) * v3) + v5) + v7) v8 z4 (fun z9 => if x1 = (2 : Int32) then (mo_rule_b80 x1 ((((30 : Int32) * v3) + v5) + v7) z9) else (g_call (mo_reads (0 : Int32) z9) (fun _ z10 => mo_rule_b80 x1 ((((30 : Int32) * v3) + v5) + v7) z10))))))))))
theorem wk_rule_b26 {X : gX} {E : mm_E} {r : Unit × mm_S} (C : gC X cX6_rule 3 none RX6 5 113) (M : mm_C X E) (x1 : Int32) (s1 : Int32) (z : mm_S) (h : mo_rule_b26 x1 s1 z = some r) : gW X (mm_G E) (.returned none, r.2) z 26 [(0, .ref E.2.2.1), (1, .int x1)] [.int s1, .ref E.2.2.1] := by
  unfold mo_rule_b26 at h
  obtain ⟨v2, z1, e, h⟩ := g_callE h
  refine mm_callV C M 1 [.int s1] (st := []) (v := some (.int v2)) (z' := z1) (fun l => ct_counts l s1 z v2 z1 e) (lw_V q2324 q2326 qs94 q178 q2327) rfl rfl rfl (Nat.le_of_ble_eq_true rfl) (Nat.le_of_ble_eq_true rfl) (Nat.le_of_ble_eq_true rfl) dX6_rule_26 ?_
  refine gW_st (st' := [.int v2]) rfl ?_
  refine g_if_ne C dX6_rule_29 rfl h (fun h => ?_) (fun h => ?_)
  · refine g_bipush C dX6_rule_33 gk_bipush_30 ?_
    refine g_aload_n C dX6_rule_35 rfl 0 rfl ?_
    refine mm_getI C M 41 (Nat.le_of_ble_eq_true rfl) (Nat.le_of_ble_eq_true rfl) q2044 rfl dX6_rule_36 h (fun v3 h => ?_)
    refine g_imul C dX6_rule_39 ?_
    refine g_iload_n C dX6_rule_40 rfl 1 rfl ?_
    obtain ⟨v5, z4, e, h⟩ := g_callE h
    refine mm_callS C M 1 [.int x1] (st := [.int ((30 : Int32) * v3)]) (v := some (.int v5)) (z' := z4) (fun l => ct_firstRule l x1 z1 v5 z4 e) (lw_S q2328 q2329 q178 q2330) rfl rfl rfl (Nat.le_of_ble_eq_true rfl) (Nat.le_of_ble_eq_true rfl) (Nat.le_of_ble_eq_true rfl) dX6_rule_41 ?_
    refine gW_st (st' := [.int v5, .int ((30 : Int32) * v3)]) rfl ?_
    refine g_iadd C dX6_rule_44 ?_
    refine g_aload_n C dX6_rule_45 rfl 0 rfl ?_
    refine mm_getA C M 15 (Nat.le_of_ble_eq_true rfl) (Nat.le_of_ble_eq_true rfl) q2018 rfl dX6_rule_46 ?_
    refine g_iconst C dX6_rule_49 gk_iconst_3 ?_
    refine g_aload_n C dX6_rule_50 rfl 0 rfl ?_
    refine mm_getI C M 41 (Nat.le_of_ble_eq_true rfl) (Nat.le_of_ble_eq_true rfl) q2044 rfl dX6_rule_51 h (fun v6 h => ?_)
    refine g_imul C dX6_rule_54 ?_
    refine g_iload_n C dX6_rule_55 rfl 1 rfl ?_
    refine g_iadd C dX6_rule_56 ?_
    refine mm_ldI C M 15 (Nat.le_of_ble_eq_true rfl) rfl dX6_rule_57 h (fun v7 h => ?_)
    refine g_iadd C dX6_rule_58 ?_
    refine g_istore_n [(2, .int ((((30 : Int32) * v3) + v5) + v7)), (0, .ref E.2.2.1), (1, .int x1)] C dX6_rule_59 rfl (Nat.le_of_ble_eq_true rfl) rfl ?_
    refine g_aload_n C dX6_rule_60 rfl 1 rfl ?_
    refine mm_getA C M 16 (Nat.le_of_ble_eq_true rfl) (Nat.le_of_ble_eq_true rfl) q2019 rfl dX6_rule_61 ?_
    refine g_iload_n C dX6_rule_64 rfl 0 rfl ?_
    refine g_aload_n C dX6_rule_65 rfl 1 rfl ?_
    refine mm_getI C M 40 (Nat.le_of_ble_eq_true rfl) (Nat.le_of_ble_eq_true rfl) q2043 rfl dX6_rule_66 h (fun v8 h => ?_)
    refine mm_stI C M 16 (Nat.le_of_ble_eq_true rfl) rfl dX6_rule_69 h (fun z9 h => ?_)
    refine g_iload_n C dX6_rule_70 rfl 2 rfl ?_
    refine g_iconst C dX6_rule_71 gk_iconst_2 ?_
    refine g_icmp_eq C dX6_rule_72 rfl h (fun h => ?_) (fun h => ?_)
    · exact g_sub [(0, .ref E.2.2.1), (1, .int x1), (2, .int ((((30 : Int32) * v3) + v5) + v7))] [1, 2, 0] rfl (wk_rule_b80 C M x1 ((((30 : Int32) * v3) + v5) + v7) z9 h)
    · refine g_aload_n C dX6_rule_75 rfl 1 rfl ?_
      refine g_iconst C dX6_rule_76 gk_iconst_0 ?_
      obtain ⟨u11, z10, e, h⟩ := g_callE h
      refine mm_callV C M 1 [.int (0 : Int32)] (st := []) (v := none) (z' := z10) (fun l => ct_reads l (0 : Int32) z9 u11 z10 e) (lw_V q2331 q2333 qs95 q178 q2334) rfl rfl rfl (Nat.le_of_ble_eq_true rfl) (Nat.le_of_ble_eq_true rfl) (Nat.le_of_ble_eq_true rfl) dX6_rule_77 ?_
      refine gW_st (st' := []) rfl ?_
      exact g_sub [(0, .ref E.2.2.1), (1, .int x1), (2, .int ((((30 : Int32) * v3) + v5) + v7))] [1, 2, 0] rfl (wk_rule_b80 C M x1 ((((30 : Int32) * v3) + v5) + v7) z10 h)
  · exact g_vret C (fun _ => trivial) dX6_rule_32 h
def mo_rule (x1 : Int32) (z : mm_S) : Option (Unit × mm_S) := mm_gI 41 z (fun v1 => mm_lI 15 (((3 : Int32) * v1) + x1) z (fun v2 => g_call (mo_mostRules x1 z) (fun v4 z3 => if v2 = v4 then (mo_rule_b26 x1 (1 : Int32) z3) else (mo_rule_b26 x1 (0 : Int32) z3))))
theorem wk_rule {X : gX} {E : mm_E} {r : Unit × mm_S} (C : gC X cX6_rule 3 none RX6 5 113) (M : mm_C X E) (x1 : Int32) (z : mm_S) (h : mo_rule x1 z = some r) : gW X (mm_G E) (.returned none, r.2) z 0 [(0, .ref E.2.2.1), (1, .int x1)] [] := by
  unfold mo_rule at h
  refine g_aload_n C dX6_rule_0 rfl 0 rfl ?_
  refine g_aload_n C dX6_rule_1 rfl 0 rfl ?_
  refine mm_getA C M 15 (Nat.le_of_ble_eq_true rfl) (Nat.le_of_ble_eq_true rfl) q2018 rfl dX6_rule_2 ?_
  refine g_iconst C dX6_rule_5 gk_iconst_3 ?_
  refine g_aload_n C dX6_rule_6 rfl 0 rfl ?_
  refine mm_getI C M 41 (Nat.le_of_ble_eq_true rfl) (Nat.le_of_ble_eq_true rfl) q2044 rfl dX6_rule_7 h (fun v1 h => ?_)
  refine g_imul C dX6_rule_10 ?_
  refine g_iload_n C dX6_rule_11 rfl 1 rfl ?_
  refine g_iadd C dX6_rule_12 ?_
  refine mm_ldI C M 15 (Nat.le_of_ble_eq_true rfl) rfl dX6_rule_13 h (fun v2 h => ?_)
  refine g_iload_n C dX6_rule_14 rfl 1 rfl ?_
  obtain ⟨v4, z3, e, h⟩ := g_callE h
  refine mm_callS C M 1 [.int x1] (st := [.int v2, .ref E.2.2.1]) (v := some (.int v4)) (z' := z3) (fun l => ct_mostRules l x1 z v4 z3 e) (lw_S q2321 q2322 q178 q2323) rfl rfl rfl (Nat.le_of_ble_eq_true rfl) (Nat.le_of_ble_eq_true rfl) (Nat.le_of_ble_eq_true rfl) dX6_rule_15 ?_
  refine gW_st (st' := [.int v4, .int v2, .ref E.2.2.1]) rfl ?_
  refine g_icmp_ne C dX6_rule_18 rfl h (fun h => ?_) (fun h => ?_)
  · refine g_iconst C dX6_rule_25 gk_iconst_0 ?_
    exact wk_rule_b26 C M x1 (0 : Int32) z3 h
  · refine g_iconst C dX6_rule_21 gk_iconst_1 ?_
    refine g_goto C dX6_rule_22 rfl ?_
    exact wk_rule_b26 C M x1 (1 : Int32) z3 h
theorem ct_rule (l : Launch) (x1 : Int32) (z : mm_S) (r : Unit) (z' : mm_S) (h : mo_rule x1 z = some (r, z')) : mm_MetV l yX6_rule cX6_rule 3 none 5 113 [.int x1] z (.returned none, z') := by
  intro E hD
  exact mm_enter E hD rfl ⟨_, rfl⟩ (.ref E.2.2.1 :: [.int x1]) (Nat.le_of_ble_eq_true rfl) (fun X C M => wk_rule C M x1 z h)
def mo_isOwn (x1 : Int64) (z : mm_S) : Option (Int32 × mm_S) := if (lg_cmp x1 (1936292453 : Int64)) = 0 then (some ((1 : Int32), z)) else (if (lg_cmp x1 (431198598248 : Int64)) = 0 then (some ((1 : Int32), z)) else (if (lg_cmp x1 (1668248436 : Int64)) = 0 then (some ((1 : Int32), z)) else (if (lg_cmp x1 (487301145972 : Int64)) = 0 then (some ((1 : Int32), z)) else (if (lg_cmp x1 (1936222576 : Int64)) = 0 then (some ((1 : Int32), z)) else (if (lg_cmp x1 (1819242347 : Int64)) = 0 then (some ((1 : Int32), z)) else (if (lg_cmp x1 (495806932324 : Int64)) = 0 then (some ((1 : Int32), z)) else (if (lg_cmp x1 (431415715444 : Int64)) = 0 then (some ((1 : Int32), z)) else (if (lg_cmp x1 (1819238756 : Int64)) = 0 then (some ((1 : Int32), z)) else (if (lg_cmp x1 (1935767923 : Int64)) = 0 then (some ((1 : Int32), z)) else (if (lg_cmp x1 (24948 : Int64)) = 0 then (some ((1 : Int32), z)) else (if (lg_cmp x1 (465490437486 : Int64)) = 0 then (some ((1 : Int32), z)) else (if (lg_cmp x1 (1651470187 : Int64)) = 0 then (some ((1 : Int32), z)) else (if (lg_cmp x1 (1718775661 : Int64)) = 0 then (some ((1 : Int32), z)) else (if (lg_cmp x1 (29807 : Int64)) = 0 then (some ((1 : Int32), z)) else (if (lg_cmp x1 (1936024942 : Int64)) = 0 then (some ((1 : Int32), z)) else (if (lg_cmp x1 (1752135026 : Int64)) = 0 then (some ((1 : Int32), z)) else (if (lg_cmp x1 (1819632491 : Int64)) = 0 then (some ((1 : Int32), z)) else (if (lg_cmp x1 (2003330414 : Int64)) = 0 then (some ((1 : Int32), z)) else (if (lg_cmp x1 (28530 : Int64)) = 0 then (some ((1 : Int32), z)) else (if (lg_cmp x1 (6385252 : Int64)) = 0 then (some ((1 : Int32), z)) else (if (lg_cmp x1 (7237492 : Int64)) = 0 then (some ((1 : Int32), z)) else (if (lg_cmp x1 (6384748 : Int64)) = 0 then (some ((1 : Int32), z)) else (if (lg_cmp x1 (109330212154734 : Int64)) = 0 then (some ((1 : Int32), z)) else (if (lg_cmp x1 (7499639 : Int64)) = 0 then (some ((1 : Int32), z)) else (if (lg_cmp x1 (7170414 : Int64)) = 0 then (some ((1 : Int32), z)) else (if (lg_cmp x1 (7168376 : Int64)) = 0 then (some ((1 : Int32), z)) else (some ((0 : Int32), z))))))))))))))))))))))))))))
theorem wk_isOwn {X : gX} {E : mm_E} {r : Int32 × mm_S} (C : gC X cX6_isOwn 3 (some .boolean) RX6 0 0) (M : mm_C X E) (x1 : Int64) (z : mm_S) (h : mo_isOwn x1 z = some r) : gW X (mm_G E) (.returned (some (.int r.1)), r.2) z 0 [(0, .ref E.2.2.1), (1, .long x1)] [] := by
  unfold mo_isOwn at h
  refine g_lload_n C dX6_isOwn_0 rfl 1 rfl ?_
  refine g_ldc2 C dX6_isOwn_1 q2292 ?_
  refine g_lcmp C dX6_isOwn_4 ?_
  refine g_if_eq C dX6_isOwn_5 rfl h (fun h => ?_) (fun h => ?_)
  · refine g_iconst C dX6_isOwn_40 gk_iconst_1 ?_
    exact g_zretc C (fun _ => trivial) dX6_isOwn_41 (Or.inr rfl) h
  · refine g_lload_n C dX6_isOwn_8 rfl 1 rfl ?_
    refine g_ldc2 C dX6_isOwn_9 q2316 ?_
    refine g_lcmp C dX6_isOwn_12 ?_
    refine g_if_eq C dX6_isOwn_13 rfl h (fun h => ?_) (fun h => ?_)
    · refine g_iconst C dX6_isOwn_40 gk_iconst_1 ?_
      exact g_zretc C (fun _ => trivial) dX6_isOwn_41 (Or.inr rfl) h
    · refine g_lload_n C dX6_isOwn_16 rfl 1 rfl ?_
      refine g_ldc2 C dX6_isOwn_17 q2383 ?_
      refine g_lcmp C dX6_isOwn_20 ?_
      refine g_if_eq C dX6_isOwn_21 rfl h (fun h => ?_) (fun h => ?_)
      · refine g_iconst C dX6_isOwn_40 gk_iconst_1 ?_
        exact g_zretc C (fun _ => trivial) dX6_isOwn_41 (Or.inr rfl) h
      · refine g_lload_n C dX6_isOwn_24 rfl 1 rfl ?_
        refine g_ldc2 C dX6_isOwn_25 q2384 ?_
        refine g_lcmp C dX6_isOwn_28 ?_
        refine g_if_eq C dX6_isOwn_29 rfl h (fun h => ?_) (fun h => ?_)
        · refine g_iconst C dX6_isOwn_40 gk_iconst_1 ?_
          exact g_zretc C (fun _ => trivial) dX6_isOwn_41 (Or.inr rfl) h
        · refine g_lload_n C dX6_isOwn_32 rfl 1 rfl ?_
          refine g_ldc2 C dX6_isOwn_33 q2385 ?_
          refine g_lcmp C dX6_isOwn_36 ?_
          refine g_if_ne C dX6_isOwn_37 rfl h (fun h => ?_) (fun h => ?_)
          · refine g_lload_n C dX6_isOwn_42 rfl 1 rfl ?_
            refine g_ldc2 C dX6_isOwn_43 q2398 ?_
            refine g_lcmp C dX6_isOwn_46 ?_
            refine g_if_eq C dX6_isOwn_47 rfl h (fun h => ?_) (fun h => ?_)
            · refine g_iconst C dX6_isOwn_82 gk_iconst_1 ?_
              exact g_zretc C (fun _ => trivial) dX6_isOwn_83 (Or.inr rfl) h
            · refine g_lload_n C dX6_isOwn_50 rfl 1 rfl ?_
              refine g_ldc2 C dX6_isOwn_51 q2399 ?_
              refine g_lcmp C dX6_isOwn_54 ?_
              refine g_if_eq C dX6_isOwn_55 rfl h (fun h => ?_) (fun h => ?_)
              · refine g_iconst C dX6_isOwn_82 gk_iconst_1 ?_
                exact g_zretc C (fun _ => trivial) dX6_isOwn_83 (Or.inr rfl) h
              · refine g_lload_n C dX6_isOwn_58 rfl 1 rfl ?_
                refine g_ldc2 C dX6_isOwn_59 q2400 ?_
                refine g_lcmp C dX6_isOwn_62 ?_
                refine g_if_eq C dX6_isOwn_63 rfl h (fun h => ?_) (fun h => ?_)
                · refine g_iconst C dX6_isOwn_82 gk_iconst_1 ?_
                  exact g_zretc C (fun _ => trivial) dX6_isOwn_83 (Or.inr rfl) h
                · refine g_lload_n C dX6_isOwn_66 rfl 1 rfl ?_
                  refine g_ldc2 C dX6_isOwn_67 q2401 ?_
                  refine g_lcmp C dX6_isOwn_70 ?_
                  refine g_if_eq C dX6_isOwn_71 rfl h (fun h => ?_) (fun h => ?_)
                  · refine g_iconst C dX6_isOwn_82 gk_iconst_1 ?_
                    exact g_zretc C (fun _ => trivial) dX6_isOwn_83 (Or.inr rfl) h
                  · refine g_lload_n C dX6_isOwn_74 rfl 1 rfl ?_
                    refine g_ldc2 C dX6_isOwn_75 q2402 ?_
                    refine g_lcmp C dX6_isOwn_78 ?_
                    refine g_if_ne C dX6_isOwn_79 rfl h (fun h => ?_) (fun h => ?_)
                    · refine g_lload_n C dX6_isOwn_84 rfl 1 rfl ?_
                      refine g_ldc2 C dX6_isOwn_85 q2403 ?_
                      refine g_lcmp C dX6_isOwn_88 ?_
                      refine g_if_eq C dX6_isOwn_89 rfl h (fun h => ?_) (fun h => ?_)
                      · refine g_iconst C dX6_isOwn_124 gk_iconst_1 ?_
                        exact g_zretc C (fun _ => trivial) dX6_isOwn_125 (Or.inr rfl) h
                      · refine g_lload_n C dX6_isOwn_92 rfl 1 rfl ?_
                        refine g_ldc2 C dX6_isOwn_93 q2404 ?_
                        refine g_lcmp C dX6_isOwn_96 ?_
                        refine g_if_eq C dX6_isOwn_97 rfl h (fun h => ?_) (fun h => ?_)
                        · refine g_iconst C dX6_isOwn_124 gk_iconst_1 ?_
                          exact g_zretc C (fun _ => trivial) dX6_isOwn_125 (Or.inr rfl) h
                        · refine g_lload_n C dX6_isOwn_100 rfl 1 rfl ?_
                          refine g_ldc2 C dX6_isOwn_101 q2405 ?_
                          refine g_lcmp C dX6_isOwn_104 ?_
                          refine g_if_eq C dX6_isOwn_105 rfl h (fun h => ?_) (fun h => ?_)
                          · refine g_iconst C dX6_isOwn_124 gk_iconst_1 ?_
                            exact g_zretc C (fun _ => trivial) dX6_isOwn_125 (Or.inr rfl) h
                          · refine g_lload_n C dX6_isOwn_108 rfl 1 rfl ?_
                            refine g_ldc2 C dX6_isOwn_109 q2406 ?_
                            refine g_lcmp C dX6_isOwn_112 ?_
                            refine g_if_eq C dX6_isOwn_113 rfl h (fun h => ?_) (fun h => ?_)
                            · refine g_iconst C dX6_isOwn_124 gk_iconst_1 ?_
                              exact g_zretc C (fun _ => trivial) dX6_isOwn_125 (Or.inr rfl) h
                            · refine g_lload_n C dX6_isOwn_116 rfl 1 rfl ?_
                              refine g_ldc2 C dX6_isOwn_117 q2407 ?_
                              refine g_lcmp C dX6_isOwn_120 ?_
                              refine g_if_ne C dX6_isOwn_121 rfl h (fun h => ?_) (fun h => ?_)
                              · refine g_lload_n C dX6_isOwn_126 rfl 1 rfl ?_
                                refine g_ldc2 C dX6_isOwn_127 q2408 ?_
                                refine g_lcmp C dX6_isOwn_130 ?_
                                refine g_if_eq C dX6_isOwn_131 rfl h (fun h => ?_) (fun h => ?_)
                                · refine g_iconst C dX6_isOwn_166 gk_iconst_1 ?_
                                  exact g_zretc C (fun _ => trivial) dX6_isOwn_167 (Or.inr rfl) h
                                · refine g_lload_n C dX6_isOwn_134 rfl 1 rfl ?_
                                  refine g_ldc2 C dX6_isOwn_135 q2364 ?_
                                  refine g_lcmp C dX6_isOwn_138 ?_
                                  refine g_if_eq C dX6_isOwn_139 rfl h (fun h => ?_) (fun h => ?_)
                                  · refine g_iconst C dX6_isOwn_166 gk_iconst_1 ?_
                                    exact g_zretc C (fun _ => trivial) dX6_isOwn_167 (Or.inr rfl) h
                                  · refine g_lload_n C dX6_isOwn_142 rfl 1 rfl ?_
                                    refine g_ldc2 C dX6_isOwn_143 q2409 ?_
                                    refine g_lcmp C dX6_isOwn_146 ?_
                                    refine g_if_eq C dX6_isOwn_147 rfl h (fun h => ?_) (fun h => ?_)
                                    · refine g_iconst C dX6_isOwn_166 gk_iconst_1 ?_
                                      exact g_zretc C (fun _ => trivial) dX6_isOwn_167 (Or.inr rfl) h
                                    · refine g_lload_n C dX6_isOwn_150 rfl 1 rfl ?_
                                      refine g_ldc2 C dX6_isOwn_151 q2378 ?_
                                      refine g_lcmp C dX6_isOwn_154 ?_
                                      refine g_if_eq C dX6_isOwn_155 rfl h (fun h => ?_) (fun h => ?_)
                                      · refine g_iconst C dX6_isOwn_166 gk_iconst_1 ?_
                                        exact g_zretc C (fun _ => trivial) dX6_isOwn_167 (Or.inr rfl) h
                                      · refine g_lload_n C dX6_isOwn_158 rfl 1 rfl ?_
                                        refine g_ldc2 C dX6_isOwn_159 q2377 ?_
                                        refine g_lcmp C dX6_isOwn_162 ?_
                                        refine g_if_ne C dX6_isOwn_163 rfl h (fun h => ?_) (fun h => ?_)
                                        · refine g_lload_n C dX6_isOwn_168 rfl 1 rfl ?_
                                          refine g_ldc2 C dX6_isOwn_169 q2376 ?_
                                          refine g_lcmp C dX6_isOwn_172 ?_
                                          refine g_if_eq C dX6_isOwn_173 rfl h (fun h => ?_) (fun h => ?_)
                                          · refine g_iconst C dX6_isOwn_208 gk_iconst_1 ?_
                                            exact g_zretc C (fun _ => trivial) dX6_isOwn_209 (Or.inr rfl) h
                                          · refine g_lload_n C dX6_isOwn_176 rfl 1 rfl ?_
                                            refine g_ldc2 C dX6_isOwn_177 q2346 ?_
                                            refine g_lcmp C dX6_isOwn_180 ?_
                                            refine g_if_eq C dX6_isOwn_181 rfl h (fun h => ?_) (fun h => ?_)
                                            · refine g_iconst C dX6_isOwn_208 gk_iconst_1 ?_
                                              exact g_zretc C (fun _ => trivial) dX6_isOwn_209 (Or.inr rfl) h
                                            · refine g_lload_n C dX6_isOwn_184 rfl 1 rfl ?_
                                              refine g_ldc2 C dX6_isOwn_185 q2355 ?_
                                              refine g_lcmp C dX6_isOwn_188 ?_
                                              refine g_if_eq C dX6_isOwn_189 rfl h (fun h => ?_) (fun h => ?_)
                                              · refine g_iconst C dX6_isOwn_208 gk_iconst_1 ?_
                                                exact g_zretc C (fun _ => trivial) dX6_isOwn_209 (Or.inr rfl) h
                                              · refine g_lload_n C dX6_isOwn_192 rfl 1 rfl ?_
                                                refine g_ldc2 C dX6_isOwn_193 q2362 ?_
                                                refine g_lcmp C dX6_isOwn_196 ?_
                                                refine g_if_eq C dX6_isOwn_197 rfl h (fun h => ?_) (fun h => ?_)
                                                · refine g_iconst C dX6_isOwn_208 gk_iconst_1 ?_
                                                  exact g_zretc C (fun _ => trivial) dX6_isOwn_209 (Or.inr rfl) h
                                                · refine g_lload_n C dX6_isOwn_200 rfl 1 rfl ?_
                                                  refine g_ldc2 C dX6_isOwn_201 q2363 ?_
                                                  refine g_lcmp C dX6_isOwn_204 ?_
                                                  refine g_if_ne C dX6_isOwn_205 rfl h (fun h => ?_) (fun h => ?_)
                                                  · refine g_lload_n C dX6_isOwn_210 rfl 1 rfl ?_
                                                    refine g_ldc2 C dX6_isOwn_211 q2360 ?_
                                                    refine g_lcmp C dX6_isOwn_214 ?_
                                                    refine g_if_eq C dX6_isOwn_215 rfl h (fun h => ?_) (fun h => ?_)
                                                    · refine g_iconst C dX6_isOwn_226 gk_iconst_1 ?_
                                                      exact g_zretc C (fun _ => trivial) dX6_isOwn_227 (Or.inr rfl) h
                                                    · refine g_lload_n C dX6_isOwn_218 rfl 1 rfl ?_
                                                      refine g_ldc2 C dX6_isOwn_219 q2361 ?_
                                                      refine g_lcmp C dX6_isOwn_222 ?_
                                                      refine g_if_ne C dX6_isOwn_223 rfl h (fun h => ?_) (fun h => ?_)
                                                      · refine g_iconst C dX6_isOwn_228 gk_iconst_0 ?_
                                                        exact g_zretc C (fun _ => trivial) dX6_isOwn_229 (Or.inl rfl) h
                                                      · refine g_iconst C dX6_isOwn_226 gk_iconst_1 ?_
                                                        exact g_zretc C (fun _ => trivial) dX6_isOwn_227 (Or.inr rfl) h
                                                  · refine g_iconst C dX6_isOwn_208 gk_iconst_1 ?_
                                                    exact g_zretc C (fun _ => trivial) dX6_isOwn_209 (Or.inr rfl) h
                                        · refine g_iconst C dX6_isOwn_166 gk_iconst_1 ?_
                                          exact g_zretc C (fun _ => trivial) dX6_isOwn_167 (Or.inr rfl) h
                              · refine g_iconst C dX6_isOwn_124 gk_iconst_1 ?_
                                exact g_zretc C (fun _ => trivial) dX6_isOwn_125 (Or.inr rfl) h
                    · refine g_iconst C dX6_isOwn_82 gk_iconst_1 ?_
                      exact g_zretc C (fun _ => trivial) dX6_isOwn_83 (Or.inr rfl) h
          · refine g_iconst C dX6_isOwn_40 gk_iconst_1 ?_
            exact g_zretc C (fun _ => trivial) dX6_isOwn_41 (Or.inr rfl) h
theorem ct_isOwn (l : Launch) (x1 : Int64) (z : mm_S) (r : Int32) (z' : mm_S) (h : mo_isOwn x1 z = some (r, z')) : mm_MetV l yX6_isOwn cX6_isOwn 3 (some .boolean) 0 0 [.long x1] z (.returned (some (.int r)), z') := by
  intro E hD
  exact mm_enter E hD rfl ⟨_, rfl⟩ (.ref E.2.2.1 :: [.long x1]) (Nat.le_of_ble_eq_true rfl) (fun X C M => wk_isOwn C M x1 z h)
def mo_named_b2 : Nat → Int64 → Int32 → mm_S → Option (Int32 × mm_S)
  | 0, _, _, _ => none
  | n + 1, x1, x3, z => mm_gI 41 z (fun v1 => mm_lI 19 v1 z (fun v2 => if v2 ≤ x3 then (some ((-1 : Int32), z)) else (mm_gI 41 z (fun v3 => mm_lL 20 (((8 : Int32) * v3) + x3) z (fun v4 => if (lg_cmp v4 x1) = 0 then (some (x3, z)) else ((mo_named_b2 n) x1 (x3 + (1 : Int32)) z))))))
theorem wk_named_b2 {X : gX} {E : mm_E} {r : Int32 × mm_S} (C : gC X cX6_named 4 (some .int) RX6 0 0) (M : mm_C X E) : ∀ (n : Nat) (x1 : Int64) (x3 : Int32) (z : mm_S), mo_named_b2 n x1 x3 z = some r → gW X (mm_G E) (.returned (some (.int r.1)), r.2) z 2 [(0, .ref E.2.2.1), (1, .long x1), (3, .int x3)] [] := by
  intro n
  induction n with
  | zero =>
    intro x1 x3 z h
    have h : (none : Option (Int32 × mm_S)) = some r := h
    cases h
  | succ n ih =>
    intro x1 x3 z h
    rw [mo_named_b2] at h
    refine g_iload_n C dX6_named_2 rfl 2 rfl ?_
    refine g_aload_n C dX6_named_3 rfl 0 rfl ?_
    refine mm_getA C M 19 (Nat.le_of_ble_eq_true rfl) (Nat.le_of_ble_eq_true rfl) q2022 rfl dX6_named_4 ?_
    refine g_aload_n C dX6_named_7 rfl 0 rfl ?_
    refine mm_getI C M 41 (Nat.le_of_ble_eq_true rfl) (Nat.le_of_ble_eq_true rfl) q2044 rfl dX6_named_8 h (fun v1 h => ?_)
    refine mm_ldI C M 19 (Nat.le_of_ble_eq_true rfl) rfl dX6_named_11 h (fun v2 h => ?_)
    refine g_icmp_ge C dX6_named_12 rfl h (fun h => ?_) (fun h => ?_)
    · refine g_iconst C dX6_named_42 gk_iconst_m1 ?_
      exact g_iret C (fun _ => trivial) dX6_named_43 h
    · refine g_aload_n C dX6_named_15 rfl 0 rfl ?_
      refine mm_getA C M 20 (Nat.le_of_ble_eq_true rfl) (Nat.le_of_ble_eq_true rfl) q2023 rfl dX6_named_16 ?_
      refine g_bipush C dX6_named_19 gk_bipush_8 ?_
      refine g_aload_n C dX6_named_21 rfl 0 rfl ?_
      refine mm_getI C M 41 (Nat.le_of_ble_eq_true rfl) (Nat.le_of_ble_eq_true rfl) q2044 rfl dX6_named_22 h (fun v3 h => ?_)
      refine g_imul C dX6_named_25 ?_
      refine g_iload_n C dX6_named_26 rfl 2 rfl ?_
      refine g_iadd C dX6_named_27 ?_
      refine mm_ldL C M 20 (Nat.le_of_ble_eq_true rfl) rfl dX6_named_28 h (fun v4 h => ?_)
      refine g_lload_n C dX6_named_29 rfl 1 rfl ?_
      refine g_lcmp C dX6_named_30 ?_
      refine g_if_ne C dX6_named_31 rfl h (fun h => ?_) (fun h => ?_)
      · refine g_iinc [(3, .int (x3 + (1 : Int32))), (0, .ref E.2.2.1), (1, .long x1)] C dX6_named_36 (j := 2) rfl (gk_inc_1 _) (Nat.le_of_ble_eq_true rfl) rfl ?_
        refine g_goto C dX6_named_39 rfl ?_
        exact g_sub [(0, .ref E.2.2.1), (1, .long x1), (3, .int (x3 + (1 : Int32)))] [1, 2, 0] rfl (ih x1 (x3 + (1 : Int32)) z h)
      · refine g_iload_n C dX6_named_34 rfl 2 rfl ?_
        exact g_iret C (fun _ => trivial) dX6_named_35 h
def mo_named (x1 : Int64) (z : mm_S) : Option (Int32 × mm_S) := mo_named_b2 g_fu x1 (0 : Int32) z
theorem wk_named {X : gX} {E : mm_E} {r : Int32 × mm_S} (C : gC X cX6_named 4 (some .int) RX6 0 0) (M : mm_C X E) (x1 : Int64) (z : mm_S) (h : mo_named x1 z = some r) : gW X (mm_G E) (.returned (some (.int r.1)), r.2) z 0 [(0, .ref E.2.2.1), (1, .long x1)] [] := by
  unfold mo_named at h
  refine g_iconst C dX6_named_0 gk_iconst_0 ?_
  refine g_istore_n [(3, .int (0 : Int32)), (0, .ref E.2.2.1), (1, .long x1)] C dX6_named_1 rfl (Nat.le_of_ble_eq_true rfl) rfl ?_
  exact g_sub [(0, .ref E.2.2.1), (1, .long x1), (3, .int (0 : Int32))] [1, 2, 0] rfl (wk_named_b2 C M g_fu x1 (0 : Int32) z h)
theorem ct_named (l : Launch) (x1 : Int64) (z : mm_S) (r : Int32) (z' : mm_S) (h : mo_named x1 z = some (r, z')) : mm_MetV l yX6_named cX6_named 4 (some .int) 0 0 [.long x1] z (.returned (some (.int r)), z') := by
  intro E hD
  exact mm_enter E hD rfl ⟨_, rfl⟩ (.ref E.2.2.1 :: [.long x1]) (Nat.le_of_ble_eq_true rfl) (fun X C M => wk_named C M x1 z h)
def mo_fresh_b65 (z : mm_S) : Option (Int64 × mm_S) := mm_gJ z (fun v1 => mm_gI 8 z (fun v2 => if v2 = 0 then (g_call (mo_ahead z) (fun _ z3 => some (v1, z3))) else (some (v1, z))))
theorem wk_fresh_b65 {X : gX} {E : mm_E} {r : Int64 × mm_S} (C : gC X cX6_fresh 3 (some .long) RX6 2 47) (M : mm_C X E) (z : mm_S) (h : mo_fresh_b65 z = some r) : gW X (mm_G E) (.returned (some (.long r.1)), r.2) z 65 [(0, .ref E.2.2.1)] [] := by
  unfold mo_fresh_b65 at h
  refine g_aload_n C dX6_fresh_65 rfl 0 rfl ?_
  refine mm_getJ C M q2010 dX6_fresh_66 h (fun v1 h => ?_)
  refine g_lstore_n [(1, .long v1), (0, .ref E.2.2.1)] C dX6_fresh_69 rfl (Nat.le_of_ble_eq_true rfl) rfl ?_
  refine g_aload_n C dX6_fresh_70 rfl 1 rfl ?_
  refine mm_getI C M 8 (Nat.le_of_ble_eq_true rfl) (Nat.le_of_ble_eq_true rfl) q2011 rfl dX6_fresh_71 h (fun v2 h => ?_)
  refine g_if_ne C dX6_fresh_74 rfl h (fun h => ?_) (fun h => ?_)
  · refine g_lload_n C dX6_fresh_81 rfl 0 rfl ?_
    exact g_lret C (fun _ => trivial) dX6_fresh_82 h
  · refine g_aload_n C dX6_fresh_77 rfl 1 rfl ?_
    obtain ⟨u4, z3, e, h⟩ := g_callE h
    refine mm_callV C M 0 [] (st := []) (v := none) (z' := z3) (fun l => ct_ahead l z u4 z3 e) (lw_V q2274 q2276 qs85 q178 q2277) rfl rfl rfl (Nat.le_of_ble_eq_true rfl) (Nat.le_of_ble_eq_true rfl) (Nat.le_of_ble_eq_true rfl) dX6_fresh_78 ?_
    refine gW_st (st' := []) rfl ?_
    refine g_lload_n C dX6_fresh_81 rfl 0 rfl ?_
    exact g_lret C (fun _ => trivial) dX6_fresh_82 h
def mo_fresh_b37 (z : mm_S) : Option (Int64 × mm_S) := mm_gI 8 z (fun v1 => if v1 = 0 then (mm_gJ z (fun v2 => g_call (mo_named v2 z) (fun v4 z3 => if v4 = (-1 : Int32) then (mo_fresh_b65 z3) else (mm_gI 4 z3 (fun v5 => g_call (mo_blame (2 : Int32) v5 z3) (fun _ z6 => mo_fresh_b65 z6)))))) else (mo_fresh_b65 z))
theorem wk_fresh_b37 {X : gX} {E : mm_E} {r : Int64 × mm_S} (C : gC X cX6_fresh 3 (some .long) RX6 2 47) (M : mm_C X E) (z : mm_S) (h : mo_fresh_b37 z = some r) : gW X (mm_G E) (.returned (some (.long r.1)), r.2) z 37 [(0, .ref E.2.2.1)] [] := by
  unfold mo_fresh_b37 at h
  refine g_aload_n C dX6_fresh_37 rfl 0 rfl ?_
  refine mm_getI C M 8 (Nat.le_of_ble_eq_true rfl) (Nat.le_of_ble_eq_true rfl) q2011 rfl dX6_fresh_38 h (fun v1 h => ?_)
  refine g_if_ne C dX6_fresh_41 rfl h (fun h => ?_) (fun h => ?_)
  · exact wk_fresh_b65 C M z h
  · refine g_aload_n C dX6_fresh_44 rfl 0 rfl ?_
    refine g_aload_n C dX6_fresh_45 rfl 0 rfl ?_
    refine mm_getJ C M q2010 dX6_fresh_46 h (fun v2 h => ?_)
    obtain ⟨v4, z3, e, h⟩ := g_callE h
    refine mm_callV C M 1 [.long v2] (st := []) (v := some (.int v4)) (z' := z3) (fun l => ct_named l v2 z v4 z3 e) (lw_V q2410 q2412 qs107 q178 q2413) rfl rfl rfl (Nat.le_of_ble_eq_true rfl) (Nat.le_of_ble_eq_true rfl) (Nat.le_of_ble_eq_true rfl) dX6_fresh_49 ?_
    refine gW_st (st' := [.int v4]) rfl ?_
    refine g_iconst C dX6_fresh_52 gk_iconst_m1 ?_
    refine g_icmp_eq C dX6_fresh_53 rfl h (fun h => ?_) (fun h => ?_)
    · exact wk_fresh_b65 C M z3 h
    · refine g_aload_n C dX6_fresh_56 rfl 0 rfl ?_
      refine g_iconst C dX6_fresh_57 gk_iconst_2 ?_
      refine g_aload_n C dX6_fresh_58 rfl 0 rfl ?_
      refine mm_getI C M 4 (Nat.le_of_ble_eq_true rfl) (Nat.le_of_ble_eq_true rfl) q2007 rfl dX6_fresh_59 h (fun v5 h => ?_)
      obtain ⟨u7, z6, e, h⟩ := g_callE h
      refine mm_callV C M 2 [.int (2 : Int32), .int v5] (st := []) (v := none) (z' := z6) (fun l => ct_blame l (2 : Int32) v5 z3 u7 z6 e) (lw_V q2284 q2286 qs86 q178 q2287) rfl rfl rfl (Nat.le_of_ble_eq_true rfl) (Nat.le_of_ble_eq_true rfl) (Nat.le_of_ble_eq_true rfl) dX6_fresh_62 ?_
      refine gW_st (st' := []) rfl ?_
      exact wk_fresh_b65 C M z6 h
def mo_fresh_b28 (z : mm_S) : Option (Int64 × mm_S) := mm_gI 4 z (fun v1 => g_call (mo_blame (1 : Int32) v1 z) (fun _ z2 => mo_fresh_b37 z2))
theorem wk_fresh_b28 {X : gX} {E : mm_E} {r : Int64 × mm_S} (C : gC X cX6_fresh 3 (some .long) RX6 2 47) (M : mm_C X E) (z : mm_S) (h : mo_fresh_b28 z = some r) : gW X (mm_G E) (.returned (some (.long r.1)), r.2) z 28 [(0, .ref E.2.2.1)] [] := by
  unfold mo_fresh_b28 at h
  refine g_aload_n C dX6_fresh_28 rfl 0 rfl ?_
  refine g_iconst C dX6_fresh_29 gk_iconst_1 ?_
  refine g_aload_n C dX6_fresh_30 rfl 0 rfl ?_
  refine mm_getI C M 4 (Nat.le_of_ble_eq_true rfl) (Nat.le_of_ble_eq_true rfl) q2007 rfl dX6_fresh_31 h (fun v1 h => ?_)
  obtain ⟨u3, z2, e, h⟩ := g_callE h
  refine mm_callV C M 2 [.int (1 : Int32), .int v1] (st := []) (v := none) (z' := z2) (fun l => ct_blame l (1 : Int32) v1 z u3 z2 e) (lw_V q2284 q2286 qs86 q178 q2287) rfl rfl rfl (Nat.le_of_ble_eq_true rfl) (Nat.le_of_ble_eq_true rfl) (Nat.le_of_ble_eq_true rfl) dX6_fresh_34 ?_
  refine gW_st (st' := []) rfl ?_
  exact wk_fresh_b37 C M z2 h
def mo_fresh (z : mm_S) : Option (Int64 × mm_S) := mm_gI 8 z (fun v1 => if v1 ≤ 0 then (mm_gI 3 z (fun v2 => if v2 = (1 : Int32) then (mm_gJ z (fun v3 => g_call (mo_isOwn v3 z) (fun v5 z4 => if v5 = 0 then (mo_fresh_b37 z4) else (mo_fresh_b28 z4)))) else (mo_fresh_b28 z))) else (some ((0 : Int64), z)))
theorem wk_fresh {X : gX} {E : mm_E} {r : Int64 × mm_S} (C : gC X cX6_fresh 3 (some .long) RX6 2 47) (M : mm_C X E) (z : mm_S) (h : mo_fresh z = some r) : gW X (mm_G E) (.returned (some (.long r.1)), r.2) z 0 [(0, .ref E.2.2.1)] [] := by
  unfold mo_fresh at h
  refine g_aload_n C dX6_fresh_0 rfl 0 rfl ?_
  refine mm_getI C M 8 (Nat.le_of_ble_eq_true rfl) (Nat.le_of_ble_eq_true rfl) q2011 rfl dX6_fresh_1 h (fun v1 h => ?_)
  refine g_if_le C dX6_fresh_4 rfl h (fun h => ?_) (fun h => ?_)
  · refine g_aload_n C dX6_fresh_9 rfl 0 rfl ?_
    refine mm_getI C M 3 (Nat.le_of_ble_eq_true rfl) (Nat.le_of_ble_eq_true rfl) q2006 rfl dX6_fresh_10 h (fun v2 h => ?_)
    refine g_iconst C dX6_fresh_13 gk_iconst_1 ?_
    refine g_icmp_ne C dX6_fresh_14 rfl h (fun h => ?_) (fun h => ?_)
    · exact wk_fresh_b28 C M z h
    · refine g_aload_n C dX6_fresh_17 rfl 0 rfl ?_
      refine g_aload_n C dX6_fresh_18 rfl 0 rfl ?_
      refine mm_getJ C M q2010 dX6_fresh_19 h (fun v3 h => ?_)
      obtain ⟨v5, z4, e, h⟩ := g_callE h
      refine mm_callV C M 1 [.long v3] (st := []) (v := some (.int v5)) (z' := z4) (fun l => ct_isOwn l v3 z v5 z4 e) (lw_V q2394 q2396 qs106 q178 q2397) rfl rfl rfl (Nat.le_of_ble_eq_true rfl) (Nat.le_of_ble_eq_true rfl) (Nat.le_of_ble_eq_true rfl) dX6_fresh_22 ?_
      refine gW_st (st' := [.int v5]) rfl ?_
      refine g_if_eq C dX6_fresh_25 rfl h (fun h => ?_) (fun h => ?_)
      · exact wk_fresh_b37 C M z4 h
      · exact wk_fresh_b28 C M z4 h
  · refine g_lconst C dX6_fresh_7 gk_lconst_0 ?_
    exact g_lret C (fun _ => trivial) dX6_fresh_8 h
theorem ct_fresh (l : Launch) (z : mm_S) (r : Int64) (z' : mm_S) (h : mo_fresh z = some (r, z')) : mm_MetV l yX6_fresh cX6_fresh 3 (some .long) 2 47 [] z (.returned (some (.long r)), z') := by
  intro E hD
  exact mm_enter E hD rfl ⟨_, rfl⟩ (.ref E.2.2.1 :: []) (Nat.le_of_ble_eq_true rfl) (fun X C M => wk_fresh C M z h)
def mo_ship_b20 (s1 : Int32) (z : mm_S) : Option (Unit × mm_S) := g_call (mo_counts s1 z) (fun v2 z1 => if v2 = 0 then (some ((), z1)) else (mm_gI 41 z1 (fun v3 => mm_gI 41 z1 (fun v4 => mm_lI 19 v4 z1 (fun v5 => g_call (mo_fresh z1) (fun v7 z6 => mm_sL 20 (((8 : Int32) * v3) + v5) v7 z6 (fun z8 => g_call (mo_must_2 (1819242347 : Int64) z8) (fun _ z9 => g_call (mo_number (0 : Int32) (3 : Int32) z9) (fun v12 z11 => mm_sI 21 (((8 : Int32) * v3) + v5) v12 z11 (fun z13 => g_call (mo_must_2 (495806932324 : Int64) z13) (fun _ z14 => g_call (mo_number (1 : Int32) (4 : Int32) z14) (fun v17 z16 => mm_sI 22 (((8 : Int32) * v3) + v5) v17 z16 (fun z18 => g_call (mo_must_2 (431415715444 : Int64) z18) (fun _ z19 => g_call (mo_number (1 : Int32) (40 : Int32) z19) (fun v22 z21 => mm_sI 23 (((8 : Int32) * v3) + v5) v22 z21 (fun z23 => g_call (mo_must_2 (1819238756 : Int64) z23) (fun _ z24 => g_call (mo_number (0 : Int32) (40 : Int32) z24) (fun v27 z26 => mm_sI 24 (((8 : Int32) * v3) + v5) v27 z26 (fun z28 => mm_gI 8 z28 (fun v29 => if v29 = 0 then (mm_gI 41 z28 (fun v30 => mm_lI 19 v30 z28 (fun v31 => mm_sI 19 v30 (v31 + (1 : Int32)) z28 (fun z32 => some ((), z32))))) else (some ((), z28))))))))))))))))))))))
theorem wk_ship_b20 {X : gX} {E : mm_E} {r : Unit × mm_S} (C : gC X cX6_ship 2 none RX6 3 70) (M : mm_C X E) (s1 : Int32) (z : mm_S) (h : mo_ship_b20 s1 z = some r) : gW X (mm_G E) (.returned none, r.2) z 20 [(0, .ref E.2.2.1)] [.int s1, .ref E.2.2.1] := by
  unfold mo_ship_b20 at h
  obtain ⟨v2, z1, e, h⟩ := g_callE h
  refine mm_callV C M 1 [.int s1] (st := []) (v := some (.int v2)) (z' := z1) (fun l => ct_counts l s1 z v2 z1 e) (lw_V q2324 q2326 qs94 q178 q2327) rfl rfl rfl (Nat.le_of_ble_eq_true rfl) (Nat.le_of_ble_eq_true rfl) (Nat.le_of_ble_eq_true rfl) dX6_ship_20 ?_
  refine gW_st (st' := [.int v2]) rfl ?_
  refine g_if_ne C dX6_ship_23 rfl h (fun h => ?_) (fun h => ?_)
  · refine g_bipush C dX6_ship_27 gk_bipush_8 ?_
    refine g_aload_n C dX6_ship_29 rfl 0 rfl ?_
    refine mm_getI C M 41 (Nat.le_of_ble_eq_true rfl) (Nat.le_of_ble_eq_true rfl) q2044 rfl dX6_ship_30 h (fun v3 h => ?_)
    refine g_imul C dX6_ship_33 ?_
    refine g_aload_n C dX6_ship_34 rfl 0 rfl ?_
    refine mm_getA C M 19 (Nat.le_of_ble_eq_true rfl) (Nat.le_of_ble_eq_true rfl) q2022 rfl dX6_ship_35 ?_
    refine g_aload_n C dX6_ship_38 rfl 0 rfl ?_
    refine mm_getI C M 41 (Nat.le_of_ble_eq_true rfl) (Nat.le_of_ble_eq_true rfl) q2044 rfl dX6_ship_39 h (fun v4 h => ?_)
    refine mm_ldI C M 19 (Nat.le_of_ble_eq_true rfl) rfl dX6_ship_42 h (fun v5 h => ?_)
    refine g_iadd C dX6_ship_43 ?_
    refine g_istore_n [(1, .int (((8 : Int32) * v3) + v5)), (0, .ref E.2.2.1)] C dX6_ship_44 rfl (Nat.le_of_ble_eq_true rfl) rfl ?_
    refine g_aload_n C dX6_ship_45 rfl 1 rfl ?_
    refine mm_getA C M 20 (Nat.le_of_ble_eq_true rfl) (Nat.le_of_ble_eq_true rfl) q2023 rfl dX6_ship_46 ?_
    refine g_iload_n C dX6_ship_49 rfl 0 rfl ?_
    refine g_aload_n C dX6_ship_50 rfl 1 rfl ?_
    obtain ⟨v7, z6, e, h⟩ := g_callE h
    refine mm_callV C M 0 [] (st := [.int (((8 : Int32) * v3) + v5), .ref (E.2.2.2.1 20)]) (v := some (.long v7)) (z' := z6) (fun l => ct_fresh l z1 v7 z6 e) (lw_V q2390 q2392 qs105 q178 q2393) rfl rfl rfl (Nat.le_of_ble_eq_true rfl) (Nat.le_of_ble_eq_true rfl) (Nat.le_of_ble_eq_true rfl) dX6_ship_51 ?_
    refine gW_st (st' := [.long v7, .int (((8 : Int32) * v3) + v5), .ref (E.2.2.2.1 20)]) rfl ?_
    refine mm_stL C M 20 (Nat.le_of_ble_eq_true rfl) rfl dX6_ship_54 h (fun z8 h => ?_)
    refine g_aload_n C dX6_ship_55 rfl 1 rfl ?_
    refine g_ldc2 C dX6_ship_56 q2398 ?_
    obtain ⟨u10, z9, e, h⟩ := g_callE h
    refine mm_callV C M 1 [.long (1819242347 : Int64)] (st := []) (v := none) (z' := z9) (fun l => ct_must_2 l (1819242347 : Int64) z8 u10 z9 e) (lw_V q2379 q2381 qs103 q178 q2382) rfl rfl rfl (Nat.le_of_ble_eq_true rfl) (Nat.le_of_ble_eq_true rfl) (Nat.le_of_ble_eq_true rfl) dX6_ship_59 ?_
    refine gW_st (st' := []) rfl ?_
    refine g_aload_n C dX6_ship_62 rfl 1 rfl ?_
    refine mm_getA C M 21 (Nat.le_of_ble_eq_true rfl) (Nat.le_of_ble_eq_true rfl) q2024 rfl dX6_ship_63 ?_
    refine g_iload_n C dX6_ship_66 rfl 0 rfl ?_
    refine g_aload_n C dX6_ship_67 rfl 1 rfl ?_
    refine g_iconst C dX6_ship_68 gk_iconst_0 ?_
    refine g_iconst C dX6_ship_69 gk_iconst_3 ?_
    obtain ⟨v12, z11, e, h⟩ := g_callE h
    refine mm_callV C M 2 [.int (0 : Int32), .int (3 : Int32)] (st := [.int (((8 : Int32) * v3) + v5), .ref (E.2.2.2.1 21)]) (v := some (.int v12)) (z' := z11) (fun l => ct_number l (0 : Int32) (3 : Int32) z9 v12 z11 e) (lw_V q2297 q2299 qs89 q178 q2300) rfl rfl rfl (Nat.le_of_ble_eq_true rfl) (Nat.le_of_ble_eq_true rfl) (Nat.le_of_ble_eq_true rfl) dX6_ship_70 ?_
    refine gW_st (st' := [.int v12, .int (((8 : Int32) * v3) + v5), .ref (E.2.2.2.1 21)]) rfl ?_
    refine mm_stI C M 21 (Nat.le_of_ble_eq_true rfl) rfl dX6_ship_73 h (fun z13 h => ?_)
    refine g_aload_n C dX6_ship_74 rfl 1 rfl ?_
    refine g_ldc2 C dX6_ship_75 q2399 ?_
    obtain ⟨u15, z14, e, h⟩ := g_callE h
    refine mm_callV C M 1 [.long (495806932324 : Int64)] (st := []) (v := none) (z' := z14) (fun l => ct_must_2 l (495806932324 : Int64) z13 u15 z14 e) (lw_V q2379 q2381 qs103 q178 q2382) rfl rfl rfl (Nat.le_of_ble_eq_true rfl) (Nat.le_of_ble_eq_true rfl) (Nat.le_of_ble_eq_true rfl) dX6_ship_78 ?_
    refine gW_st (st' := []) rfl ?_
    refine g_aload_n C dX6_ship_81 rfl 1 rfl ?_
    refine mm_getA C M 22 (Nat.le_of_ble_eq_true rfl) (Nat.le_of_ble_eq_true rfl) q2025 rfl dX6_ship_82 ?_
    refine g_iload_n C dX6_ship_85 rfl 0 rfl ?_
    refine g_aload_n C dX6_ship_86 rfl 1 rfl ?_
    refine g_iconst C dX6_ship_87 gk_iconst_1 ?_
    refine g_iconst C dX6_ship_88 gk_iconst_4 ?_
    obtain ⟨v17, z16, e, h⟩ := g_callE h
    refine mm_callV C M 2 [.int (1 : Int32), .int (4 : Int32)] (st := [.int (((8 : Int32) * v3) + v5), .ref (E.2.2.2.1 22)]) (v := some (.int v17)) (z' := z16) (fun l => ct_number l (1 : Int32) (4 : Int32) z14 v17 z16 e) (lw_V q2297 q2299 qs89 q178 q2300) rfl rfl rfl (Nat.le_of_ble_eq_true rfl) (Nat.le_of_ble_eq_true rfl) (Nat.le_of_ble_eq_true rfl) dX6_ship_89 ?_
    refine gW_st (st' := [.int v17, .int (((8 : Int32) * v3) + v5), .ref (E.2.2.2.1 22)]) rfl ?_
    refine mm_stI C M 22 (Nat.le_of_ble_eq_true rfl) rfl dX6_ship_92 h (fun z18 h => ?_)
    refine g_aload_n C dX6_ship_93 rfl 1 rfl ?_
    refine g_ldc2 C dX6_ship_94 q2400 ?_
    obtain ⟨u20, z19, e, h⟩ := g_callE h
    refine mm_callV C M 1 [.long (431415715444 : Int64)] (st := []) (v := none) (z' := z19) (fun l => ct_must_2 l (431415715444 : Int64) z18 u20 z19 e) (lw_V q2379 q2381 qs103 q178 q2382) rfl rfl rfl (Nat.le_of_ble_eq_true rfl) (Nat.le_of_ble_eq_true rfl) (Nat.le_of_ble_eq_true rfl) dX6_ship_97 ?_
    refine gW_st (st' := []) rfl ?_
    refine g_aload_n C dX6_ship_100 rfl 1 rfl ?_
    refine mm_getA C M 23 (Nat.le_of_ble_eq_true rfl) (Nat.le_of_ble_eq_true rfl) q2026 rfl dX6_ship_101 ?_
    refine g_iload_n C dX6_ship_104 rfl 0 rfl ?_
    refine g_aload_n C dX6_ship_105 rfl 1 rfl ?_
    refine g_iconst C dX6_ship_106 gk_iconst_1 ?_
    refine g_bipush C dX6_ship_107 gk_bipush_40 ?_
    obtain ⟨v22, z21, e, h⟩ := g_callE h
    refine mm_callV C M 2 [.int (1 : Int32), .int (40 : Int32)] (st := [.int (((8 : Int32) * v3) + v5), .ref (E.2.2.2.1 23)]) (v := some (.int v22)) (z' := z21) (fun l => ct_number l (1 : Int32) (40 : Int32) z19 v22 z21 e) (lw_V q2297 q2299 qs89 q178 q2300) rfl rfl rfl (Nat.le_of_ble_eq_true rfl) (Nat.le_of_ble_eq_true rfl) (Nat.le_of_ble_eq_true rfl) dX6_ship_109 ?_
    refine gW_st (st' := [.int v22, .int (((8 : Int32) * v3) + v5), .ref (E.2.2.2.1 23)]) rfl ?_
    refine mm_stI C M 23 (Nat.le_of_ble_eq_true rfl) rfl dX6_ship_112 h (fun z23 h => ?_)
    refine g_aload_n C dX6_ship_113 rfl 1 rfl ?_
    refine g_ldc2 C dX6_ship_114 q2401 ?_
    obtain ⟨u25, z24, e, h⟩ := g_callE h
    refine mm_callV C M 1 [.long (1819238756 : Int64)] (st := []) (v := none) (z' := z24) (fun l => ct_must_2 l (1819238756 : Int64) z23 u25 z24 e) (lw_V q2379 q2381 qs103 q178 q2382) rfl rfl rfl (Nat.le_of_ble_eq_true rfl) (Nat.le_of_ble_eq_true rfl) (Nat.le_of_ble_eq_true rfl) dX6_ship_117 ?_
    refine gW_st (st' := []) rfl ?_
    refine g_aload_n C dX6_ship_120 rfl 1 rfl ?_
    refine mm_getA C M 24 (Nat.le_of_ble_eq_true rfl) (Nat.le_of_ble_eq_true rfl) q2027 rfl dX6_ship_121 ?_
    refine g_iload_n C dX6_ship_124 rfl 0 rfl ?_
    refine g_aload_n C dX6_ship_125 rfl 1 rfl ?_
    refine g_iconst C dX6_ship_126 gk_iconst_0 ?_
    refine g_bipush C dX6_ship_127 gk_bipush_40 ?_
    obtain ⟨v27, z26, e, h⟩ := g_callE h
    refine mm_callV C M 2 [.int (0 : Int32), .int (40 : Int32)] (st := [.int (((8 : Int32) * v3) + v5), .ref (E.2.2.2.1 24)]) (v := some (.int v27)) (z' := z26) (fun l => ct_number l (0 : Int32) (40 : Int32) z24 v27 z26 e) (lw_V q2297 q2299 qs89 q178 q2300) rfl rfl rfl (Nat.le_of_ble_eq_true rfl) (Nat.le_of_ble_eq_true rfl) (Nat.le_of_ble_eq_true rfl) dX6_ship_129 ?_
    refine gW_st (st' := [.int v27, .int (((8 : Int32) * v3) + v5), .ref (E.2.2.2.1 24)]) rfl ?_
    refine mm_stI C M 24 (Nat.le_of_ble_eq_true rfl) rfl dX6_ship_132 h (fun z28 h => ?_)
    refine g_aload_n C dX6_ship_133 rfl 1 rfl ?_
    refine mm_getI C M 8 (Nat.le_of_ble_eq_true rfl) (Nat.le_of_ble_eq_true rfl) q2011 rfl dX6_ship_134 h (fun v29 h => ?_)
    refine g_if_ne C dX6_ship_137 rfl h (fun h => ?_) (fun h => ?_)
    · exact g_vret C (fun _ => trivial) dX6_ship_153 h
    · refine g_aload_n C dX6_ship_140 rfl 1 rfl ?_
      refine mm_getA C M 19 (Nat.le_of_ble_eq_true rfl) (Nat.le_of_ble_eq_true rfl) q2022 rfl dX6_ship_141 ?_
      refine g_aload_n C dX6_ship_144 rfl 1 rfl ?_
      refine mm_getI C M 41 (Nat.le_of_ble_eq_true rfl) (Nat.le_of_ble_eq_true rfl) q2044 rfl dX6_ship_145 h (fun v30 h => ?_)
      refine g_dup2_11 C dX6_ship_148 rfl rfl ?_
      refine mm_ldI C M 19 (Nat.le_of_ble_eq_true rfl) rfl dX6_ship_149 h (fun v31 h => ?_)
      refine g_iconst C dX6_ship_150 gk_iconst_1 ?_
      refine g_iadd C dX6_ship_151 ?_
      refine mm_stI C M 19 (Nat.le_of_ble_eq_true rfl) rfl dX6_ship_152 h (fun z32 h => ?_)
      exact g_vret C (fun _ => trivial) dX6_ship_153 h
  · exact g_vret C (fun _ => trivial) dX6_ship_26 h
def mo_ship (z : mm_S) : Option (Unit × mm_S) := mm_gI 41 z (fun v1 => mm_lI 19 v1 z (fun v2 => if v2 = (8 : Int32) then (mo_ship_b20 (1 : Int32) z) else (mo_ship_b20 (0 : Int32) z)))
theorem wk_ship {X : gX} {E : mm_E} {r : Unit × mm_S} (C : gC X cX6_ship 2 none RX6 3 70) (M : mm_C X E) (z : mm_S) (h : mo_ship z = some r) : gW X (mm_G E) (.returned none, r.2) z 0 [(0, .ref E.2.2.1)] [] := by
  unfold mo_ship at h
  refine g_aload_n C dX6_ship_0 rfl 0 rfl ?_
  refine g_aload_n C dX6_ship_1 rfl 0 rfl ?_
  refine mm_getA C M 19 (Nat.le_of_ble_eq_true rfl) (Nat.le_of_ble_eq_true rfl) q2022 rfl dX6_ship_2 ?_
  refine g_aload_n C dX6_ship_5 rfl 0 rfl ?_
  refine mm_getI C M 41 (Nat.le_of_ble_eq_true rfl) (Nat.le_of_ble_eq_true rfl) q2044 rfl dX6_ship_6 h (fun v1 h => ?_)
  refine mm_ldI C M 19 (Nat.le_of_ble_eq_true rfl) rfl dX6_ship_9 h (fun v2 h => ?_)
  refine g_bipush C dX6_ship_10 gk_bipush_8 ?_
  refine g_icmp_ne C dX6_ship_12 rfl h (fun h => ?_) (fun h => ?_)
  · refine g_iconst C dX6_ship_19 gk_iconst_0 ?_
    exact wk_ship_b20 C M (0 : Int32) z h
  · refine g_iconst C dX6_ship_15 gk_iconst_1 ?_
    refine g_goto C dX6_ship_16 rfl ?_
    exact wk_ship_b20 C M (1 : Int32) z h
theorem ct_ship (l : Launch) (z : mm_S) (r : Unit) (z' : mm_S) (h : mo_ship z = some (r, z')) : mm_MetV l yX6_ship cX6_ship 2 none 3 70 [] z (.returned none, z') := by
  intro E hD
  exact mm_enter E hD rfl ⟨_, rfl⟩ (.ref E.2.2.1 :: []) (Nat.le_of_ble_eq_true rfl) (fun X C M => wk_ship C M z h)
def mo_asked_b89 (x1 : Int32) (z : mm_S) : Option (Int32 × mm_S) := mm_gI 8 z (fun v1 => if v1 ≤ 0 then (some (x1, z)) else (some ((0 : Int32), z)))
theorem wk_asked_b89 {X : gX} {E : mm_E} {r : Int32 × mm_S} (C : gC X cX6_asked 2 (some .int) RX6 2 47) (M : mm_C X E) (x1 : Int32) (z : mm_S) (h : mo_asked_b89 x1 z = some r) : gW X (mm_G E) (.returned (some (.int r.1)), r.2) z 89 [(0, .ref E.2.2.1), (1, .int x1)] [] := by
  unfold mo_asked_b89 at h
  refine g_aload_n C dX6_asked_89 rfl 0 rfl ?_
  refine mm_getI C M 8 (Nat.le_of_ble_eq_true rfl) (Nat.le_of_ble_eq_true rfl) q2011 rfl dX6_asked_90 h (fun v1 h => ?_)
  refine g_if_le C dX6_asked_93 rfl h (fun h => ?_) (fun h => ?_)
  · refine g_iload_n C dX6_asked_100 rfl 1 rfl ?_
    exact g_iret C (fun _ => trivial) dX6_asked_101 h
  · refine g_iconst C dX6_asked_96 gk_iconst_0 ?_
    refine g_goto C dX6_asked_97 rfl ?_
    exact g_iret C (fun _ => trivial) dX6_asked_101 h
def mo_asked_b78 (x1 : Int32) (z : mm_S) : Option (Int32 × mm_S) := mm_gI 8 z (fun v1 => if v1 = 0 then (g_call (mo_ahead z) (fun _ z2 => mo_asked_b89 x1 z2)) else (mo_asked_b89 x1 z))
theorem wk_asked_b78 {X : gX} {E : mm_E} {r : Int32 × mm_S} (C : gC X cX6_asked 2 (some .int) RX6 2 47) (M : mm_C X E) (x1 : Int32) (z : mm_S) (h : mo_asked_b78 x1 z = some r) : gW X (mm_G E) (.returned (some (.int r.1)), r.2) z 78 [(0, .ref E.2.2.1), (1, .int x1)] [] := by
  unfold mo_asked_b78 at h
  refine g_aload_n C dX6_asked_78 rfl 0 rfl ?_
  refine mm_getI C M 8 (Nat.le_of_ble_eq_true rfl) (Nat.le_of_ble_eq_true rfl) q2011 rfl dX6_asked_79 h (fun v1 h => ?_)
  refine g_if_ne C dX6_asked_82 rfl h (fun h => ?_) (fun h => ?_)
  · exact wk_asked_b89 C M x1 z h
  · refine g_aload_n C dX6_asked_85 rfl 0 rfl ?_
    obtain ⟨u3, z2, e, h⟩ := g_callE h
    refine mm_callV C M 0 [] (st := []) (v := none) (z' := z2) (fun l => ct_ahead l z u3 z2 e) (lw_V q2274 q2276 qs85 q178 q2277) rfl rfl rfl (Nat.le_of_ble_eq_true rfl) (Nat.le_of_ble_eq_true rfl) (Nat.le_of_ble_eq_true rfl) dX6_asked_86 ?_
    refine gW_st (st' := []) rfl ?_
    exact wk_asked_b89 C M x1 z2 h
def mo_asked_b56 (s0 : Int32) (z : mm_S) : Option (Int32 × mm_S) := mm_gI 8 z (fun v1 => if v1 = 0 then (if s0 = (-1 : Int32) then (mm_gI 4 z (fun v2 => g_call (mo_blame (3 : Int32) v2 z) (fun _ z3 => mo_asked_b78 s0 z3))) else (mo_asked_b78 s0 z)) else (mo_asked_b78 s0 z))
theorem wk_asked_b56 {X : gX} {E : mm_E} {r : Int32 × mm_S} (C : gC X cX6_asked 2 (some .int) RX6 2 47) (M : mm_C X E) (s0 : Int32) (z : mm_S) (h : mo_asked_b56 s0 z = some r) : gW X (mm_G E) (.returned (some (.int r.1)), r.2) z 56 [(0, .ref E.2.2.1)] [.int s0] := by
  unfold mo_asked_b56 at h
  refine g_istore_n [(1, .int s0), (0, .ref E.2.2.1)] C dX6_asked_56 rfl (Nat.le_of_ble_eq_true rfl) rfl ?_
  refine g_aload_n C dX6_asked_57 rfl 1 rfl ?_
  refine mm_getI C M 8 (Nat.le_of_ble_eq_true rfl) (Nat.le_of_ble_eq_true rfl) q2011 rfl dX6_asked_58 h (fun v1 h => ?_)
  refine g_if_ne C dX6_asked_61 rfl h (fun h => ?_) (fun h => ?_)
  · exact g_sub [(0, .ref E.2.2.1), (1, .int s0)] [1, 0] rfl (wk_asked_b78 C M s0 z h)
  · refine g_iload_n C dX6_asked_64 rfl 0 rfl ?_
    refine g_iconst C dX6_asked_65 gk_iconst_m1 ?_
    refine g_icmp_ne C dX6_asked_66 rfl h (fun h => ?_) (fun h => ?_)
    · exact g_sub [(0, .ref E.2.2.1), (1, .int s0)] [1, 0] rfl (wk_asked_b78 C M s0 z h)
    · refine g_aload_n C dX6_asked_69 rfl 1 rfl ?_
      refine g_iconst C dX6_asked_70 gk_iconst_3 ?_
      refine g_aload_n C dX6_asked_71 rfl 1 rfl ?_
      refine mm_getI C M 4 (Nat.le_of_ble_eq_true rfl) (Nat.le_of_ble_eq_true rfl) q2007 rfl dX6_asked_72 h (fun v2 h => ?_)
      obtain ⟨u4, z3, e, h⟩ := g_callE h
      refine mm_callV C M 2 [.int (3 : Int32), .int v2] (st := []) (v := none) (z' := z3) (fun l => ct_blame l (3 : Int32) v2 z u4 z3 e) (lw_V q2284 q2286 qs86 q178 q2287) rfl rfl rfl (Nat.le_of_ble_eq_true rfl) (Nat.le_of_ble_eq_true rfl) (Nat.le_of_ble_eq_true rfl) dX6_asked_75 ?_
      refine gW_st (st' := []) rfl ?_
      exact g_sub [(0, .ref E.2.2.1), (1, .int s0)] [1, 0] rfl (wk_asked_b78 C M s0 z3 h)
def mo_asked_b37 (z : mm_S) : Option (Int32 × mm_S) := mm_gI 8 z (fun v1 => if v1 ≤ 0 then (mm_gJ z (fun v2 => g_call (mo_named v2 z) (fun v4 z3 => mo_asked_b56 v4 z3))) else (mo_asked_b56 (0 : Int32) z))
theorem wk_asked_b37 {X : gX} {E : mm_E} {r : Int32 × mm_S} (C : gC X cX6_asked 2 (some .int) RX6 2 47) (M : mm_C X E) (z : mm_S) (h : mo_asked_b37 z = some r) : gW X (mm_G E) (.returned (some (.int r.1)), r.2) z 37 [(0, .ref E.2.2.1)] [] := by
  unfold mo_asked_b37 at h
  refine g_aload_n C dX6_asked_37 rfl 0 rfl ?_
  refine mm_getI C M 8 (Nat.le_of_ble_eq_true rfl) (Nat.le_of_ble_eq_true rfl) q2011 rfl dX6_asked_38 h (fun v1 h => ?_)
  refine g_if_le C dX6_asked_41 rfl h (fun h => ?_) (fun h => ?_)
  · refine g_aload_n C dX6_asked_48 rfl 0 rfl ?_
    refine g_aload_n C dX6_asked_49 rfl 0 rfl ?_
    refine mm_getJ C M q2010 dX6_asked_50 h (fun v2 h => ?_)
    obtain ⟨v4, z3, e, h⟩ := g_callE h
    refine mm_callV C M 1 [.long v2] (st := []) (v := some (.int v4)) (z' := z3) (fun l => ct_named l v2 z v4 z3 e) (lw_V q2410 q2412 qs107 q178 q2413) rfl rfl rfl (Nat.le_of_ble_eq_true rfl) (Nat.le_of_ble_eq_true rfl) (Nat.le_of_ble_eq_true rfl) dX6_asked_53 ?_
    refine gW_st (st' := [.int v4]) rfl ?_
    exact wk_asked_b56 C M v4 z3 h
  · refine g_iconst C dX6_asked_44 gk_iconst_0 ?_
    refine g_goto C dX6_asked_45 rfl ?_
    exact wk_asked_b56 C M (0 : Int32) z h
def mo_asked_b28 (z : mm_S) : Option (Int32 × mm_S) := mm_gI 4 z (fun v1 => g_call (mo_blame (1 : Int32) v1 z) (fun _ z2 => mo_asked_b37 z2))
theorem wk_asked_b28 {X : gX} {E : mm_E} {r : Int32 × mm_S} (C : gC X cX6_asked 2 (some .int) RX6 2 47) (M : mm_C X E) (z : mm_S) (h : mo_asked_b28 z = some r) : gW X (mm_G E) (.returned (some (.int r.1)), r.2) z 28 [(0, .ref E.2.2.1)] [] := by
  unfold mo_asked_b28 at h
  refine g_aload_n C dX6_asked_28 rfl 0 rfl ?_
  refine g_iconst C dX6_asked_29 gk_iconst_1 ?_
  refine g_aload_n C dX6_asked_30 rfl 0 rfl ?_
  refine mm_getI C M 4 (Nat.le_of_ble_eq_true rfl) (Nat.le_of_ble_eq_true rfl) q2007 rfl dX6_asked_31 h (fun v1 h => ?_)
  obtain ⟨u3, z2, e, h⟩ := g_callE h
  refine mm_callV C M 2 [.int (1 : Int32), .int v1] (st := []) (v := none) (z' := z2) (fun l => ct_blame l (1 : Int32) v1 z u3 z2 e) (lw_V q2284 q2286 qs86 q178 q2287) rfl rfl rfl (Nat.le_of_ble_eq_true rfl) (Nat.le_of_ble_eq_true rfl) (Nat.le_of_ble_eq_true rfl) dX6_asked_34 ?_
  refine gW_st (st' := []) rfl ?_
  exact wk_asked_b37 C M z2 h
def mo_asked (z : mm_S) : Option (Int32 × mm_S) := mm_gI 8 z (fun v1 => if v1 ≤ 0 then (mm_gI 3 z (fun v2 => if v2 = (1 : Int32) then (mm_gJ z (fun v3 => g_call (mo_isOwn v3 z) (fun v5 z4 => if v5 = 0 then (mo_asked_b37 z4) else (mo_asked_b28 z4)))) else (mo_asked_b28 z))) else (some ((0 : Int32), z)))
theorem wk_asked {X : gX} {E : mm_E} {r : Int32 × mm_S} (C : gC X cX6_asked 2 (some .int) RX6 2 47) (M : mm_C X E) (z : mm_S) (h : mo_asked z = some r) : gW X (mm_G E) (.returned (some (.int r.1)), r.2) z 0 [(0, .ref E.2.2.1)] [] := by
  unfold mo_asked at h
  refine g_aload_n C dX6_asked_0 rfl 0 rfl ?_
  refine mm_getI C M 8 (Nat.le_of_ble_eq_true rfl) (Nat.le_of_ble_eq_true rfl) q2011 rfl dX6_asked_1 h (fun v1 h => ?_)
  refine g_if_le C dX6_asked_4 rfl h (fun h => ?_) (fun h => ?_)
  · refine g_aload_n C dX6_asked_9 rfl 0 rfl ?_
    refine mm_getI C M 3 (Nat.le_of_ble_eq_true rfl) (Nat.le_of_ble_eq_true rfl) q2006 rfl dX6_asked_10 h (fun v2 h => ?_)
    refine g_iconst C dX6_asked_13 gk_iconst_1 ?_
    refine g_icmp_ne C dX6_asked_14 rfl h (fun h => ?_) (fun h => ?_)
    · exact wk_asked_b28 C M z h
    · refine g_aload_n C dX6_asked_17 rfl 0 rfl ?_
      refine g_aload_n C dX6_asked_18 rfl 0 rfl ?_
      refine mm_getJ C M q2010 dX6_asked_19 h (fun v3 h => ?_)
      obtain ⟨v5, z4, e, h⟩ := g_callE h
      refine mm_callV C M 1 [.long v3] (st := []) (v := some (.int v5)) (z' := z4) (fun l => ct_isOwn l v3 z v5 z4 e) (lw_V q2394 q2396 qs106 q178 q2397) rfl rfl rfl (Nat.le_of_ble_eq_true rfl) (Nat.le_of_ble_eq_true rfl) (Nat.le_of_ble_eq_true rfl) dX6_asked_22 ?_
      refine gW_st (st' := [.int v5]) rfl ?_
      refine g_if_eq C dX6_asked_25 rfl h (fun h => ?_) (fun h => ?_)
      · exact wk_asked_b37 C M z4 h
      · exact wk_asked_b28 C M z4 h
  · refine g_iconst C dX6_asked_7 gk_iconst_0 ?_
    exact g_iret C (fun _ => trivial) dX6_asked_8 h
theorem ct_asked (l : Launch) (z : mm_S) (r : Int32) (z' : mm_S) (h : mo_asked z = some (r, z')) : mm_MetV l yX6_asked cX6_asked 2 (some .int) 2 47 [] z (.returned (some (.int r)), z') := by
  intro E hD
  exact mm_enter E hD rfl ⟨_, rfl⟩ (.ref E.2.2.1 :: []) (Nat.le_of_ble_eq_true rfl) (fun X C M => wk_asked C M z h)
def mo_cellHere (z : mm_S) : Option (Int32 × mm_S) := g_call (mo_must_2 (24948 : Int64) z) (fun _ z1 => mm_gI 41 z1 (fun v3 => mm_lI 13 v3 z1 (fun v4 => g_call (mo_number (0 : Int32) (v4 - (1 : Int32)) z1) (fun v6 z5 => mm_gI 41 z5 (fun v7 => mm_lI 14 v7 z5 (fun v8 => g_call (mo_number (0 : Int32) (v8 - (1 : Int32)) z5) (fun v10 z9 => mm_gI 41 z9 (fun v11 => mm_lI 13 v11 z9 (fun v12 => some (((v12 * v10) + v6), z9))))))))))
theorem wk_cellHere {X : gX} {E : mm_E} {r : Int32 × mm_S} (C : gC X cX6_cellHere 3 (some .int) RX6 3 70) (M : mm_C X E) (z : mm_S) (h : mo_cellHere z = some r) : gW X (mm_G E) (.returned (some (.int r.1)), r.2) z 0 [(0, .ref E.2.2.1)] [] := by
  unfold mo_cellHere at h
  refine g_aload_n C dX6_cellHere_0 rfl 0 rfl ?_
  refine g_ldc2 C dX6_cellHere_1 q2403 ?_
  obtain ⟨u2, z1, e, h⟩ := g_callE h
  refine mm_callV C M 1 [.long (24948 : Int64)] (st := []) (v := none) (z' := z1) (fun l => ct_must_2 l (24948 : Int64) z u2 z1 e) (lw_V q2379 q2381 qs103 q178 q2382) rfl rfl rfl (Nat.le_of_ble_eq_true rfl) (Nat.le_of_ble_eq_true rfl) (Nat.le_of_ble_eq_true rfl) dX6_cellHere_4 ?_
  refine gW_st (st' := []) rfl ?_
  refine g_aload_n C dX6_cellHere_7 rfl 0 rfl ?_
  refine g_iconst C dX6_cellHere_8 gk_iconst_0 ?_
  refine g_aload_n C dX6_cellHere_9 rfl 0 rfl ?_
  refine mm_getA C M 13 (Nat.le_of_ble_eq_true rfl) (Nat.le_of_ble_eq_true rfl) q2016 rfl dX6_cellHere_10 ?_
  refine g_aload_n C dX6_cellHere_13 rfl 0 rfl ?_
  refine mm_getI C M 41 (Nat.le_of_ble_eq_true rfl) (Nat.le_of_ble_eq_true rfl) q2044 rfl dX6_cellHere_14 h (fun v3 h => ?_)
  refine mm_ldI C M 13 (Nat.le_of_ble_eq_true rfl) rfl dX6_cellHere_17 h (fun v4 h => ?_)
  refine g_iconst C dX6_cellHere_18 gk_iconst_1 ?_
  refine g_isub C dX6_cellHere_19 ?_
  obtain ⟨v6, z5, e, h⟩ := g_callE h
  refine mm_callV C M 2 [.int (0 : Int32), .int (v4 - (1 : Int32))] (st := []) (v := some (.int v6)) (z' := z5) (fun l => ct_number l (0 : Int32) (v4 - (1 : Int32)) z1 v6 z5 e) (lw_V q2297 q2299 qs89 q178 q2300) rfl rfl rfl (Nat.le_of_ble_eq_true rfl) (Nat.le_of_ble_eq_true rfl) (Nat.le_of_ble_eq_true rfl) dX6_cellHere_20 ?_
  refine gW_st (st' := [.int v6]) rfl ?_
  refine g_istore_n [(1, .int v6), (0, .ref E.2.2.1)] C dX6_cellHere_23 rfl (Nat.le_of_ble_eq_true rfl) rfl ?_
  refine g_aload_n C dX6_cellHere_24 rfl 1 rfl ?_
  refine g_iconst C dX6_cellHere_25 gk_iconst_0 ?_
  refine g_aload_n C dX6_cellHere_26 rfl 1 rfl ?_
  refine mm_getA C M 14 (Nat.le_of_ble_eq_true rfl) (Nat.le_of_ble_eq_true rfl) q2017 rfl dX6_cellHere_27 ?_
  refine g_aload_n C dX6_cellHere_30 rfl 1 rfl ?_
  refine mm_getI C M 41 (Nat.le_of_ble_eq_true rfl) (Nat.le_of_ble_eq_true rfl) q2044 rfl dX6_cellHere_31 h (fun v7 h => ?_)
  refine mm_ldI C M 14 (Nat.le_of_ble_eq_true rfl) rfl dX6_cellHere_34 h (fun v8 h => ?_)
  refine g_iconst C dX6_cellHere_35 gk_iconst_1 ?_
  refine g_isub C dX6_cellHere_36 ?_
  obtain ⟨v10, z9, e, h⟩ := g_callE h
  refine mm_callV C M 2 [.int (0 : Int32), .int (v8 - (1 : Int32))] (st := []) (v := some (.int v10)) (z' := z9) (fun l => ct_number l (0 : Int32) (v8 - (1 : Int32)) z5 v10 z9 e) (lw_V q2297 q2299 qs89 q178 q2300) rfl rfl rfl (Nat.le_of_ble_eq_true rfl) (Nat.le_of_ble_eq_true rfl) (Nat.le_of_ble_eq_true rfl) dX6_cellHere_37 ?_
  refine gW_st (st' := [.int v10]) rfl ?_
  refine g_istore_n [(2, .int v10), (1, .int v6), (0, .ref E.2.2.1)] C dX6_cellHere_40 rfl (Nat.le_of_ble_eq_true rfl) rfl ?_
  refine g_aload_n C dX6_cellHere_41 rfl 2 rfl ?_
  refine mm_getA C M 13 (Nat.le_of_ble_eq_true rfl) (Nat.le_of_ble_eq_true rfl) q2016 rfl dX6_cellHere_42 ?_
  refine g_aload_n C dX6_cellHere_45 rfl 2 rfl ?_
  refine mm_getI C M 41 (Nat.le_of_ble_eq_true rfl) (Nat.le_of_ble_eq_true rfl) q2044 rfl dX6_cellHere_46 h (fun v11 h => ?_)
  refine mm_ldI C M 13 (Nat.le_of_ble_eq_true rfl) rfl dX6_cellHere_49 h (fun v12 h => ?_)
  refine g_iload_n C dX6_cellHere_50 rfl 0 rfl ?_
  refine g_imul C dX6_cellHere_51 ?_
  refine g_iload_n C dX6_cellHere_52 rfl 1 rfl ?_
  refine g_iadd C dX6_cellHere_53 ?_
  exact g_iret C (fun _ => trivial) dX6_cellHere_54 h
theorem ct_cellHere (l : Launch) (z : mm_S) (r : Int32) (z' : mm_S) (h : mo_cellHere z = some (r, z')) : mm_MetV l yX6_cellHere cX6_cellHere 3 (some .int) 3 70 [] z (.returned (some (.int r)), z') := by
  intro E hD
  exact mm_enter E hD rfl ⟨_, rfl⟩ (.ref E.2.2.1 :: []) (Nat.le_of_ble_eq_true rfl) (fun X C M => wk_cellHere C M z h)
def mo_says_b173 (s1 : Int32) (s2 : Int32) (z : mm_S) : Option (Unit × mm_S) := mm_sZ 27 s1 s2 z (fun z1 => mm_gI 41 z1 (fun v2 => mm_lI 25 v2 z1 (fun v3 => mm_sI 25 v2 (v3 + (1 : Int32)) z1 (fun z4 => some ((), z4)))))
theorem wk_says_b173 {X : gX} {E : mm_E} {r : Unit × mm_S} (C : gC X cX6_says 6 none RX6 4 92) (M : mm_C X E) (s1 : Int32) (s2 : Int32) (z : mm_S) (h : mo_says_b173 s1 s2 z = some r) : gW X (mm_G E) (.returned none, r.2) z 173 [(0, .ref E.2.2.1)] [.int s2, .int s1, .ref (E.2.2.2.1 27)] := by
  unfold mo_says_b173 at h
  refine mm_stZ C M 27 (Nat.le_of_ble_eq_true rfl) rfl dX6_says_173 h (fun z1 h => ?_)
  refine g_aload_n C dX6_says_174 rfl 0 rfl ?_
  refine mm_getA C M 25 (Nat.le_of_ble_eq_true rfl) (Nat.le_of_ble_eq_true rfl) q2028 rfl dX6_says_175 ?_
  refine g_aload_n C dX6_says_178 rfl 0 rfl ?_
  refine mm_getI C M 41 (Nat.le_of_ble_eq_true rfl) (Nat.le_of_ble_eq_true rfl) q2044 rfl dX6_says_179 h (fun v2 h => ?_)
  refine g_dup2_11 C dX6_says_182 rfl rfl ?_
  refine mm_ldI C M 25 (Nat.le_of_ble_eq_true rfl) rfl dX6_says_183 h (fun v3 h => ?_)
  refine g_iconst C dX6_says_184 gk_iconst_1 ?_
  refine g_iadd C dX6_says_185 ?_
  refine mm_stI C M 25 (Nat.le_of_ble_eq_true rfl) rfl dX6_says_186 h (fun z4 h => ?_)
  exact g_vret C (fun _ => trivial) dX6_says_187 h
def mo_says_b96 (x1 : Int32) (z : mm_S) : Option (Unit × mm_S) := g_call (mo_number (0 : Int32) (47 : Int32) z) (fun v2 z1 => mm_gI 41 z1 (fun v3 => g_call (mo_cellHere z1) (fun v5 z4 => g_call (mo_must_2 (465490437486 : Int64) z4) (fun _ z6 => g_call (mo_number (0 : Int32) (1 : Int32) z6) (fun v9 z8 => mm_gI 8 z8 (fun v10 => if v10 ≤ 0 then (mm_sI 26 ((((384 : Int32) * v3) + ((48 : Int32) * x1)) + v2) v5 z8 (fun z11 => if v9 = (1 : Int32) then (mo_says_b173 ((((384 : Int32) * v3) + ((48 : Int32) * x1)) + v2) (1 : Int32) z11) else (mo_says_b173 ((((384 : Int32) * v3) + ((48 : Int32) * x1)) + v2) (0 : Int32) z11))) else (some ((), z8))))))))
theorem wk_says_b96 {X : gX} {E : mm_E} {r : Unit × mm_S} (C : gC X cX6_says 6 none RX6 4 92) (M : mm_C X E) (x1 : Int32) (z : mm_S) (h : mo_says_b96 x1 z = some r) : gW X (mm_G E) (.returned none, r.2) z 96 [(0, .ref E.2.2.1), (1, .int x1)] [] := by
  unfold mo_says_b96 at h
  refine g_aload_n C dX6_says_96 rfl 0 rfl ?_
  refine g_iconst C dX6_says_97 gk_iconst_0 ?_
  refine g_bipush C dX6_says_98 gk_bipush_47 ?_
  obtain ⟨v2, z1, e, h⟩ := g_callE h
  refine mm_callV C M 2 [.int (0 : Int32), .int (47 : Int32)] (st := []) (v := some (.int v2)) (z' := z1) (fun l => ct_number l (0 : Int32) (47 : Int32) z v2 z1 e) (lw_V q2297 q2299 qs89 q178 q2300) rfl rfl rfl (Nat.le_of_ble_eq_true rfl) (Nat.le_of_ble_eq_true rfl) (Nat.le_of_ble_eq_true rfl) dX6_says_100 ?_
  refine gW_st (st' := [.int v2]) rfl ?_
  refine g_istore_n [(2, .int v2), (0, .ref E.2.2.1), (1, .int x1)] C dX6_says_103 rfl (Nat.le_of_ble_eq_true rfl) rfl ?_
  refine g_sipush C dX6_says_104 gk_sipush_384 ?_
  refine g_aload_n C dX6_says_107 rfl 1 rfl ?_
  refine mm_getI C M 41 (Nat.le_of_ble_eq_true rfl) (Nat.le_of_ble_eq_true rfl) q2044 rfl dX6_says_108 h (fun v3 h => ?_)
  refine g_imul C dX6_says_111 ?_
  refine g_bipush C dX6_says_112 gk_bipush_48 ?_
  refine g_iload_n C dX6_says_114 rfl 2 rfl ?_
  refine g_imul C dX6_says_115 ?_
  refine g_iadd C dX6_says_116 ?_
  refine g_iload_n C dX6_says_117 rfl 0 rfl ?_
  refine g_iadd C dX6_says_118 ?_
  refine g_istore_n [(3, .int ((((384 : Int32) * v3) + ((48 : Int32) * x1)) + v2)), (2, .int v2), (0, .ref E.2.2.1), (1, .int x1)] C dX6_says_119 rfl (Nat.le_of_ble_eq_true rfl) rfl ?_
  refine g_aload_n C dX6_says_120 rfl 2 rfl ?_
  obtain ⟨v5, z4, e, h⟩ := g_callE h
  refine mm_callV C M 0 [] (st := []) (v := some (.int v5)) (z' := z4) (fun l => ct_cellHere l z1 v5 z4 e) (lw_V q2422 q2424 qs110 q178 q2425) rfl rfl rfl (Nat.le_of_ble_eq_true rfl) (Nat.le_of_ble_eq_true rfl) (Nat.le_of_ble_eq_true rfl) dX6_says_121 ?_
  refine gW_st (st' := [.int v5]) rfl ?_
  refine g_istore [(4, .int v5), (3, .int ((((384 : Int32) * v3) + ((48 : Int32) * x1)) + v2)), (2, .int v2), (0, .ref E.2.2.1), (1, .int x1)] C dX6_says_124 (Nat.le_of_ble_eq_true rfl) rfl ?_
  refine g_aload_n C dX6_says_126 rfl 3 rfl ?_
  refine g_ldc2 C dX6_says_127 q2404 ?_
  obtain ⟨u7, z6, e, h⟩ := g_callE h
  refine mm_callV C M 1 [.long (465490437486 : Int64)] (st := []) (v := none) (z' := z6) (fun l => ct_must_2 l (465490437486 : Int64) z4 u7 z6 e) (lw_V q2379 q2381 qs103 q178 q2382) rfl rfl rfl (Nat.le_of_ble_eq_true rfl) (Nat.le_of_ble_eq_true rfl) (Nat.le_of_ble_eq_true rfl) dX6_says_130 ?_
  refine gW_st (st' := []) rfl ?_
  refine g_aload_n C dX6_says_133 rfl 3 rfl ?_
  refine g_iconst C dX6_says_134 gk_iconst_0 ?_
  refine g_iconst C dX6_says_135 gk_iconst_1 ?_
  obtain ⟨v9, z8, e, h⟩ := g_callE h
  refine mm_callV C M 2 [.int (0 : Int32), .int (1 : Int32)] (st := []) (v := some (.int v9)) (z' := z8) (fun l => ct_number l (0 : Int32) (1 : Int32) z6 v9 z8 e) (lw_V q2297 q2299 qs89 q178 q2300) rfl rfl rfl (Nat.le_of_ble_eq_true rfl) (Nat.le_of_ble_eq_true rfl) (Nat.le_of_ble_eq_true rfl) dX6_says_136 ?_
  refine gW_st (st' := [.int v9]) rfl ?_
  refine g_istore [(5, .int v9), (4, .int v5), (3, .int ((((384 : Int32) * v3) + ((48 : Int32) * x1)) + v2)), (2, .int v2), (0, .ref E.2.2.1), (1, .int x1)] C dX6_says_139 (Nat.le_of_ble_eq_true rfl) rfl ?_
  refine g_aload_n C dX6_says_141 rfl 4 rfl ?_
  refine mm_getI C M 8 (Nat.le_of_ble_eq_true rfl) (Nat.le_of_ble_eq_true rfl) q2011 rfl dX6_says_142 h (fun v10 h => ?_)
  refine g_if_le C dX6_says_145 rfl h (fun h => ?_) (fun h => ?_)
  · refine g_aload_n C dX6_says_149 rfl 4 rfl ?_
    refine mm_getA C M 26 (Nat.le_of_ble_eq_true rfl) (Nat.le_of_ble_eq_true rfl) q2029 rfl dX6_says_150 ?_
    refine g_iload_n C dX6_says_153 rfl 2 rfl ?_
    refine g_iload C dX6_says_154 1 rfl ?_
    refine mm_stI C M 26 (Nat.le_of_ble_eq_true rfl) rfl dX6_says_156 h (fun z11 h => ?_)
    refine g_aload_n C dX6_says_157 rfl 4 rfl ?_
    refine mm_getA C M 27 (Nat.le_of_ble_eq_true rfl) (Nat.le_of_ble_eq_true rfl) q2030 rfl dX6_says_158 ?_
    refine g_iload_n C dX6_says_161 rfl 2 rfl ?_
    refine g_iload C dX6_says_162 0 rfl ?_
    refine g_iconst C dX6_says_164 gk_iconst_1 ?_
    refine g_icmp_ne C dX6_says_165 rfl h (fun h => ?_) (fun h => ?_)
    · refine g_iconst C dX6_says_172 gk_iconst_0 ?_
      exact g_sub [(0, .ref E.2.2.1)] [4] rfl (wk_says_b173 C M ((((384 : Int32) * v3) + ((48 : Int32) * x1)) + v2) (0 : Int32) z11 h)
    · refine g_iconst C dX6_says_168 gk_iconst_1 ?_
      refine g_goto C dX6_says_169 rfl ?_
      exact g_sub [(0, .ref E.2.2.1)] [4] rfl (wk_says_b173 C M ((((384 : Int32) * v3) + ((48 : Int32) * x1)) + v2) (1 : Int32) z11 h)
  · exact g_vret C (fun _ => trivial) dX6_says_148 h
def mo_says_b20 (s1 : Int32) (z : mm_S) : Option (Unit × mm_S) := g_call (mo_counts s1 z) (fun v2 z1 => if v2 = 0 then (some ((), z1)) else (g_call (mo_asked z1) (fun v4 z3 => mm_gI 8 z3 (fun v5 => if v5 = 0 then (mm_gI 3 z3 (fun v6 => if v6 = (2 : Int32) then (mm_gI 6 z3 (fun v7 => g_call (mo_is v7 (0 : Int32) (47 : Int32) z3) (fun v9 z8 => if v9 = 0 then (mo_says_b96 v4 z8) else (mm_gI 41 z8 (fun v10 => mm_gI 6 z8 (fun v11 => mm_lI 26 ((((384 : Int32) * v10) + ((48 : Int32) * v4)) + v11) z8 (fun v12 => if v12 = (-1 : Int32) then (mo_says_b96 v4 z8) else (mm_gI 4 z8 (fun v13 => g_call (mo_blame (3 : Int32) v13 z8) (fun _ z14 => mo_says_b96 v4 z14)))))))))) else (mo_says_b96 v4 z3))) else (mo_says_b96 v4 z3)))))
theorem wk_says_b20 {X : gX} {E : mm_E} {r : Unit × mm_S} (C : gC X cX6_says 6 none RX6 4 92) (M : mm_C X E) (s1 : Int32) (z : mm_S) (h : mo_says_b20 s1 z = some r) : gW X (mm_G E) (.returned none, r.2) z 20 [(0, .ref E.2.2.1)] [.int s1, .ref E.2.2.1] := by
  unfold mo_says_b20 at h
  obtain ⟨v2, z1, e, h⟩ := g_callE h
  refine mm_callV C M 1 [.int s1] (st := []) (v := some (.int v2)) (z' := z1) (fun l => ct_counts l s1 z v2 z1 e) (lw_V q2324 q2326 qs94 q178 q2327) rfl rfl rfl (Nat.le_of_ble_eq_true rfl) (Nat.le_of_ble_eq_true rfl) (Nat.le_of_ble_eq_true rfl) dX6_says_20 ?_
  refine gW_st (st' := [.int v2]) rfl ?_
  refine g_if_ne C dX6_says_23 rfl h (fun h => ?_) (fun h => ?_)
  · refine g_aload_n C dX6_says_27 rfl 0 rfl ?_
    obtain ⟨v4, z3, e, h⟩ := g_callE h
    refine mm_callV C M 0 [] (st := []) (v := some (.int v4)) (z' := z3) (fun l => ct_asked l z1 v4 z3 e) (lw_V q2418 q2420 qs109 q178 q2421) rfl rfl rfl (Nat.le_of_ble_eq_true rfl) (Nat.le_of_ble_eq_true rfl) (Nat.le_of_ble_eq_true rfl) dX6_says_28 ?_
    refine gW_st (st' := [.int v4]) rfl ?_
    refine g_istore_n [(1, .int v4), (0, .ref E.2.2.1)] C dX6_says_31 rfl (Nat.le_of_ble_eq_true rfl) rfl ?_
    refine g_aload_n C dX6_says_32 rfl 1 rfl ?_
    refine mm_getI C M 8 (Nat.le_of_ble_eq_true rfl) (Nat.le_of_ble_eq_true rfl) q2011 rfl dX6_says_33 h (fun v5 h => ?_)
    refine g_if_ne C dX6_says_36 rfl h (fun h => ?_) (fun h => ?_)
    · exact g_sub [(0, .ref E.2.2.1), (1, .int v4)] [1, 0] rfl (wk_says_b96 C M v4 z3 h)
    · refine g_aload_n C dX6_says_39 rfl 1 rfl ?_
      refine mm_getI C M 3 (Nat.le_of_ble_eq_true rfl) (Nat.le_of_ble_eq_true rfl) q2006 rfl dX6_says_40 h (fun v6 h => ?_)
      refine g_iconst C dX6_says_43 gk_iconst_2 ?_
      refine g_icmp_ne C dX6_says_44 rfl h (fun h => ?_) (fun h => ?_)
      · exact g_sub [(0, .ref E.2.2.1), (1, .int v4)] [1, 0] rfl (wk_says_b96 C M v4 z3 h)
      · refine g_aload_n C dX6_says_47 rfl 1 rfl ?_
        refine mm_getI C M 6 (Nat.le_of_ble_eq_true rfl) (Nat.le_of_ble_eq_true rfl) q2009 rfl dX6_says_48 h (fun v7 h => ?_)
        refine g_iconst C dX6_says_51 gk_iconst_0 ?_
        refine g_bipush C dX6_says_52 gk_bipush_47 ?_
        obtain ⟨v9, z8, e, h⟩ := g_callE h
        refine mm_callS C M 3 [.int v7, .int (0 : Int32), .int (47 : Int32)] (st := []) (v := some (.int v9)) (z' := z8) (fun l => ct_is l v7 (0 : Int32) (47 : Int32) z3 v9 z8 e) (lw_S q2301 q2302 q178 q2303) rfl rfl rfl (Nat.le_of_ble_eq_true rfl) (Nat.le_of_ble_eq_true rfl) (Nat.le_of_ble_eq_true rfl) dX6_says_54 ?_
        refine gW_st (st' := [.int v9]) rfl ?_
        refine g_if_eq C dX6_says_57 rfl h (fun h => ?_) (fun h => ?_)
        · exact g_sub [(0, .ref E.2.2.1), (1, .int v4)] [1, 0] rfl (wk_says_b96 C M v4 z8 h)
        · refine g_aload_n C dX6_says_60 rfl 1 rfl ?_
          refine mm_getA C M 26 (Nat.le_of_ble_eq_true rfl) (Nat.le_of_ble_eq_true rfl) q2029 rfl dX6_says_61 ?_
          refine g_sipush C dX6_says_64 gk_sipush_384 ?_
          refine g_aload_n C dX6_says_67 rfl 1 rfl ?_
          refine mm_getI C M 41 (Nat.le_of_ble_eq_true rfl) (Nat.le_of_ble_eq_true rfl) q2044 rfl dX6_says_68 h (fun v10 h => ?_)
          refine g_imul C dX6_says_71 ?_
          refine g_bipush C dX6_says_72 gk_bipush_48 ?_
          refine g_iload_n C dX6_says_74 rfl 0 rfl ?_
          refine g_imul C dX6_says_75 ?_
          refine g_iadd C dX6_says_76 ?_
          refine g_aload_n C dX6_says_77 rfl 1 rfl ?_
          refine mm_getI C M 6 (Nat.le_of_ble_eq_true rfl) (Nat.le_of_ble_eq_true rfl) q2009 rfl dX6_says_78 h (fun v11 h => ?_)
          refine g_iadd C dX6_says_81 ?_
          refine mm_ldI C M 26 (Nat.le_of_ble_eq_true rfl) rfl dX6_says_82 h (fun v12 h => ?_)
          refine g_iconst C dX6_says_83 gk_iconst_m1 ?_
          refine g_icmp_eq C dX6_says_84 rfl h (fun h => ?_) (fun h => ?_)
          · exact g_sub [(0, .ref E.2.2.1), (1, .int v4)] [1, 0] rfl (wk_says_b96 C M v4 z8 h)
          · refine g_aload_n C dX6_says_87 rfl 1 rfl ?_
            refine g_iconst C dX6_says_88 gk_iconst_3 ?_
            refine g_aload_n C dX6_says_89 rfl 1 rfl ?_
            refine mm_getI C M 4 (Nat.le_of_ble_eq_true rfl) (Nat.le_of_ble_eq_true rfl) q2007 rfl dX6_says_90 h (fun v13 h => ?_)
            obtain ⟨u15, z14, e, h⟩ := g_callE h
            refine mm_callV C M 2 [.int (3 : Int32), .int v13] (st := []) (v := none) (z' := z14) (fun l => ct_blame l (3 : Int32) v13 z8 u15 z14 e) (lw_V q2284 q2286 qs86 q178 q2287) rfl rfl rfl (Nat.le_of_ble_eq_true rfl) (Nat.le_of_ble_eq_true rfl) (Nat.le_of_ble_eq_true rfl) dX6_says_93 ?_
            refine gW_st (st' := []) rfl ?_
            exact g_sub [(0, .ref E.2.2.1), (1, .int v4)] [1, 0] rfl (wk_says_b96 C M v4 z14 h)
  · exact g_vret C (fun _ => trivial) dX6_says_26 h
def mo_says (z : mm_S) : Option (Unit × mm_S) := mm_gI 41 z (fun v1 => mm_lI 25 v1 z (fun v2 => if v2 = (96 : Int32) then (mo_says_b20 (1 : Int32) z) else (mo_says_b20 (0 : Int32) z)))
theorem wk_says {X : gX} {E : mm_E} {r : Unit × mm_S} (C : gC X cX6_says 6 none RX6 4 92) (M : mm_C X E) (z : mm_S) (h : mo_says z = some r) : gW X (mm_G E) (.returned none, r.2) z 0 [(0, .ref E.2.2.1)] [] := by
  unfold mo_says at h
  refine g_aload_n C dX6_says_0 rfl 0 rfl ?_
  refine g_aload_n C dX6_says_1 rfl 0 rfl ?_
  refine mm_getA C M 25 (Nat.le_of_ble_eq_true rfl) (Nat.le_of_ble_eq_true rfl) q2028 rfl dX6_says_2 ?_
  refine g_aload_n C dX6_says_5 rfl 0 rfl ?_
  refine mm_getI C M 41 (Nat.le_of_ble_eq_true rfl) (Nat.le_of_ble_eq_true rfl) q2044 rfl dX6_says_6 h (fun v1 h => ?_)
  refine mm_ldI C M 25 (Nat.le_of_ble_eq_true rfl) rfl dX6_says_9 h (fun v2 h => ?_)
  refine g_bipush C dX6_says_10 gk_bipush_96 ?_
  refine g_icmp_ne C dX6_says_12 rfl h (fun h => ?_) (fun h => ?_)
  · refine g_iconst C dX6_says_19 gk_iconst_0 ?_
    exact wk_says_b20 C M (0 : Int32) z h
  · refine g_iconst C dX6_says_15 gk_iconst_1 ?_
    refine g_goto C dX6_says_16 rfl ?_
    exact wk_says_b20 C M (1 : Int32) z h
theorem ct_says (l : Launch) (z : mm_S) (r : Unit) (z' : mm_S) (h : mo_says z = some (r, z')) : mm_MetV l yX6_says cX6_says 6 none 4 92 [] z (.returned none, z') := by
  intro E hD
  exact mm_enter E hD rfl ⟨_, rfl⟩ (.ref E.2.2.1 :: []) (Nat.le_of_ble_eq_true rfl) (fun X C M => wk_says C M z h)
def mo_book_b20 (s1 : Int32) (z : mm_S) : Option (Unit × mm_S) := g_call (mo_counts s1 z) (fun v2 z1 => if v2 = 0 then (some ((), z1)) else (mm_gI 41 z1 (fun v3 => mm_gI 41 z1 (fun v4 => mm_lI 28 v4 z1 (fun v5 => g_call (mo_asked z1) (fun v7 z6 => mm_sI 29 (((12 : Int32) * v3) + v5) v7 z6 (fun z8 => g_call (mo_cellHere z8) (fun v10 z9 => mm_sI 30 (((12 : Int32) * v3) + v5) v10 z9 (fun z11 => g_call (mo_must_2 (1718775661 : Int64) z11) (fun _ z12 => g_call (mo_number (0 : Int32) (47 : Int32) z12) (fun v15 z14 => mm_sI 31 (((12 : Int32) * v3) + v5) v15 z14 (fun z16 => g_call (mo_must_2 (29807 : Int64) z16) (fun _ z17 => mm_lI 31 (((12 : Int32) * v3) + v5) z17 (fun v19 => g_call (mo_number v19 (47 : Int32) z17) (fun v21 z20 => mm_sI 32 (((12 : Int32) * v3) + v5) v21 z20 (fun z22 => mm_gI 8 z22 (fun v23 => if v23 = 0 then (mm_gI 41 z22 (fun v24 => mm_lI 28 v24 z22 (fun v25 => mm_sI 28 v24 (v25 + (1 : Int32)) z22 (fun z26 => some ((), z26))))) else (some ((), z22)))))))))))))))))))
theorem wk_book_b20 {X : gX} {E : mm_E} {r : Unit × mm_S} (C : gC X cX6_book 2 none RX6 4 92) (M : mm_C X E) (s1 : Int32) (z : mm_S) (h : mo_book_b20 s1 z = some r) : gW X (mm_G E) (.returned none, r.2) z 20 [(0, .ref E.2.2.1)] [.int s1, .ref E.2.2.1] := by
  unfold mo_book_b20 at h
  obtain ⟨v2, z1, e, h⟩ := g_callE h
  refine mm_callV C M 1 [.int s1] (st := []) (v := some (.int v2)) (z' := z1) (fun l => ct_counts l s1 z v2 z1 e) (lw_V q2324 q2326 qs94 q178 q2327) rfl rfl rfl (Nat.le_of_ble_eq_true rfl) (Nat.le_of_ble_eq_true rfl) (Nat.le_of_ble_eq_true rfl) dX6_book_20 ?_
  refine gW_st (st' := [.int v2]) rfl ?_
  refine g_if_ne C dX6_book_23 rfl h (fun h => ?_) (fun h => ?_)
  · refine g_bipush C dX6_book_27 gk_bipush_12 ?_
    refine g_aload_n C dX6_book_29 rfl 0 rfl ?_
    refine mm_getI C M 41 (Nat.le_of_ble_eq_true rfl) (Nat.le_of_ble_eq_true rfl) q2044 rfl dX6_book_30 h (fun v3 h => ?_)
    refine g_imul C dX6_book_33 ?_
    refine g_aload_n C dX6_book_34 rfl 0 rfl ?_
    refine mm_getA C M 28 (Nat.le_of_ble_eq_true rfl) (Nat.le_of_ble_eq_true rfl) q2031 rfl dX6_book_35 ?_
    refine g_aload_n C dX6_book_38 rfl 0 rfl ?_
    refine mm_getI C M 41 (Nat.le_of_ble_eq_true rfl) (Nat.le_of_ble_eq_true rfl) q2044 rfl dX6_book_39 h (fun v4 h => ?_)
    refine mm_ldI C M 28 (Nat.le_of_ble_eq_true rfl) rfl dX6_book_42 h (fun v5 h => ?_)
    refine g_iadd C dX6_book_43 ?_
    refine g_istore_n [(1, .int (((12 : Int32) * v3) + v5)), (0, .ref E.2.2.1)] C dX6_book_44 rfl (Nat.le_of_ble_eq_true rfl) rfl ?_
    refine g_aload_n C dX6_book_45 rfl 1 rfl ?_
    refine mm_getA C M 29 (Nat.le_of_ble_eq_true rfl) (Nat.le_of_ble_eq_true rfl) q2032 rfl dX6_book_46 ?_
    refine g_iload_n C dX6_book_49 rfl 0 rfl ?_
    refine g_aload_n C dX6_book_50 rfl 1 rfl ?_
    obtain ⟨v7, z6, e, h⟩ := g_callE h
    refine mm_callV C M 0 [] (st := [.int (((12 : Int32) * v3) + v5), .ref (E.2.2.2.1 29)]) (v := some (.int v7)) (z' := z6) (fun l => ct_asked l z1 v7 z6 e) (lw_V q2418 q2420 qs109 q178 q2421) rfl rfl rfl (Nat.le_of_ble_eq_true rfl) (Nat.le_of_ble_eq_true rfl) (Nat.le_of_ble_eq_true rfl) dX6_book_51 ?_
    refine gW_st (st' := [.int v7, .int (((12 : Int32) * v3) + v5), .ref (E.2.2.2.1 29)]) rfl ?_
    refine mm_stI C M 29 (Nat.le_of_ble_eq_true rfl) rfl dX6_book_54 h (fun z8 h => ?_)
    refine g_aload_n C dX6_book_55 rfl 1 rfl ?_
    refine mm_getA C M 30 (Nat.le_of_ble_eq_true rfl) (Nat.le_of_ble_eq_true rfl) q2033 rfl dX6_book_56 ?_
    refine g_iload_n C dX6_book_59 rfl 0 rfl ?_
    refine g_aload_n C dX6_book_60 rfl 1 rfl ?_
    obtain ⟨v10, z9, e, h⟩ := g_callE h
    refine mm_callV C M 0 [] (st := [.int (((12 : Int32) * v3) + v5), .ref (E.2.2.2.1 30)]) (v := some (.int v10)) (z' := z9) (fun l => ct_cellHere l z8 v10 z9 e) (lw_V q2422 q2424 qs110 q178 q2425) rfl rfl rfl (Nat.le_of_ble_eq_true rfl) (Nat.le_of_ble_eq_true rfl) (Nat.le_of_ble_eq_true rfl) dX6_book_61 ?_
    refine gW_st (st' := [.int v10, .int (((12 : Int32) * v3) + v5), .ref (E.2.2.2.1 30)]) rfl ?_
    refine mm_stI C M 30 (Nat.le_of_ble_eq_true rfl) rfl dX6_book_64 h (fun z11 h => ?_)
    refine g_aload_n C dX6_book_65 rfl 1 rfl ?_
    refine g_ldc2 C dX6_book_66 q2406 ?_
    obtain ⟨u13, z12, e, h⟩ := g_callE h
    refine mm_callV C M 1 [.long (1718775661 : Int64)] (st := []) (v := none) (z' := z12) (fun l => ct_must_2 l (1718775661 : Int64) z11 u13 z12 e) (lw_V q2379 q2381 qs103 q178 q2382) rfl rfl rfl (Nat.le_of_ble_eq_true rfl) (Nat.le_of_ble_eq_true rfl) (Nat.le_of_ble_eq_true rfl) dX6_book_69 ?_
    refine gW_st (st' := []) rfl ?_
    refine g_aload_n C dX6_book_72 rfl 1 rfl ?_
    refine mm_getA C M 31 (Nat.le_of_ble_eq_true rfl) (Nat.le_of_ble_eq_true rfl) q2034 rfl dX6_book_73 ?_
    refine g_iload_n C dX6_book_76 rfl 0 rfl ?_
    refine g_aload_n C dX6_book_77 rfl 1 rfl ?_
    refine g_iconst C dX6_book_78 gk_iconst_0 ?_
    refine g_bipush C dX6_book_79 gk_bipush_47 ?_
    obtain ⟨v15, z14, e, h⟩ := g_callE h
    refine mm_callV C M 2 [.int (0 : Int32), .int (47 : Int32)] (st := [.int (((12 : Int32) * v3) + v5), .ref (E.2.2.2.1 31)]) (v := some (.int v15)) (z' := z14) (fun l => ct_number l (0 : Int32) (47 : Int32) z12 v15 z14 e) (lw_V q2297 q2299 qs89 q178 q2300) rfl rfl rfl (Nat.le_of_ble_eq_true rfl) (Nat.le_of_ble_eq_true rfl) (Nat.le_of_ble_eq_true rfl) dX6_book_81 ?_
    refine gW_st (st' := [.int v15, .int (((12 : Int32) * v3) + v5), .ref (E.2.2.2.1 31)]) rfl ?_
    refine mm_stI C M 31 (Nat.le_of_ble_eq_true rfl) rfl dX6_book_84 h (fun z16 h => ?_)
    refine g_aload_n C dX6_book_85 rfl 1 rfl ?_
    refine g_ldc2 C dX6_book_86 q2407 ?_
    obtain ⟨u18, z17, e, h⟩ := g_callE h
    refine mm_callV C M 1 [.long (29807 : Int64)] (st := []) (v := none) (z' := z17) (fun l => ct_must_2 l (29807 : Int64) z16 u18 z17 e) (lw_V q2379 q2381 qs103 q178 q2382) rfl rfl rfl (Nat.le_of_ble_eq_true rfl) (Nat.le_of_ble_eq_true rfl) (Nat.le_of_ble_eq_true rfl) dX6_book_89 ?_
    refine gW_st (st' := []) rfl ?_
    refine g_aload_n C dX6_book_92 rfl 1 rfl ?_
    refine mm_getA C M 32 (Nat.le_of_ble_eq_true rfl) (Nat.le_of_ble_eq_true rfl) q2035 rfl dX6_book_93 ?_
    refine g_iload_n C dX6_book_96 rfl 0 rfl ?_
    refine g_aload_n C dX6_book_97 rfl 1 rfl ?_
    refine g_aload_n C dX6_book_98 rfl 1 rfl ?_
    refine mm_getA C M 31 (Nat.le_of_ble_eq_true rfl) (Nat.le_of_ble_eq_true rfl) q2034 rfl dX6_book_99 ?_
    refine g_iload_n C dX6_book_102 rfl 0 rfl ?_
    refine mm_ldI C M 31 (Nat.le_of_ble_eq_true rfl) rfl dX6_book_103 h (fun v19 h => ?_)
    refine g_bipush C dX6_book_104 gk_bipush_47 ?_
    obtain ⟨v21, z20, e, h⟩ := g_callE h
    refine mm_callV C M 2 [.int v19, .int (47 : Int32)] (st := [.int (((12 : Int32) * v3) + v5), .ref (E.2.2.2.1 32)]) (v := some (.int v21)) (z' := z20) (fun l => ct_number l v19 (47 : Int32) z17 v21 z20 e) (lw_V q2297 q2299 qs89 q178 q2300) rfl rfl rfl (Nat.le_of_ble_eq_true rfl) (Nat.le_of_ble_eq_true rfl) (Nat.le_of_ble_eq_true rfl) dX6_book_106 ?_
    refine gW_st (st' := [.int v21, .int (((12 : Int32) * v3) + v5), .ref (E.2.2.2.1 32)]) rfl ?_
    refine mm_stI C M 32 (Nat.le_of_ble_eq_true rfl) rfl dX6_book_109 h (fun z22 h => ?_)
    refine g_aload_n C dX6_book_110 rfl 1 rfl ?_
    refine mm_getI C M 8 (Nat.le_of_ble_eq_true rfl) (Nat.le_of_ble_eq_true rfl) q2011 rfl dX6_book_111 h (fun v23 h => ?_)
    refine g_if_ne C dX6_book_114 rfl h (fun h => ?_) (fun h => ?_)
    · exact g_vret C (fun _ => trivial) dX6_book_130 h
    · refine g_aload_n C dX6_book_117 rfl 1 rfl ?_
      refine mm_getA C M 28 (Nat.le_of_ble_eq_true rfl) (Nat.le_of_ble_eq_true rfl) q2031 rfl dX6_book_118 ?_
      refine g_aload_n C dX6_book_121 rfl 1 rfl ?_
      refine mm_getI C M 41 (Nat.le_of_ble_eq_true rfl) (Nat.le_of_ble_eq_true rfl) q2044 rfl dX6_book_122 h (fun v24 h => ?_)
      refine g_dup2_11 C dX6_book_125 rfl rfl ?_
      refine mm_ldI C M 28 (Nat.le_of_ble_eq_true rfl) rfl dX6_book_126 h (fun v25 h => ?_)
      refine g_iconst C dX6_book_127 gk_iconst_1 ?_
      refine g_iadd C dX6_book_128 ?_
      refine mm_stI C M 28 (Nat.le_of_ble_eq_true rfl) rfl dX6_book_129 h (fun z26 h => ?_)
      exact g_vret C (fun _ => trivial) dX6_book_130 h
  · exact g_vret C (fun _ => trivial) dX6_book_26 h
def mo_book (z : mm_S) : Option (Unit × mm_S) := mm_gI 41 z (fun v1 => mm_lI 28 v1 z (fun v2 => if v2 = (12 : Int32) then (mo_book_b20 (1 : Int32) z) else (mo_book_b20 (0 : Int32) z)))
theorem wk_book {X : gX} {E : mm_E} {r : Unit × mm_S} (C : gC X cX6_book 2 none RX6 4 92) (M : mm_C X E) (z : mm_S) (h : mo_book z = some r) : gW X (mm_G E) (.returned none, r.2) z 0 [(0, .ref E.2.2.1)] [] := by
  unfold mo_book at h
  refine g_aload_n C dX6_book_0 rfl 0 rfl ?_
  refine g_aload_n C dX6_book_1 rfl 0 rfl ?_
  refine mm_getA C M 28 (Nat.le_of_ble_eq_true rfl) (Nat.le_of_ble_eq_true rfl) q2031 rfl dX6_book_2 ?_
  refine g_aload_n C dX6_book_5 rfl 0 rfl ?_
  refine mm_getI C M 41 (Nat.le_of_ble_eq_true rfl) (Nat.le_of_ble_eq_true rfl) q2044 rfl dX6_book_6 h (fun v1 h => ?_)
  refine mm_ldI C M 28 (Nat.le_of_ble_eq_true rfl) rfl dX6_book_9 h (fun v2 h => ?_)
  refine g_bipush C dX6_book_10 gk_bipush_12 ?_
  refine g_icmp_ne C dX6_book_12 rfl h (fun h => ?_) (fun h => ?_)
  · refine g_iconst C dX6_book_19 gk_iconst_0 ?_
    exact wk_book_b20 C M (0 : Int32) z h
  · refine g_iconst C dX6_book_15 gk_iconst_1 ?_
    refine g_goto C dX6_book_16 rfl ?_
    exact wk_book_b20 C M (1 : Int32) z h
theorem ct_book (l : Launch) (z : mm_S) (r : Unit) (z' : mm_S) (h : mo_book z = some (r, z')) : mm_MetV l yX6_book cX6_book 2 none 4 92 [] z (.returned none, z') := by
  intro E hD
  exact mm_enter E hD rfl ⟨_, rfl⟩ (.ref E.2.2.1 :: []) (Nat.le_of_ble_eq_true rfl) (fun X C M => wk_book C M z h)
def mo_seen_b20 (s1 : Int32) (z : mm_S) : Option (Unit × mm_S) := g_call (mo_counts s1 z) (fun v2 z1 => if v2 = 0 then (some ((), z1)) else (mm_gI 41 z1 (fun v3 => mm_gI 41 z1 (fun v4 => mm_lI 33 v4 z1 (fun v5 => g_call (mo_number (0 : Int32) (3 : Int32) z1) (fun v7 z6 => mm_sI 34 (((40 : Int32) * v3) + v5) v7 z6 (fun z8 => g_call (mo_cellHere z8) (fun v10 z9 => mm_sI 35 (((40 : Int32) * v3) + v5) v10 z9 (fun z11 => g_call (mo_must_2 (1752135026 : Int64) z11) (fun _ z12 => g_call (mo_number (0 : Int32) (47 : Int32) z12) (fun v15 z14 => mm_sI 36 (((40 : Int32) * v3) + v5) v15 z14 (fun z16 => mm_gI 8 z16 (fun v17 => if v17 = 0 then (mm_gI 41 z16 (fun v18 => mm_lI 33 v18 z16 (fun v19 => mm_sI 33 v18 (v19 + (1 : Int32)) z16 (fun z20 => some ((), z20))))) else (some ((), z16)))))))))))))))
theorem wk_seen_b20 {X : gX} {E : mm_E} {r : Unit × mm_S} (C : gC X cX6_seen 2 none RX6 4 92) (M : mm_C X E) (s1 : Int32) (z : mm_S) (h : mo_seen_b20 s1 z = some r) : gW X (mm_G E) (.returned none, r.2) z 20 [(0, .ref E.2.2.1)] [.int s1, .ref E.2.2.1] := by
  unfold mo_seen_b20 at h
  obtain ⟨v2, z1, e, h⟩ := g_callE h
  refine mm_callV C M 1 [.int s1] (st := []) (v := some (.int v2)) (z' := z1) (fun l => ct_counts l s1 z v2 z1 e) (lw_V q2324 q2326 qs94 q178 q2327) rfl rfl rfl (Nat.le_of_ble_eq_true rfl) (Nat.le_of_ble_eq_true rfl) (Nat.le_of_ble_eq_true rfl) dX6_seen_20 ?_
  refine gW_st (st' := [.int v2]) rfl ?_
  refine g_if_ne C dX6_seen_23 rfl h (fun h => ?_) (fun h => ?_)
  · refine g_bipush C dX6_seen_27 gk_bipush_40 ?_
    refine g_aload_n C dX6_seen_29 rfl 0 rfl ?_
    refine mm_getI C M 41 (Nat.le_of_ble_eq_true rfl) (Nat.le_of_ble_eq_true rfl) q2044 rfl dX6_seen_30 h (fun v3 h => ?_)
    refine g_imul C dX6_seen_33 ?_
    refine g_aload_n C dX6_seen_34 rfl 0 rfl ?_
    refine mm_getA C M 33 (Nat.le_of_ble_eq_true rfl) (Nat.le_of_ble_eq_true rfl) q2036 rfl dX6_seen_35 ?_
    refine g_aload_n C dX6_seen_38 rfl 0 rfl ?_
    refine mm_getI C M 41 (Nat.le_of_ble_eq_true rfl) (Nat.le_of_ble_eq_true rfl) q2044 rfl dX6_seen_39 h (fun v4 h => ?_)
    refine mm_ldI C M 33 (Nat.le_of_ble_eq_true rfl) rfl dX6_seen_42 h (fun v5 h => ?_)
    refine g_iadd C dX6_seen_43 ?_
    refine g_istore_n [(1, .int (((40 : Int32) * v3) + v5)), (0, .ref E.2.2.1)] C dX6_seen_44 rfl (Nat.le_of_ble_eq_true rfl) rfl ?_
    refine g_aload_n C dX6_seen_45 rfl 1 rfl ?_
    refine mm_getA C M 34 (Nat.le_of_ble_eq_true rfl) (Nat.le_of_ble_eq_true rfl) q2037 rfl dX6_seen_46 ?_
    refine g_iload_n C dX6_seen_49 rfl 0 rfl ?_
    refine g_aload_n C dX6_seen_50 rfl 1 rfl ?_
    refine g_iconst C dX6_seen_51 gk_iconst_0 ?_
    refine g_iconst C dX6_seen_52 gk_iconst_3 ?_
    obtain ⟨v7, z6, e, h⟩ := g_callE h
    refine mm_callV C M 2 [.int (0 : Int32), .int (3 : Int32)] (st := [.int (((40 : Int32) * v3) + v5), .ref (E.2.2.2.1 34)]) (v := some (.int v7)) (z' := z6) (fun l => ct_number l (0 : Int32) (3 : Int32) z1 v7 z6 e) (lw_V q2297 q2299 qs89 q178 q2300) rfl rfl rfl (Nat.le_of_ble_eq_true rfl) (Nat.le_of_ble_eq_true rfl) (Nat.le_of_ble_eq_true rfl) dX6_seen_53 ?_
    refine gW_st (st' := [.int v7, .int (((40 : Int32) * v3) + v5), .ref (E.2.2.2.1 34)]) rfl ?_
    refine mm_stI C M 34 (Nat.le_of_ble_eq_true rfl) rfl dX6_seen_56 h (fun z8 h => ?_)
    refine g_aload_n C dX6_seen_57 rfl 1 rfl ?_
    refine mm_getA C M 35 (Nat.le_of_ble_eq_true rfl) (Nat.le_of_ble_eq_true rfl) q2038 rfl dX6_seen_58 ?_
    refine g_iload_n C dX6_seen_61 rfl 0 rfl ?_
    refine g_aload_n C dX6_seen_62 rfl 1 rfl ?_
    obtain ⟨v10, z9, e, h⟩ := g_callE h
    refine mm_callV C M 0 [] (st := [.int (((40 : Int32) * v3) + v5), .ref (E.2.2.2.1 35)]) (v := some (.int v10)) (z' := z9) (fun l => ct_cellHere l z8 v10 z9 e) (lw_V q2422 q2424 qs110 q178 q2425) rfl rfl rfl (Nat.le_of_ble_eq_true rfl) (Nat.le_of_ble_eq_true rfl) (Nat.le_of_ble_eq_true rfl) dX6_seen_63 ?_
    refine gW_st (st' := [.int v10, .int (((40 : Int32) * v3) + v5), .ref (E.2.2.2.1 35)]) rfl ?_
    refine mm_stI C M 35 (Nat.le_of_ble_eq_true rfl) rfl dX6_seen_66 h (fun z11 h => ?_)
    refine g_aload_n C dX6_seen_67 rfl 1 rfl ?_
    refine g_ldc2 C dX6_seen_68 q2364 ?_
    obtain ⟨u13, z12, e, h⟩ := g_callE h
    refine mm_callV C M 1 [.long (1752135026 : Int64)] (st := []) (v := none) (z' := z12) (fun l => ct_must_2 l (1752135026 : Int64) z11 u13 z12 e) (lw_V q2379 q2381 qs103 q178 q2382) rfl rfl rfl (Nat.le_of_ble_eq_true rfl) (Nat.le_of_ble_eq_true rfl) (Nat.le_of_ble_eq_true rfl) dX6_seen_71 ?_
    refine gW_st (st' := []) rfl ?_
    refine g_aload_n C dX6_seen_74 rfl 1 rfl ?_
    refine mm_getA C M 36 (Nat.le_of_ble_eq_true rfl) (Nat.le_of_ble_eq_true rfl) q2039 rfl dX6_seen_75 ?_
    refine g_iload_n C dX6_seen_78 rfl 0 rfl ?_
    refine g_aload_n C dX6_seen_79 rfl 1 rfl ?_
    refine g_iconst C dX6_seen_80 gk_iconst_0 ?_
    refine g_bipush C dX6_seen_81 gk_bipush_47 ?_
    obtain ⟨v15, z14, e, h⟩ := g_callE h
    refine mm_callV C M 2 [.int (0 : Int32), .int (47 : Int32)] (st := [.int (((40 : Int32) * v3) + v5), .ref (E.2.2.2.1 36)]) (v := some (.int v15)) (z' := z14) (fun l => ct_number l (0 : Int32) (47 : Int32) z12 v15 z14 e) (lw_V q2297 q2299 qs89 q178 q2300) rfl rfl rfl (Nat.le_of_ble_eq_true rfl) (Nat.le_of_ble_eq_true rfl) (Nat.le_of_ble_eq_true rfl) dX6_seen_83 ?_
    refine gW_st (st' := [.int v15, .int (((40 : Int32) * v3) + v5), .ref (E.2.2.2.1 36)]) rfl ?_
    refine mm_stI C M 36 (Nat.le_of_ble_eq_true rfl) rfl dX6_seen_86 h (fun z16 h => ?_)
    refine g_aload_n C dX6_seen_87 rfl 1 rfl ?_
    refine mm_getI C M 8 (Nat.le_of_ble_eq_true rfl) (Nat.le_of_ble_eq_true rfl) q2011 rfl dX6_seen_88 h (fun v17 h => ?_)
    refine g_if_ne C dX6_seen_91 rfl h (fun h => ?_) (fun h => ?_)
    · exact g_vret C (fun _ => trivial) dX6_seen_107 h
    · refine g_aload_n C dX6_seen_94 rfl 1 rfl ?_
      refine mm_getA C M 33 (Nat.le_of_ble_eq_true rfl) (Nat.le_of_ble_eq_true rfl) q2036 rfl dX6_seen_95 ?_
      refine g_aload_n C dX6_seen_98 rfl 1 rfl ?_
      refine mm_getI C M 41 (Nat.le_of_ble_eq_true rfl) (Nat.le_of_ble_eq_true rfl) q2044 rfl dX6_seen_99 h (fun v18 h => ?_)
      refine g_dup2_11 C dX6_seen_102 rfl rfl ?_
      refine mm_ldI C M 33 (Nat.le_of_ble_eq_true rfl) rfl dX6_seen_103 h (fun v19 h => ?_)
      refine g_iconst C dX6_seen_104 gk_iconst_1 ?_
      refine g_iadd C dX6_seen_105 ?_
      refine mm_stI C M 33 (Nat.le_of_ble_eq_true rfl) rfl dX6_seen_106 h (fun z20 h => ?_)
      exact g_vret C (fun _ => trivial) dX6_seen_107 h
  · exact g_vret C (fun _ => trivial) dX6_seen_26 h
def mo_seen (z : mm_S) : Option (Unit × mm_S) := mm_gI 41 z (fun v1 => mm_lI 33 v1 z (fun v2 => if v2 = (40 : Int32) then (mo_seen_b20 (1 : Int32) z) else (mo_seen_b20 (0 : Int32) z)))
theorem wk_seen {X : gX} {E : mm_E} {r : Unit × mm_S} (C : gC X cX6_seen 2 none RX6 4 92) (M : mm_C X E) (z : mm_S) (h : mo_seen z = some r) : gW X (mm_G E) (.returned none, r.2) z 0 [(0, .ref E.2.2.1)] [] := by
  unfold mo_seen at h
  refine g_aload_n C dX6_seen_0 rfl 0 rfl ?_
  refine g_aload_n C dX6_seen_1 rfl 0 rfl ?_
  refine mm_getA C M 33 (Nat.le_of_ble_eq_true rfl) (Nat.le_of_ble_eq_true rfl) q2036 rfl dX6_seen_2 ?_
  refine g_aload_n C dX6_seen_5 rfl 0 rfl ?_
  refine mm_getI C M 41 (Nat.le_of_ble_eq_true rfl) (Nat.le_of_ble_eq_true rfl) q2044 rfl dX6_seen_6 h (fun v1 h => ?_)
  refine mm_ldI C M 33 (Nat.le_of_ble_eq_true rfl) rfl dX6_seen_9 h (fun v2 h => ?_)
  refine g_bipush C dX6_seen_10 gk_bipush_40 ?_
  refine g_icmp_ne C dX6_seen_12 rfl h (fun h => ?_) (fun h => ?_)
  · refine g_iconst C dX6_seen_19 gk_iconst_0 ?_
    exact wk_seen_b20 C M (0 : Int32) z h
  · refine g_iconst C dX6_seen_15 gk_iconst_1 ?_
    refine g_goto C dX6_seen_16 rfl ?_
    exact wk_seen_b20 C M (1 : Int32) z h
theorem ct_seen (l : Launch) (z : mm_S) (r : Unit) (z' : mm_S) (h : mo_seen z = some (r, z')) : mm_MetV l yX6_seen cX6_seen 2 none 4 92 [] z (.returned none, z') := by
  intro E hD
  exact mm_enter E hD rfl ⟨_, rfl⟩ (.ref E.2.2.1 :: []) (Nat.le_of_ble_eq_true rfl) (fun X C M => wk_seen C M z h)
def mo_statement_b148 (z : mm_S) : Option (Unit × mm_S) := mm_gI 8 z (fun v1 => if v1 = 0 then (g_call (mo_must (59 : Int32) z) (fun _ z2 => some ((), z2))) else (some ((), z)))
theorem wk_statement_b148 {X : gX} {E : mm_E} {r : Unit × mm_S} (C : gC X cX6_statement 1 none RX6 6 135) (M : mm_C X E) (z : mm_S) (h : mo_statement_b148 z = some r) : gW X (mm_G E) (.returned none, r.2) z 148 [(0, .ref E.2.2.1)] [] := by
  unfold mo_statement_b148 at h
  refine g_aload_n C dX6_statement_148 rfl 0 rfl ?_
  refine mm_getI C M 8 (Nat.le_of_ble_eq_true rfl) (Nat.le_of_ble_eq_true rfl) q2011 rfl dX6_statement_149 h (fun v1 h => ?_)
  refine g_if_ne C dX6_statement_152 rfl h (fun h => ?_) (fun h => ?_)
  · exact g_vret C (fun _ => trivial) dX6_statement_161 h
  · refine g_aload_n C dX6_statement_155 rfl 0 rfl ?_
    refine g_bipush C dX6_statement_156 gk_bipush_59 ?_
    obtain ⟨u3, z2, e, h⟩ := g_callE h
    refine mm_callV C M 1 [.int (59 : Int32)] (st := []) (v := none) (z' := z2) (fun l => ct_must l (59 : Int32) z u3 z2 e) (lw_V q2304 q2306 qs90 q178 q2307) rfl rfl rfl (Nat.le_of_ble_eq_true rfl) (Nat.le_of_ble_eq_true rfl) (Nat.le_of_ble_eq_true rfl) dX6_statement_158 ?_
    refine gW_st (st' := []) rfl ?_
    exact g_vret C (fun _ => trivial) dX6_statement_161 h
def mo_statement (z : mm_S) : Option (Unit × mm_S) := g_call (mo_isWord (431198598248 : Int64) z) (fun v2 z1 => if v2 = 0 then (g_call (mo_isWord (1668248436 : Int64) z1) (fun v4 z3 => if v4 = 0 then (g_call (mo_isWord (487301145972 : Int64) z3) (fun v6 z5 => if v6 = 0 then (g_call (mo_isWord (1936222576 : Int64) z5) (fun v8 z7 => if v8 = 0 then (g_call (mo_isWord (1935767923 : Int64) z7) (fun v10 z9 => if v10 = 0 then (g_call (mo_isWord (1651470187 : Int64) z9) (fun v12 z11 => if v12 = 0 then (g_call (mo_isWord (1936024942 : Int64) z11) (fun v14 z13 => if v14 = 0 then (g_call (mo_isWord (1819632491 : Int64) z13) (fun v16 z15 => if v16 = 0 then (mm_gI 4 z15 (fun v17 => g_call (mo_blame (1 : Int32) v17 z15) (fun _ z18 => mo_statement_b148 z18))) else (g_call (mo_lucks z15) (fun _ z20 => mo_statement_b148 z20)))) else (g_call (mo_seen z13) (fun _ z22 => mo_statement_b148 z22)))) else (g_call (mo_book z11) (fun _ z24 => mo_statement_b148 z24)))) else (g_call (mo_says z9) (fun _ z26 => mo_statement_b148 z26)))) else (g_call (mo_ship z7) (fun _ z28 => mo_statement_b148 z28)))) else (g_call (mo_rule (2 : Int32) z5) (fun _ z30 => mo_statement_b148 z30)))) else (g_call (mo_rule (1 : Int32) z3) (fun _ z32 => mo_statement_b148 z32)))) else (g_call (mo_rule (0 : Int32) z1) (fun _ z34 => mo_statement_b148 z34)))
theorem wk_statement {X : gX} {E : mm_E} {r : Unit × mm_S} (C : gC X cX6_statement 1 none RX6 6 135) (M : mm_C X E) (z : mm_S) (h : mo_statement z = some r) : gW X (mm_G E) (.returned none, r.2) z 0 [(0, .ref E.2.2.1)] [] := by
  unfold mo_statement at h
  refine g_aload_n C dX6_statement_0 rfl 0 rfl ?_
  refine g_ldc2 C dX6_statement_1 q2316 ?_
  obtain ⟨v2, z1, e, h⟩ := g_callE h
  refine mm_callV C M 1 [.long (431198598248 : Int64)] (st := []) (v := some (.int v2)) (z' := z1) (fun l => ct_isWord l (431198598248 : Int64) z v2 z1 e) (lw_V q2293 q2295 qs88 q178 q2296) rfl rfl rfl (Nat.le_of_ble_eq_true rfl) (Nat.le_of_ble_eq_true rfl) (Nat.le_of_ble_eq_true rfl) dX6_statement_4 ?_
  refine gW_st (st' := [.int v2]) rfl ?_
  refine g_if_eq C dX6_statement_7 rfl h (fun h => ?_) (fun h => ?_)
  · refine g_aload_n C dX6_statement_18 rfl 0 rfl ?_
    refine g_ldc2 C dX6_statement_19 q2383 ?_
    obtain ⟨v4, z3, e, h⟩ := g_callE h
    refine mm_callV C M 1 [.long (1668248436 : Int64)] (st := []) (v := some (.int v4)) (z' := z3) (fun l => ct_isWord l (1668248436 : Int64) z1 v4 z3 e) (lw_V q2293 q2295 qs88 q178 q2296) rfl rfl rfl (Nat.le_of_ble_eq_true rfl) (Nat.le_of_ble_eq_true rfl) (Nat.le_of_ble_eq_true rfl) dX6_statement_22 ?_
    refine gW_st (st' := [.int v4]) rfl ?_
    refine g_if_eq C dX6_statement_25 rfl h (fun h => ?_) (fun h => ?_)
    · refine g_aload_n C dX6_statement_36 rfl 0 rfl ?_
      refine g_ldc2 C dX6_statement_37 q2384 ?_
      obtain ⟨v6, z5, e, h⟩ := g_callE h
      refine mm_callV C M 1 [.long (487301145972 : Int64)] (st := []) (v := some (.int v6)) (z' := z5) (fun l => ct_isWord l (487301145972 : Int64) z3 v6 z5 e) (lw_V q2293 q2295 qs88 q178 q2296) rfl rfl rfl (Nat.le_of_ble_eq_true rfl) (Nat.le_of_ble_eq_true rfl) (Nat.le_of_ble_eq_true rfl) dX6_statement_40 ?_
      refine gW_st (st' := [.int v6]) rfl ?_
      refine g_if_eq C dX6_statement_43 rfl h (fun h => ?_) (fun h => ?_)
      · refine g_aload_n C dX6_statement_54 rfl 0 rfl ?_
        refine g_ldc2 C dX6_statement_55 q2385 ?_
        obtain ⟨v8, z7, e, h⟩ := g_callE h
        refine mm_callV C M 1 [.long (1936222576 : Int64)] (st := []) (v := some (.int v8)) (z' := z7) (fun l => ct_isWord l (1936222576 : Int64) z5 v8 z7 e) (lw_V q2293 q2295 qs88 q178 q2296) rfl rfl rfl (Nat.le_of_ble_eq_true rfl) (Nat.le_of_ble_eq_true rfl) (Nat.le_of_ble_eq_true rfl) dX6_statement_58 ?_
        refine gW_st (st' := [.int v8]) rfl ?_
        refine g_if_eq C dX6_statement_61 rfl h (fun h => ?_) (fun h => ?_)
        · refine g_aload_n C dX6_statement_71 rfl 0 rfl ?_
          refine g_ldc2 C dX6_statement_72 q2402 ?_
          obtain ⟨v10, z9, e, h⟩ := g_callE h
          refine mm_callV C M 1 [.long (1935767923 : Int64)] (st := []) (v := some (.int v10)) (z' := z9) (fun l => ct_isWord l (1935767923 : Int64) z7 v10 z9 e) (lw_V q2293 q2295 qs88 q178 q2296) rfl rfl rfl (Nat.le_of_ble_eq_true rfl) (Nat.le_of_ble_eq_true rfl) (Nat.le_of_ble_eq_true rfl) dX6_statement_75 ?_
          refine gW_st (st' := [.int v10]) rfl ?_
          refine g_if_eq C dX6_statement_78 rfl h (fun h => ?_) (fun h => ?_)
          · refine g_aload_n C dX6_statement_88 rfl 0 rfl ?_
            refine g_ldc2 C dX6_statement_89 q2405 ?_
            obtain ⟨v12, z11, e, h⟩ := g_callE h
            refine mm_callV C M 1 [.long (1651470187 : Int64)] (st := []) (v := some (.int v12)) (z' := z11) (fun l => ct_isWord l (1651470187 : Int64) z9 v12 z11 e) (lw_V q2293 q2295 qs88 q178 q2296) rfl rfl rfl (Nat.le_of_ble_eq_true rfl) (Nat.le_of_ble_eq_true rfl) (Nat.le_of_ble_eq_true rfl) dX6_statement_92 ?_
            refine gW_st (st' := [.int v12]) rfl ?_
            refine g_if_eq C dX6_statement_95 rfl h (fun h => ?_) (fun h => ?_)
            · refine g_aload_n C dX6_statement_105 rfl 0 rfl ?_
              refine g_ldc2 C dX6_statement_106 q2408 ?_
              obtain ⟨v14, z13, e, h⟩ := g_callE h
              refine mm_callV C M 1 [.long (1936024942 : Int64)] (st := []) (v := some (.int v14)) (z' := z13) (fun l => ct_isWord l (1936024942 : Int64) z11 v14 z13 e) (lw_V q2293 q2295 qs88 q178 q2296) rfl rfl rfl (Nat.le_of_ble_eq_true rfl) (Nat.le_of_ble_eq_true rfl) (Nat.le_of_ble_eq_true rfl) dX6_statement_109 ?_
              refine gW_st (st' := [.int v14]) rfl ?_
              refine g_if_eq C dX6_statement_112 rfl h (fun h => ?_) (fun h => ?_)
              · refine g_aload_n C dX6_statement_122 rfl 0 rfl ?_
                refine g_ldc2 C dX6_statement_123 q2409 ?_
                obtain ⟨v16, z15, e, h⟩ := g_callE h
                refine mm_callV C M 1 [.long (1819632491 : Int64)] (st := []) (v := some (.int v16)) (z' := z15) (fun l => ct_isWord l (1819632491 : Int64) z13 v16 z15 e) (lw_V q2293 q2295 qs88 q178 q2296) rfl rfl rfl (Nat.le_of_ble_eq_true rfl) (Nat.le_of_ble_eq_true rfl) (Nat.le_of_ble_eq_true rfl) dX6_statement_126 ?_
                refine gW_st (st' := [.int v16]) rfl ?_
                refine g_if_eq C dX6_statement_129 rfl h (fun h => ?_) (fun h => ?_)
                · refine g_aload_n C dX6_statement_139 rfl 0 rfl ?_
                  refine g_iconst C dX6_statement_140 gk_iconst_1 ?_
                  refine g_aload_n C dX6_statement_141 rfl 0 rfl ?_
                  refine mm_getI C M 4 (Nat.le_of_ble_eq_true rfl) (Nat.le_of_ble_eq_true rfl) q2007 rfl dX6_statement_142 h (fun v17 h => ?_)
                  obtain ⟨u19, z18, e, h⟩ := g_callE h
                  refine mm_callV C M 2 [.int (1 : Int32), .int v17] (st := []) (v := none) (z' := z18) (fun l => ct_blame l (1 : Int32) v17 z15 u19 z18 e) (lw_V q2284 q2286 qs86 q178 q2287) rfl rfl rfl (Nat.le_of_ble_eq_true rfl) (Nat.le_of_ble_eq_true rfl) (Nat.le_of_ble_eq_true rfl) dX6_statement_145 ?_
                  refine gW_st (st' := []) rfl ?_
                  exact wk_statement_b148 C M z18 h
                · refine g_aload_n C dX6_statement_132 rfl 0 rfl ?_
                  obtain ⟨u21, z20, e, h⟩ := g_callE h
                  refine mm_callV C M 0 [] (st := []) (v := none) (z' := z20) (fun l => ct_lucks l z15 u21 z20 e) (lw_V q2434 q2436 qs113 q178 q2437) rfl rfl rfl (Nat.le_of_ble_eq_true rfl) (Nat.le_of_ble_eq_true rfl) (Nat.le_of_ble_eq_true rfl) dX6_statement_133 ?_
                  refine gW_st (st' := []) rfl ?_
                  refine g_goto C dX6_statement_136 rfl ?_
                  exact wk_statement_b148 C M z20 h
              · refine g_aload_n C dX6_statement_115 rfl 0 rfl ?_
                obtain ⟨u23, z22, e, h⟩ := g_callE h
                refine mm_callV C M 0 [] (st := []) (v := none) (z' := z22) (fun l => ct_seen l z13 u23 z22 e) (lw_V q2430 q2432 qs112 q178 q2433) rfl rfl rfl (Nat.le_of_ble_eq_true rfl) (Nat.le_of_ble_eq_true rfl) (Nat.le_of_ble_eq_true rfl) dX6_statement_116 ?_
                refine gW_st (st' := []) rfl ?_
                refine g_goto C dX6_statement_119 rfl ?_
                exact wk_statement_b148 C M z22 h
            · refine g_aload_n C dX6_statement_98 rfl 0 rfl ?_
              obtain ⟨u25, z24, e, h⟩ := g_callE h
              refine mm_callV C M 0 [] (st := []) (v := none) (z' := z24) (fun l => ct_book l z11 u25 z24 e) (lw_V q2426 q2428 qs111 q178 q2429) rfl rfl rfl (Nat.le_of_ble_eq_true rfl) (Nat.le_of_ble_eq_true rfl) (Nat.le_of_ble_eq_true rfl) dX6_statement_99 ?_
              refine gW_st (st' := []) rfl ?_
              refine g_goto C dX6_statement_102 rfl ?_
              exact wk_statement_b148 C M z24 h
          · refine g_aload_n C dX6_statement_81 rfl 0 rfl ?_
            obtain ⟨u27, z26, e, h⟩ := g_callE h
            refine mm_callV C M 0 [] (st := []) (v := none) (z' := z26) (fun l => ct_says l z9 u27 z26 e) (lw_V q2414 q2416 qs108 q178 q2417) rfl rfl rfl (Nat.le_of_ble_eq_true rfl) (Nat.le_of_ble_eq_true rfl) (Nat.le_of_ble_eq_true rfl) dX6_statement_82 ?_
            refine gW_st (st' := []) rfl ?_
            refine g_goto C dX6_statement_85 rfl ?_
            exact wk_statement_b148 C M z26 h
        · refine g_aload_n C dX6_statement_64 rfl 0 rfl ?_
          obtain ⟨u29, z28, e, h⟩ := g_callE h
          refine mm_callV C M 0 [] (st := []) (v := none) (z' := z28) (fun l => ct_ship l z7 u29 z28 e) (lw_V q2386 q2388 qs104 q178 q2389) rfl rfl rfl (Nat.le_of_ble_eq_true rfl) (Nat.le_of_ble_eq_true rfl) (Nat.le_of_ble_eq_true rfl) dX6_statement_65 ?_
          refine gW_st (st' := []) rfl ?_
          refine g_goto C dX6_statement_68 rfl ?_
          exact wk_statement_b148 C M z28 h
      · refine g_aload_n C dX6_statement_46 rfl 0 rfl ?_
        refine g_iconst C dX6_statement_47 gk_iconst_2 ?_
        obtain ⟨u31, z30, e, h⟩ := g_callE h
        refine mm_callV C M 1 [.int (2 : Int32)] (st := []) (v := none) (z' := z30) (fun l => ct_rule l (2 : Int32) z5 u31 z30 e) (lw_V q2317 q2319 qs93 q178 q2320) rfl rfl rfl (Nat.le_of_ble_eq_true rfl) (Nat.le_of_ble_eq_true rfl) (Nat.le_of_ble_eq_true rfl) dX6_statement_48 ?_
        refine gW_st (st' := []) rfl ?_
        refine g_goto C dX6_statement_51 rfl ?_
        exact wk_statement_b148 C M z30 h
    · refine g_aload_n C dX6_statement_28 rfl 0 rfl ?_
      refine g_iconst C dX6_statement_29 gk_iconst_1 ?_
      obtain ⟨u33, z32, e, h⟩ := g_callE h
      refine mm_callV C M 1 [.int (1 : Int32)] (st := []) (v := none) (z' := z32) (fun l => ct_rule l (1 : Int32) z3 u33 z32 e) (lw_V q2317 q2319 qs93 q178 q2320) rfl rfl rfl (Nat.le_of_ble_eq_true rfl) (Nat.le_of_ble_eq_true rfl) (Nat.le_of_ble_eq_true rfl) dX6_statement_30 ?_
      refine gW_st (st' := []) rfl ?_
      refine g_goto C dX6_statement_33 rfl ?_
      exact wk_statement_b148 C M z32 h
  · refine g_aload_n C dX6_statement_10 rfl 0 rfl ?_
    refine g_iconst C dX6_statement_11 gk_iconst_0 ?_
    obtain ⟨u35, z34, e, h⟩ := g_callE h
    refine mm_callV C M 1 [.int (0 : Int32)] (st := []) (v := none) (z' := z34) (fun l => ct_rule l (0 : Int32) z1 u35 z34 e) (lw_V q2317 q2319 qs93 q178 q2320) rfl rfl rfl (Nat.le_of_ble_eq_true rfl) (Nat.le_of_ble_eq_true rfl) (Nat.le_of_ble_eq_true rfl) dX6_statement_12 ?_
    refine gW_st (st' := []) rfl ?_
    refine g_goto C dX6_statement_15 rfl ?_
    exact wk_statement_b148 C M z34 h
theorem ct_statement (l : Launch) (z : mm_S) (r : Unit) (z' : mm_S) (h : mo_statement z = some (r, z')) : mm_MetV l yX6_statement cX6_statement 1 none 6 135 [] z (.returned none, z') := by
  intro E hD
  exact mm_enter E hD rfl ⟨_, rfl⟩ (.ref E.2.2.1 :: []) (Nat.le_of_ble_eq_true rfl) (fun X C M => wk_statement C M z h)
def mo_cells (z : mm_S) : Option (Int32 × mm_S) := mm_gI 12 z (fun v1 => mm_lI 13 v1 z (fun v2 => mm_gI 12 z (fun v3 => mm_lI 14 v3 z (fun v4 => some ((v2 * v4), z)))))
theorem wk_cells {X : gX} {E : mm_E} {r : Int32 × mm_S} (C : gC X cX6_cells 1 (some .int) RX6 0 0) (M : mm_C X E) (z : mm_S) (h : mo_cells z = some r) : gW X (mm_G E) (.returned (some (.int r.1)), r.2) z 0 [(0, .ref E.2.2.1)] [] := by
  unfold mo_cells at h
  refine g_aload_n C dX6_cells_0 rfl 0 rfl ?_
  refine mm_getA C M 13 (Nat.le_of_ble_eq_true rfl) (Nat.le_of_ble_eq_true rfl) q2016 rfl dX6_cells_1 ?_
  refine g_aload_n C dX6_cells_4 rfl 0 rfl ?_
  refine mm_getI C M 12 (Nat.le_of_ble_eq_true rfl) (Nat.le_of_ble_eq_true rfl) q2015 rfl dX6_cells_5 h (fun v1 h => ?_)
  refine mm_ldI C M 13 (Nat.le_of_ble_eq_true rfl) rfl dX6_cells_8 h (fun v2 h => ?_)
  refine g_aload_n C dX6_cells_9 rfl 0 rfl ?_
  refine mm_getA C M 14 (Nat.le_of_ble_eq_true rfl) (Nat.le_of_ble_eq_true rfl) q2017 rfl dX6_cells_10 ?_
  refine g_aload_n C dX6_cells_13 rfl 0 rfl ?_
  refine mm_getI C M 12 (Nat.le_of_ble_eq_true rfl) (Nat.le_of_ble_eq_true rfl) q2015 rfl dX6_cells_14 h (fun v3 h => ?_)
  refine mm_ldI C M 14 (Nat.le_of_ble_eq_true rfl) rfl dX6_cells_17 h (fun v4 h => ?_)
  refine g_imul C dX6_cells_18 ?_
  exact g_iret C (fun _ => trivial) dX6_cells_19 h
theorem ct_cells (l : Launch) (z : mm_S) (r : Int32) (z' : mm_S) (h : mo_cells z = some (r, z')) : mm_MetV l yX6_cells cX6_cells 1 (some .int) 0 0 [] z (.returned (some (.int r)), z') := by
  intro E hD
  exact mm_enter E hD rfl ⟨_, rfl⟩ (.ref E.2.2.1 :: []) (Nat.le_of_ble_eq_true rfl) (fun X C M => wk_cells C M z h)
def mo_columnOf (x1 : Int32) (z : mm_S) : Option (Int32 × mm_S) := mm_gI 12 z (fun v1 => mm_lI 13 v1 z (fun v2 => g_dv v2 (some ((x1 - x1 / v2 * v2), z))))
theorem wk_columnOf {X : gX} {E : mm_E} {r : Int32 × mm_S} (C : gC X cX6_columnOf 2 (some .int) RX6 0 0) (M : mm_C X E) (x1 : Int32) (z : mm_S) (h : mo_columnOf x1 z = some r) : gW X (mm_G E) (.returned (some (.int r.1)), r.2) z 0 [(0, .ref E.2.2.1), (1, .int x1)] [] := by
  unfold mo_columnOf at h
  refine g_iload_n C dX6_columnOf_0 rfl 1 rfl ?_
  refine g_aload_n C dX6_columnOf_1 rfl 0 rfl ?_
  refine mm_getA C M 13 (Nat.le_of_ble_eq_true rfl) (Nat.le_of_ble_eq_true rfl) q2016 rfl dX6_columnOf_2 ?_
  refine g_aload_n C dX6_columnOf_5 rfl 0 rfl ?_
  refine mm_getI C M 12 (Nat.le_of_ble_eq_true rfl) (Nat.le_of_ble_eq_true rfl) q2015 rfl dX6_columnOf_6 h (fun v1 h => ?_)
  refine mm_ldI C M 13 (Nat.le_of_ble_eq_true rfl) rfl dX6_columnOf_9 h (fun v2 h => ?_)
  obtain ⟨hne, h⟩ := g_dvI h
  refine g_irem C dX6_columnOf_10 hne ?_
  exact g_iret C (fun _ => trivial) dX6_columnOf_11 h
theorem ct_columnOf (l : Launch) (x1 : Int32) (z : mm_S) (r : Int32) (z' : mm_S) (h : mo_columnOf x1 z = some (r, z')) : mm_MetV l yX6_columnOf cX6_columnOf 2 (some .int) 0 0 [.int x1] z (.returned (some (.int r)), z') := by
  intro E hD
  exact mm_enter E hD rfl ⟨_, rfl⟩ (.ref E.2.2.1 :: [.int x1]) (Nat.le_of_ble_eq_true rfl) (fun X C M => wk_columnOf C M x1 z h)
def mo_rowOf (x1 : Int32) (z : mm_S) : Option (Int32 × mm_S) := mm_gI 12 z (fun v1 => mm_lI 13 v1 z (fun v2 => g_dv v2 (some ((x1 / v2), z))))
theorem wk_rowOf {X : gX} {E : mm_E} {r : Int32 × mm_S} (C : gC X cX6_rowOf 2 (some .int) RX6 0 0) (M : mm_C X E) (x1 : Int32) (z : mm_S) (h : mo_rowOf x1 z = some r) : gW X (mm_G E) (.returned (some (.int r.1)), r.2) z 0 [(0, .ref E.2.2.1), (1, .int x1)] [] := by
  unfold mo_rowOf at h
  refine g_iload_n C dX6_rowOf_0 rfl 1 rfl ?_
  refine g_aload_n C dX6_rowOf_1 rfl 0 rfl ?_
  refine mm_getA C M 13 (Nat.le_of_ble_eq_true rfl) (Nat.le_of_ble_eq_true rfl) q2016 rfl dX6_rowOf_2 ?_
  refine g_aload_n C dX6_rowOf_5 rfl 0 rfl ?_
  refine mm_getI C M 12 (Nat.le_of_ble_eq_true rfl) (Nat.le_of_ble_eq_true rfl) q2015 rfl dX6_rowOf_6 h (fun v1 h => ?_)
  refine mm_ldI C M 13 (Nat.le_of_ble_eq_true rfl) rfl dX6_rowOf_9 h (fun v2 h => ?_)
  obtain ⟨hne, h⟩ := g_dvI h
  refine g_idiv C dX6_rowOf_10 hne ?_
  exact g_iret C (fun _ => trivial) dX6_rowOf_11 h
theorem ct_rowOf (l : Launch) (x1 : Int32) (z : mm_S) (r : Int32) (z' : mm_S) (h : mo_rowOf x1 z = some (r, z')) : mm_MetV l yX6_rowOf cX6_rowOf 2 (some .int) 0 0 [.int x1] z (.returned (some (.int r)), z') := by
  intro E hD
  exact mm_enter E hD rfl ⟨_, rfl⟩ (.ref E.2.2.1 :: [.int x1]) (Nat.le_of_ble_eq_true rfl) (fun X C M => wk_rowOf C M x1 z h)
def mo_bounded (x0 : Int64) (z : mm_S) : Option (Int64 × mm_S) := if (lg_cmp x0 (1000000 : Int64)) ≤ 0 then (if 0 ≤ (lg_cmp x0 (-1000000 : Int64)) then (some (x0, z)) else (some ((-1000000 : Int64), z))) else (some ((1000000 : Int64), z))
theorem wk_bounded {X : gX} {E : mm_E} {r : Int64 × mm_S} (C : gC X cX6_bounded 2 (some .long) RX6 0 0) (M : mm_C X E) (x0 : Int64) (z : mm_S) (h : mo_bounded x0 z = some r) : gW X (mm_G E) (.returned (some (.long r.1)), r.2) z 0 [(0, .long x0)] [] := by
  unfold mo_bounded at h
  refine g_lload_n C dX6_bounded_0 rfl 0 rfl ?_
  refine g_ldc2 C dX6_bounded_1 q2472 ?_
  refine g_lcmp C dX6_bounded_4 ?_
  refine g_if_le C dX6_bounded_5 rfl h (fun h => ?_) (fun h => ?_)
  · refine g_lload_n C dX6_bounded_14 rfl 0 rfl ?_
    refine g_ldc2 C dX6_bounded_15 q2473 ?_
    refine g_lcmp C dX6_bounded_18 ?_
    refine g_if_ge C dX6_bounded_19 rfl h (fun h => ?_) (fun h => ?_)
    · refine g_lload_n C dX6_bounded_28 rfl 0 rfl ?_
      exact g_lret C (fun _ => trivial) dX6_bounded_29 h
    · refine g_ldc2 C dX6_bounded_22 q2473 ?_
      refine g_goto C dX6_bounded_25 rfl ?_
      exact g_lret C (fun _ => trivial) dX6_bounded_29 h
  · refine g_ldc2 C dX6_bounded_8 q2472 ?_
    refine g_goto C dX6_bounded_11 rfl ?_
    exact g_lret C (fun _ => trivial) dX6_bounded_29 h
theorem ct_bounded (l : Launch) (x0 : Int64) (z : mm_S) (r : Int64) (z' : mm_S) (h : mo_bounded x0 z = some (r, z')) : mm_MetS l yX6_bounded cX6_bounded 2 (some .long) 0 0 [.long x0] z (.returned (some (.long r)), z') := by
  intro E hD
  exact mm_enter E hD rfl ⟨_, rfl⟩ [.long x0] (Nat.le_of_ble_eq_true rfl) (fun X C M => wk_bounded C M x0 z h)
def mo_over_b43 (x4 : Int64) (s0 : Int32) (s1 : Int32) (z : mm_S) : Option (Int64 × mm_S) := if s0 = s1 then (some (x4, z)) else (some ((x4 - (1 : Int64)), z))
theorem wk_over_b43 {X : gX} {E : mm_E} {r : Int64 × mm_S} (C : gC X cX6_over 6 (some .long) RX6 0 0) (M : mm_C X E) (x4 : Int64) (s0 : Int32) (s1 : Int32) (z : mm_S) (h : mo_over_b43 x4 s0 s1 z = some r) : gW X (mm_G E) (.returned (some (.long r.1)), r.2) z 43 [(4, .long x4)] [.int s1, .int s0] := by
  unfold mo_over_b43 at h
  refine g_icmp_eq C dX6_over_43 rfl h (fun h => ?_) (fun h => ?_)
  · refine g_lload C dX6_over_53 0 rfl ?_
    exact g_lret C (fun _ => trivial) dX6_over_55 h
  · refine g_lload C dX6_over_46 0 rfl ?_
    refine g_lconst C dX6_over_48 gk_lconst_1 ?_
    refine g_lsub C dX6_over_49 ?_
    refine g_goto C dX6_over_50 rfl ?_
    exact g_lret C (fun _ => trivial) dX6_over_55 h
def mo_over_b32 (x2 : Int64) (x4 : Int64) (s0 : Int32) (z : mm_S) : Option (Int64 × mm_S) := if 0 ≤ (lg_cmp x2 (0 : Int64)) then (mo_over_b43 x4 s0 (0 : Int32) z) else (mo_over_b43 x4 s0 (1 : Int32) z)
theorem wk_over_b32 {X : gX} {E : mm_E} {r : Int64 × mm_S} (C : gC X cX6_over 6 (some .long) RX6 0 0) (M : mm_C X E) (x2 : Int64) (x4 : Int64) (s0 : Int32) (z : mm_S) (h : mo_over_b32 x2 x4 s0 z = some r) : gW X (mm_G E) (.returned (some (.long r.1)), r.2) z 32 [(2, .long x2), (4, .long x4)] [.int s0] := by
  unfold mo_over_b32 at h
  refine g_lload_n C dX6_over_32 rfl 0 rfl ?_
  refine g_lconst C dX6_over_33 gk_lconst_0 ?_
  refine g_lcmp C dX6_over_34 ?_
  refine g_if_ge C dX6_over_35 rfl h (fun h => ?_) (fun h => ?_)
  · refine g_iconst C dX6_over_42 gk_iconst_0 ?_
    exact g_sub [(4, .long x4)] [1] rfl (wk_over_b43 C M x4 s0 (0 : Int32) z h)
  · refine g_iconst C dX6_over_38 gk_iconst_1 ?_
    refine g_goto C dX6_over_39 rfl ?_
    exact g_sub [(4, .long x4)] [1] rfl (wk_over_b43 C M x4 s0 (1 : Int32) z h)
def mo_over (x0 : Int64) (x2 : Int64) (z : mm_S) : Option (Int64 × mm_S) := if (lg_cmp x2 (0 : Int64)) = 0 then (some ((0 : Int64), z)) else (g_dvL x2 (g_dvL x2 (if (lg_cmp (x0 - x0 / x2 * x2) (0 : Int64)) = 0 then (some ((x0 / x2), z)) else (if 0 ≤ (lg_cmp x0 (0 : Int64)) then (mo_over_b32 x2 (x0 / x2) (0 : Int32) z) else (mo_over_b32 x2 (x0 / x2) (1 : Int32) z)))))
theorem wk_over {X : gX} {E : mm_E} {r : Int64 × mm_S} (C : gC X cX6_over 6 (some .long) RX6 0 0) (M : mm_C X E) (x0 : Int64) (x2 : Int64) (z : mm_S) (h : mo_over x0 x2 z = some r) : gW X (mm_G E) (.returned (some (.long r.1)), r.2) z 0 [(0, .long x0), (2, .long x2)] [] := by
  unfold mo_over at h
  refine g_lload_n C dX6_over_0 rfl 1 rfl ?_
  refine g_lconst C dX6_over_1 gk_lconst_0 ?_
  refine g_lcmp C dX6_over_2 ?_
  refine g_if_ne C dX6_over_3 rfl h (fun h => ?_) (fun h => ?_)
  · refine g_lload_n C dX6_over_8 rfl 0 rfl ?_
    refine g_lload_n C dX6_over_9 rfl 1 rfl ?_
    obtain ⟨hne, h⟩ := g_dvJ h
    refine g_ldiv C dX6_over_10 hne ?_
    refine g_lstore [(4, .long (x0 / x2)), (0, .long x0), (2, .long x2)] C dX6_over_11 (Nat.le_of_ble_eq_true rfl) rfl ?_
    refine g_lload_n C dX6_over_13 rfl 1 rfl ?_
    refine g_lload_n C dX6_over_14 rfl 2 rfl ?_
    obtain ⟨hne, h⟩ := g_dvJ h
    refine g_lrem C dX6_over_15 hne ?_
    refine g_lconst C dX6_over_16 gk_lconst_0 ?_
    refine g_lcmp C dX6_over_17 ?_
    refine g_if_eq C dX6_over_18 rfl h (fun h => ?_) (fun h => ?_)
    · refine g_lload C dX6_over_53 0 rfl ?_
      exact g_lret C (fun _ => trivial) dX6_over_55 h
    · refine g_lload_n C dX6_over_21 rfl 1 rfl ?_
      refine g_lconst C dX6_over_22 gk_lconst_0 ?_
      refine g_lcmp C dX6_over_23 ?_
      refine g_if_ge C dX6_over_24 rfl h (fun h => ?_) (fun h => ?_)
      · refine g_iconst C dX6_over_31 gk_iconst_0 ?_
        exact g_sub [(2, .long x2), (4, .long (x0 / x2))] [2, 0] rfl (wk_over_b32 C M x2 (x0 / x2) (0 : Int32) z h)
      · refine g_iconst C dX6_over_27 gk_iconst_1 ?_
        refine g_goto C dX6_over_28 rfl ?_
        exact g_sub [(2, .long x2), (4, .long (x0 / x2))] [2, 0] rfl (wk_over_b32 C M x2 (x0 / x2) (1 : Int32) z h)
  · refine g_lconst C dX6_over_6 gk_lconst_0 ?_
    exact g_lret C (fun _ => trivial) dX6_over_7 h
theorem ct_over (l : Launch) (x0 : Int64) (x2 : Int64) (z : mm_S) (r : Int64) (z' : mm_S) (h : mo_over x0 x2 z = some (r, z')) : mm_MetS l yX6_over cX6_over 6 (some .long) 0 0 [.long x0, .long x2] z (.returned (some (.long r)), z') := by
  intro E hD
  exact mm_enter E hD rfl ⟨_, rfl⟩ [.long x0, .long x2] (Nat.le_of_ble_eq_true rfl) (fun X C M => wk_over C M x0 x2 z h)
def mo_made (x0 : Int32) (x1 : Int64) (x3 : Int64) (z : mm_S) : Option (Int64 × mm_S) := if x0 = (10 : Int32) then (g_call (mo_bounded (x1 + x3) z) (fun v2 z1 => some (v2, z1))) else if x0 = (11 : Int32) then (g_call (mo_bounded (x1 - x3) z) (fun v4 z3 => some (v4, z3))) else if x0 = (12 : Int32) then (g_call (mo_bounded (x1 * x3) z) (fun v6 z5 => some (v6, z5))) else if x0 = (13 : Int32) then (g_call (mo_over x1 x3 z) (fun v8 z7 => some (v8, z7))) else if x0 = (14 : Int32) then (if (lg_cmp x3 (0 : Int64)) = 0 then (some ((0 : Int64), z)) else (g_call (mo_over x1 x3 z) (fun v10 z9 => some ((x1 - (x3 * v10)), z9)))) else if x0 = (15 : Int32) then (if 0 ≤ (lg_cmp x1 x3) then (some (x3, z)) else (some (x1, z))) else if x0 = (16 : Int32) then (if (lg_cmp x1 x3) ≤ 0 then (some (x3, z)) else (some (x1, z))) else if x0 = (17 : Int32) then (if 0 ≤ (lg_cmp x1 x3) then (some ((0 : Int64), z)) else (some ((1 : Int64), z))) else if x0 = (18 : Int32) then (if (lg_cmp x1 x3) ≤ 0 then (some ((0 : Int64), z)) else (some ((1 : Int64), z))) else if x0 = (19 : Int32) then (if (lg_cmp x1 x3) = 0 then (some ((1 : Int64), z)) else (some ((0 : Int64), z))) else if x0 = (20 : Int32) then (some ((x1 * x3), z)) else (if (lg_cmp (x1 + x3) (0 : Int64)) ≤ 0 then (some ((0 : Int64), z)) else (some ((1 : Int64), z)))
theorem wk_made {X : gX} {E : mm_E} {r : Int64 × mm_S} (C : gC X cX6_made 5 (some .long) RX6 1 25) (M : mm_C X E) (x0 : Int32) (x1 : Int64) (x3 : Int64) (z : mm_S) (h : mo_made x0 x1 x3 z = some r) : gW X (mm_G E) (.returned (some (.long r.1)), r.2) z 0 [(0, .int x0), (1, .long x1), (3, .long x3)] [] := by
  unfold mo_made at h
  refine g_iload_n C dX6_made_0 rfl 0 rfl ?_
  by_cases c10 : x0 = (10 : Int32)
  · rw [if_pos c10] at h
    refine g_swIn C dX6_made_1 (by rw [c10]; decide) (by rw [c10]; decide) (by rw [c10]; rfl) rfl ?_
    refine g_lload_n C dX6_made_60 rfl 1 rfl ?_
    refine g_lload_n C dX6_made_61 rfl 2 rfl ?_
    refine g_ladd C dX6_made_62 ?_
    obtain ⟨v2, z1, e, h⟩ := g_callE h
    refine mm_callS C M 1 [.long (x1 + x3)] (st := []) (v := some (.long v2)) (z' := z1) (fun l => ct_bounded l (x1 + x3) z v2 z1 e) (lw_S q2469 q2470 q178 q2471) rfl rfl rfl (Nat.le_of_ble_eq_true rfl) (Nat.le_of_ble_eq_true rfl) (Nat.le_of_ble_eq_true rfl) dX6_made_63 ?_
    refine gW_st (st' := [.long v2]) rfl ?_
    exact g_lret C (fun _ => trivial) dX6_made_66 h
  rw [if_neg c10] at h
  by_cases c11 : x0 = (11 : Int32)
  · rw [if_pos c11] at h
    refine g_swIn C dX6_made_1 (by rw [c11]; decide) (by rw [c11]; decide) (by rw [c11]; rfl) rfl ?_
    refine g_lload_n C dX6_made_67 rfl 1 rfl ?_
    refine g_lload_n C dX6_made_68 rfl 2 rfl ?_
    refine g_lsub C dX6_made_69 ?_
    obtain ⟨v4, z3, e, h⟩ := g_callE h
    refine mm_callS C M 1 [.long (x1 - x3)] (st := []) (v := some (.long v4)) (z' := z3) (fun l => ct_bounded l (x1 - x3) z v4 z3 e) (lw_S q2469 q2470 q178 q2471) rfl rfl rfl (Nat.le_of_ble_eq_true rfl) (Nat.le_of_ble_eq_true rfl) (Nat.le_of_ble_eq_true rfl) dX6_made_70 ?_
    refine gW_st (st' := [.long v4]) rfl ?_
    exact g_lret C (fun _ => trivial) dX6_made_73 h
  rw [if_neg c11] at h
  by_cases c12 : x0 = (12 : Int32)
  · rw [if_pos c12] at h
    refine g_swIn C dX6_made_1 (by rw [c12]; decide) (by rw [c12]; decide) (by rw [c12]; rfl) rfl ?_
    refine g_lload_n C dX6_made_74 rfl 1 rfl ?_
    refine g_lload_n C dX6_made_75 rfl 2 rfl ?_
    refine g_lmul C dX6_made_76 ?_
    obtain ⟨v6, z5, e, h⟩ := g_callE h
    refine mm_callS C M 1 [.long (x1 * x3)] (st := []) (v := some (.long v6)) (z' := z5) (fun l => ct_bounded l (x1 * x3) z v6 z5 e) (lw_S q2469 q2470 q178 q2471) rfl rfl rfl (Nat.le_of_ble_eq_true rfl) (Nat.le_of_ble_eq_true rfl) (Nat.le_of_ble_eq_true rfl) dX6_made_77 ?_
    refine gW_st (st' := [.long v6]) rfl ?_
    exact g_lret C (fun _ => trivial) dX6_made_80 h
  rw [if_neg c12] at h
  by_cases c13 : x0 = (13 : Int32)
  · rw [if_pos c13] at h
    refine g_swIn C dX6_made_1 (by rw [c13]; decide) (by rw [c13]; decide) (by rw [c13]; rfl) rfl ?_
    refine g_lload_n C dX6_made_81 rfl 1 rfl ?_
    refine g_lload_n C dX6_made_82 rfl 2 rfl ?_
    obtain ⟨v8, z7, e, h⟩ := g_callE h
    refine mm_callS C M 2 [.long x1, .long x3] (st := []) (v := some (.long v8)) (z' := z7) (fun l => ct_over l x1 x3 z v8 z7 e) (lw_S q2474 q2475 q178 q2476) rfl rfl rfl (Nat.le_of_ble_eq_true rfl) (Nat.le_of_ble_eq_true rfl) (Nat.le_of_ble_eq_true rfl) dX6_made_83 ?_
    refine gW_st (st' := [.long v8]) rfl ?_
    exact g_lret C (fun _ => trivial) dX6_made_86 h
  rw [if_neg c13] at h
  by_cases c14 : x0 = (14 : Int32)
  · rw [if_pos c14] at h
    refine g_swIn C dX6_made_1 (by rw [c14]; decide) (by rw [c14]; decide) (by rw [c14]; rfl) rfl ?_
    refine g_lload_n C dX6_made_87 rfl 2 rfl ?_
    refine g_lconst C dX6_made_88 gk_lconst_0 ?_
    refine g_lcmp C dX6_made_89 ?_
    refine g_if_ne C dX6_made_90 rfl h (fun h => ?_) (fun h => ?_)
    · refine g_lload_n C dX6_made_97 rfl 1 rfl ?_
      refine g_lload_n C dX6_made_98 rfl 2 rfl ?_
      refine g_lload_n C dX6_made_99 rfl 1 rfl ?_
      refine g_lload_n C dX6_made_100 rfl 2 rfl ?_
      obtain ⟨v10, z9, e, h⟩ := g_callE h
      refine mm_callS C M 2 [.long x1, .long x3] (st := [.long x3, .long x1]) (v := some (.long v10)) (z' := z9) (fun l => ct_over l x1 x3 z v10 z9 e) (lw_S q2474 q2475 q178 q2476) rfl rfl rfl (Nat.le_of_ble_eq_true rfl) (Nat.le_of_ble_eq_true rfl) (Nat.le_of_ble_eq_true rfl) dX6_made_101 ?_
      refine gW_st (st' := [.long v10, .long x3, .long x1]) rfl ?_
      refine g_lmul C dX6_made_104 ?_
      refine g_lsub C dX6_made_105 ?_
      exact g_lret C (fun _ => trivial) dX6_made_106 h
    · refine g_lconst C dX6_made_93 gk_lconst_0 ?_
      refine g_goto C dX6_made_94 rfl ?_
      exact g_lret C (fun _ => trivial) dX6_made_106 h
  rw [if_neg c14] at h
  by_cases c15 : x0 = (15 : Int32)
  · rw [if_pos c15] at h
    refine g_swIn C dX6_made_1 (by rw [c15]; decide) (by rw [c15]; decide) (by rw [c15]; rfl) rfl ?_
    refine g_lload_n C dX6_made_107 rfl 1 rfl ?_
    refine g_lload_n C dX6_made_108 rfl 2 rfl ?_
    refine g_lcmp C dX6_made_109 ?_
    refine g_if_ge C dX6_made_110 rfl h (fun h => ?_) (fun h => ?_)
    · refine g_lload_n C dX6_made_117 rfl 2 rfl ?_
      exact g_lret C (fun _ => trivial) dX6_made_118 h
    · refine g_lload_n C dX6_made_113 rfl 1 rfl ?_
      refine g_goto C dX6_made_114 rfl ?_
      exact g_lret C (fun _ => trivial) dX6_made_118 h
  rw [if_neg c15] at h
  by_cases c16 : x0 = (16 : Int32)
  · rw [if_pos c16] at h
    refine g_swIn C dX6_made_1 (by rw [c16]; decide) (by rw [c16]; decide) (by rw [c16]; rfl) rfl ?_
    refine g_lload_n C dX6_made_119 rfl 1 rfl ?_
    refine g_lload_n C dX6_made_120 rfl 2 rfl ?_
    refine g_lcmp C dX6_made_121 ?_
    refine g_if_le C dX6_made_122 rfl h (fun h => ?_) (fun h => ?_)
    · refine g_lload_n C dX6_made_129 rfl 2 rfl ?_
      exact g_lret C (fun _ => trivial) dX6_made_130 h
    · refine g_lload_n C dX6_made_125 rfl 1 rfl ?_
      refine g_goto C dX6_made_126 rfl ?_
      exact g_lret C (fun _ => trivial) dX6_made_130 h
  rw [if_neg c16] at h
  by_cases c17 : x0 = (17 : Int32)
  · rw [if_pos c17] at h
    refine g_swIn C dX6_made_1 (by rw [c17]; decide) (by rw [c17]; decide) (by rw [c17]; rfl) rfl ?_
    refine g_lload_n C dX6_made_131 rfl 1 rfl ?_
    refine g_lload_n C dX6_made_132 rfl 2 rfl ?_
    refine g_lcmp C dX6_made_133 ?_
    refine g_if_ge C dX6_made_134 rfl h (fun h => ?_) (fun h => ?_)
    · refine g_lconst C dX6_made_141 gk_lconst_0 ?_
      exact g_lret C (fun _ => trivial) dX6_made_142 h
    · refine g_lconst C dX6_made_137 gk_lconst_1 ?_
      refine g_goto C dX6_made_138 rfl ?_
      exact g_lret C (fun _ => trivial) dX6_made_142 h
  rw [if_neg c17] at h
  by_cases c18 : x0 = (18 : Int32)
  · rw [if_pos c18] at h
    refine g_swIn C dX6_made_1 (by rw [c18]; decide) (by rw [c18]; decide) (by rw [c18]; rfl) rfl ?_
    refine g_lload_n C dX6_made_143 rfl 1 rfl ?_
    refine g_lload_n C dX6_made_144 rfl 2 rfl ?_
    refine g_lcmp C dX6_made_145 ?_
    refine g_if_le C dX6_made_146 rfl h (fun h => ?_) (fun h => ?_)
    · refine g_lconst C dX6_made_153 gk_lconst_0 ?_
      exact g_lret C (fun _ => trivial) dX6_made_154 h
    · refine g_lconst C dX6_made_149 gk_lconst_1 ?_
      refine g_goto C dX6_made_150 rfl ?_
      exact g_lret C (fun _ => trivial) dX6_made_154 h
  rw [if_neg c18] at h
  by_cases c19 : x0 = (19 : Int32)
  · rw [if_pos c19] at h
    refine g_swIn C dX6_made_1 (by rw [c19]; decide) (by rw [c19]; decide) (by rw [c19]; rfl) rfl ?_
    refine g_lload_n C dX6_made_155 rfl 1 rfl ?_
    refine g_lload_n C dX6_made_156 rfl 2 rfl ?_
    refine g_lcmp C dX6_made_157 ?_
    refine g_if_ne C dX6_made_158 rfl h (fun h => ?_) (fun h => ?_)
    · refine g_lconst C dX6_made_165 gk_lconst_0 ?_
      exact g_lret C (fun _ => trivial) dX6_made_166 h
    · refine g_lconst C dX6_made_161 gk_lconst_1 ?_
      refine g_goto C dX6_made_162 rfl ?_
      exact g_lret C (fun _ => trivial) dX6_made_166 h
  rw [if_neg c19] at h
  by_cases c20 : x0 = (20 : Int32)
  · rw [if_pos c20] at h
    refine g_swIn C dX6_made_1 (by rw [c20]; decide) (by rw [c20]; decide) (by rw [c20]; rfl) rfl ?_
    refine g_lload_n C dX6_made_167 rfl 1 rfl ?_
    refine g_lload_n C dX6_made_168 rfl 2 rfl ?_
    refine g_lmul C dX6_made_169 ?_
    exact g_lret C (fun _ => trivial) dX6_made_170 h
  rw [if_neg c20] at h
  have e10 := g_ne c10 (10) (by decide)
  have e11 := g_ne c11 (11) (by decide)
  have e12 := g_ne c12 (12) (by decide)
  have e13 := g_ne c13 (13) (by decide)
  have e14 := g_ne c14 (14) (by decide)
  have e15 := g_ne c15 (15) (by decide)
  have e16 := g_ne c16 (16) (by decide)
  have e17 := g_ne c17 (17) (by decide)
  have e18 := g_ne c18 (18) (by decide)
  have e19 := g_ne c19 (19) (by decide)
  have e20 := g_ne c20 (20) (by decide)
  refine g_swOut C dX6_made_1 (by omega) rfl ?_
  refine g_lload_n C dX6_made_171 rfl 1 rfl ?_
  refine g_lload_n C dX6_made_172 rfl 2 rfl ?_
  refine g_ladd C dX6_made_173 ?_
  refine g_lconst C dX6_made_174 gk_lconst_0 ?_
  refine g_lcmp C dX6_made_175 ?_
  refine g_if_le C dX6_made_176 rfl h (fun h => ?_) (fun h => ?_)
  · refine g_lconst C dX6_made_183 gk_lconst_0 ?_
    exact g_lret C (fun _ => trivial) dX6_made_184 h
  · refine g_lconst C dX6_made_179 gk_lconst_1 ?_
    refine g_goto C dX6_made_180 rfl ?_
    exact g_lret C (fun _ => trivial) dX6_made_184 h
theorem ct_made (l : Launch) (x0 : Int32) (x1 : Int64) (x3 : Int64) (z : mm_S) (r : Int64) (z' : mm_S) (h : mo_made x0 x1 x3 z = some (r, z')) : mm_MetS l yX6_made cX6_made 5 (some .long) 1 25 [.int x0, .long x1, .long x3] z (.returned (some (.long r)), z') := by
  intro E hD
  exact mm_enter E hD rfl ⟨_, rfl⟩ [.int x0, .long x1, .long x3] (Nat.le_of_ble_eq_true rfl) (fun X C M => wk_made C M x0 x1 x3 z h)
def mo_works_b150 (k14 : Int32 → Int32 → Int32 → mm_S → Option (Int64 × mm_S)) (x2 : Int32) (x3 : Int32) (x4 : Int32) (z : mm_S) : Option (Int64 × mm_S) := k14 x2 x3 (x4 + (1 : Int32)) z
theorem wk_works_b150 {X : gX} {E : mm_E} {r : Int64 × mm_S} (C : gC X cX6_works 6 (some .long) RX6 2 49) (M : mm_C X E) {k14 : Int32 → Int32 → Int32 → mm_S → Option (Int64 × mm_S)} (hk14 : ∀ (x2 : Int32) (x3 : Int32) (x4 : Int32) (z : mm_S), k14 x2 x3 x4 z = some r → gW X (mm_G E) (.returned (some (.long r.1)), r.2) z 14 [(0, .ref E.2.2.1), (2, .int x2), (3, .int x3), (4, .int x4)] []) (x2 : Int32) (x3 : Int32) (x4 : Int32) (z : mm_S) (h : mo_works_b150 k14 x2 x3 x4 z = some r) : gW X (mm_G E) (.returned (some (.long r.1)), r.2) z 150 [(0, .ref E.2.2.1), (2, .int x2), (3, .int x3), (4, .int x4)] [] := by
  unfold mo_works_b150 at h
  refine g_iinc [(4, .int (x4 + (1 : Int32))), (0, .ref E.2.2.1), (2, .int x2), (3, .int x3)] C dX6_works_150 (j := 3) rfl (gk_inc_1 _) (Nat.le_of_ble_eq_true rfl) rfl ?_
  refine g_goto C dX6_works_153 rfl ?_
  exact g_sub [(0, .ref E.2.2.1), (2, .int x2), (3, .int x3), (4, .int (x4 + (1 : Int32)))] [1, 2, 3, 0] rfl (hk14 x2 x3 (x4 + (1 : Int32)) z h)
def mo_works_b85 (k14 : Int32 → Int32 → Int32 → mm_S → Option (Int64 × mm_S)) (x2 : Int32) (x3 : Int32) (x4 : Int32) (s1 : Int32) (s2 : Int64) (z : mm_S) : Option (Int64 × mm_S) := mm_sL 53 s1 s2 z (fun z1 => mo_works_b150 k14 x2 (x3 + (1 : Int32)) x4 z1)
theorem wk_works_b85 {X : gX} {E : mm_E} {r : Int64 × mm_S} (C : gC X cX6_works 6 (some .long) RX6 2 49) (M : mm_C X E) {k14 : Int32 → Int32 → Int32 → mm_S → Option (Int64 × mm_S)} (hk14 : ∀ (x2 : Int32) (x3 : Int32) (x4 : Int32) (z : mm_S), k14 x2 x3 x4 z = some r → gW X (mm_G E) (.returned (some (.long r.1)), r.2) z 14 [(0, .ref E.2.2.1), (2, .int x2), (3, .int x3), (4, .int x4)] []) (x2 : Int32) (x3 : Int32) (x4 : Int32) (s1 : Int32) (s2 : Int64) (z : mm_S) (h : mo_works_b85 k14 x2 x3 x4 s1 s2 z = some r) : gW X (mm_G E) (.returned (some (.long r.1)), r.2) z 85 [(0, .ref E.2.2.1), (2, .int x2), (3, .int x3), (4, .int x4)] [.long s2, .int s1, .ref (E.2.2.2.1 53)] := by
  unfold mo_works_b85 at h
  refine mm_stL C M 53 (Nat.le_of_ble_eq_true rfl) rfl dX6_works_85 h (fun z1 h => ?_)
  refine g_iinc [(3, .int (x3 + (1 : Int32))), (0, .ref E.2.2.1), (2, .int x2), (4, .int x4)] C dX6_works_86 (j := 2) rfl (gk_inc_1 _) (Nat.le_of_ble_eq_true rfl) rfl ?_
  refine g_goto C dX6_works_89 rfl ?_
  exact g_sub [(0, .ref E.2.2.1), (2, .int x2), (3, .int (x3 + (1 : Int32))), (4, .int x4)] [1, 2, 0, 3] rfl (wk_works_b150 C M hk14 x2 (x3 + (1 : Int32)) x4 z1 h)
def mo_works_b14 : Nat → Int32 → Int32 → Int32 → mm_S → Option (Int64 × mm_S)
  | 0, _, _, _, _ => none
  | n + 1, x2, x3, x4, z => mm_gI 12 z (fun v1 => if (((1800 : Int32) * v1) + x2) ≤ x4 then (mm_lL 53 (0 : Int32) z (fun v2 => some (v2, z))) else (mm_lI 38 x4 z (fun v3 => if (9 : Int32) < v3 then (if v3 = (22 : Int32) then (mm_lL 53 (x3 - (1 : Int32)) z (fun v9 => mm_sL 53 (x3 - (1 : Int32)) ((1 : Int64) - v9) z (fun z10 => mo_works_b150 (mo_works_b14 n) x2 x3 x4 z10))) else (mm_lL 53 ((x3 + (-1 : Int32)) - (1 : Int32)) z (fun v4 => mm_lL 53 (x3 + (-1 : Int32)) z (fun v5 => g_call (mo_made v3 v4 v5 z) (fun v7 z6 => mm_sL 53 ((x3 + (-1 : Int32)) - (1 : Int32)) v7 z6 (fun z8 => mo_works_b150 (mo_works_b14 n) x2 (x3 + (-1 : Int32)) x4 z8)))))) else (if v3 = 0 then (mm_lI 39 x4 z (fun v12 => mo_works_b85 (mo_works_b14 n) x2 x3 x4 x3 (v12).toInt64 z)) else (if v3 = (9 : Int32) then (mo_works_b85 (mo_works_b14 n) x2 x3 x4 x3 (1 : Int64) z) else (mm_lI 54 v3 z (fun v11 => mo_works_b85 (mo_works_b14 n) x2 x3 x4 x3 (v11).toInt64 z)))))))
theorem wk_works_b14 {X : gX} {E : mm_E} {r : Int64 × mm_S} (C : gC X cX6_works 6 (some .long) RX6 2 49) (M : mm_C X E) : ∀ (n : Nat) (x2 : Int32) (x3 : Int32) (x4 : Int32) (z : mm_S), mo_works_b14 n x2 x3 x4 z = some r → gW X (mm_G E) (.returned (some (.long r.1)), r.2) z 14 [(0, .ref E.2.2.1), (2, .int x2), (3, .int x3), (4, .int x4)] [] := by
  intro n
  induction n with
  | zero =>
    intro x2 x3 x4 z h
    have h : (none : Option (Int64 × mm_S)) = some r := h
    cases h
  | succ n ih =>
    intro x2 x3 x4 z h
    rw [mo_works_b14] at h
    refine g_iload C dX6_works_14 3 rfl ?_
    refine g_sipush C dX6_works_16 gk_sipush_1800 ?_
    refine g_aload_n C dX6_works_19 rfl 0 rfl ?_
    refine mm_getI C M 12 (Nat.le_of_ble_eq_true rfl) (Nat.le_of_ble_eq_true rfl) q2015 rfl dX6_works_20 h (fun v1 h => ?_)
    refine g_imul C dX6_works_23 ?_
    refine g_iload_n C dX6_works_24 rfl 1 rfl ?_
    refine g_iadd C dX6_works_25 ?_
    refine g_icmp_ge C dX6_works_26 rfl h (fun h => ?_) (fun h => ?_)
    · refine g_aload_n C dX6_works_156 rfl 0 rfl ?_
      refine mm_getA C M 53 (Nat.le_of_ble_eq_true rfl) (Nat.le_of_ble_eq_true rfl) q2056 rfl dX6_works_157 ?_
      refine g_iconst C dX6_works_160 gk_iconst_0 ?_
      refine mm_ldL C M 53 (Nat.le_of_ble_eq_true rfl) rfl dX6_works_161 h (fun v2 h => ?_)
      exact g_lret C (fun _ => trivial) dX6_works_162 h
    · refine g_aload_n C dX6_works_29 rfl 0 rfl ?_
      refine mm_getA C M 38 (Nat.le_of_ble_eq_true rfl) (Nat.le_of_ble_eq_true rfl) q2041 rfl dX6_works_30 ?_
      refine g_iload C dX6_works_33 3 rfl ?_
      refine mm_ldI C M 38 (Nat.le_of_ble_eq_true rfl) rfl dX6_works_35 h (fun v3 h => ?_)
      refine g_istore [(5, .int v3), (0, .ref E.2.2.1), (2, .int x2), (3, .int x3), (4, .int x4)] C dX6_works_36 (Nat.le_of_ble_eq_true rfl) rfl ?_
      refine g_iload C dX6_works_38 0 rfl ?_
      refine g_bipush C dX6_works_40 gk_bipush_9 ?_
      refine g_icmp_gt C dX6_works_42 rfl h (fun h => ?_) (fun h => ?_)
      · refine g_iload C dX6_works_92 0 rfl ?_
        refine g_bipush C dX6_works_94 gk_bipush_22 ?_
        refine g_icmp_ne C dX6_works_96 rfl h (fun h => ?_) (fun h => ?_)
        · refine g_iinc [(3, .int (x3 + (-1 : Int32))), (5, .int v3), (0, .ref E.2.2.1), (2, .int x2), (4, .int x4)] C dX6_works_120 (j := 3) rfl (gk_inc_m1 _) (Nat.le_of_ble_eq_true rfl) rfl ?_
          refine g_aload_n C dX6_works_123 rfl 2 rfl ?_
          refine mm_getA C M 53 (Nat.le_of_ble_eq_true rfl) (Nat.le_of_ble_eq_true rfl) q2056 rfl dX6_works_124 ?_
          refine g_iload_n C dX6_works_127 rfl 0 rfl ?_
          refine g_iconst C dX6_works_128 gk_iconst_1 ?_
          refine g_isub C dX6_works_129 ?_
          refine g_iload C dX6_works_130 1 rfl ?_
          refine g_aload_n C dX6_works_132 rfl 2 rfl ?_
          refine mm_getA C M 53 (Nat.le_of_ble_eq_true rfl) (Nat.le_of_ble_eq_true rfl) q2056 rfl dX6_works_133 ?_
          refine g_iload_n C dX6_works_136 rfl 0 rfl ?_
          refine g_iconst C dX6_works_137 gk_iconst_1 ?_
          refine g_isub C dX6_works_138 ?_
          refine mm_ldL C M 53 (Nat.le_of_ble_eq_true rfl) rfl dX6_works_139 h (fun v4 h => ?_)
          refine g_aload_n C dX6_works_140 rfl 2 rfl ?_
          refine mm_getA C M 53 (Nat.le_of_ble_eq_true rfl) (Nat.le_of_ble_eq_true rfl) q2056 rfl dX6_works_141 ?_
          refine g_iload_n C dX6_works_144 rfl 0 rfl ?_
          refine mm_ldL C M 53 (Nat.le_of_ble_eq_true rfl) rfl dX6_works_145 h (fun v5 h => ?_)
          obtain ⟨v7, z6, e, h⟩ := g_callE h
          refine mm_callS C M 3 [.int v3, .long v4, .long v5] (st := [.int ((x3 + (-1 : Int32)) - (1 : Int32)), .ref (E.2.2.2.1 53)]) (v := some (.long v7)) (z' := z6) (fun l => ct_made l v3 v4 v5 z v7 z6 e) (lw_S q2466 q2467 q178 q2468) rfl rfl rfl (Nat.le_of_ble_eq_true rfl) (Nat.le_of_ble_eq_true rfl) (Nat.le_of_ble_eq_true rfl) dX6_works_146 ?_
          refine gW_st (st' := [.long v7, .int ((x3 + (-1 : Int32)) - (1 : Int32)), .ref (E.2.2.2.1 53)]) rfl ?_
          refine mm_stL C M 53 (Nat.le_of_ble_eq_true rfl) rfl dX6_works_149 h (fun z8 h => ?_)
          exact g_sub [(0, .ref E.2.2.1), (2, .int x2), (3, .int (x3 + (-1 : Int32))), (4, .int x4)] [2, 3, 0, 4] rfl (wk_works_b150 C M ih x2 (x3 + (-1 : Int32)) x4 z8 h)
        · refine g_aload_n C dX6_works_99 rfl 1 rfl ?_
          refine mm_getA C M 53 (Nat.le_of_ble_eq_true rfl) (Nat.le_of_ble_eq_true rfl) q2056 rfl dX6_works_100 ?_
          refine g_iload_n C dX6_works_103 rfl 3 rfl ?_
          refine g_iconst C dX6_works_104 gk_iconst_1 ?_
          refine g_isub C dX6_works_105 ?_
          refine g_lconst C dX6_works_106 gk_lconst_1 ?_
          refine g_aload_n C dX6_works_107 rfl 1 rfl ?_
          refine mm_getA C M 53 (Nat.le_of_ble_eq_true rfl) (Nat.le_of_ble_eq_true rfl) q2056 rfl dX6_works_108 ?_
          refine g_iload_n C dX6_works_111 rfl 3 rfl ?_
          refine g_iconst C dX6_works_112 gk_iconst_1 ?_
          refine g_isub C dX6_works_113 ?_
          refine mm_ldL C M 53 (Nat.le_of_ble_eq_true rfl) rfl dX6_works_114 h (fun v9 h => ?_)
          refine g_lsub C dX6_works_115 ?_
          refine mm_stL C M 53 (Nat.le_of_ble_eq_true rfl) rfl dX6_works_116 h (fun z10 h => ?_)
          refine g_goto C dX6_works_117 rfl ?_
          exact g_sub [(0, .ref E.2.2.1), (2, .int x2), (3, .int x3), (4, .int x4)] [1, 2, 3, 4] rfl (wk_works_b150 C M ih x2 x3 x4 z10 h)
      · refine g_aload_n C dX6_works_45 rfl 1 rfl ?_
        refine mm_getA C M 53 (Nat.le_of_ble_eq_true rfl) (Nat.le_of_ble_eq_true rfl) q2056 rfl dX6_works_46 ?_
        refine g_iload_n C dX6_works_49 rfl 3 rfl ?_
        refine g_iload C dX6_works_50 0 rfl ?_
        refine g_if_ne C dX6_works_52 rfl h (fun h => ?_) (fun h => ?_)
        · refine g_iload C dX6_works_66 0 rfl ?_
          refine g_bipush C dX6_works_68 gk_bipush_9 ?_
          refine g_icmp_ne C dX6_works_70 rfl h (fun h => ?_) (fun h => ?_)
          · refine g_aload_n C dX6_works_77 rfl 1 rfl ?_
            refine mm_getA C M 54 (Nat.le_of_ble_eq_true rfl) (Nat.le_of_ble_eq_true rfl) q2057 rfl dX6_works_78 ?_
            refine g_iload C dX6_works_81 0 rfl ?_
            refine mm_ldI C M 54 (Nat.le_of_ble_eq_true rfl) rfl dX6_works_83 h (fun v11 h => ?_)
            refine g_i2l C dX6_works_84 ?_
            exact g_sub [(0, .ref E.2.2.1), (2, .int x2), (3, .int x3), (4, .int x4)] [1, 2, 3, 4] rfl (wk_works_b85 C M ih x2 x3 x4 x3 (v11).toInt64 z h)
          · refine g_lconst C dX6_works_73 gk_lconst_1 ?_
            refine g_goto C dX6_works_74 rfl ?_
            exact g_sub [(0, .ref E.2.2.1), (2, .int x2), (3, .int x3), (4, .int x4)] [1, 2, 3, 4] rfl (wk_works_b85 C M ih x2 x3 x4 x3 (1 : Int64) z h)
        · refine g_aload_n C dX6_works_55 rfl 1 rfl ?_
          refine mm_getA C M 39 (Nat.le_of_ble_eq_true rfl) (Nat.le_of_ble_eq_true rfl) q2042 rfl dX6_works_56 ?_
          refine g_iload C dX6_works_59 4 rfl ?_
          refine mm_ldI C M 39 (Nat.le_of_ble_eq_true rfl) rfl dX6_works_61 h (fun v12 h => ?_)
          refine g_i2l C dX6_works_62 ?_
          refine g_goto C dX6_works_63 rfl ?_
          exact g_sub [(0, .ref E.2.2.1), (2, .int x2), (3, .int x3), (4, .int x4)] [1, 2, 3, 4] rfl (wk_works_b85 C M ih x2 x3 x4 x3 (v12).toInt64 z h)
def mo_works (x1 : Int32) (x2 : Int32) (z : mm_S) : Option (Int64 × mm_S) := mm_gI 12 z (fun v1 => mo_works_b14 g_fu x2 (0 : Int32) (((1800 : Int32) * v1) + x1) z)
theorem wk_works {X : gX} {E : mm_E} {r : Int64 × mm_S} (C : gC X cX6_works 6 (some .long) RX6 2 49) (M : mm_C X E) (x1 : Int32) (x2 : Int32) (z : mm_S) (h : mo_works x1 x2 z = some r) : gW X (mm_G E) (.returned (some (.long r.1)), r.2) z 0 [(0, .ref E.2.2.1), (1, .int x1), (2, .int x2)] [] := by
  unfold mo_works at h
  refine g_iconst C dX6_works_0 gk_iconst_0 ?_
  refine g_istore_n [(3, .int (0 : Int32)), (0, .ref E.2.2.1), (1, .int x1), (2, .int x2)] C dX6_works_1 rfl (Nat.le_of_ble_eq_true rfl) rfl ?_
  refine g_sipush C dX6_works_2 gk_sipush_1800 ?_
  refine g_aload_n C dX6_works_5 rfl 1 rfl ?_
  refine mm_getI C M 12 (Nat.le_of_ble_eq_true rfl) (Nat.le_of_ble_eq_true rfl) q2015 rfl dX6_works_6 h (fun v1 h => ?_)
  refine g_imul C dX6_works_9 ?_
  refine g_iload_n C dX6_works_10 rfl 2 rfl ?_
  refine g_iadd C dX6_works_11 ?_
  refine g_istore [(4, .int (((1800 : Int32) * v1) + x1)), (3, .int (0 : Int32)), (0, .ref E.2.2.1), (1, .int x1), (2, .int x2)] C dX6_works_12 (Nat.le_of_ble_eq_true rfl) rfl ?_
  exact g_sub [(0, .ref E.2.2.1), (2, .int x2), (3, .int (0 : Int32)), (4, .int (((1800 : Int32) * v1) + x1))] [2, 4, 1, 0] rfl (wk_works_b14 C M g_fu x2 (0 : Int32) (((1800 : Int32) * v1) + x1) z h)
theorem ct_works (l : Launch) (x1 : Int32) (x2 : Int32) (z : mm_S) (r : Int64) (z' : mm_S) (h : mo_works x1 x2 z = some (r, z')) : mm_MetV l yX6_works cX6_works 6 (some .long) 2 49 [.int x1, .int x2] z (.returned (some (.long r)), z') := by
  intro E hD
  exact mm_enter E hD rfl ⟨_, rfl⟩ (.ref E.2.2.1 :: [.int x1, .int x2]) (Nat.le_of_ble_eq_true rfl) (fun X C M => wk_works C M x1 x2 z h)
