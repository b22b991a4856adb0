set_option maxRecDepth 100000
def mo_refuses (x1 : Int32) (z : mm_S) : Option (Int32 × mm_S) := mm_lI 52 x1 z (fun v1 => mm_sI 52 x1 (v1 + (1 : Int32)) z (fun z2 => some ((-1 : Int32), z2)))
theorem wk_refuses {X : gX} {E : mm_E} {r : Int32 × mm_S} (C : gC X cX6_refuses 2 (some .int) RX6 0 0) (M : mm_C X E) (x1 : Int32) (z : mm_S) (h : mo_refuses x1 z = some r) : gW X (mm_G E) (.returned (some (.int r.1)), r.2) z 0 [(0, .ref E.2.2.1), (1, .int x1)] [] := by
  unfold mo_refuses at h
  refine g_aload_n C dX6_refuses_0 rfl 0 rfl ?_
  refine mm_getA C M 52 (Nat.le_of_ble_eq_true rfl) (Nat.le_of_ble_eq_true rfl) q2055 rfl dX6_refuses_1 ?_
  refine g_iload_n C dX6_refuses_4 rfl 1 rfl ?_
  refine g_dup2_11 C dX6_refuses_5 rfl rfl ?_
  refine mm_ldI C M 52 (Nat.le_of_ble_eq_true rfl) rfl dX6_refuses_6 h (fun v1 h => ?_)
  refine g_iconst C dX6_refuses_7 gk_iconst_1 ?_
  refine g_iadd C dX6_refuses_8 ?_
  refine mm_stI C M 52 (Nat.le_of_ble_eq_true rfl) rfl dX6_refuses_9 h (fun z2 h => ?_)
  refine g_iconst C dX6_refuses_10 gk_iconst_m1 ?_
  exact g_iret C (fun _ => trivial) dX6_refuses_11 h
theorem ct_refuses (l : Launch) (x1 : Int32) (z : mm_S) (r : Int32) (z' : mm_S) (h : mo_refuses x1 z = some (r, z')) : mm_MetV l yX6_refuses cX6_refuses 2 (some .int) 0 0 [.int x1] z (.returned (some (.int r)), z') := by
  intro E hD
  exact mm_enter E hD rfl ⟨_, rfl⟩ (.ref E.2.2.1 :: [.int x1]) (Nat.le_of_ble_eq_true rfl) (fun X C M => wk_refuses C M x1 z h)
def mo_put_b3 : Nat → Int32 → Int32 → mm_S → Option (Unit × mm_S)
  | 0, _, _, _ => none
  | n + 1, x1, x2, z => if x2 < 0 then (some ((), z)) else (mm_gI 1 z (fun v1 => mm_sI 0 v1 ((x1 >>> (x2 &&& 31)) &&& (255 : Int32)) z (fun z2 => mm_gI 1 z2 (fun v3 => mm_pI 1 (v3 + (1 : Int32)) z2 (fun z4 => (mo_put_b3 n) x1 (x2 + (-8 : Int32)) z4)))))
theorem wk_put_b3 {X : gX} {E : mm_E} {r : Unit × mm_S} (C : gC X cX6_put 3 none RX6 0 0) (M : mm_C X E) : ∀ (n : Nat) (x1 : Int32) (x2 : Int32) (z : mm_S), mo_put_b3 n x1 x2 z = some r → gW X (mm_G E) (.returned none, r.2) z 3 [(0, .ref E.2.2.1), (1, .int x1), (2, .int x2)] [] := by
  intro n
  induction n with
  | zero =>
    intro x1 x2 z h
    have h : (none : Option (Unit × mm_S)) = some r := h
    cases h
  | succ n ih =>
    intro x1 x2 z h
    rw [mo_put_b3] at h
    refine g_iload_n C dX6_put_3 rfl 2 rfl ?_
    refine g_if_lt C dX6_put_4 rfl h (fun h => ?_) (fun h => ?_)
    · exact g_vret C (fun _ => trivial) dX6_put_39 h
    · refine g_aload_n C dX6_put_7 rfl 0 rfl ?_
      refine mm_getA C M 0 (Nat.le_of_ble_eq_true rfl) (Nat.le_of_ble_eq_true rfl) q2003 rfl dX6_put_8 ?_
      refine g_aload_n C dX6_put_11 rfl 0 rfl ?_
      refine mm_getI C M 1 (Nat.le_of_ble_eq_true rfl) (Nat.le_of_ble_eq_true rfl) q2004 rfl dX6_put_12 h (fun v1 h => ?_)
      refine g_iload_n C dX6_put_15 rfl 1 rfl ?_
      refine g_iload_n C dX6_put_16 rfl 2 rfl ?_
      refine g_ishr C dX6_put_17 ?_
      refine g_sipush C dX6_put_18 gk_sipush_255 ?_
      refine g_iand C dX6_put_21 ?_
      refine mm_stI C M 0 (Nat.le_of_ble_eq_true rfl) rfl dX6_put_22 h (fun z2 h => ?_)
      refine g_aload_n C dX6_put_23 rfl 0 rfl ?_
      refine g_dup C dX6_put_24 rfl ?_
      refine mm_getI C M 1 (Nat.le_of_ble_eq_true rfl) (Nat.le_of_ble_eq_true rfl) q2004 rfl dX6_put_25 h (fun v3 h => ?_)
      refine g_iconst C dX6_put_28 gk_iconst_1 ?_
      refine g_iadd C dX6_put_29 ?_
      refine mm_putI C M 1 (Nat.le_of_ble_eq_true rfl) (Nat.le_of_ble_eq_true rfl) q2004 rfl rfl rfl dX6_put_30 h (fun z4 h => ?_)
      refine g_iinc [(2, .int (x2 + (-8 : Int32))), (0, .ref E.2.2.1), (1, .int x1)] C dX6_put_33 (j := 2) rfl (gk_inc_m8 _) (Nat.le_of_ble_eq_true rfl) rfl ?_
      refine g_goto C dX6_put_36 rfl ?_
      exact g_sub [(0, .ref E.2.2.1), (1, .int x1), (2, .int (x2 + (-8 : Int32)))] [1, 2, 0] rfl (ih x1 (x2 + (-8 : Int32)) z4 h)
def mo_put (x1 : Int32) (z : mm_S) : Option (Unit × mm_S) := mo_put_b3 g_fu x1 (24 : Int32) z
theorem wk_put {X : gX} {E : mm_E} {r : Unit × mm_S} (C : gC X cX6_put 3 none RX6 0 0) (M : mm_C X E) (x1 : Int32) (z : mm_S) (h : mo_put x1 z = some r) : gW X (mm_G E) (.returned none, r.2) z 0 [(0, .ref E.2.2.1), (1, .int x1)] [] := by
  unfold mo_put at h
  refine g_bipush C dX6_put_0 gk_bipush_24 ?_
  refine g_istore_n [(2, .int (24 : Int32)), (0, .ref E.2.2.1), (1, .int x1)] C dX6_put_2 rfl (Nat.le_of_ble_eq_true rfl) rfl ?_
  exact g_sub [(0, .ref E.2.2.1), (1, .int x1), (2, .int (24 : Int32))] [1, 2, 0] rfl (wk_put_b3 C M g_fu x1 (24 : Int32) z h)
theorem ct_put (l : Launch) (x1 : Int32) (z : mm_S) (r : Unit) (z' : mm_S) (h : mo_put x1 z = some (r, z')) : mm_MetV l yX6_put cX6_put 3 none 0 0 [.int x1] z (.returned none, z') := by
  intro E hD
  exact mm_enter E hD rfl ⟨_, rfl⟩ (.ref E.2.2.1 :: [.int x1]) (Nat.le_of_ble_eq_true rfl) (fun X C M => wk_put C M x1 z h)
def mo_feed (x1 : Int32) (x2 : Int32) (x3 : Int32) (x4 : Int32) (x5 : Int32) (z : mm_S) : Option (Int32 × mm_S) := mm_gI 1 z (fun v1 => if (v1 + (20 : Int32)) ≤ (1800 : Int32) then (g_call (mo_put x1 z) (fun _ z2 => g_call (mo_put x2 z2) (fun _ z4 => g_call (mo_put x3 z4) (fun _ z6 => g_call (mo_put x4 z6) (fun _ z8 => g_call (mo_put x5 z8) (fun _ z10 => mm_gI 1 z10 (fun v12 => some (v12, z10)))))))) else (g_call (mo_refuses (0 : Int32) z) (fun v14 z13 => some (v14, z13))))
theorem wk_feed {X : gX} {E : mm_E} {r : Int32 × mm_S} (C : gC X cX6_feed 6 (some .int) RX6 1 22) (M : mm_C X E) (x1 : Int32) (x2 : Int32) (x3 : Int32) (x4 : Int32) (x5 : Int32) (z : mm_S) (h : mo_feed x1 x2 x3 x4 x5 z = some r) : gW X (mm_G E) (.returned (some (.int r.1)), r.2) z 0 [(0, .ref E.2.2.1), (1, .int x1), (2, .int x2), (3, .int x3), (4, .int x4), (5, .int x5)] [] := by
  unfold mo_feed at h
  refine g_aload_n C dX6_feed_0 rfl 0 rfl ?_
  refine mm_getI C M 1 (Nat.le_of_ble_eq_true rfl) (Nat.le_of_ble_eq_true rfl) q2004 rfl dX6_feed_1 h (fun v1 h => ?_)
  refine g_bipush C dX6_feed_4 gk_bipush_20 ?_
  refine g_iadd C dX6_feed_6 ?_
  refine g_sipush C dX6_feed_7 gk_sipush_1800 ?_
  refine g_icmp_le C dX6_feed_10 rfl h (fun h => ?_) (fun h => ?_)
  · refine g_aload_n C dX6_feed_19 rfl 0 rfl ?_
    refine g_iload_n C dX6_feed_20 rfl 1 rfl ?_
    obtain ⟨u3, z2, e, h⟩ := g_callE h
    refine mm_callV C M 1 [.int x1] (st := []) (v := none) (z' := z2) (fun l => ct_put l x1 z u3 z2 e) (lw_V q2262 q2264 qs84 q178 q2265) rfl rfl rfl (Nat.le_of_ble_eq_true rfl) (Nat.le_of_ble_eq_true rfl) (Nat.le_of_ble_eq_true rfl) dX6_feed_21 ?_
    refine gW_st (st' := []) rfl ?_
    refine g_aload_n C dX6_feed_24 rfl 0 rfl ?_
    refine g_iload_n C dX6_feed_25 rfl 2 rfl ?_
    obtain ⟨u5, z4, e, h⟩ := g_callE h
    refine mm_callV C M 1 [.int x2] (st := []) (v := none) (z' := z4) (fun l => ct_put l x2 z2 u5 z4 e) (lw_V q2262 q2264 qs84 q178 q2265) rfl rfl rfl (Nat.le_of_ble_eq_true rfl) (Nat.le_of_ble_eq_true rfl) (Nat.le_of_ble_eq_true rfl) dX6_feed_26 ?_
    refine gW_st (st' := []) rfl ?_
    refine g_aload_n C dX6_feed_29 rfl 0 rfl ?_
    refine g_iload_n C dX6_feed_30 rfl 3 rfl ?_
    obtain ⟨u7, z6, e, h⟩ := g_callE h
    refine mm_callV C M 1 [.int x3] (st := []) (v := none) (z' := z6) (fun l => ct_put l x3 z4 u7 z6 e) (lw_V q2262 q2264 qs84 q178 q2265) rfl rfl rfl (Nat.le_of_ble_eq_true rfl) (Nat.le_of_ble_eq_true rfl) (Nat.le_of_ble_eq_true rfl) dX6_feed_31 ?_
    refine gW_st (st' := []) rfl ?_
    refine g_aload_n C dX6_feed_34 rfl 0 rfl ?_
    refine g_iload C dX6_feed_35 4 rfl ?_
    obtain ⟨u9, z8, e, h⟩ := g_callE h
    refine mm_callV C M 1 [.int x4] (st := []) (v := none) (z' := z8) (fun l => ct_put l x4 z6 u9 z8 e) (lw_V q2262 q2264 qs84 q178 q2265) rfl rfl rfl (Nat.le_of_ble_eq_true rfl) (Nat.le_of_ble_eq_true rfl) (Nat.le_of_ble_eq_true rfl) dX6_feed_37 ?_
    refine gW_st (st' := []) rfl ?_
    refine g_aload_n C dX6_feed_40 rfl 0 rfl ?_
    refine g_iload C dX6_feed_41 5 rfl ?_
    obtain ⟨u11, z10, e, h⟩ := g_callE h
    refine mm_callV C M 1 [.int x5] (st := []) (v := none) (z' := z10) (fun l => ct_put l x5 z8 u11 z10 e) (lw_V q2262 q2264 qs84 q178 q2265) rfl rfl rfl (Nat.le_of_ble_eq_true rfl) (Nat.le_of_ble_eq_true rfl) (Nat.le_of_ble_eq_true rfl) dX6_feed_43 ?_
    refine gW_st (st' := []) rfl ?_
    refine g_aload_n C dX6_feed_46 rfl 0 rfl ?_
    refine mm_getI C M 1 (Nat.le_of_ble_eq_true rfl) (Nat.le_of_ble_eq_true rfl) q2004 rfl dX6_feed_47 h (fun v12 h => ?_)
    exact g_iret C (fun _ => trivial) dX6_feed_50 h
  · refine g_aload_n C dX6_feed_13 rfl 0 rfl ?_
    refine g_iconst C dX6_feed_14 gk_iconst_0 ?_
    obtain ⟨v14, z13, e, h⟩ := g_callE h
    refine mm_callV C M 1 [.int (0 : Int32)] (st := []) (v := some (.int v14)) (z' := z13) (fun l => ct_refuses l (0 : Int32) z v14 z13 e) (lw_V q2258 q2260 qs83 q178 q2261) rfl rfl rfl (Nat.le_of_ble_eq_true rfl) (Nat.le_of_ble_eq_true rfl) (Nat.le_of_ble_eq_true rfl) dX6_feed_15 ?_
    refine gW_st (st' := [.int v14]) rfl ?_
    exact g_iret C (fun _ => trivial) dX6_feed_18 h
theorem ct_feed (l : Launch) (x1 : Int32) (x2 : Int32) (x3 : Int32) (x4 : Int32) (x5 : Int32) (z : mm_S) (r : Int32) (z' : mm_S) (h : mo_feed x1 x2 x3 x4 x5 z = some (r, z')) : mm_MetV l yX6_feed cX6_feed 6 (some .int) 1 22 [.int x1, .int x2, .int x3, .int x4, .int x5] z (.returned (some (.int r)), z') := by
  intro E hD
  exact mm_enter E hD rfl ⟨_, rfl⟩ (.ref E.2.2.1 :: [.int x1, .int x2, .int x3, .int x4, .int x5]) (Nat.le_of_ble_eq_true rfl) (fun X C M => wk_feed C M x1 x2 x3 x4 x5 z h)
def mo_end_b12 (z : mm_S) : Option (Int32 × mm_S) := g_call (mo_refuses (0 : Int32) z) (fun v2 z1 => if v2 < 0 then (some ((0 : Int32), z1)) else (some ((1 : Int32), z1)))
theorem wk_end_b12 {X : gX} {E : mm_E} {r : Int32 × mm_S} (C : gC X cX6_end 2 (some .boolean) RX6 1 21) (M : mm_C X E) (z : mm_S) (h : mo_end_b12 z = some r) : gW X (mm_G E) (.returned (some (.int r.1)), r.2) z 12 [(0, .ref E.2.2.1)] [] := by
  unfold mo_end_b12 at h
  refine g_aload_n C dX6_end_12 rfl 0 rfl ?_
  refine g_iconst C dX6_end_13 gk_iconst_0 ?_
  obtain ⟨v2, z1, e, h⟩ := g_callE h
  refine mm_callV C M 1 [.int (0 : Int32)] (st := []) (v := some (.int v2)) (z' := z1) (fun l => ct_refuses l (0 : Int32) z v2 z1 e) (lw_V q2258 q2260 qs83 q178 q2261) rfl rfl rfl (Nat.le_of_ble_eq_true rfl) (Nat.le_of_ble_eq_true rfl) (Nat.le_of_ble_eq_true rfl) dX6_end_14 ?_
  refine gW_st (st' := [.int v2]) rfl ?_
  refine g_if_lt C dX6_end_17 rfl h (fun h => ?_) (fun h => ?_)
  · refine g_iconst C dX6_end_24 gk_iconst_0 ?_
    exact g_zretc C (fun _ => trivial) dX6_end_25 (Or.inl rfl) h
  · refine g_iconst C dX6_end_20 gk_iconst_1 ?_
    refine g_goto C dX6_end_21 rfl ?_
    exact g_zretc C (fun _ => trivial) dX6_end_25 (Or.inr rfl) h
def mo_end (x1 : Int32) (z : mm_S) : Option (Int32 × mm_S) := if x1 < 0 then (mo_end_b12 z) else (mm_gI 1 z (fun v1 => if x1 ≤ v1 then (mm_pI 1 x1 z (fun z2 => some ((1 : Int32), z2))) else (mo_end_b12 z)))
theorem wk_end {X : gX} {E : mm_E} {r : Int32 × mm_S} (C : gC X cX6_end 2 (some .boolean) RX6 1 21) (M : mm_C X E) (x1 : Int32) (z : mm_S) (h : mo_end x1 z = some r) : gW X (mm_G E) (.returned (some (.int r.1)), r.2) z 0 [(0, .ref E.2.2.1), (1, .int x1)] [] := by
  unfold mo_end at h
  refine g_iload_n C dX6_end_0 rfl 1 rfl ?_
  refine g_if_lt C dX6_end_1 rfl h (fun h => ?_) (fun h => ?_)
  · exact g_sub [(0, .ref E.2.2.1)] [0] rfl (wk_end_b12 C M z h)
  · refine g_iload_n C dX6_end_4 rfl 1 rfl ?_
    refine g_aload_n C dX6_end_5 rfl 0 rfl ?_
    refine mm_getI C M 1 (Nat.le_of_ble_eq_true rfl) (Nat.le_of_ble_eq_true rfl) q2004 rfl dX6_end_6 h (fun v1 h => ?_)
    refine g_icmp_le C dX6_end_9 rfl h (fun h => ?_) (fun h => ?_)
    · refine g_aload_n C dX6_end_26 rfl 0 rfl ?_
      refine g_iload_n C dX6_end_27 rfl 1 rfl ?_
      refine mm_putI C M 1 (Nat.le_of_ble_eq_true rfl) (Nat.le_of_ble_eq_true rfl) q2004 rfl rfl rfl dX6_end_28 h (fun z2 h => ?_)
      refine g_iconst C dX6_end_31 gk_iconst_1 ?_
      exact g_zretc C (fun _ => trivial) dX6_end_32 (Or.inr rfl) h
    · exact g_sub [(0, .ref E.2.2.1)] [0] rfl (wk_end_b12 C M z h)
theorem ct_end (l : Launch) (x1 : Int32) (z : mm_S) (r : Int32) (z' : mm_S) (h : mo_end x1 z = some (r, z')) : mm_MetV l yX6_end cX6_end 2 (some .boolean) 1 21 [.int x1] z (.returned (some (.int r)), z') := by
  intro E hD
  exact mm_enter E hD rfl ⟨_, rfl⟩ (.ref E.2.2.1 :: [.int x1]) (Nat.le_of_ble_eq_true rfl) (fun X C M => wk_end C M x1 z h)
def mo_isLetter (x0 : Int32) (z : mm_S) : Option (Int32 × mm_S) := if x0 < (97 : Int32) then (some ((0 : Int32), z)) else (if (122 : Int32) < x0 then (some ((0 : Int32), z)) else (some ((1 : Int32), z)))
theorem wk_isLetter {X : gX} {E : mm_E} {r : Int32 × mm_S} (C : gC X cX6_isLetter 1 (some .boolean) RX6 0 0) (M : mm_C X E) (x0 : Int32) (z : mm_S) (h : mo_isLetter x0 z = some r) : gW X (mm_G E) (.returned (some (.int r.1)), r.2) z 0 [(0, .int x0)] [] := by
  unfold mo_isLetter at h
  refine g_iload_n C dX6_isLetter_0 rfl 0 rfl ?_
  refine g_bipush C dX6_isLetter_1 gk_bipush_97 ?_
  refine g_icmp_lt C dX6_isLetter_3 rfl h (fun h => ?_) (fun h => ?_)
  · refine g_iconst C dX6_isLetter_16 gk_iconst_0 ?_
    exact g_zretc C (fun _ => trivial) dX6_isLetter_17 (Or.inl rfl) h
  · refine g_iload_n C dX6_isLetter_6 rfl 0 rfl ?_
    refine g_bipush C dX6_isLetter_7 gk_bipush_122 ?_
    refine g_icmp_gt C dX6_isLetter_9 rfl h (fun h => ?_) (fun h => ?_)
    · refine g_iconst C dX6_isLetter_16 gk_iconst_0 ?_
      exact g_zretc C (fun _ => trivial) dX6_isLetter_17 (Or.inl rfl) h
    · refine g_iconst C dX6_isLetter_12 gk_iconst_1 ?_
      refine g_goto C dX6_isLetter_13 rfl ?_
      exact g_zretc C (fun _ => trivial) dX6_isLetter_17 (Or.inr rfl) h
theorem ct_isLetter (l : Launch) (x0 : Int32) (z : mm_S) (r : Int32) (z' : mm_S) (h : mo_isLetter x0 z = some (r, z')) : mm_MetS l yX6_isLetter cX6_isLetter 1 (some .boolean) 0 0 [.int x0] z (.returned (some (.int r)), z') := by
  intro E hD
  exact mm_enter E hD rfl ⟨_, rfl⟩ [.int x0] (Nat.le_of_ble_eq_true rfl) (fun X C M => wk_isLetter C M x0 z h)
def mo_isDigit (x0 : Int32) (z : mm_S) : Option (Int32 × mm_S) := if x0 < (48 : Int32) then (some ((0 : Int32), z)) else (if (57 : Int32) < x0 then (some ((0 : Int32), z)) else (some ((1 : Int32), z)))
theorem wk_isDigit {X : gX} {E : mm_E} {r : Int32 × mm_S} (C : gC X cX6_isDigit 1 (some .boolean) RX6 0 0) (M : mm_C X E) (x0 : Int32) (z : mm_S) (h : mo_isDigit x0 z = some r) : gW X (mm_G E) (.returned (some (.int r.1)), r.2) z 0 [(0, .int x0)] [] := by
  unfold mo_isDigit at h
  refine g_iload_n C dX6_isDigit_0 rfl 0 rfl ?_
  refine g_bipush C dX6_isDigit_1 gk_bipush_48 ?_
  refine g_icmp_lt C dX6_isDigit_3 rfl h (fun h => ?_) (fun h => ?_)
  · refine g_iconst C dX6_isDigit_16 gk_iconst_0 ?_
    exact g_zretc C (fun _ => trivial) dX6_isDigit_17 (Or.inl rfl) h
  · refine g_iload_n C dX6_isDigit_6 rfl 0 rfl ?_
    refine g_bipush C dX6_isDigit_7 gk_bipush_57 ?_
    refine g_icmp_gt C dX6_isDigit_9 rfl h (fun h => ?_) (fun h => ?_)
    · refine g_iconst C dX6_isDigit_16 gk_iconst_0 ?_
      exact g_zretc C (fun _ => trivial) dX6_isDigit_17 (Or.inl rfl) h
    · refine g_iconst C dX6_isDigit_12 gk_iconst_1 ?_
      refine g_goto C dX6_isDigit_13 rfl ?_
      exact g_zretc C (fun _ => trivial) dX6_isDigit_17 (Or.inr rfl) h
theorem ct_isDigit (l : Launch) (x0 : Int32) (z : mm_S) (r : Int32) (z' : mm_S) (h : mo_isDigit x0 z = some (r, z')) : mm_MetS l yX6_isDigit cX6_isDigit 1 (some .boolean) 0 0 [.int x0] z (.returned (some (.int r)), z') := by
  intro E hD
  exact mm_enter E hD rfl ⟨_, rfl⟩ [.int x0] (Nat.le_of_ble_eq_true rfl) (fun X C M => wk_isDigit C M x0 z h)
def mo_blame (x1 : Int32) (x2 : Int32) (z : mm_S) : Option (Unit × mm_S) := mm_gI 8 z (fun v1 => if v1 ≤ 0 then (mm_pI 8 x1 z (fun z2 => mm_pI 9 x2 z2 (fun z3 => some ((), z3)))) else (some ((), z)))
theorem wk_blame {X : gX} {E : mm_E} {r : Unit × mm_S} (C : gC X cX6_blame 3 none RX6 0 0) (M : mm_C X E) (x1 : Int32) (x2 : Int32) (z : mm_S) (h : mo_blame x1 x2 z = some r) : gW X (mm_G E) (.returned none, r.2) z 0 [(0, .ref E.2.2.1), (1, .int x1), (2, .int x2)] [] := by
  unfold mo_blame at h
  refine g_aload_n C dX6_blame_0 rfl 0 rfl ?_
  refine mm_getI C M 8 (Nat.le_of_ble_eq_true rfl) (Nat.le_of_ble_eq_true rfl) q2011 rfl dX6_blame_1 h (fun v1 h => ?_)
  refine g_if_le C dX6_blame_4 rfl h (fun h => ?_) (fun h => ?_)
  · refine g_aload_n C dX6_blame_8 rfl 0 rfl ?_
    refine g_iload_n C dX6_blame_9 rfl 1 rfl ?_
    refine mm_putI C M 8 (Nat.le_of_ble_eq_true rfl) (Nat.le_of_ble_eq_true rfl) q2011 rfl rfl rfl dX6_blame_10 h (fun z2 h => ?_)
    refine g_aload_n C dX6_blame_13 rfl 0 rfl ?_
    refine g_iload_n C dX6_blame_14 rfl 2 rfl ?_
    refine mm_putI C M 9 (Nat.le_of_ble_eq_true rfl) (Nat.le_of_ble_eq_true rfl) q2012 rfl rfl rfl dX6_blame_15 h (fun z3 h => ?_)
    exact g_vret C (fun _ => trivial) dX6_blame_18 h
  · exact g_vret C (fun _ => trivial) dX6_blame_7 h
theorem ct_blame (l : Launch) (x1 : Int32) (x2 : Int32) (z : mm_S) (r : Unit) (z' : mm_S) (h : mo_blame x1 x2 z = some (r, z')) : mm_MetV l yX6_blame cX6_blame 3 none 0 0 [.int x1, .int x2] z (.returned none, z') := by
  intro E hD
  exact mm_enter E hD rfl ⟨_, rfl⟩ (.ref E.2.2.1 :: [.int x1, .int x2]) (Nat.le_of_ble_eq_true rfl) (fun X C M => wk_blame C M x1 x2 z h)
def mo_ahead_b323 (x1 : Int32) (z : mm_S) : Option (Unit × mm_S) := mm_pI 5 x1 z (fun z1 => some ((), z1))
theorem wk_ahead_b323 {X : gX} {E : mm_E} {r : Unit × mm_S} (C : gC X cX6_ahead 6 none RX6 1 22) (M : mm_C X E) (x1 : Int32) (z : mm_S) (h : mo_ahead_b323 x1 z = some r) : gW X (mm_G E) (.returned none, r.2) z 323 [(0, .ref E.2.2.1), (1, .int x1)] [] := by
  unfold mo_ahead_b323 at h
  refine g_aload_n C dX6_ahead_323 rfl 0 rfl ?_
  refine g_iload_n C dX6_ahead_324 rfl 1 rfl ?_
  refine mm_putI C M 5 (Nat.le_of_ble_eq_true rfl) (Nat.le_of_ble_eq_true rfl) q2008 rfl rfl rfl dX6_ahead_325 h (fun z1 h => ?_)
  exact g_vret C (fun _ => trivial) dX6_ahead_328 h
def mo_ahead_b314 (k200 : Int32 → Int32 → Int32 → Int32 → Int32 → mm_S → Option (Unit × mm_S)) (x1 : Int32) (x2 : Int32) (x3 : Int32) (x4 : Int32) (x5 : Int32) (z : mm_S) : Option (Unit × mm_S) := k200 (x1 + (1 : Int32)) x2 x3 x4 (x5 + (1 : Int32)) z
theorem wk_ahead_b314 {X : gX} {E : mm_E} {r : Unit × mm_S} (C : gC X cX6_ahead 6 none RX6 1 22) (M : mm_C X E) {k200 : Int32 → Int32 → Int32 → Int32 → Int32 → mm_S → Option (Unit × mm_S)} (hk200 : ∀ (x1 : Int32) (x2 : Int32) (x3 : Int32) (x4 : Int32) (x5 : Int32) (z : mm_S), k200 x1 x2 x3 x4 x5 z = some r → gW X (mm_G E) (.returned none, r.2) z 200 [(0, .ref E.2.2.1), (1, .int x1), (2, .int x2), (3, .int x3), (4, .int x4), (5, .int x5)] []) (x1 : Int32) (x2 : Int32) (x3 : Int32) (x4 : Int32) (x5 : Int32) (z : mm_S) (h : mo_ahead_b314 k200 x1 x2 x3 x4 x5 z = some r) : gW X (mm_G E) (.returned none, r.2) z 314 [(0, .ref E.2.2.1), (1, .int x1), (2, .int x2), (3, .int x3), (4, .int x4), (5, .int x5)] [] := by
  unfold mo_ahead_b314 at h
  refine g_iinc [(5, .int (x5 + (1 : Int32))), (0, .ref E.2.2.1), (1, .int x1), (2, .int x2), (3, .int x3), (4, .int x4)] C dX6_ahead_314 (j := 5) rfl (gk_inc_1 _) (Nat.le_of_ble_eq_true rfl) rfl ?_
  refine g_iinc [(1, .int (x1 + (1 : Int32))), (5, .int (x5 + (1 : Int32))), (0, .ref E.2.2.1), (2, .int x2), (3, .int x3), (4, .int x4)] C dX6_ahead_317 (j := 2) rfl (gk_inc_1 _) (Nat.le_of_ble_eq_true rfl) rfl ?_
  refine g_goto C dX6_ahead_320 rfl ?_
  exact g_sub [(0, .ref E.2.2.1), (1, .int (x1 + (1 : Int32))), (2, .int x2), (3, .int x3), (4, .int x4), (5, .int (x5 + (1 : Int32)))] [2, 0, 3, 4, 5, 1] rfl (hk200 (x1 + (1 : Int32)) x2 x3 x4 (x5 + (1 : Int32)) z h)
def mo_ahead_b282 (k200 : Int32 → Int32 → Int32 → Int32 → Int32 → mm_S → Option (Unit × mm_S)) (x1 : Int32) (x2 : Int32) (x3 : Int32) (x4 : Int32) (x5 : Int32) (z : mm_S) : Option (Unit × mm_S) := if x4 ≤ x5 then (mo_ahead_b314 k200 x1 x2 x3 x4 x5 z) else (if x3 = 0 then (mo_ahead_b314 k200 x1 x2 x3 x4 x5 z) else (mm_gI 6 z (fun v1 => mm_lI 0 x1 z (fun v2 => mm_pI 6 ((((10 : Int32) * v1) + v2) - (48 : Int32)) z (fun z3 => mo_ahead_b314 k200 x1 x2 x3 x4 x5 z3)))))
theorem wk_ahead_b282 {X : gX} {E : mm_E} {r : Unit × mm_S} (C : gC X cX6_ahead 6 none RX6 1 22) (M : mm_C X E) {k200 : Int32 → Int32 → Int32 → Int32 → Int32 → mm_S → Option (Unit × mm_S)} (hk200 : ∀ (x1 : Int32) (x2 : Int32) (x3 : Int32) (x4 : Int32) (x5 : Int32) (z : mm_S), k200 x1 x2 x3 x4 x5 z = some r → gW X (mm_G E) (.returned none, r.2) z 200 [(0, .ref E.2.2.1), (1, .int x1), (2, .int x2), (3, .int x3), (4, .int x4), (5, .int x5)] []) (x1 : Int32) (x2 : Int32) (x3 : Int32) (x4 : Int32) (x5 : Int32) (z : mm_S) (h : mo_ahead_b282 k200 x1 x2 x3 x4 x5 z = some r) : gW X (mm_G E) (.returned none, r.2) z 282 [(0, .ref E.2.2.1), (1, .int x1), (2, .int x2), (3, .int x3), (4, .int x4), (5, .int x5)] [] := by
  unfold mo_ahead_b282 at h
  refine g_iload C dX6_ahead_282 5 rfl ?_
  refine g_iload C dX6_ahead_284 4 rfl ?_
  refine g_icmp_ge C dX6_ahead_286 rfl h (fun h => ?_) (fun h => ?_)
  · exact wk_ahead_b314 C M hk200 x1 x2 x3 x4 x5 z h
  · refine g_iload_n C dX6_ahead_289 rfl 3 rfl ?_
    refine g_if_eq C dX6_ahead_290 rfl h (fun h => ?_) (fun h => ?_)
    · exact wk_ahead_b314 C M hk200 x1 x2 x3 x4 x5 z h
    · refine g_aload_n C dX6_ahead_293 rfl 0 rfl ?_
      refine g_bipush C dX6_ahead_294 gk_bipush_10 ?_
      refine g_aload_n C dX6_ahead_296 rfl 0 rfl ?_
      refine mm_getI C M 6 (Nat.le_of_ble_eq_true rfl) (Nat.le_of_ble_eq_true rfl) q2009 rfl dX6_ahead_297 h (fun v1 h => ?_)
      refine g_imul C dX6_ahead_300 ?_
      refine g_aload_n C dX6_ahead_301 rfl 0 rfl ?_
      refine mm_getA C M 0 (Nat.le_of_ble_eq_true rfl) (Nat.le_of_ble_eq_true rfl) q2003 rfl dX6_ahead_302 ?_
      refine g_iload_n C dX6_ahead_305 rfl 1 rfl ?_
      refine mm_ldI C M 0 (Nat.le_of_ble_eq_true rfl) rfl dX6_ahead_306 h (fun v2 h => ?_)
      refine g_iadd C dX6_ahead_307 ?_
      refine g_bipush C dX6_ahead_308 gk_bipush_48 ?_
      refine g_isub C dX6_ahead_310 ?_
      refine mm_putI C M 6 (Nat.le_of_ble_eq_true rfl) (Nat.le_of_ble_eq_true rfl) q2009 rfl rfl rfl dX6_ahead_311 h (fun z3 h => ?_)
      exact wk_ahead_b314 C M hk200 x1 x2 x3 x4 x5 z3 h
def mo_ahead_b252 (k200 : Int32 → Int32 → Int32 → Int32 → Int32 → mm_S → Option (Unit × mm_S)) (x1 : Int32) (x2 : Int32) (x3 : Int32) (x4 : Int32) (x5 : Int32) (z : mm_S) : Option (Unit × mm_S) := if x4 ≤ x5 then (mo_ahead_b282 k200 x1 x2 x3 x4 x5 z) else (if x2 = 0 then (mo_ahead_b282 k200 x1 x2 x3 x4 x5 z) else (mm_gJ z (fun v1 => mm_lI 0 x1 z (fun v2 => mm_pJ ((v1 <<< (((8 : Int32)).toInt64 &&& 63)) ||| (v2).toInt64) z (fun z3 => mo_ahead_b282 k200 x1 x2 x3 x4 x5 z3)))))
theorem wk_ahead_b252 {X : gX} {E : mm_E} {r : Unit × mm_S} (C : gC X cX6_ahead 6 none RX6 1 22) (M : mm_C X E) {k200 : Int32 → Int32 → Int32 → Int32 → Int32 → mm_S → Option (Unit × mm_S)} (hk200 : ∀ (x1 : Int32) (x2 : Int32) (x3 : Int32) (x4 : Int32) (x5 : Int32) (z : mm_S), k200 x1 x2 x3 x4 x5 z = some r → gW X (mm_G E) (.returned none, r.2) z 200 [(0, .ref E.2.2.1), (1, .int x1), (2, .int x2), (3, .int x3), (4, .int x4), (5, .int x5)] []) (x1 : Int32) (x2 : Int32) (x3 : Int32) (x4 : Int32) (x5 : Int32) (z : mm_S) (h : mo_ahead_b252 k200 x1 x2 x3 x4 x5 z = some r) : gW X (mm_G E) (.returned none, r.2) z 252 [(0, .ref E.2.2.1), (1, .int x1), (2, .int x2), (3, .int x3), (4, .int x4), (5, .int x5)] [] := by
  unfold mo_ahead_b252 at h
  refine g_iload C dX6_ahead_252 5 rfl ?_
  refine g_iload C dX6_ahead_254 4 rfl ?_
  refine g_icmp_ge C dX6_ahead_256 rfl h (fun h => ?_) (fun h => ?_)
  · exact wk_ahead_b282 C M hk200 x1 x2 x3 x4 x5 z h
  · refine g_iload_n C dX6_ahead_259 rfl 2 rfl ?_
    refine g_if_eq C dX6_ahead_260 rfl h (fun h => ?_) (fun h => ?_)
    · exact wk_ahead_b282 C M hk200 x1 x2 x3 x4 x5 z h
    · refine g_aload_n C dX6_ahead_263 rfl 0 rfl ?_
      refine g_aload_n C dX6_ahead_264 rfl 0 rfl ?_
      refine mm_getJ C M q2010 dX6_ahead_265 h (fun v1 h => ?_)
      refine g_bipush C dX6_ahead_268 gk_bipush_8 ?_
      refine g_lshl C dX6_ahead_270 ?_
      refine g_aload_n C dX6_ahead_271 rfl 0 rfl ?_
      refine mm_getA C M 0 (Nat.le_of_ble_eq_true rfl) (Nat.le_of_ble_eq_true rfl) q2003 rfl dX6_ahead_272 ?_
      refine g_iload_n C dX6_ahead_275 rfl 1 rfl ?_
      refine mm_ldI C M 0 (Nat.le_of_ble_eq_true rfl) rfl dX6_ahead_276 h (fun v2 h => ?_)
      refine g_i2l C dX6_ahead_277 ?_
      refine g_lor C dX6_ahead_278 ?_
      refine mm_putJ C M q2010 dX6_ahead_279 h (fun z3 h => ?_)
      exact wk_ahead_b282 C M hk200 x1 x2 x3 x4 x5 z3 h
def mo_ahead_b239 (k200 : Int32 → Int32 → Int32 → Int32 → Int32 → mm_S → Option (Unit × mm_S)) (x1 : Int32) (x2 : Int32) (x3 : Int32) (x4 : Int32) (x5 : Int32) (z : mm_S) : Option (Unit × mm_S) := if x5 = x4 then (g_call (mo_blame (1 : Int32) x1 z) (fun _ z1 => mo_ahead_b252 k200 x1 x2 x3 x4 x5 z1)) else (mo_ahead_b252 k200 x1 x2 x3 x4 x5 z)
theorem wk_ahead_b239 {X : gX} {E : mm_E} {r : Unit × mm_S} (C : gC X cX6_ahead 6 none RX6 1 22) (M : mm_C X E) {k200 : Int32 → Int32 → Int32 → Int32 → Int32 → mm_S → Option (Unit × mm_S)} (hk200 : ∀ (x1 : Int32) (x2 : Int32) (x3 : Int32) (x4 : Int32) (x5 : Int32) (z : mm_S), k200 x1 x2 x3 x4 x5 z = some r → gW X (mm_G E) (.returned none, r.2) z 200 [(0, .ref E.2.2.1), (1, .int x1), (2, .int x2), (3, .int x3), (4, .int x4), (5, .int x5)] []) (x1 : Int32) (x2 : Int32) (x3 : Int32) (x4 : Int32) (x5 : Int32) (z : mm_S) (h : mo_ahead_b239 k200 x1 x2 x3 x4 x5 z = some r) : gW X (mm_G E) (.returned none, r.2) z 239 [(0, .ref E.2.2.1), (1, .int x1), (2, .int x2), (3, .int x3), (4, .int x4), (5, .int x5)] [] := by
  unfold mo_ahead_b239 at h
  refine g_iload C dX6_ahead_239 5 rfl ?_
  refine g_iload C dX6_ahead_241 4 rfl ?_
  refine g_icmp_ne C dX6_ahead_243 rfl h (fun h => ?_) (fun h => ?_)
  · exact wk_ahead_b252 C M hk200 x1 x2 x3 x4 x5 z h
  · refine g_aload_n C dX6_ahead_246 rfl 0 rfl ?_
    refine g_iconst C dX6_ahead_247 gk_iconst_1 ?_
    refine g_iload_n C dX6_ahead_248 rfl 1 rfl ?_
    obtain ⟨u2, z1, e, h⟩ := g_callE h
    refine mm_callV C M 2 [.int (1 : Int32), .int x1] (st := []) (v := none) (z' := z1) (fun l => ct_blame l (1 : Int32) x1 z u2 z1 e) (lw_V q2284 q2286 qs86 q178 q2287) rfl rfl rfl (Nat.le_of_ble_eq_true rfl) (Nat.le_of_ble_eq_true rfl) (Nat.le_of_ble_eq_true rfl) dX6_ahead_249 ?_
    refine gW_st (st' := []) rfl ?_
    exact wk_ahead_b252 C M hk200 x1 x2 x3 x4 x5 z1 h
def mo_ahead_b200 : Nat → Int32 → Int32 → Int32 → Int32 → Int32 → mm_S → Option (Unit × mm_S)
  | 0, _, _, _, _, _, _ => none
  | n + 1, x1, x2, x3, x4, x5, z => mm_gI 2 z (fun v1 => if v1 ≤ x1 then (mo_ahead_b323 x1 z) else (if x2 = 0 then (mm_lI 0 x1 z (fun v2 => g_call (mo_isDigit v2 z) (fun v4 z3 => if v4 = 0 then (mo_ahead_b323 x1 z3) else (mo_ahead_b239 (mo_ahead_b200 n) x1 x2 x3 x4 x5 z3)))) else (mm_lI 0 x1 z (fun v5 => g_call (mo_isLetter v5 z) (fun v7 z6 => if v7 = 0 then (mo_ahead_b323 x1 z6) else (mo_ahead_b239 (mo_ahead_b200 n) x1 x2 x3 x4 x5 z6))))))
theorem wk_ahead_b200 {X : gX} {E : mm_E} {r : Unit × mm_S} (C : gC X cX6_ahead 6 none RX6 1 22) (M : mm_C X E) : ∀ (n : Nat) (x1 : Int32) (x2 : Int32) (x3 : Int32) (x4 : Int32) (x5 : Int32) (z : mm_S), mo_ahead_b200 n x1 x2 x3 x4 x5 z = some r → gW X (mm_G E) (.returned none, r.2) z 200 [(0, .ref E.2.2.1), (1, .int x1), (2, .int x2), (3, .int x3), (4, .int x4), (5, .int x5)] [] := by
  intro n
  induction n with
  | zero =>
    intro x1 x2 x3 x4 x5 z h
    have h : (none : Option (Unit × mm_S)) = some r := h
    cases h
  | succ n ih =>
    intro x1 x2 x3 x4 x5 z h
    rw [mo_ahead_b200] at h
    refine g_iload_n C dX6_ahead_200 rfl 1 rfl ?_
    refine g_aload_n C dX6_ahead_201 rfl 0 rfl ?_
    refine mm_getI C M 2 (Nat.le_of_ble_eq_true rfl) (Nat.le_of_ble_eq_true rfl) q2005 rfl dX6_ahead_202 h (fun v1 h => ?_)
    refine g_icmp_ge C dX6_ahead_205 rfl h (fun h => ?_) (fun h => ?_)
    · exact g_sub [(0, .ref E.2.2.1), (1, .int x1)] [0, 1] rfl (wk_ahead_b323 C M x1 z h)
    · refine g_iload_n C dX6_ahead_208 rfl 2 rfl ?_
      refine g_if_eq C dX6_ahead_209 rfl h (fun h => ?_) (fun h => ?_)
      · refine g_aload_n C dX6_ahead_227 rfl 0 rfl ?_
        refine mm_getA C M 0 (Nat.le_of_ble_eq_true rfl) (Nat.le_of_ble_eq_true rfl) q2003 rfl dX6_ahead_228 ?_
        refine g_iload_n C dX6_ahead_231 rfl 1 rfl ?_
        refine mm_ldI C M 0 (Nat.le_of_ble_eq_true rfl) rfl dX6_ahead_232 h (fun v2 h => ?_)
        obtain ⟨v4, z3, e, h⟩ := g_callE h
        refine mm_callS C M 1 [.int v2] (st := []) (v := some (.int v4)) (z' := z3) (fun l => ct_isDigit l v2 z v4 z3 e) (lw_S q2281 q2282 q178 q2283) rfl rfl rfl (Nat.le_of_ble_eq_true rfl) (Nat.le_of_ble_eq_true rfl) (Nat.le_of_ble_eq_true rfl) dX6_ahead_233 ?_
        refine gW_st (st' := [.int v4]) rfl ?_
        refine g_if_eq C dX6_ahead_236 rfl h (fun h => ?_) (fun h => ?_)
        · exact g_sub [(0, .ref E.2.2.1), (1, .int x1)] [0, 1] rfl (wk_ahead_b323 C M x1 z3 h)
        · exact wk_ahead_b239 C M ih x1 x2 x3 x4 x5 z3 h
      · refine g_aload_n C dX6_ahead_212 rfl 0 rfl ?_
        refine mm_getA C M 0 (Nat.le_of_ble_eq_true rfl) (Nat.le_of_ble_eq_true rfl) q2003 rfl dX6_ahead_213 ?_
        refine g_iload_n C dX6_ahead_216 rfl 1 rfl ?_
        refine mm_ldI C M 0 (Nat.le_of_ble_eq_true rfl) rfl dX6_ahead_217 h (fun v5 h => ?_)
        obtain ⟨v7, z6, e, h⟩ := g_callE h
        refine mm_callS C M 1 [.int v5] (st := []) (v := some (.int v7)) (z' := z6) (fun l => ct_isLetter l v5 z v7 z6 e) (lw_S q2278 q2279 q178 q2280) rfl rfl rfl (Nat.le_of_ble_eq_true rfl) (Nat.le_of_ble_eq_true rfl) (Nat.le_of_ble_eq_true rfl) dX6_ahead_218 ?_
        refine gW_st (st' := [.int v7]) rfl ?_
        refine g_if_eq C dX6_ahead_221 rfl h (fun h => ?_) (fun h => ?_)
        · exact g_sub [(0, .ref E.2.2.1), (1, .int x1)] [0, 1] rfl (wk_ahead_b323 C M x1 z6 h)
        · refine g_goto C dX6_ahead_224 rfl ?_
          exact wk_ahead_b239 C M ih x1 x2 x3 x4 x5 z6 h
def mo_ahead_b195 (x1 : Int32) (x2 : Int32) (x3 : Int32) (s0 : Int32) (z : mm_S) : Option (Unit × mm_S) := mo_ahead_b200 g_fu x1 x2 x3 s0 (0 : Int32) z
theorem wk_ahead_b195 {X : gX} {E : mm_E} {r : Unit × mm_S} (C : gC X cX6_ahead 6 none RX6 1 22) (M : mm_C X E) (x1 : Int32) (x2 : Int32) (x3 : Int32) (s0 : Int32) (z : mm_S) (h : mo_ahead_b195 x1 x2 x3 s0 z = some r) : gW X (mm_G E) (.returned none, r.2) z 195 [(0, .ref E.2.2.1), (1, .int x1), (2, .int x2), (3, .int x3)] [.int s0] := by
  unfold mo_ahead_b195 at h
  refine g_istore [(4, .int s0), (0, .ref E.2.2.1), (1, .int x1), (2, .int x2), (3, .int x3)] C dX6_ahead_195 (Nat.le_of_ble_eq_true rfl) rfl ?_
  refine g_iconst C dX6_ahead_197 gk_iconst_0 ?_
  refine g_istore [(5, .int (0 : Int32)), (4, .int s0), (0, .ref E.2.2.1), (1, .int x1), (2, .int x2), (3, .int x3)] C dX6_ahead_198 (Nat.le_of_ble_eq_true rfl) rfl ?_
  exact g_sub [(0, .ref E.2.2.1), (1, .int x1), (2, .int x2), (3, .int x3), (4, .int s0), (5, .int (0 : Int32))] [2, 3, 4, 5, 1, 0] rfl (wk_ahead_b200 C M g_fu x1 x2 x3 s0 (0 : Int32) z h)
def mo_ahead_b182 (x1 : Int32) (x2 : Int32) (x3 : Int32) (s1 : Int32) (z : mm_S) : Option (Unit × mm_S) := mm_pI 3 s1 z (fun z1 => if x2 = 0 then (mo_ahead_b195 x1 x2 x3 (4 : Int32) z1) else (mo_ahead_b195 x1 x2 x3 (6 : Int32) z1))
theorem wk_ahead_b182 {X : gX} {E : mm_E} {r : Unit × mm_S} (C : gC X cX6_ahead 6 none RX6 1 22) (M : mm_C X E) (x1 : Int32) (x2 : Int32) (x3 : Int32) (s1 : Int32) (z : mm_S) (h : mo_ahead_b182 x1 x2 x3 s1 z = some r) : gW X (mm_G E) (.returned none, r.2) z 182 [(0, .ref E.2.2.1), (1, .int x1), (2, .int x2), (3, .int x3)] [.int s1, .ref E.2.2.1] := by
  unfold mo_ahead_b182 at h
  refine mm_putI C M 3 (Nat.le_of_ble_eq_true rfl) (Nat.le_of_ble_eq_true rfl) q2006 rfl rfl rfl dX6_ahead_182 h (fun z1 h => ?_)
  refine g_iload_n C dX6_ahead_185 rfl 2 rfl ?_
  refine g_if_eq C dX6_ahead_186 rfl h (fun h => ?_) (fun h => ?_)
  · refine g_iconst C dX6_ahead_194 gk_iconst_4 ?_
    exact wk_ahead_b195 C M x1 x2 x3 (4 : Int32) z1 h
  · refine g_bipush C dX6_ahead_189 gk_bipush_6 ?_
    refine g_goto C dX6_ahead_191 rfl ?_
    exact wk_ahead_b195 C M x1 x2 x3 (6 : Int32) z1 h
def mo_ahead_b172 (x1 : Int32) (x2 : Int32) (x3 : Int32) (z : mm_S) : Option (Unit × mm_S) := if x2 = 0 then (mo_ahead_b182 x1 x2 x3 (2 : Int32) z) else (mo_ahead_b182 x1 x2 x3 (1 : Int32) z)
theorem wk_ahead_b172 {X : gX} {E : mm_E} {r : Unit × mm_S} (C : gC X cX6_ahead 6 none RX6 1 22) (M : mm_C X E) (x1 : Int32) (x2 : Int32) (x3 : Int32) (z : mm_S) (h : mo_ahead_b172 x1 x2 x3 z = some r) : gW X (mm_G E) (.returned none, r.2) z 172 [(0, .ref E.2.2.1), (1, .int x1), (2, .int x2), (3, .int x3)] [] := by
  unfold mo_ahead_b172 at h
  refine g_aload_n C dX6_ahead_172 rfl 0 rfl ?_
  refine g_iload_n C dX6_ahead_173 rfl 2 rfl ?_
  refine g_if_eq C dX6_ahead_174 rfl h (fun h => ?_) (fun h => ?_)
  · refine g_iconst C dX6_ahead_181 gk_iconst_2 ?_
    exact wk_ahead_b182 C M x1 x2 x3 (2 : Int32) z h
  · refine g_iconst C dX6_ahead_177 gk_iconst_1 ?_
    refine g_goto C dX6_ahead_178 rfl ?_
    exact wk_ahead_b182 C M x1 x2 x3 (1 : Int32) z h
def mo_ahead_b131 (x1 : Int32) (x2 : Int32) (x3 : Int32) (z : mm_S) : Option (Unit × mm_S) := mm_pI 6 (0 : Int32) z (fun z1 => mm_pJ (0 : Int64) z1 (fun z2 => mm_pI 3 (3 : Int32) z2 (fun z3 => mm_pI 5 (x1 + (1 : Int32)) z3 (fun z4 => if x2 = 0 then (if x3 = 0 then (mm_lI 0 x1 z4 (fun v5 => mm_pI 6 v5 z4 (fun z6 => some ((), z6)))) else (mo_ahead_b172 x1 x2 x3 z4)) else (mo_ahead_b172 x1 x2 x3 z4)))))
theorem wk_ahead_b131 {X : gX} {E : mm_E} {r : Unit × mm_S} (C : gC X cX6_ahead 6 none RX6 1 22) (M : mm_C X E) (x1 : Int32) (x2 : Int32) (x3 : Int32) (z : mm_S) (h : mo_ahead_b131 x1 x2 x3 z = some r) : gW X (mm_G E) (.returned none, r.2) z 131 [(0, .ref E.2.2.1), (1, .int x1), (2, .int x2), (3, .int x3)] [] := by
  unfold mo_ahead_b131 at h
  refine g_aload_n C dX6_ahead_131 rfl 0 rfl ?_
  refine g_iconst C dX6_ahead_132 gk_iconst_0 ?_
  refine mm_putI C M 6 (Nat.le_of_ble_eq_true rfl) (Nat.le_of_ble_eq_true rfl) q2009 rfl rfl rfl dX6_ahead_133 h (fun z1 h => ?_)
  refine g_aload_n C dX6_ahead_136 rfl 0 rfl ?_
  refine g_lconst C dX6_ahead_137 gk_lconst_0 ?_
  refine mm_putJ C M q2010 dX6_ahead_138 h (fun z2 h => ?_)
  refine g_aload_n C dX6_ahead_141 rfl 0 rfl ?_
  refine g_iconst C dX6_ahead_142 gk_iconst_3 ?_
  refine mm_putI C M 3 (Nat.le_of_ble_eq_true rfl) (Nat.le_of_ble_eq_true rfl) q2006 rfl rfl rfl dX6_ahead_143 h (fun z3 h => ?_)
  refine g_aload_n C dX6_ahead_146 rfl 0 rfl ?_
  refine g_iload_n C dX6_ahead_147 rfl 1 rfl ?_
  refine g_iconst C dX6_ahead_148 gk_iconst_1 ?_
  refine g_iadd C dX6_ahead_149 ?_
  refine mm_putI C M 5 (Nat.le_of_ble_eq_true rfl) (Nat.le_of_ble_eq_true rfl) q2008 rfl rfl rfl dX6_ahead_150 h (fun z4 h => ?_)
  refine g_iload_n C dX6_ahead_153 rfl 2 rfl ?_
  refine g_if_ne C dX6_ahead_154 rfl h (fun h => ?_) (fun h => ?_)
  · exact wk_ahead_b172 C M x1 x2 x3 z4 h
  · refine g_iload_n C dX6_ahead_157 rfl 3 rfl ?_
    refine g_if_ne C dX6_ahead_158 rfl h (fun h => ?_) (fun h => ?_)
    · exact wk_ahead_b172 C M x1 x2 x3 z4 h
    · refine g_aload_n C dX6_ahead_161 rfl 0 rfl ?_
      refine g_aload_n C dX6_ahead_162 rfl 0 rfl ?_
      refine mm_getA C M 0 (Nat.le_of_ble_eq_true rfl) (Nat.le_of_ble_eq_true rfl) q2003 rfl dX6_ahead_163 ?_
      refine g_iload_n C dX6_ahead_166 rfl 1 rfl ?_
      refine mm_ldI C M 0 (Nat.le_of_ble_eq_true rfl) rfl dX6_ahead_167 h (fun v5 h => ?_)
      refine mm_putI C M 6 (Nat.le_of_ble_eq_true rfl) (Nat.le_of_ble_eq_true rfl) q2009 rfl rfl rfl dX6_ahead_168 h (fun z6 h => ?_)
      exact g_vret C (fun _ => trivial) dX6_ahead_171 h
def mo_ahead_b125 (x1 : Int32) (x2 : Int32) (x3 : Int32) (z : mm_S) : Option (Unit × mm_S) := g_call (mo_blame (1 : Int32) x1 z) (fun _ z1 => mo_ahead_b131 x1 x2 x3 z1)
theorem wk_ahead_b125 {X : gX} {E : mm_E} {r : Unit × mm_S} (C : gC X cX6_ahead 6 none RX6 1 22) (M : mm_C X E) (x1 : Int32) (x2 : Int32) (x3 : Int32) (z : mm_S) (h : mo_ahead_b125 x1 x2 x3 z = some r) : gW X (mm_G E) (.returned none, r.2) z 125 [(0, .ref E.2.2.1), (1, .int x1), (2, .int x2), (3, .int x3)] [] := by
  unfold mo_ahead_b125 at h
  refine g_aload_n C dX6_ahead_125 rfl 0 rfl ?_
  refine g_iconst C dX6_ahead_126 gk_iconst_1 ?_
  refine g_iload_n C dX6_ahead_127 rfl 1 rfl ?_
  obtain ⟨u2, z1, e, h⟩ := g_callE h
  refine mm_callV C M 2 [.int (1 : Int32), .int x1] (st := []) (v := none) (z' := z1) (fun l => ct_blame l (1 : Int32) x1 z u2 z1 e) (lw_V q2284 q2286 qs86 q178 q2287) rfl rfl rfl (Nat.le_of_ble_eq_true rfl) (Nat.le_of_ble_eq_true rfl) (Nat.le_of_ble_eq_true rfl) dX6_ahead_128 ?_
  refine gW_st (st' := []) rfl ?_
  exact wk_ahead_b131 C M x1 x2 x3 z1 h
def mo_ahead_b93 (x1 : Int32) (x2 : Int32) (x3 : Int32) (z : mm_S) : Option (Unit × mm_S) := if x1 ≤ 0 then (mo_ahead_b131 x1 x2 x3 z) else (mm_lI 0 (x1 - (1 : Int32)) z (fun v1 => g_call (mo_isLetter v1 z) (fun v3 z2 => if v3 = 0 then (mm_lI 0 (x1 - (1 : Int32)) z2 (fun v4 => g_call (mo_isDigit v4 z2) (fun v6 z5 => if v6 = 0 then (mo_ahead_b131 x1 x2 x3 z5) else (mo_ahead_b125 x1 x2 x3 z5)))) else (mo_ahead_b125 x1 x2 x3 z2))))
theorem wk_ahead_b93 {X : gX} {E : mm_E} {r : Unit × mm_S} (C : gC X cX6_ahead 6 none RX6 1 22) (M : mm_C X E) (x1 : Int32) (x2 : Int32) (x3 : Int32) (z : mm_S) (h : mo_ahead_b93 x1 x2 x3 z = some r) : gW X (mm_G E) (.returned none, r.2) z 93 [(0, .ref E.2.2.1), (1, .int x1), (2, .int x2), (3, .int x3)] [] := by
  unfold mo_ahead_b93 at h
  refine g_iload_n C dX6_ahead_93 rfl 1 rfl ?_
  refine g_if_le C dX6_ahead_94 rfl h (fun h => ?_) (fun h => ?_)
  · exact wk_ahead_b131 C M x1 x2 x3 z h
  · refine g_aload_n C dX6_ahead_97 rfl 0 rfl ?_
    refine mm_getA C M 0 (Nat.le_of_ble_eq_true rfl) (Nat.le_of_ble_eq_true rfl) q2003 rfl dX6_ahead_98 ?_
    refine g_iload_n C dX6_ahead_101 rfl 1 rfl ?_
    refine g_iconst C dX6_ahead_102 gk_iconst_1 ?_
    refine g_isub C dX6_ahead_103 ?_
    refine mm_ldI C M 0 (Nat.le_of_ble_eq_true rfl) rfl dX6_ahead_104 h (fun v1 h => ?_)
    obtain ⟨v3, z2, e, h⟩ := g_callE h
    refine mm_callS C M 1 [.int v1] (st := []) (v := some (.int v3)) (z' := z2) (fun l => ct_isLetter l v1 z v3 z2 e) (lw_S q2278 q2279 q178 q2280) rfl rfl rfl (Nat.le_of_ble_eq_true rfl) (Nat.le_of_ble_eq_true rfl) (Nat.le_of_ble_eq_true rfl) dX6_ahead_105 ?_
    refine gW_st (st' := [.int v3]) rfl ?_
    refine g_if_ne C dX6_ahead_108 rfl h (fun h => ?_) (fun h => ?_)
    · exact wk_ahead_b125 C M x1 x2 x3 z2 h
    · refine g_aload_n C dX6_ahead_111 rfl 0 rfl ?_
      refine mm_getA C M 0 (Nat.le_of_ble_eq_true rfl) (Nat.le_of_ble_eq_true rfl) q2003 rfl dX6_ahead_112 ?_
      refine g_iload_n C dX6_ahead_115 rfl 1 rfl ?_
      refine g_iconst C dX6_ahead_116 gk_iconst_1 ?_
      refine g_isub C dX6_ahead_117 ?_
      refine mm_ldI C M 0 (Nat.le_of_ble_eq_true rfl) rfl dX6_ahead_118 h (fun v4 h => ?_)
      obtain ⟨v6, z5, e, h⟩ := g_callE h
      refine mm_callS C M 1 [.int v4] (st := []) (v := some (.int v6)) (z' := z5) (fun l => ct_isDigit l v4 z2 v6 z5 e) (lw_S q2281 q2282 q178 q2283) rfl rfl rfl (Nat.le_of_ble_eq_true rfl) (Nat.le_of_ble_eq_true rfl) (Nat.le_of_ble_eq_true rfl) dX6_ahead_119 ?_
      refine gW_st (st' := [.int v6]) rfl ?_
      refine g_if_eq C dX6_ahead_122 rfl h (fun h => ?_) (fun h => ?_)
      · exact wk_ahead_b131 C M x1 x2 x3 z5 h
      · exact wk_ahead_b125 C M x1 x2 x3 z5 h
def mo_ahead_b41 (x1 : Int32) (z : mm_S) : Option (Unit × mm_S) := mm_pI 4 x1 z (fun z1 => mm_pI 5 x1 z1 (fun z2 => mm_pI 3 (0 : Int32) z2 (fun z3 => mm_gI 2 z3 (fun v4 => if x1 < v4 then (mm_lI 0 x1 z3 (fun v5 => g_call (mo_isLetter v5 z3) (fun v7 z6 => mm_lI 0 x1 z6 (fun v8 => g_call (mo_isDigit v8 z6) (fun v10 z9 => if v7 = 0 then (if v10 = 0 then (mo_ahead_b131 x1 v7 v10 z9) else (mo_ahead_b93 x1 v7 v10 z9)) else (mo_ahead_b93 x1 v7 v10 z9)))))) else (some ((), z3))))))
theorem wk_ahead_b41 {X : gX} {E : mm_E} {r : Unit × mm_S} (C : gC X cX6_ahead 6 none RX6 1 22) (M : mm_C X E) (x1 : Int32) (z : mm_S) (h : mo_ahead_b41 x1 z = some r) : gW X (mm_G E) (.returned none, r.2) z 41 [(0, .ref E.2.2.1), (1, .int x1)] [] := by
  unfold mo_ahead_b41 at h
  refine g_aload_n C dX6_ahead_41 rfl 0 rfl ?_
  refine g_iload_n C dX6_ahead_42 rfl 1 rfl ?_
  refine mm_putI C M 4 (Nat.le_of_ble_eq_true rfl) (Nat.le_of_ble_eq_true rfl) q2007 rfl rfl rfl dX6_ahead_43 h (fun z1 h => ?_)
  refine g_aload_n C dX6_ahead_46 rfl 0 rfl ?_
  refine g_iload_n C dX6_ahead_47 rfl 1 rfl ?_
  refine mm_putI C M 5 (Nat.le_of_ble_eq_true rfl) (Nat.le_of_ble_eq_true rfl) q2008 rfl rfl rfl dX6_ahead_48 h (fun z2 h => ?_)
  refine g_aload_n C dX6_ahead_51 rfl 0 rfl ?_
  refine g_iconst C dX6_ahead_52 gk_iconst_0 ?_
  refine mm_putI C M 3 (Nat.le_of_ble_eq_true rfl) (Nat.le_of_ble_eq_true rfl) q2006 rfl rfl rfl dX6_ahead_53 h (fun z3 h => ?_)
  refine g_iload_n C dX6_ahead_56 rfl 1 rfl ?_
  refine g_aload_n C dX6_ahead_57 rfl 0 rfl ?_
  refine mm_getI C M 2 (Nat.le_of_ble_eq_true rfl) (Nat.le_of_ble_eq_true rfl) q2005 rfl dX6_ahead_58 h (fun v4 h => ?_)
  refine g_icmp_lt C dX6_ahead_61 rfl h (fun h => ?_) (fun h => ?_)
  · refine g_aload_n C dX6_ahead_65 rfl 0 rfl ?_
    refine mm_getA C M 0 (Nat.le_of_ble_eq_true rfl) (Nat.le_of_ble_eq_true rfl) q2003 rfl dX6_ahead_66 ?_
    refine g_iload_n C dX6_ahead_69 rfl 1 rfl ?_
    refine mm_ldI C M 0 (Nat.le_of_ble_eq_true rfl) rfl dX6_ahead_70 h (fun v5 h => ?_)
    obtain ⟨v7, z6, e, h⟩ := g_callE h
    refine mm_callS C M 1 [.int v5] (st := []) (v := some (.int v7)) (z' := z6) (fun l => ct_isLetter l v5 z3 v7 z6 e) (lw_S q2278 q2279 q178 q2280) rfl rfl rfl (Nat.le_of_ble_eq_true rfl) (Nat.le_of_ble_eq_true rfl) (Nat.le_of_ble_eq_true rfl) dX6_ahead_71 ?_
    refine gW_st (st' := [.int v7]) rfl ?_
    refine g_istore_n [(2, .int v7), (0, .ref E.2.2.1), (1, .int x1)] C dX6_ahead_74 rfl (Nat.le_of_ble_eq_true rfl) rfl ?_
    refine g_aload_n C dX6_ahead_75 rfl 1 rfl ?_
    refine mm_getA C M 0 (Nat.le_of_ble_eq_true rfl) (Nat.le_of_ble_eq_true rfl) q2003 rfl dX6_ahead_76 ?_
    refine g_iload_n C dX6_ahead_79 rfl 2 rfl ?_
    refine mm_ldI C M 0 (Nat.le_of_ble_eq_true rfl) rfl dX6_ahead_80 h (fun v8 h => ?_)
    obtain ⟨v10, z9, e, h⟩ := g_callE h
    refine mm_callS C M 1 [.int v8] (st := []) (v := some (.int v10)) (z' := z9) (fun l => ct_isDigit l v8 z6 v10 z9 e) (lw_S q2281 q2282 q178 q2283) rfl rfl rfl (Nat.le_of_ble_eq_true rfl) (Nat.le_of_ble_eq_true rfl) (Nat.le_of_ble_eq_true rfl) dX6_ahead_81 ?_
    refine gW_st (st' := [.int v10]) rfl ?_
    refine g_istore_n [(3, .int v10), (2, .int v7), (0, .ref E.2.2.1), (1, .int x1)] C dX6_ahead_84 rfl (Nat.le_of_ble_eq_true rfl) rfl ?_
    refine g_iload_n C dX6_ahead_85 rfl 1 rfl ?_
    refine g_if_ne C dX6_ahead_86 rfl h (fun h => ?_) (fun h => ?_)
    · exact g_sub [(0, .ref E.2.2.1), (1, .int x1), (2, .int v7), (3, .int v10)] [2, 3, 1, 0] rfl (wk_ahead_b93 C M x1 v7 v10 z9 h)
    · refine g_iload_n C dX6_ahead_89 rfl 0 rfl ?_
      refine g_if_eq C dX6_ahead_90 rfl h (fun h => ?_) (fun h => ?_)
      · exact g_sub [(0, .ref E.2.2.1), (1, .int x1), (2, .int v7), (3, .int v10)] [2, 3, 1, 0] rfl (wk_ahead_b131 C M x1 v7 v10 z9 h)
      · exact g_sub [(0, .ref E.2.2.1), (1, .int x1), (2, .int v7), (3, .int v10)] [2, 3, 1, 0] rfl (wk_ahead_b93 C M x1 v7 v10 z9 h)
  · exact g_vret C (fun _ => trivial) dX6_ahead_64 h
def mo_ahead_b35 (k5 : Int32 → mm_S → Option (Unit × mm_S)) (x1 : Int32) (z : mm_S) : Option (Unit × mm_S) := k5 (x1 + (1 : Int32)) z
theorem wk_ahead_b35 {X : gX} {E : mm_E} {r : Unit × mm_S} (C : gC X cX6_ahead 6 none RX6 1 22) (M : mm_C X E) {k5 : Int32 → mm_S → Option (Unit × mm_S)} (hk5 : ∀ (x1 : Int32) (z : mm_S), k5 x1 z = some r → gW X (mm_G E) (.returned none, r.2) z 5 [(0, .ref E.2.2.1), (1, .int x1)] []) (x1 : Int32) (z : mm_S) (h : mo_ahead_b35 k5 x1 z = some r) : gW X (mm_G E) (.returned none, r.2) z 35 [(0, .ref E.2.2.1), (1, .int x1)] [] := by
  unfold mo_ahead_b35 at h
  refine g_iinc [(1, .int (x1 + (1 : Int32))), (0, .ref E.2.2.1)] C dX6_ahead_35 (j := 1) rfl (gk_inc_1 _) (Nat.le_of_ble_eq_true rfl) rfl ?_
  refine g_goto C dX6_ahead_38 rfl ?_
  exact g_sub [(0, .ref E.2.2.1), (1, .int (x1 + (1 : Int32)))] [1, 0] rfl (hk5 (x1 + (1 : Int32)) z h)
def mo_ahead_b5 : Nat → Int32 → mm_S → Option (Unit × mm_S)
  | 0, _, _ => none
  | n + 1, x1, z => mm_gI 2 z (fun v1 => if v1 ≤ x1 then (mo_ahead_b41 x1 z) else (mm_lI 0 x1 z (fun v2 => if v2 = (32 : Int32) then (mo_ahead_b35 (mo_ahead_b5 n) x1 z) else (mm_lI 0 x1 z (fun v3 => if v3 = (10 : Int32) then (mo_ahead_b35 (mo_ahead_b5 n) x1 z) else (mo_ahead_b41 x1 z))))))
theorem wk_ahead_b5 {X : gX} {E : mm_E} {r : Unit × mm_S} (C : gC X cX6_ahead 6 none RX6 1 22) (M : mm_C X E) : ∀ (n : Nat) (x1 : Int32) (z : mm_S), mo_ahead_b5 n x1 z = some r → gW X (mm_G E) (.returned none, r.2) z 5 [(0, .ref E.2.2.1), (1, .int x1)] [] := by
  intro n
  induction n with
  | zero =>
    intro x1 z h
    have h : (none : Option (Unit × mm_S)) = some r := h
    cases h
  | succ n ih =>
    intro x1 z h
    rw [mo_ahead_b5] at h
    refine g_iload_n C dX6_ahead_5 rfl 1 rfl ?_
    refine g_aload_n C dX6_ahead_6 rfl 0 rfl ?_
    refine mm_getI C M 2 (Nat.le_of_ble_eq_true rfl) (Nat.le_of_ble_eq_true rfl) q2005 rfl dX6_ahead_7 h (fun v1 h => ?_)
    refine g_icmp_ge C dX6_ahead_10 rfl h (fun h => ?_) (fun h => ?_)
    · exact wk_ahead_b41 C M x1 z h
    · refine g_aload_n C dX6_ahead_13 rfl 0 rfl ?_
      refine mm_getA C M 0 (Nat.le_of_ble_eq_true rfl) (Nat.le_of_ble_eq_true rfl) q2003 rfl dX6_ahead_14 ?_
      refine g_iload_n C dX6_ahead_17 rfl 1 rfl ?_
      refine mm_ldI C M 0 (Nat.le_of_ble_eq_true rfl) rfl dX6_ahead_18 h (fun v2 h => ?_)
      refine g_bipush C dX6_ahead_19 gk_bipush_32 ?_
      refine g_icmp_eq C dX6_ahead_21 rfl h (fun h => ?_) (fun h => ?_)
      · exact wk_ahead_b35 C M ih x1 z h
      · refine g_aload_n C dX6_ahead_24 rfl 0 rfl ?_
        refine mm_getA C M 0 (Nat.le_of_ble_eq_true rfl) (Nat.le_of_ble_eq_true rfl) q2003 rfl dX6_ahead_25 ?_
        refine g_iload_n C dX6_ahead_28 rfl 1 rfl ?_
        refine mm_ldI C M 0 (Nat.le_of_ble_eq_true rfl) rfl dX6_ahead_29 h (fun v3 h => ?_)
        refine g_bipush C dX6_ahead_30 gk_bipush_10 ?_
        refine g_icmp_ne C dX6_ahead_32 rfl h (fun h => ?_) (fun h => ?_)
        · exact wk_ahead_b41 C M x1 z h
        · exact wk_ahead_b35 C M ih x1 z h
def mo_ahead (z : mm_S) : Option (Unit × mm_S) := mm_gI 5 z (fun v1 => mo_ahead_b5 g_fu v1 z)
theorem wk_ahead {X : gX} {E : mm_E} {r : Unit × mm_S} (C : gC X cX6_ahead 6 none RX6 1 22) (M : mm_C X E) (z : mm_S) (h : mo_ahead z = some r) : gW X (mm_G E) (.returned none, r.2) z 0 [(0, .ref E.2.2.1)] [] := by
  unfold mo_ahead at h
  refine g_aload_n C dX6_ahead_0 rfl 0 rfl ?_
  refine mm_getI C M 5 (Nat.le_of_ble_eq_true rfl) (Nat.le_of_ble_eq_true rfl) q2008 rfl dX6_ahead_1 h (fun v1 h => ?_)
  refine g_istore_n [(1, .int v1), (0, .ref E.2.2.1)] C dX6_ahead_4 rfl (Nat.le_of_ble_eq_true rfl) rfl ?_
  exact g_sub [(0, .ref E.2.2.1), (1, .int v1)] [1, 0] rfl (wk_ahead_b5 C M g_fu v1 z h)
theorem ct_ahead (l : Launch) (z : mm_S) (r : Unit) (z' : mm_S) (h : mo_ahead z = some (r, z')) : mm_MetV l yX6_ahead cX6_ahead 6 none 1 22 [] z (.returned none, z') := by
  intro E hD
  exact mm_enter E hD rfl ⟨_, rfl⟩ (.ref E.2.2.1 :: []) (Nat.le_of_ble_eq_true rfl) (fun X C M => wk_ahead C M z h)
def mo_isWord (x1 : Int64) (z : mm_S) : Option (Int32 × mm_S) := mm_gI 3 z (fun v1 => if v1 = (1 : Int32) then (mm_gJ z (fun v2 => if (lg_cmp v2 x1) = 0 then (some ((1 : Int32), z)) else (some ((0 : Int32), z)))) else (some ((0 : Int32), z)))
theorem wk_isWord {X : gX} {E : mm_E} {r : Int32 × mm_S} (C : gC X cX6_isWord 3 (some .boolean) RX6 0 0) (M : mm_C X E) (x1 : Int64) (z : mm_S) (h : mo_isWord x1 z = some r) : gW X (mm_G E) (.returned (some (.int r.1)), r.2) z 0 [(0, .ref E.2.2.1), (1, .long x1)] [] := by
  unfold mo_isWord at h
  refine g_aload_n C dX6_isWord_0 rfl 0 rfl ?_
  refine mm_getI C M 3 (Nat.le_of_ble_eq_true rfl) (Nat.le_of_ble_eq_true rfl) q2006 rfl dX6_isWord_1 h (fun v1 h => ?_)
  refine g_iconst C dX6_isWord_4 gk_iconst_1 ?_
  refine g_icmp_ne C dX6_isWord_5 rfl h (fun h => ?_) (fun h => ?_)
  · refine g_iconst C dX6_isWord_21 gk_iconst_0 ?_
    exact g_zretc C (fun _ => trivial) dX6_isWord_22 (Or.inl rfl) h
  · refine g_aload_n C dX6_isWord_8 rfl 0 rfl ?_
    refine mm_getJ C M q2010 dX6_isWord_9 h (fun v2 h => ?_)
    refine g_lload_n C dX6_isWord_12 rfl 1 rfl ?_
    refine g_lcmp C dX6_isWord_13 ?_
    refine g_if_ne C dX6_isWord_14 rfl h (fun h => ?_) (fun h => ?_)
    · refine g_iconst C dX6_isWord_21 gk_iconst_0 ?_
      exact g_zretc C (fun _ => trivial) dX6_isWord_22 (Or.inl rfl) h
    · refine g_iconst C dX6_isWord_17 gk_iconst_1 ?_
      refine g_goto C dX6_isWord_18 rfl ?_
      exact g_zretc C (fun _ => trivial) dX6_isWord_22 (Or.inr rfl) h
theorem ct_isWord (l : Launch) (x1 : Int64) (z : mm_S) (r : Int32) (z' : mm_S) (h : mo_isWord x1 z = some (r, z')) : mm_MetV l yX6_isWord cX6_isWord 3 (some .boolean) 0 0 [.long x1] z (.returned (some (.int r)), z') := by
  intro E hD
  exact mm_enter E hD rfl ⟨_, rfl⟩ (.ref E.2.2.1 :: [.long x1]) (Nat.le_of_ble_eq_true rfl) (fun X C M => wk_isWord C M x1 z h)
def mo_is (x0 : Int32) (x1 : Int32) (x2 : Int32) (z : mm_S) : Option (Int32 × mm_S) := if x0 < x1 then (some ((0 : Int32), z)) else (if x2 < x0 then (some ((0 : Int32), z)) else (some ((1 : Int32), z)))
theorem wk_is {X : gX} {E : mm_E} {r : Int32 × mm_S} (C : gC X cX6_is 3 (some .boolean) RX6 0 0) (M : mm_C X E) (x0 : Int32) (x1 : Int32) (x2 : Int32) (z : mm_S) (h : mo_is x0 x1 x2 z = some r) : gW X (mm_G E) (.returned (some (.int r.1)), r.2) z 0 [(0, .int x0), (1, .int x1), (2, .int x2)] [] := by
  unfold mo_is at h
  refine g_iload_n C dX6_is_0 rfl 0 rfl ?_
  refine g_iload_n C dX6_is_1 rfl 1 rfl ?_
  refine g_icmp_lt C dX6_is_2 rfl h (fun h => ?_) (fun h => ?_)
  · refine g_iconst C dX6_is_14 gk_iconst_0 ?_
    exact g_zretc C (fun _ => trivial) dX6_is_15 (Or.inl rfl) h
  · refine g_iload_n C dX6_is_5 rfl 0 rfl ?_
    refine g_iload_n C dX6_is_6 rfl 2 rfl ?_
    refine g_icmp_gt C dX6_is_7 rfl h (fun h => ?_) (fun h => ?_)
    · refine g_iconst C dX6_is_14 gk_iconst_0 ?_
      exact g_zretc C (fun _ => trivial) dX6_is_15 (Or.inl rfl) h
    · refine g_iconst C dX6_is_10 gk_iconst_1 ?_
      refine g_goto C dX6_is_11 rfl ?_
      exact g_zretc C (fun _ => trivial) dX6_is_15 (Or.inr rfl) h
theorem ct_is (l : Launch) (x0 : Int32) (x1 : Int32) (x2 : Int32) (z : mm_S) (r : Int32) (z' : mm_S) (h : mo_is x0 x1 x2 z = some (r, z')) : mm_MetS l yX6_is cX6_is 3 (some .boolean) 0 0 [.int x0, .int x1, .int x2] z (.returned (some (.int r)), z') := by
  intro E hD
  exact mm_enter E hD rfl ⟨_, rfl⟩ [.int x0, .int x1, .int x2] (Nat.le_of_ble_eq_true rfl) (fun X C M => wk_is C M x0 x1 x2 z h)
def mo_number_b54 (z : mm_S) : Option (Int32 × mm_S) := mm_gI 6 z (fun v1 => mm_gI 8 z (fun v2 => if v2 = 0 then (g_call (mo_ahead z) (fun _ z3 => some (v1, z3))) else (some (v1, z))))
theorem wk_number_b54 {X : gX} {E : mm_E} {r : Int32 × mm_S} (C : gC X cX6_number 4 (some .int) RX6 2 47) (M : mm_C X E) (z : mm_S) (h : mo_number_b54 z = some r) : gW X (mm_G E) (.returned (some (.int r.1)), r.2) z 54 [(0, .ref E.2.2.1)] [] := by
  unfold mo_number_b54 at h
  refine g_aload_n C dX6_number_54 rfl 0 rfl ?_
  refine mm_getI C M 6 (Nat.le_of_ble_eq_true rfl) (Nat.le_of_ble_eq_true rfl) q2009 rfl dX6_number_55 h (fun v1 h => ?_)
  refine g_istore_n [(3, .int v1), (0, .ref E.2.2.1)] C dX6_number_58 rfl (Nat.le_of_ble_eq_true rfl) rfl ?_
  refine g_aload_n C dX6_number_59 rfl 1 rfl ?_
  refine mm_getI C M 8 (Nat.le_of_ble_eq_true rfl) (Nat.le_of_ble_eq_true rfl) q2011 rfl dX6_number_60 h (fun v2 h => ?_)
  refine g_if_ne C dX6_number_63 rfl h (fun h => ?_) (fun h => ?_)
  · refine g_iload_n C dX6_number_70 rfl 0 rfl ?_
    exact g_iret C (fun _ => trivial) dX6_number_71 h
  · refine g_aload_n C dX6_number_66 rfl 1 rfl ?_
    obtain ⟨u4, z3, e, h⟩ := g_callE h
    refine mm_callV C M 0 [] (st := []) (v := none) (z' := z3) (fun l => ct_ahead l z u4 z3 e) (lw_V q2274 q2276 qs85 q178 q2277) rfl rfl rfl (Nat.le_of_ble_eq_true rfl) (Nat.le_of_ble_eq_true rfl) (Nat.le_of_ble_eq_true rfl) dX6_number_67 ?_
    refine gW_st (st' := []) rfl ?_
    refine g_iload_n C dX6_number_70 rfl 0 rfl ?_
    exact g_iret C (fun _ => trivial) dX6_number_71 h
def mo_number_b26 (x1 : Int32) (x2 : Int32) (z : mm_S) : Option (Int32 × mm_S) := mm_gI 8 z (fun v1 => if v1 = 0 then (mm_gI 6 z (fun v2 => g_call (mo_is v2 x1 x2 z) (fun v4 z3 => if v4 = 0 then (mm_gI 4 z3 (fun v5 => g_call (mo_blame (4 : Int32) v5 z3) (fun _ z6 => mo_number_b54 z6))) else (mo_number_b54 z3)))) else (mo_number_b54 z))
theorem wk_number_b26 {X : gX} {E : mm_E} {r : Int32 × mm_S} (C : gC X cX6_number 4 (some .int) RX6 2 47) (M : mm_C X E) (x1 : Int32) (x2 : Int32) (z : mm_S) (h : mo_number_b26 x1 x2 z = some r) : gW X (mm_G E) (.returned (some (.int r.1)), r.2) z 26 [(0, .ref E.2.2.1), (1, .int x1), (2, .int x2)] [] := by
  unfold mo_number_b26 at h
  refine g_aload_n C dX6_number_26 rfl 0 rfl ?_
  refine mm_getI C M 8 (Nat.le_of_ble_eq_true rfl) (Nat.le_of_ble_eq_true rfl) q2011 rfl dX6_number_27 h (fun v1 h => ?_)
  refine g_if_ne C dX6_number_30 rfl h (fun h => ?_) (fun h => ?_)
  · exact g_sub [(0, .ref E.2.2.1)] [0] rfl (wk_number_b54 C M z h)
  · refine g_aload_n C dX6_number_33 rfl 0 rfl ?_
    refine mm_getI C M 6 (Nat.le_of_ble_eq_true rfl) (Nat.le_of_ble_eq_true rfl) q2009 rfl dX6_number_34 h (fun v2 h => ?_)
    refine g_iload_n C dX6_number_37 rfl 1 rfl ?_
    refine g_iload_n C dX6_number_38 rfl 2 rfl ?_
    obtain ⟨v4, z3, e, h⟩ := g_callE h
    refine mm_callS C M 3 [.int v2, .int x1, .int x2] (st := []) (v := some (.int v4)) (z' := z3) (fun l => ct_is l v2 x1 x2 z v4 z3 e) (lw_S q2301 q2302 q178 q2303) rfl rfl rfl (Nat.le_of_ble_eq_true rfl) (Nat.le_of_ble_eq_true rfl) (Nat.le_of_ble_eq_true rfl) dX6_number_39 ?_
    refine gW_st (st' := [.int v4]) rfl ?_
    refine g_if_ne C dX6_number_42 rfl h (fun h => ?_) (fun h => ?_)
    · exact g_sub [(0, .ref E.2.2.1)] [0] rfl (wk_number_b54 C M z3 h)
    · refine g_aload_n C dX6_number_45 rfl 0 rfl ?_
      refine g_iconst C dX6_number_46 gk_iconst_4 ?_
      refine g_aload_n C dX6_number_47 rfl 0 rfl ?_
      refine mm_getI C M 4 (Nat.le_of_ble_eq_true rfl) (Nat.le_of_ble_eq_true rfl) q2007 rfl dX6_number_48 h (fun v5 h => ?_)
      obtain ⟨u7, z6, e, h⟩ := g_callE h
      refine mm_callV C M 2 [.int (4 : Int32), .int v5] (st := []) (v := none) (z' := z6) (fun l => ct_blame l (4 : Int32) v5 z3 u7 z6 e) (lw_V q2284 q2286 qs86 q178 q2287) rfl rfl rfl (Nat.le_of_ble_eq_true rfl) (Nat.le_of_ble_eq_true rfl) (Nat.le_of_ble_eq_true rfl) dX6_number_51 ?_
      refine gW_st (st' := []) rfl ?_
      exact g_sub [(0, .ref E.2.2.1)] [0] rfl (wk_number_b54 C M z6 h)
def mo_number (x1 : Int32) (x2 : Int32) (z : mm_S) : Option (Int32 × mm_S) := mm_gI 8 z (fun v1 => if v1 ≤ 0 then (mm_gI 3 z (fun v2 => if v2 = (2 : Int32) then (mo_number_b26 x1 x2 z) else (mm_gI 4 z (fun v3 => g_call (mo_blame (1 : Int32) v3 z) (fun _ z4 => mo_number_b26 x1 x2 z4))))) else (some ((0 : Int32), z)))
theorem wk_number {X : gX} {E : mm_E} {r : Int32 × mm_S} (C : gC X cX6_number 4 (some .int) RX6 2 47) (M : mm_C X E) (x1 : Int32) (x2 : Int32) (z : mm_S) (h : mo_number x1 x2 z = some r) : gW X (mm_G E) (.returned (some (.int r.1)), r.2) z 0 [(0, .ref E.2.2.1), (1, .int x1), (2, .int x2)] [] := by
  unfold mo_number at h
  refine g_aload_n C dX6_number_0 rfl 0 rfl ?_
  refine mm_getI C M 8 (Nat.le_of_ble_eq_true rfl) (Nat.le_of_ble_eq_true rfl) q2011 rfl dX6_number_1 h (fun v1 h => ?_)
  refine g_if_le C dX6_number_4 rfl h (fun h => ?_) (fun h => ?_)
  · refine g_aload_n C dX6_number_9 rfl 0 rfl ?_
    refine mm_getI C M 3 (Nat.le_of_ble_eq_true rfl) (Nat.le_of_ble_eq_true rfl) q2006 rfl dX6_number_10 h (fun v2 h => ?_)
    refine g_iconst C dX6_number_13 gk_iconst_2 ?_
    refine g_icmp_eq C dX6_number_14 rfl h (fun h => ?_) (fun h => ?_)
    · exact wk_number_b26 C M x1 x2 z h
    · refine g_aload_n C dX6_number_17 rfl 0 rfl ?_
      refine g_iconst C dX6_number_18 gk_iconst_1 ?_
      refine g_aload_n C dX6_number_19 rfl 0 rfl ?_
      refine mm_getI C M 4 (Nat.le_of_ble_eq_true rfl) (Nat.le_of_ble_eq_true rfl) q2007 rfl dX6_number_20 h (fun v3 h => ?_)
      obtain ⟨u5, z4, e, h⟩ := g_callE h
      refine mm_callV C M 2 [.int (1 : Int32), .int v3] (st := []) (v := none) (z' := z4) (fun l => ct_blame l (1 : Int32) v3 z u5 z4 e) (lw_V q2284 q2286 qs86 q178 q2287) rfl rfl rfl (Nat.le_of_ble_eq_true rfl) (Nat.le_of_ble_eq_true rfl) (Nat.le_of_ble_eq_true rfl) dX6_number_23 ?_
      refine gW_st (st' := []) rfl ?_
      exact wk_number_b26 C M x1 x2 z4 h
  · refine g_iconst C dX6_number_7 gk_iconst_0 ?_
    exact g_iret C (fun _ => trivial) dX6_number_8 h
theorem ct_number (l : Launch) (x1 : Int32) (x2 : Int32) (z : mm_S) (r : Int32) (z' : mm_S) (h : mo_number x1 x2 z = some (r, z')) : mm_MetV l yX6_number cX6_number 4 (some .int) 2 47 [.int x1, .int x2] z (.returned (some (.int r)), z') := by
  intro E hD
  exact mm_enter E hD rfl ⟨_, rfl⟩ (.ref E.2.2.1 :: [.int x1, .int x2]) (Nat.le_of_ble_eq_true rfl) (fun X C M => wk_number C M x1 x2 z h)
def mo_isSign (x1 : Int32) (z : mm_S) : Option (Int32 × mm_S) := mm_gI 3 z (fun v1 => if v1 = (3 : Int32) then (mm_gI 6 z (fun v2 => if v2 = x1 then (some ((1 : Int32), z)) else (some ((0 : Int32), z)))) else (some ((0 : Int32), z)))
theorem wk_isSign {X : gX} {E : mm_E} {r : Int32 × mm_S} (C : gC X cX6_isSign 2 (some .boolean) RX6 0 0) (M : mm_C X E) (x1 : Int32) (z : mm_S) (h : mo_isSign x1 z = some r) : gW X (mm_G E) (.returned (some (.int r.1)), r.2) z 0 [(0, .ref E.2.2.1), (1, .int x1)] [] := by
  unfold mo_isSign at h
  refine g_aload_n C dX6_isSign_0 rfl 0 rfl ?_
  refine mm_getI C M 3 (Nat.le_of_ble_eq_true rfl) (Nat.le_of_ble_eq_true rfl) q2006 rfl dX6_isSign_1 h (fun v1 h => ?_)
  refine g_iconst C dX6_isSign_4 gk_iconst_3 ?_
  refine g_icmp_ne C dX6_isSign_5 rfl h (fun h => ?_) (fun h => ?_)
  · refine g_iconst C dX6_isSign_20 gk_iconst_0 ?_
    exact g_zretc C (fun _ => trivial) dX6_isSign_21 (Or.inl rfl) h
  · refine g_aload_n C dX6_isSign_8 rfl 0 rfl ?_
    refine mm_getI C M 6 (Nat.le_of_ble_eq_true rfl) (Nat.le_of_ble_eq_true rfl) q2009 rfl dX6_isSign_9 h (fun v2 h => ?_)
    refine g_iload_n C dX6_isSign_12 rfl 1 rfl ?_
    refine g_icmp_ne C dX6_isSign_13 rfl h (fun h => ?_) (fun h => ?_)
    · refine g_iconst C dX6_isSign_20 gk_iconst_0 ?_
      exact g_zretc C (fun _ => trivial) dX6_isSign_21 (Or.inl rfl) h
    · refine g_iconst C dX6_isSign_16 gk_iconst_1 ?_
      refine g_goto C dX6_isSign_17 rfl ?_
      exact g_zretc C (fun _ => trivial) dX6_isSign_21 (Or.inr rfl) h
theorem ct_isSign (l : Launch) (x1 : Int32) (z : mm_S) (r : Int32) (z' : mm_S) (h : mo_isSign x1 z = some (r, z')) : mm_MetV l yX6_isSign cX6_isSign 2 (some .boolean) 0 0 [.int x1] z (.returned (some (.int r)), z') := by
  intro E hD
  exact mm_enter E hD rfl ⟨_, rfl⟩ (.ref E.2.2.1 :: [.int x1]) (Nat.le_of_ble_eq_true rfl) (fun X C M => wk_isSign C M x1 z h)
def mo_must_b17 (z : mm_S) : Option (Unit × mm_S) := mm_gI 8 z (fun v1 => if v1 = 0 then (g_call (mo_ahead z) (fun _ z2 => some ((), z2))) else (some ((), z)))
theorem wk_must_b17 {X : gX} {E : mm_E} {r : Unit × mm_S} (C : gC X cX6_must 2 none RX6 2 47) (M : mm_C X E) (z : mm_S) (h : mo_must_b17 z = some r) : gW X (mm_G E) (.returned none, r.2) z 17 [(0, .ref E.2.2.1)] [] := by
  unfold mo_must_b17 at h
  refine g_aload_n C dX6_must_17 rfl 0 rfl ?_
  refine mm_getI C M 8 (Nat.le_of_ble_eq_true rfl) (Nat.le_of_ble_eq_true rfl) q2011 rfl dX6_must_18 h (fun v1 h => ?_)
  refine g_if_ne C dX6_must_21 rfl h (fun h => ?_) (fun h => ?_)
  · exact g_vret C (fun _ => trivial) dX6_must_28 h
  · refine g_aload_n C dX6_must_24 rfl 0 rfl ?_
    obtain ⟨u3, z2, e, h⟩ := g_callE h
    refine mm_callV C M 0 [] (st := []) (v := none) (z' := z2) (fun l => ct_ahead l z u3 z2 e) (lw_V q2274 q2276 qs85 q178 q2277) rfl rfl rfl (Nat.le_of_ble_eq_true rfl) (Nat.le_of_ble_eq_true rfl) (Nat.le_of_ble_eq_true rfl) dX6_must_25 ?_
    refine gW_st (st' := []) rfl ?_
    exact g_vret C (fun _ => trivial) dX6_must_28 h
def mo_must (x1 : Int32) (z : mm_S) : Option (Unit × mm_S) := g_call (mo_isSign x1 z) (fun v2 z1 => if v2 = 0 then (mm_gI 4 z1 (fun v3 => g_call (mo_blame (1 : Int32) v3 z1) (fun _ z4 => mo_must_b17 z4))) else (mo_must_b17 z1))
theorem wk_must {X : gX} {E : mm_E} {r : Unit × mm_S} (C : gC X cX6_must 2 none RX6 2 47) (M : mm_C X E) (x1 : Int32) (z : mm_S) (h : mo_must x1 z = some r) : gW X (mm_G E) (.returned none, r.2) z 0 [(0, .ref E.2.2.1), (1, .int x1)] [] := by
  unfold mo_must at h
  refine g_aload_n C dX6_must_0 rfl 0 rfl ?_
  refine g_iload_n C dX6_must_1 rfl 1 rfl ?_
  obtain ⟨v2, z1, e, h⟩ := g_callE h
  refine mm_callV C M 1 [.int x1] (st := []) (v := some (.int v2)) (z' := z1) (fun l => ct_isSign l x1 z v2 z1 e) (lw_V q2308 q2310 qs91 q178 q2311) rfl rfl rfl (Nat.le_of_ble_eq_true rfl) (Nat.le_of_ble_eq_true rfl) (Nat.le_of_ble_eq_true rfl) dX6_must_2 ?_
  refine gW_st (st' := [.int v2]) rfl ?_
  refine g_if_ne C dX6_must_5 rfl h (fun h => ?_) (fun h => ?_)
  · exact g_sub [(0, .ref E.2.2.1)] [0] rfl (wk_must_b17 C M z1 h)
  · refine g_aload_n C dX6_must_8 rfl 0 rfl ?_
    refine g_iconst C dX6_must_9 gk_iconst_1 ?_
    refine g_aload_n C dX6_must_10 rfl 0 rfl ?_
    refine mm_getI C M 4 (Nat.le_of_ble_eq_true rfl) (Nat.le_of_ble_eq_true rfl) q2007 rfl dX6_must_11 h (fun v3 h => ?_)
    obtain ⟨u5, z4, e, h⟩ := g_callE h
    refine mm_callV C M 2 [.int (1 : Int32), .int v3] (st := []) (v := none) (z' := z4) (fun l => ct_blame l (1 : Int32) v3 z1 u5 z4 e) (lw_V q2284 q2286 qs86 q178 q2287) rfl rfl rfl (Nat.le_of_ble_eq_true rfl) (Nat.le_of_ble_eq_true rfl) (Nat.le_of_ble_eq_true rfl) dX6_must_14 ?_
    refine gW_st (st' := []) rfl ?_
    exact g_sub [(0, .ref E.2.2.1)] [0] rfl (wk_must_b17 C M z4 h)
theorem ct_must (l : Launch) (x1 : Int32) (z : mm_S) (r : Unit) (z' : mm_S) (h : mo_must x1 z = some (r, z')) : mm_MetV l yX6_must cX6_must 2 none 2 47 [.int x1] z (.returned none, z') := by
  intro E hD
  exact mm_enter E hD rfl ⟨_, rfl⟩ (.ref E.2.2.1 :: [.int x1]) (Nat.le_of_ble_eq_true rfl) (fun X C M => wk_must C M x1 z h)
def mo_sizes_b19 (z : mm_S) : Option (Unit × mm_S) := mm_gI 8 z (fun v1 => if v1 ≤ 0 then (g_call (mo_ahead z) (fun _ z2 => mm_gI 41 z2 (fun v4 => g_call (mo_number (2 : Int32) (16 : Int32) z2) (fun v6 z5 => mm_sI 13 v4 v6 z5 (fun z7 => mm_gI 41 z7 (fun v8 => g_call (mo_number (2 : Int32) (16 : Int32) z7) (fun v10 z9 => mm_sI 14 v8 v10 z9 (fun z11 => mm_gI 8 z11 (fun v12 => if v12 = 0 then (g_call (mo_must (59 : Int32) z11) (fun _ z13 => some ((), z13))) else (some ((), z11))))))))))) else (some ((), z)))
theorem wk_sizes_b19 {X : gX} {E : mm_E} {r : Unit × mm_S} (C : gC X cX6_sizes 1 none RX6 3 70) (M : mm_C X E) (z : mm_S) (h : mo_sizes_b19 z = some r) : gW X (mm_G E) (.returned none, r.2) z 19 [(0, .ref E.2.2.1)] [] := by
  unfold mo_sizes_b19 at h
  refine g_aload_n C dX6_sizes_19 rfl 0 rfl ?_
  refine mm_getI C M 8 (Nat.le_of_ble_eq_true rfl) (Nat.le_of_ble_eq_true rfl) q2011 rfl dX6_sizes_20 h (fun v1 h => ?_)
  refine g_if_le C dX6_sizes_23 rfl h (fun h => ?_) (fun h => ?_)
  · refine g_aload_n C dX6_sizes_27 rfl 0 rfl ?_
    obtain ⟨u3, z2, e, h⟩ := g_callE h
    refine mm_callV C M 0 [] (st := []) (v := none) (z' := z2) (fun l => ct_ahead l z u3 z2 e) (lw_V q2274 q2276 qs85 q178 q2277) rfl rfl rfl (Nat.le_of_ble_eq_true rfl) (Nat.le_of_ble_eq_true rfl) (Nat.le_of_ble_eq_true rfl) dX6_sizes_28 ?_
    refine gW_st (st' := []) rfl ?_
    refine g_aload_n C dX6_sizes_31 rfl 0 rfl ?_
    refine mm_getA C M 13 (Nat.le_of_ble_eq_true rfl) (Nat.le_of_ble_eq_true rfl) q2016 rfl dX6_sizes_32 ?_
    refine g_aload_n C dX6_sizes_35 rfl 0 rfl ?_
    refine mm_getI C M 41 (Nat.le_of_ble_eq_true rfl) (Nat.le_of_ble_eq_true rfl) q2044 rfl dX6_sizes_36 h (fun v4 h => ?_)
    refine g_aload_n C dX6_sizes_39 rfl 0 rfl ?_
    refine g_iconst C dX6_sizes_40 gk_iconst_2 ?_
    refine g_bipush C dX6_sizes_41 gk_bipush_16 ?_
    obtain ⟨v6, z5, e, h⟩ := g_callE h
    refine mm_callV C M 2 [.int (2 : Int32), .int (16 : Int32)] (st := [.int v4, .ref (E.2.2.2.1 13)]) (v := some (.int v6)) (z' := z5) (fun l => ct_number l (2 : Int32) (16 : Int32) z2 v6 z5 e) (lw_V q2297 q2299 qs89 q178 q2300) rfl rfl rfl (Nat.le_of_ble_eq_true rfl) (Nat.le_of_ble_eq_true rfl) (Nat.le_of_ble_eq_true rfl) dX6_sizes_43 ?_
    refine gW_st (st' := [.int v6, .int v4, .ref (E.2.2.2.1 13)]) rfl ?_
    refine mm_stI C M 13 (Nat.le_of_ble_eq_true rfl) rfl dX6_sizes_46 h (fun z7 h => ?_)
    refine g_aload_n C dX6_sizes_47 rfl 0 rfl ?_
    refine mm_getA C M 14 (Nat.le_of_ble_eq_true rfl) (Nat.le_of_ble_eq_true rfl) q2017 rfl dX6_sizes_48 ?_
    refine g_aload_n C dX6_sizes_51 rfl 0 rfl ?_
    refine mm_getI C M 41 (Nat.le_of_ble_eq_true rfl) (Nat.le_of_ble_eq_true rfl) q2044 rfl dX6_sizes_52 h (fun v8 h => ?_)
    refine g_aload_n C dX6_sizes_55 rfl 0 rfl ?_
    refine g_iconst C dX6_sizes_56 gk_iconst_2 ?_
    refine g_bipush C dX6_sizes_57 gk_bipush_16 ?_
    obtain ⟨v10, z9, e, h⟩ := g_callE h
    refine mm_callV C M 2 [.int (2 : Int32), .int (16 : Int32)] (st := [.int v8, .ref (E.2.2.2.1 14)]) (v := some (.int v10)) (z' := z9) (fun l => ct_number l (2 : Int32) (16 : Int32) z7 v10 z9 e) (lw_V q2297 q2299 qs89 q178 q2300) rfl rfl rfl (Nat.le_of_ble_eq_true rfl) (Nat.le_of_ble_eq_true rfl) (Nat.le_of_ble_eq_true rfl) dX6_sizes_59 ?_
    refine gW_st (st' := [.int v10, .int v8, .ref (E.2.2.2.1 14)]) rfl ?_
    refine mm_stI C M 14 (Nat.le_of_ble_eq_true rfl) rfl dX6_sizes_62 h (fun z11 h => ?_)
    refine g_aload_n C dX6_sizes_63 rfl 0 rfl ?_
    refine mm_getI C M 8 (Nat.le_of_ble_eq_true rfl) (Nat.le_of_ble_eq_true rfl) q2011 rfl dX6_sizes_64 h (fun v12 h => ?_)
    refine g_if_ne C dX6_sizes_67 rfl h (fun h => ?_) (fun h => ?_)
    · exact g_vret C (fun _ => trivial) dX6_sizes_76 h
    · refine g_aload_n C dX6_sizes_70 rfl 0 rfl ?_
      refine g_bipush C dX6_sizes_71 gk_bipush_59 ?_
      obtain ⟨u14, z13, e, h⟩ := g_callE h
      refine mm_callV C M 1 [.int (59 : Int32)] (st := []) (v := none) (z' := z13) (fun l => ct_must l (59 : Int32) z11 u14 z13 e) (lw_V q2304 q2306 qs90 q178 q2307) rfl rfl rfl (Nat.le_of_ble_eq_true rfl) (Nat.le_of_ble_eq_true rfl) (Nat.le_of_ble_eq_true rfl) dX6_sizes_73 ?_
      refine gW_st (st' := []) rfl ?_
      exact g_vret C (fun _ => trivial) dX6_sizes_76 h
  · exact g_vret C (fun _ => trivial) dX6_sizes_26 h
def mo_sizes (z : mm_S) : Option (Unit × mm_S) := g_call (mo_isWord (1936292453 : Int64) z) (fun v2 z1 => if v2 = 0 then (mm_gI 4 z1 (fun v3 => g_call (mo_blame (1 : Int32) v3 z1) (fun _ z4 => mo_sizes_b19 z4))) else (mo_sizes_b19 z1))
theorem wk_sizes {X : gX} {E : mm_E} {r : Unit × mm_S} (C : gC X cX6_sizes 1 none RX6 3 70) (M : mm_C X E) (z : mm_S) (h : mo_sizes z = some r) : gW X (mm_G E) (.returned none, r.2) z 0 [(0, .ref E.2.2.1)] [] := by
  unfold mo_sizes at h
  refine g_aload_n C dX6_sizes_0 rfl 0 rfl ?_
  refine g_ldc2 C dX6_sizes_1 q2292 ?_
  obtain ⟨v2, z1, e, h⟩ := g_callE h
  refine mm_callV C M 1 [.long (1936292453 : Int64)] (st := []) (v := some (.int v2)) (z' := z1) (fun l => ct_isWord l (1936292453 : Int64) z v2 z1 e) (lw_V q2293 q2295 qs88 q178 q2296) rfl rfl rfl (Nat.le_of_ble_eq_true rfl) (Nat.le_of_ble_eq_true rfl) (Nat.le_of_ble_eq_true rfl) dX6_sizes_4 ?_
  refine gW_st (st' := [.int v2]) rfl ?_
  refine g_if_ne C dX6_sizes_7 rfl h (fun h => ?_) (fun h => ?_)
  · exact wk_sizes_b19 C M z1 h
  · refine g_aload_n C dX6_sizes_10 rfl 0 rfl ?_
    refine g_iconst C dX6_sizes_11 gk_iconst_1 ?_
    refine g_aload_n C dX6_sizes_12 rfl 0 rfl ?_
    refine mm_getI C M 4 (Nat.le_of_ble_eq_true rfl) (Nat.le_of_ble_eq_true rfl) q2007 rfl dX6_sizes_13 h (fun v3 h => ?_)
    obtain ⟨u5, z4, e, h⟩ := g_callE h
    refine mm_callV C M 2 [.int (1 : Int32), .int v3] (st := []) (v := none) (z' := z4) (fun l => ct_blame l (1 : Int32) v3 z1 u5 z4 e) (lw_V q2284 q2286 qs86 q178 q2287) rfl rfl rfl (Nat.le_of_ble_eq_true rfl) (Nat.le_of_ble_eq_true rfl) (Nat.le_of_ble_eq_true rfl) dX6_sizes_16 ?_
    refine gW_st (st' := []) rfl ?_
    exact wk_sizes_b19 C M z4 h
theorem ct_sizes (l : Launch) (z : mm_S) (r : Unit) (z' : mm_S) (h : mo_sizes z = some (r, z')) : mm_MetV l yX6_sizes cX6_sizes 1 none 3 70 [] z (.returned none, z') := by
  intro E hD
  exact mm_enter E hD rfl ⟨_, rfl⟩ (.ref E.2.2.1 :: []) (Nat.le_of_ble_eq_true rfl) (fun X C M => wk_sizes C M z h)
def mo_counts_b31 (z : mm_S) : Option (Int32 × mm_S) := mm_gI 8 z (fun v1 => if v1 = 0 then (some ((1 : Int32), z)) else (some ((0 : Int32), z)))
theorem wk_counts_b31 {X : gX} {E : mm_E} {r : Int32 × mm_S} (C : gC X cX6_counts 2 (some .boolean) RX6 2 47) (M : mm_C X E) (z : mm_S) (h : mo_counts_b31 z = some r) : gW X (mm_G E) (.returned (some (.int r.1)), r.2) z 31 [(0, .ref E.2.2.1)] [] := by
  unfold mo_counts_b31 at h
  refine g_aload_n C dX6_counts_31 rfl 0 rfl ?_
  refine mm_getI C M 8 (Nat.le_of_ble_eq_true rfl) (Nat.le_of_ble_eq_true rfl) q2011 rfl dX6_counts_32 h (fun v1 h => ?_)
  refine g_if_ne C dX6_counts_35 rfl h (fun h => ?_) (fun h => ?_)
  · refine g_iconst C dX6_counts_42 gk_iconst_0 ?_
    exact g_zretc C (fun _ => trivial) dX6_counts_43 (Or.inl rfl) h
  · refine g_iconst C dX6_counts_38 gk_iconst_1 ?_
    refine g_goto C dX6_counts_39 rfl ?_
    exact g_zretc C (fun _ => trivial) dX6_counts_43 (Or.inr rfl) h
def mo_counts_b20 (z : mm_S) : Option (Int32 × mm_S) := mm_gI 8 z (fun v1 => if v1 = 0 then (g_call (mo_ahead z) (fun _ z2 => mo_counts_b31 z2)) else (mo_counts_b31 z))
theorem wk_counts_b20 {X : gX} {E : mm_E} {r : Int32 × mm_S} (C : gC X cX6_counts 2 (some .boolean) RX6 2 47) (M : mm_C X E) (z : mm_S) (h : mo_counts_b20 z = some r) : gW X (mm_G E) (.returned (some (.int r.1)), r.2) z 20 [(0, .ref E.2.2.1)] [] := by
  unfold mo_counts_b20 at h
  refine g_aload_n C dX6_counts_20 rfl 0 rfl ?_
  refine mm_getI C M 8 (Nat.le_of_ble_eq_true rfl) (Nat.le_of_ble_eq_true rfl) q2011 rfl dX6_counts_21 h (fun v1 h => ?_)
  refine g_if_ne C dX6_counts_24 rfl h (fun h => ?_) (fun h => ?_)
  · exact wk_counts_b31 C M z h
  · refine g_aload_n C dX6_counts_27 rfl 0 rfl ?_
    obtain ⟨u3, z2, e, h⟩ := g_callE h
    refine mm_callV C M 0 [] (st := []) (v := none) (z' := z2) (fun l => ct_ahead l z u3 z2 e) (lw_V q2274 q2276 qs85 q178 q2277) rfl rfl rfl (Nat.le_of_ble_eq_true rfl) (Nat.le_of_ble_eq_true rfl) (Nat.le_of_ble_eq_true rfl) dX6_counts_28 ?_
    refine gW_st (st' := []) rfl ?_
    exact wk_counts_b31 C M z2 h
def mo_counts (x1 : Int32) (z : mm_S) : Option (Int32 × mm_S) := mm_gI 8 z (fun v1 => if v1 = 0 then (if x1 = 0 then (mo_counts_b20 z) else (mm_gI 4 z (fun v2 => g_call (mo_blame (5 : Int32) v2 z) (fun _ z3 => mo_counts_b20 z3)))) else (mo_counts_b20 z))
theorem wk_counts {X : gX} {E : mm_E} {r : Int32 × mm_S} (C : gC X cX6_counts 2 (some .boolean) RX6 2 47) (M : mm_C X E) (x1 : Int32) (z : mm_S) (h : mo_counts x1 z = some r) : gW X (mm_G E) (.returned (some (.int r.1)), r.2) z 0 [(0, .ref E.2.2.1), (1, .int x1)] [] := by
  unfold mo_counts at h
  refine g_aload_n C dX6_counts_0 rfl 0 rfl ?_
  refine mm_getI C M 8 (Nat.le_of_ble_eq_true rfl) (Nat.le_of_ble_eq_true rfl) q2011 rfl dX6_counts_1 h (fun v1 h => ?_)
  refine g_if_ne C dX6_counts_4 rfl h (fun h => ?_) (fun h => ?_)
  · exact g_sub [(0, .ref E.2.2.1)] [0] rfl (wk_counts_b20 C M z h)
  · refine g_iload_n C dX6_counts_7 rfl 1 rfl ?_
    refine g_if_eq C dX6_counts_8 rfl h (fun h => ?_) (fun h => ?_)
    · exact g_sub [(0, .ref E.2.2.1)] [0] rfl (wk_counts_b20 C M z h)
    · refine g_aload_n C dX6_counts_11 rfl 0 rfl ?_
      refine g_iconst C dX6_counts_12 gk_iconst_5 ?_
      refine g_aload_n C dX6_counts_13 rfl 0 rfl ?_
      refine mm_getI C M 4 (Nat.le_of_ble_eq_true rfl) (Nat.le_of_ble_eq_true rfl) q2007 rfl dX6_counts_14 h (fun v2 h => ?_)
      obtain ⟨u4, z3, e, h⟩ := g_callE h
      refine mm_callV C M 2 [.int (5 : Int32), .int v2] (st := []) (v := none) (z' := z3) (fun l => ct_blame l (5 : Int32) v2 z u4 z3 e) (lw_V q2284 q2286 qs86 q178 q2287) rfl rfl rfl (Nat.le_of_ble_eq_true rfl) (Nat.le_of_ble_eq_true rfl) (Nat.le_of_ble_eq_true rfl) dX6_counts_17 ?_
      refine gW_st (st' := []) rfl ?_
      exact g_sub [(0, .ref E.2.2.1)] [0] rfl (wk_counts_b20 C M z3 h)
theorem ct_counts (l : Launch) (x1 : Int32) (z : mm_S) (r : Int32) (z' : mm_S) (h : mo_counts x1 z = some (r, z')) : mm_MetV l yX6_counts cX6_counts 2 (some .boolean) 2 47 [.int x1] z (.returned (some (.int r)), z') := by
  intro E hD
  exact mm_enter E hD rfl ⟨_, rfl⟩ (.ref E.2.2.1 :: [.int x1]) (Nat.le_of_ble_eq_true rfl) (fun X C M => wk_counts C M x1 z h)
def mo_lucks (z : mm_S) : Option (Unit × mm_S) := g_call (mo_counts (0 : Int32) z) (fun v2 z1 => if v2 = 0 then (some ((), z1)) else (mm_gI 41 z1 (fun v3 => g_call (mo_number (0 : Int32) (100 : Int32) z1) (fun v5 z4 => mm_sI 37 v3 v5 z4 (fun z6 => some ((), z6))))))
theorem wk_lucks {X : gX} {E : mm_E} {r : Unit × mm_S} (C : gC X cX6_lucks 1 none RX6 3 70) (M : mm_C X E) (z : mm_S) (h : mo_lucks z = some r) : gW X (mm_G E) (.returned none, r.2) z 0 [(0, .ref E.2.2.1)] [] := by
  unfold mo_lucks at h
  refine g_aload_n C dX6_lucks_0 rfl 0 rfl ?_
  refine g_iconst C dX6_lucks_1 gk_iconst_0 ?_
  obtain ⟨v2, z1, e, h⟩ := g_callE h
  refine mm_callV C M 1 [.int (0 : Int32)] (st := []) (v := some (.int v2)) (z' := z1) (fun l => ct_counts l (0 : Int32) z v2 z1 e) (lw_V q2324 q2326 qs94 q178 q2327) rfl rfl rfl (Nat.le_of_ble_eq_true rfl) (Nat.le_of_ble_eq_true rfl) (Nat.le_of_ble_eq_true rfl) dX6_lucks_2 ?_
  refine gW_st (st' := [.int v2]) rfl ?_
  refine g_if_ne C dX6_lucks_5 rfl h (fun h => ?_) (fun h => ?_)
  · refine g_aload_n C dX6_lucks_9 rfl 0 rfl ?_
    refine mm_getA C M 37 (Nat.le_of_ble_eq_true rfl) (Nat.le_of_ble_eq_true rfl) q2040 rfl dX6_lucks_10 ?_
    refine g_aload_n C dX6_lucks_13 rfl 0 rfl ?_
    refine mm_getI C M 41 (Nat.le_of_ble_eq_true rfl) (Nat.le_of_ble_eq_true rfl) q2044 rfl dX6_lucks_14 h (fun v3 h => ?_)
    refine g_aload_n C dX6_lucks_17 rfl 0 rfl ?_
    refine g_iconst C dX6_lucks_18 gk_iconst_0 ?_
    refine g_bipush C dX6_lucks_19 gk_bipush_100 ?_
    obtain ⟨v5, z4, e, h⟩ := g_callE h
    refine mm_callV C M 2 [.int (0 : Int32), .int (100 : Int32)] (st := [.int v3, .ref (E.2.2.2.1 37)]) (v := some (.int v5)) (z' := z4) (fun l => ct_number l (0 : Int32) (100 : Int32) z1 v5 z4 e) (lw_V q2297 q2299 qs89 q178 q2300) rfl rfl rfl (Nat.le_of_ble_eq_true rfl) (Nat.le_of_ble_eq_true rfl) (Nat.le_of_ble_eq_true rfl) dX6_lucks_21 ?_
    refine gW_st (st' := [.int v5, .int v3, .ref (E.2.2.2.1 37)]) rfl ?_
    refine mm_stI C M 37 (Nat.le_of_ble_eq_true rfl) rfl dX6_lucks_24 h (fun z6 h => ?_)
    exact g_vret C (fun _ => trivial) dX6_lucks_25 h
  · exact g_vret C (fun _ => trivial) dX6_lucks_8 h
theorem ct_lucks (l : Launch) (z : mm_S) (r : Unit) (z' : mm_S) (h : mo_lucks z = some (r, z')) : mm_MetV l yX6_lucks cX6_lucks 1 none 3 70 [] z (.returned none, z') := by
  intro E hD
  exact mm_enter E hD rfl ⟨_, rfl⟩ (.ref E.2.2.1 :: []) (Nat.le_of_ble_eq_true rfl) (fun X C M => wk_lucks C M z h)
def mo_mostRules (x0 : Int32) (z : mm_S) : Option (Int32 × mm_S) := if x0 = (2 : Int32) then (some ((6 : Int32), z)) else (some ((12 : Int32), z))
theorem wk_mostRules {X : gX} {E : mm_E} {r : Int32 × mm_S} (C : gC X cX6_mostRules 1 (some .int) RX6 0 0) (M : mm_C X E) (x0 : Int32) (z : mm_S) (h : mo_mostRules x0 z = some r) : gW X (mm_G E) (.returned (some (.int r.1)), r.2) z 0 [(0, .int x0)] [] := by
  unfold mo_mostRules at h
  refine g_iload_n C dX6_mostRules_0 rfl 0 rfl ?_
  refine g_iconst C dX6_mostRules_1 gk_iconst_2 ?_
  refine g_icmp_ne C dX6_mostRules_2 rfl h (fun h => ?_) (fun h => ?_)
  · refine g_bipush C dX6_mostRules_10 gk_bipush_12 ?_
    exact g_iret C (fun _ => trivial) dX6_mostRules_12 h
  · refine g_bipush C dX6_mostRules_5 gk_bipush_6 ?_
    refine g_goto C dX6_mostRules_7 rfl ?_
    exact g_iret C (fun _ => trivial) dX6_mostRules_12 h
theorem ct_mostRules (l : Launch) (x0 : Int32) (z : mm_S) (r : Int32) (z' : mm_S) (h : mo_mostRules x0 z = some (r, z')) : mm_MetS l yX6_mostRules cX6_mostRules 1 (some .int) 0 0 [.int x0] z (.returned (some (.int r)), z') := by
  intro E hD
  exact mm_enter E hD rfl ⟨_, rfl⟩ [.int x0] (Nat.le_of_ble_eq_true rfl) (fun X C M => wk_mostRules C M x0 z h)
def mo_firstRule (x0 : Int32) (z : mm_S) : Option (Int32 × mm_S) := some (((12 : Int32) * x0), z)
theorem wk_firstRule {X : gX} {E : mm_E} {r : Int32 × mm_S} (C : gC X cX6_firstRule 1 (some .int) RX6 0 0) (M : mm_C X E) (x0 : Int32) (z : mm_S) (h : mo_firstRule x0 z = some r) : gW X (mm_G E) (.returned (some (.int r.1)), r.2) z 0 [(0, .int x0)] [] := by
  unfold mo_firstRule at h
  refine g_bipush C dX6_firstRule_0 gk_bipush_12 ?_
  refine g_iload_n C dX6_firstRule_2 rfl 0 rfl ?_
  refine g_imul C dX6_firstRule_3 ?_
  exact g_iret C (fun _ => trivial) dX6_firstRule_4 h
theorem ct_firstRule (l : Launch) (x0 : Int32) (z : mm_S) (r : Int32) (z' : mm_S) (h : mo_firstRule x0 z = some (r, z')) : mm_MetS l yX6_firstRule cX6_firstRule 1 (some .int) 0 0 [.int x0] z (.returned (some (.int r)), z') := by
  intro E hD
  exact mm_enter E hD rfl ⟨_, rfl⟩ [.int x0] (Nat.le_of_ble_eq_true rfl) (fun X C M => wk_firstRule C M x0 z h)
def mo_pushes (x1 : Int32) (z : mm_S) : Option (Unit × mm_S) := mm_gI 47 z (fun v1 => mm_sI 42 v1 x1 z (fun z2 => mm_gI 47 z2 (fun v3 => mm_sI 43 v3 (0 : Int32) z2 (fun z4 => mm_gI 47 z4 (fun v5 => mm_sZ 44 v5 (1 : Int32) z4 (fun z6 => mm_gI 47 z6 (fun v7 => mm_gI 50 z6 (fun v8 => mm_sI 46 v7 v8 z6 (fun z9 => mm_gI 47 z9 (fun v10 => mm_pI 47 (v10 + (1 : Int32)) z9 (fun z11 => some ((), z11))))))))))))
theorem wk_pushes {X : gX} {E : mm_E} {r : Unit × mm_S} (C : gC X cX6_pushes 2 none RX6 0 0) (M : mm_C X E) (x1 : Int32) (z : mm_S) (h : mo_pushes x1 z = some r) : gW X (mm_G E) (.returned none, r.2) z 0 [(0, .ref E.2.2.1), (1, .int x1)] [] := by
  unfold mo_pushes at h
  refine g_aload_n C dX6_pushes_0 rfl 0 rfl ?_
  refine mm_getA C M 42 (Nat.le_of_ble_eq_true rfl) (Nat.le_of_ble_eq_true rfl) q2045 rfl dX6_pushes_1 ?_
  refine g_aload_n C dX6_pushes_4 rfl 0 rfl ?_
  refine mm_getI C M 47 (Nat.le_of_ble_eq_true rfl) (Nat.le_of_ble_eq_true rfl) q2050 rfl dX6_pushes_5 h (fun v1 h => ?_)
  refine g_iload_n C dX6_pushes_8 rfl 1 rfl ?_
  refine mm_stI C M 42 (Nat.le_of_ble_eq_true rfl) rfl dX6_pushes_9 h (fun z2 h => ?_)
  refine g_aload_n C dX6_pushes_10 rfl 0 rfl ?_
  refine mm_getA C M 43 (Nat.le_of_ble_eq_true rfl) (Nat.le_of_ble_eq_true rfl) q2046 rfl dX6_pushes_11 ?_
  refine g_aload_n C dX6_pushes_14 rfl 0 rfl ?_
  refine mm_getI C M 47 (Nat.le_of_ble_eq_true rfl) (Nat.le_of_ble_eq_true rfl) q2050 rfl dX6_pushes_15 h (fun v3 h => ?_)
  refine g_iconst C dX6_pushes_18 gk_iconst_0 ?_
  refine mm_stI C M 43 (Nat.le_of_ble_eq_true rfl) rfl dX6_pushes_19 h (fun z4 h => ?_)
  refine g_aload_n C dX6_pushes_20 rfl 0 rfl ?_
  refine mm_getA C M 44 (Nat.le_of_ble_eq_true rfl) (Nat.le_of_ble_eq_true rfl) q2047 rfl dX6_pushes_21 ?_
  refine g_aload_n C dX6_pushes_24 rfl 0 rfl ?_
  refine mm_getI C M 47 (Nat.le_of_ble_eq_true rfl) (Nat.le_of_ble_eq_true rfl) q2050 rfl dX6_pushes_25 h (fun v5 h => ?_)
  refine g_iconst C dX6_pushes_28 gk_iconst_1 ?_
  refine mm_stZ C M 44 (Nat.le_of_ble_eq_true rfl) rfl dX6_pushes_29 h (fun z6 h => ?_)
  refine g_aload_n C dX6_pushes_30 rfl 0 rfl ?_
  refine mm_getA C M 46 (Nat.le_of_ble_eq_true rfl) (Nat.le_of_ble_eq_true rfl) q2049 rfl dX6_pushes_31 ?_
  refine g_aload_n C dX6_pushes_34 rfl 0 rfl ?_
  refine mm_getI C M 47 (Nat.le_of_ble_eq_true rfl) (Nat.le_of_ble_eq_true rfl) q2050 rfl dX6_pushes_35 h (fun v7 h => ?_)
  refine g_aload_n C dX6_pushes_38 rfl 0 rfl ?_
  refine mm_getI C M 50 (Nat.le_of_ble_eq_true rfl) (Nat.le_of_ble_eq_true rfl) q2053 rfl dX6_pushes_39 h (fun v8 h => ?_)
  refine mm_stI C M 46 (Nat.le_of_ble_eq_true rfl) rfl dX6_pushes_42 h (fun z9 h => ?_)
  refine g_aload_n C dX6_pushes_43 rfl 0 rfl ?_
  refine g_dup C dX6_pushes_44 rfl ?_
  refine mm_getI C M 47 (Nat.le_of_ble_eq_true rfl) (Nat.le_of_ble_eq_true rfl) q2050 rfl dX6_pushes_45 h (fun v10 h => ?_)
  refine g_iconst C dX6_pushes_48 gk_iconst_1 ?_
  refine g_iadd C dX6_pushes_49 ?_
  refine mm_putI C M 47 (Nat.le_of_ble_eq_true rfl) (Nat.le_of_ble_eq_true rfl) q2050 rfl rfl rfl dX6_pushes_50 h (fun z11 h => ?_)
  exact g_vret C (fun _ => trivial) dX6_pushes_53 h
theorem ct_pushes (l : Launch) (x1 : Int32) (z : mm_S) (r : Unit) (z' : mm_S) (h : mo_pushes x1 z = some (r, z')) : mm_MetV l yX6_pushes cX6_pushes 2 none 0 0 [.int x1] z (.returned none, z') := by
  intro E hD
  exact mm_enter E hD rfl ⟨_, rfl⟩ (.ref E.2.2.1 :: [.int x1]) (Nat.le_of_ble_eq_true rfl) (fun X C M => wk_pushes C M x1 z h)
def mo_isTest (x0 : Int32) (z : mm_S) : Option (Int32 × mm_S) := if x0 = (1 : Int32) then (some ((1 : Int32), z)) else (if x0 = (5 : Int32) then (some ((1 : Int32), z)) else (some ((0 : Int32), z)))
theorem wk_isTest {X : gX} {E : mm_E} {r : Int32 × mm_S} (C : gC X cX6_isTest 1 (some .boolean) RX6 0 0) (M : mm_C X E) (x0 : Int32) (z : mm_S) (h : mo_isTest x0 z = some r) : gW X (mm_G E) (.returned (some (.int r.1)), r.2) z 0 [(0, .int x0)] [] := by
  unfold mo_isTest at h
  refine g_iload_n C dX6_isTest_0 rfl 0 rfl ?_
  refine g_iconst C dX6_isTest_1 gk_iconst_1 ?_
  refine g_icmp_eq C dX6_isTest_2 rfl h (fun h => ?_) (fun h => ?_)
  · refine g_iconst C dX6_isTest_10 gk_iconst_1 ?_
    refine g_goto C dX6_isTest_11 rfl ?_
    exact g_zretc C (fun _ => trivial) dX6_isTest_15 (Or.inr rfl) h
  · refine g_iload_n C dX6_isTest_5 rfl 0 rfl ?_
    refine g_iconst C dX6_isTest_6 gk_iconst_5 ?_
    refine g_icmp_ne C dX6_isTest_7 rfl h (fun h => ?_) (fun h => ?_)
    · refine g_iconst C dX6_isTest_14 gk_iconst_0 ?_
      exact g_zretc C (fun _ => trivial) dX6_isTest_15 (Or.inl rfl) h
    · refine g_iconst C dX6_isTest_10 gk_iconst_1 ?_
      refine g_goto C dX6_isTest_11 rfl ?_
      exact g_zretc C (fun _ => trivial) dX6_isTest_15 (Or.inr rfl) h
theorem ct_isTest (l : Launch) (x0 : Int32) (z : mm_S) (r : Int32) (z' : mm_S) (h : mo_isTest x0 z = some (r, z')) : mm_MetS l yX6_isTest cX6_isTest 1 (some .boolean) 0 0 [.int x0] z (.returned (some (.int r)), z') := by
  intro E hD
  exact mm_enter E hD rfl ⟨_, rfl⟩ [.int x0] (Nat.le_of_ble_eq_true rfl) (fun X C M => wk_isTest C M x0 z h)
def mo_holdsBack (x1 : Int32) (z : mm_S) : Option (Unit × mm_S) := mm_gI 50 z (fun v1 => mm_sI 49 v1 x1 z (fun z2 => mm_gI 50 z2 (fun v3 => mm_pI 50 (v3 + (1 : Int32)) z2 (fun z4 => some ((), z4)))))
theorem wk_holdsBack {X : gX} {E : mm_E} {r : Unit × mm_S} (C : gC X cX6_holdsBack 2 none RX6 0 0) (M : mm_C X E) (x1 : Int32) (z : mm_S) (h : mo_holdsBack x1 z = some r) : gW X (mm_G E) (.returned none, r.2) z 0 [(0, .ref E.2.2.1), (1, .int x1)] [] := by
  unfold mo_holdsBack at h
  refine g_aload_n C dX6_holdsBack_0 rfl 0 rfl ?_
  refine mm_getA C M 49 (Nat.le_of_ble_eq_true rfl) (Nat.le_of_ble_eq_true rfl) q2052 rfl dX6_holdsBack_1 ?_
  refine g_aload_n C dX6_holdsBack_4 rfl 0 rfl ?_
  refine mm_getI C M 50 (Nat.le_of_ble_eq_true rfl) (Nat.le_of_ble_eq_true rfl) q2053 rfl dX6_holdsBack_5 h (fun v1 h => ?_)
  refine g_iload_n C dX6_holdsBack_8 rfl 1 rfl ?_
  refine mm_stI C M 49 (Nat.le_of_ble_eq_true rfl) rfl dX6_holdsBack_9 h (fun z2 h => ?_)
  refine g_aload_n C dX6_holdsBack_10 rfl 0 rfl ?_
  refine g_dup C dX6_holdsBack_11 rfl ?_
  refine mm_getI C M 50 (Nat.le_of_ble_eq_true rfl) (Nat.le_of_ble_eq_true rfl) q2053 rfl dX6_holdsBack_12 h (fun v3 h => ?_)
  refine g_iconst C dX6_holdsBack_15 gk_iconst_1 ?_
  refine g_iadd C dX6_holdsBack_16 ?_
  refine mm_putI C M 50 (Nat.le_of_ble_eq_true rfl) (Nat.le_of_ble_eq_true rfl) q2053 rfl rfl rfl dX6_holdsBack_17 h (fun z4 h => ?_)
  exact g_vret C (fun _ => trivial) dX6_holdsBack_20 h
theorem ct_holdsBack (l : Launch) (x1 : Int32) (z : mm_S) (r : Unit) (z' : mm_S) (h : mo_holdsBack x1 z = some (r, z')) : mm_MetV l yX6_holdsBack cX6_holdsBack 2 none 0 0 [.int x1] z (.returned none, z') := by
  intro E hD
  exact mm_enter E hD rfl ⟨_, rfl⟩ (.ref E.2.2.1 :: [.int x1]) (Nat.le_of_ble_eq_true rfl) (fun X C M => wk_holdsBack C M x1 z h)
def mo_opens_b18 (x1 : Int32) (z : mm_S) : Option (Unit × mm_S) := mm_gI 8 z (fun v1 => if v1 ≤ 0 then (mm_gI 48 z (fun v2 => mm_pI 48 (v2 + (1 : Int32)) z (fun z3 => g_call (mo_ahead z3) (fun _ z4 => g_call (mo_pushes x1 z4) (fun _ z6 => some ((), z6)))))) else (some ((), z)))
theorem wk_opens_b18 {X : gX} {E : mm_E} {r : Unit × mm_S} (C : gC X cX6_opens 2 none RX6 2 47) (M : mm_C X E) (x1 : Int32) (z : mm_S) (h : mo_opens_b18 x1 z = some r) : gW X (mm_G E) (.returned none, r.2) z 18 [(0, .ref E.2.2.1), (1, .int x1)] [] := by
  unfold mo_opens_b18 at h
  refine g_aload_n C dX6_opens_18 rfl 0 rfl ?_
  refine mm_getI C M 8 (Nat.le_of_ble_eq_true rfl) (Nat.le_of_ble_eq_true rfl) q2011 rfl dX6_opens_19 h (fun v1 h => ?_)
  refine g_if_le C dX6_opens_22 rfl h (fun h => ?_) (fun h => ?_)
  · refine g_aload_n C dX6_opens_26 rfl 0 rfl ?_
    refine g_dup C dX6_opens_27 rfl ?_
    refine mm_getI C M 48 (Nat.le_of_ble_eq_true rfl) (Nat.le_of_ble_eq_true rfl) q2051 rfl dX6_opens_28 h (fun v2 h => ?_)
    refine g_iconst C dX6_opens_31 gk_iconst_1 ?_
    refine g_iadd C dX6_opens_32 ?_
    refine mm_putI C M 48 (Nat.le_of_ble_eq_true rfl) (Nat.le_of_ble_eq_true rfl) q2051 rfl rfl rfl dX6_opens_33 h (fun z3 h => ?_)
    refine g_aload_n C dX6_opens_36 rfl 0 rfl ?_
    obtain ⟨u5, z4, e, h⟩ := g_callE h
    refine mm_callV C M 0 [] (st := []) (v := none) (z' := z4) (fun l => ct_ahead l z3 u5 z4 e) (lw_V q2274 q2276 qs85 q178 q2277) rfl rfl rfl (Nat.le_of_ble_eq_true rfl) (Nat.le_of_ble_eq_true rfl) (Nat.le_of_ble_eq_true rfl) dX6_opens_37 ?_
    refine gW_st (st' := []) rfl ?_
    refine g_aload_n C dX6_opens_40 rfl 0 rfl ?_
    refine g_iload_n C dX6_opens_41 rfl 1 rfl ?_
    obtain ⟨u7, z6, e, h⟩ := g_callE h
    refine mm_callV C M 1 [.int x1] (st := []) (v := none) (z' := z6) (fun l => ct_pushes l x1 z4 u7 z6 e) (lw_V q2335 q2337 qs96 q178 q2338) rfl rfl rfl (Nat.le_of_ble_eq_true rfl) (Nat.le_of_ble_eq_true rfl) (Nat.le_of_ble_eq_true rfl) dX6_opens_42 ?_
    refine gW_st (st' := []) rfl ?_
    exact g_vret C (fun _ => trivial) dX6_opens_45 h
  · exact g_vret C (fun _ => trivial) dX6_opens_25 h
def mo_opens (x1 : Int32) (z : mm_S) : Option (Unit × mm_S) := mm_gI 48 z (fun v1 => if v1 = (8 : Int32) then (mm_gI 4 z (fun v2 => g_call (mo_blame (5 : Int32) v2 z) (fun _ z3 => mo_opens_b18 x1 z3))) else (mo_opens_b18 x1 z))
theorem wk_opens {X : gX} {E : mm_E} {r : Unit × mm_S} (C : gC X cX6_opens 2 none RX6 2 47) (M : mm_C X E) (x1 : Int32) (z : mm_S) (h : mo_opens x1 z = some r) : gW X (mm_G E) (.returned none, r.2) z 0 [(0, .ref E.2.2.1), (1, .int x1)] [] := by
  unfold mo_opens at h
  refine g_aload_n C dX6_opens_0 rfl 0 rfl ?_
  refine mm_getI C M 48 (Nat.le_of_ble_eq_true rfl) (Nat.le_of_ble_eq_true rfl) q2051 rfl dX6_opens_1 h (fun v1 h => ?_)
  refine g_bipush C dX6_opens_4 gk_bipush_8 ?_
  refine g_icmp_ne C dX6_opens_6 rfl h (fun h => ?_) (fun h => ?_)
  · exact wk_opens_b18 C M x1 z h
  · refine g_aload_n C dX6_opens_9 rfl 0 rfl ?_
    refine g_iconst C dX6_opens_10 gk_iconst_5 ?_
    refine g_aload_n C dX6_opens_11 rfl 0 rfl ?_
    refine mm_getI C M 4 (Nat.le_of_ble_eq_true rfl) (Nat.le_of_ble_eq_true rfl) q2007 rfl dX6_opens_12 h (fun v2 h => ?_)
    obtain ⟨u4, z3, e, h⟩ := g_callE h
    refine mm_callV C M 2 [.int (5 : Int32), .int v2] (st := []) (v := none) (z' := z3) (fun l => ct_blame l (5 : Int32) v2 z u4 z3 e) (lw_V q2284 q2286 qs86 q178 q2287) rfl rfl rfl (Nat.le_of_ble_eq_true rfl) (Nat.le_of_ble_eq_true rfl) (Nat.le_of_ble_eq_true rfl) dX6_opens_15 ?_
    refine gW_st (st' := []) rfl ?_
    exact wk_opens_b18 C M x1 z3 h
theorem ct_opens (l : Launch) (x1 : Int32) (z : mm_S) (r : Unit) (z' : mm_S) (h : mo_opens x1 z = some (r, z')) : mm_MetV l yX6_opens cX6_opens 2 none 2 47 [.int x1] z (.returned none, z') := by
  intro E hD
  exact mm_enter E hD rfl ⟨_, rfl⟩ (.ref E.2.2.1 :: [.int x1]) (Nat.le_of_ble_eq_true rfl) (fun X C M => wk_opens C M x1 z h)
def mo_add (x1 : Int32) (x2 : Int32) (z : mm_S) : Option (Unit × mm_S) := mm_gI 41 z (fun v1 => mm_gI 40 z (fun v2 => mm_sI 38 (((1800 : Int32) * v1) + v2) x1 z (fun z3 => mm_gI 41 z3 (fun v4 => mm_gI 40 z3 (fun v5 => mm_sI 39 (((1800 : Int32) * v4) + v5) x2 z3 (fun z6 => mm_gI 40 z6 (fun v7 => mm_pI 40 (v7 + (1 : Int32)) z6 (fun z8 => some ((), z8)))))))))
theorem wk_add {X : gX} {E : mm_E} {r : Unit × mm_S} (C : gC X cX6_add 3 none RX6 0 0) (M : mm_C X E) (x1 : Int32) (x2 : Int32) (z : mm_S) (h : mo_add x1 x2 z = some r) : gW X (mm_G E) (.returned none, r.2) z 0 [(0, .ref E.2.2.1), (1, .int x1), (2, .int x2)] [] := by
  unfold mo_add at h
  refine g_aload_n C dX6_add_0 rfl 0 rfl ?_
  refine mm_getA C M 38 (Nat.le_of_ble_eq_true rfl) (Nat.le_of_ble_eq_true rfl) q2041 rfl dX6_add_1 ?_
  refine g_sipush C dX6_add_4 gk_sipush_1800 ?_
  refine g_aload_n C dX6_add_7 rfl 0 rfl ?_
  refine mm_getI C M 41 (Nat.le_of_ble_eq_true rfl) (Nat.le_of_ble_eq_true rfl) q2044 rfl dX6_add_8 h (fun v1 h => ?_)
  refine g_imul C dX6_add_11 ?_
  refine g_aload_n C dX6_add_12 rfl 0 rfl ?_
  refine mm_getI C M 40 (Nat.le_of_ble_eq_true rfl) (Nat.le_of_ble_eq_true rfl) q2043 rfl dX6_add_13 h (fun v2 h => ?_)
  refine g_iadd C dX6_add_16 ?_
  refine g_iload_n C dX6_add_17 rfl 1 rfl ?_
  refine mm_stI C M 38 (Nat.le_of_ble_eq_true rfl) rfl dX6_add_18 h (fun z3 h => ?_)
  refine g_aload_n C dX6_add_19 rfl 0 rfl ?_
  refine mm_getA C M 39 (Nat.le_of_ble_eq_true rfl) (Nat.le_of_ble_eq_true rfl) q2042 rfl dX6_add_20 ?_
  refine g_sipush C dX6_add_23 gk_sipush_1800 ?_
  refine g_aload_n C dX6_add_26 rfl 0 rfl ?_
  refine mm_getI C M 41 (Nat.le_of_ble_eq_true rfl) (Nat.le_of_ble_eq_true rfl) q2044 rfl dX6_add_27 h (fun v4 h => ?_)
  refine g_imul C dX6_add_30 ?_
  refine g_aload_n C dX6_add_31 rfl 0 rfl ?_
  refine mm_getI C M 40 (Nat.le_of_ble_eq_true rfl) (Nat.le_of_ble_eq_true rfl) q2043 rfl dX6_add_32 h (fun v5 h => ?_)
  refine g_iadd C dX6_add_35 ?_
  refine g_iload_n C dX6_add_36 rfl 2 rfl ?_
  refine mm_stI C M 39 (Nat.le_of_ble_eq_true rfl) rfl dX6_add_37 h (fun z6 h => ?_)
  refine g_aload_n C dX6_add_38 rfl 0 rfl ?_
  refine g_dup C dX6_add_39 rfl ?_
  refine mm_getI C M 40 (Nat.le_of_ble_eq_true rfl) (Nat.le_of_ble_eq_true rfl) q2043 rfl dX6_add_40 h (fun v7 h => ?_)
  refine g_iconst C dX6_add_43 gk_iconst_1 ?_
  refine g_iadd C dX6_add_44 ?_
  refine mm_putI C M 40 (Nat.le_of_ble_eq_true rfl) (Nat.le_of_ble_eq_true rfl) q2043 rfl rfl rfl dX6_add_45 h (fun z8 h => ?_)
  exact g_vret C (fun _ => trivial) dX6_add_48 h
theorem ct_add (l : Launch) (x1 : Int32) (x2 : Int32) (z : mm_S) (r : Unit) (z' : mm_S) (h : mo_add x1 x2 z = some (r, z')) : mm_MetV l yX6_add cX6_add 3 none 0 0 [.int x1, .int x2] z (.returned none, z') := by
  intro E hD
  exact mm_enter E hD rfl ⟨_, rfl⟩ (.ref E.2.2.1 :: [.int x1, .int x2]) (Nat.le_of_ble_eq_true rfl) (fun X C M => wk_add C M x1 x2 z h)
def mo_operand_b197 (x3 : Int32) (z : mm_S) : Option (Int32 × mm_S) := g_call (mo_opens (3 : Int32) z) (fun _ z1 => mm_gI 8 z1 (fun v3 => if v3 = 0 then (mm_gI 47 z1 (fun v4 => mm_sI 45 (v4 - (1 : Int32)) x3 z1 (fun z5 => some ((0 : Int32), z5)))) else (some ((0 : Int32), z1))))
theorem wk_operand_b197 {X : gX} {E : mm_E} {r : Int32 × mm_S} (C : gC X cX6_operand 4 (some .boolean) RX6 3 68) (M : mm_C X E) (x3 : Int32) (z : mm_S) (h : mo_operand_b197 x3 z = some r) : gW X (mm_G E) (.returned (some (.int r.1)), r.2) z 197 [(0, .ref E.2.2.1), (3, .int x3)] [] := by
  unfold mo_operand_b197 at h
  refine g_aload_n C dX6_operand_197 rfl 0 rfl ?_
  refine g_iconst C dX6_operand_198 gk_iconst_3 ?_
  obtain ⟨u2, z1, e, h⟩ := g_callE h
  refine mm_callV C M 1 [.int (3 : Int32)] (st := []) (v := none) (z' := z1) (fun l => ct_opens l (3 : Int32) z u2 z1 e) (lw_V q2351 q2353 qs99 q178 q2354) rfl rfl rfl (Nat.le_of_ble_eq_true rfl) (Nat.le_of_ble_eq_true rfl) (Nat.le_of_ble_eq_true rfl) dX6_operand_199 ?_
  refine gW_st (st' := []) rfl ?_
  refine g_aload_n C dX6_operand_202 rfl 0 rfl ?_
  refine mm_getI C M 8 (Nat.le_of_ble_eq_true rfl) (Nat.le_of_ble_eq_true rfl) q2011 rfl dX6_operand_203 h (fun v3 h => ?_)
  refine g_if_ne C dX6_operand_206 rfl h (fun h => ?_) (fun h => ?_)
  · refine g_iconst C dX6_operand_221 gk_iconst_0 ?_
    exact g_zretc C (fun _ => trivial) dX6_operand_222 (Or.inl rfl) h
  · refine g_aload_n C dX6_operand_209 rfl 0 rfl ?_
    refine mm_getA C M 45 (Nat.le_of_ble_eq_true rfl) (Nat.le_of_ble_eq_true rfl) q2048 rfl dX6_operand_210 ?_
    refine g_aload_n C dX6_operand_213 rfl 0 rfl ?_
    refine mm_getI C M 47 (Nat.le_of_ble_eq_true rfl) (Nat.le_of_ble_eq_true rfl) q2050 rfl dX6_operand_214 h (fun v4 h => ?_)
    refine g_iconst C dX6_operand_217 gk_iconst_1 ?_
    refine g_isub C dX6_operand_218 ?_
    refine g_iload_n C dX6_operand_219 rfl 1 rfl ?_
    refine mm_stI C M 45 (Nat.le_of_ble_eq_true rfl) rfl dX6_operand_220 h (fun z5 h => ?_)
    refine g_iconst C dX6_operand_221 gk_iconst_0 ?_
    exact g_zretc C (fun _ => trivial) dX6_operand_222 (Or.inl rfl) h
def mo_operand_b174 (s0 : Int32) (z : mm_S) : Option (Int32 × mm_S) := g_call (mo_ahead z) (fun _ z1 => g_call (mo_isSign (40 : Int32) z1) (fun v4 z3 => if v4 = 0 then (mm_gI 4 z3 (fun v5 => g_call (mo_blame (1 : Int32) v5 z3) (fun _ z6 => mo_operand_b197 s0 z6))) else (mo_operand_b197 s0 z3)))
theorem wk_operand_b174 {X : gX} {E : mm_E} {r : Int32 × mm_S} (C : gC X cX6_operand 4 (some .boolean) RX6 3 68) (M : mm_C X E) (s0 : Int32) (z : mm_S) (h : mo_operand_b174 s0 z = some r) : gW X (mm_G E) (.returned (some (.int r.1)), r.2) z 174 [(0, .ref E.2.2.1)] [.int s0] := by
  unfold mo_operand_b174 at h
  refine g_istore_n [(3, .int s0), (0, .ref E.2.2.1)] C dX6_operand_174 rfl (Nat.le_of_ble_eq_true rfl) rfl ?_
  refine g_aload_n C dX6_operand_175 rfl 1 rfl ?_
  obtain ⟨u2, z1, e, h⟩ := g_callE h
  refine mm_callV C M 0 [] (st := []) (v := none) (z' := z1) (fun l => ct_ahead l z u2 z1 e) (lw_V q2274 q2276 qs85 q178 q2277) rfl rfl rfl (Nat.le_of_ble_eq_true rfl) (Nat.le_of_ble_eq_true rfl) (Nat.le_of_ble_eq_true rfl) dX6_operand_176 ?_
  refine gW_st (st' := []) rfl ?_
  refine g_aload_n C dX6_operand_179 rfl 1 rfl ?_
  refine g_bipush C dX6_operand_180 gk_bipush_40 ?_
  obtain ⟨v4, z3, e, h⟩ := g_callE h
  refine mm_callV C M 1 [.int (40 : Int32)] (st := []) (v := some (.int v4)) (z' := z3) (fun l => ct_isSign l (40 : Int32) z1 v4 z3 e) (lw_V q2308 q2310 qs91 q178 q2311) rfl rfl rfl (Nat.le_of_ble_eq_true rfl) (Nat.le_of_ble_eq_true rfl) (Nat.le_of_ble_eq_true rfl) dX6_operand_182 ?_
  refine gW_st (st' := [.int v4]) rfl ?_
  refine g_if_ne C dX6_operand_185 rfl h (fun h => ?_) (fun h => ?_)
  · exact g_sub [(0, .ref E.2.2.1), (3, .int s0)] [1, 0] rfl (wk_operand_b197 C M s0 z3 h)
  · refine g_aload_n C dX6_operand_188 rfl 1 rfl ?_
    refine g_iconst C dX6_operand_189 gk_iconst_1 ?_
    refine g_aload_n C dX6_operand_190 rfl 1 rfl ?_
    refine mm_getI C M 4 (Nat.le_of_ble_eq_true rfl) (Nat.le_of_ble_eq_true rfl) q2007 rfl dX6_operand_191 h (fun v5 h => ?_)
    obtain ⟨u7, z6, e, h⟩ := g_callE h
    refine mm_callV C M 2 [.int (1 : Int32), .int v5] (st := []) (v := none) (z' := z6) (fun l => ct_blame l (1 : Int32) v5 z3 u7 z6 e) (lw_V q2284 q2286 qs86 q178 q2287) rfl rfl rfl (Nat.le_of_ble_eq_true rfl) (Nat.le_of_ble_eq_true rfl) (Nat.le_of_ble_eq_true rfl) dX6_operand_194 ?_
    refine gW_st (st' := []) rfl ?_
    exact g_sub [(0, .ref E.2.2.1), (3, .int s0)] [1, 0] rfl (wk_operand_b197 C M s0 z6 h)
def mo_operand_b157 (z : mm_S) : Option (Int32 × mm_S) := g_call (mo_isWord (7170414 : Int64) z) (fun v2 z1 => if v2 = 0 then (mo_operand_b174 (16 : Int32) z1) else (mo_operand_b174 (15 : Int32) z1))
theorem wk_operand_b157 {X : gX} {E : mm_E} {r : Int32 × mm_S} (C : gC X cX6_operand 4 (some .boolean) RX6 3 68) (M : mm_C X E) (z : mm_S) (h : mo_operand_b157 z = some r) : gW X (mm_G E) (.returned (some (.int r.1)), r.2) z 157 [(0, .ref E.2.2.1)] [] := by
  unfold mo_operand_b157 at h
  refine g_aload_n C dX6_operand_157 rfl 0 rfl ?_
  refine g_ldc2 C dX6_operand_158 q2360 ?_
  obtain ⟨v2, z1, e, h⟩ := g_callE h
  refine mm_callV C M 1 [.long (7170414 : Int64)] (st := []) (v := some (.int v2)) (z' := z1) (fun l => ct_isWord l (7170414 : Int64) z v2 z1 e) (lw_V q2293 q2295 qs88 q178 q2296) rfl rfl rfl (Nat.le_of_ble_eq_true rfl) (Nat.le_of_ble_eq_true rfl) (Nat.le_of_ble_eq_true rfl) dX6_operand_161 ?_
  refine gW_st (st' := [.int v2]) rfl ?_
  refine g_if_eq C dX6_operand_164 rfl h (fun h => ?_) (fun h => ?_)
  · refine g_bipush C dX6_operand_172 gk_bipush_16 ?_
    exact wk_operand_b174 C M (16 : Int32) z1 h
  · refine g_bipush C dX6_operand_167 gk_bipush_15 ?_
    refine g_goto C dX6_operand_169 rfl ?_
    exact wk_operand_b174 C M (15 : Int32) z1 h
def mo_operand_b307 (x3 : Int32) (z : mm_S) : Option (Int32 × mm_S) := mm_gI 8 z (fun v1 => if v1 ≤ 0 then (mm_gI 6 z (fun v2 => g_call (mo_add x3 v2 z) (fun _ z3 => g_call (mo_ahead z3) (fun _ z5 => some ((1 : Int32), z5))))) else (some ((1 : Int32), z)))
theorem wk_operand_b307 {X : gX} {E : mm_E} {r : Int32 × mm_S} (C : gC X cX6_operand 4 (some .boolean) RX6 3 68) (M : mm_C X E) (x3 : Int32) (z : mm_S) (h : mo_operand_b307 x3 z = some r) : gW X (mm_G E) (.returned (some (.int r.1)), r.2) z 307 [(0, .ref E.2.2.1), (3, .int x3)] [] := by
  unfold mo_operand_b307 at h
  refine g_aload_n C dX6_operand_307 rfl 0 rfl ?_
  refine mm_getI C M 8 (Nat.le_of_ble_eq_true rfl) (Nat.le_of_ble_eq_true rfl) q2011 rfl dX6_operand_308 h (fun v1 h => ?_)
  refine g_if_le C dX6_operand_311 rfl h (fun h => ?_) (fun h => ?_)
  · refine g_aload_n C dX6_operand_316 rfl 0 rfl ?_
    refine g_iload_n C dX6_operand_317 rfl 1 rfl ?_
    refine g_aload_n C dX6_operand_318 rfl 0 rfl ?_
    refine mm_getI C M 6 (Nat.le_of_ble_eq_true rfl) (Nat.le_of_ble_eq_true rfl) q2009 rfl dX6_operand_319 h (fun v2 h => ?_)
    obtain ⟨u4, z3, e, h⟩ := g_callE h
    refine mm_callV C M 2 [.int x3, .int v2] (st := []) (v := none) (z' := z3) (fun l => ct_add l x3 v2 z u4 z3 e) (lw_V q2356 q2358 qs100 q178 q2359) rfl rfl rfl (Nat.le_of_ble_eq_true rfl) (Nat.le_of_ble_eq_true rfl) (Nat.le_of_ble_eq_true rfl) dX6_operand_322 ?_
    refine gW_st (st' := []) rfl ?_
    refine g_aload_n C dX6_operand_325 rfl 0 rfl ?_
    obtain ⟨u6, z5, e, h⟩ := g_callE h
    refine mm_callV C M 0 [] (st := []) (v := none) (z' := z5) (fun l => ct_ahead l z3 u6 z5 e) (lw_V q2274 q2276 qs85 q178 q2277) rfl rfl rfl (Nat.le_of_ble_eq_true rfl) (Nat.le_of_ble_eq_true rfl) (Nat.le_of_ble_eq_true rfl) dX6_operand_326 ?_
    refine gW_st (st' := []) rfl ?_
    refine g_iconst C dX6_operand_329 gk_iconst_1 ?_
    exact g_zretc C (fun _ => trivial) dX6_operand_330 (Or.inr rfl) h
  · refine g_iconst C dX6_operand_314 gk_iconst_1 ?_
    exact g_zretc C (fun _ => trivial) dX6_operand_315 (Or.inr rfl) h
def mo_operand_b292 (s0 : Int32) (z : mm_S) : Option (Int32 × mm_S) := if s0 = (-1 : Int32) then (mm_gI 4 z (fun v1 => g_call (mo_blame (1 : Int32) v1 z) (fun _ z2 => mo_operand_b307 s0 z2))) else (mo_operand_b307 s0 z)
theorem wk_operand_b292 {X : gX} {E : mm_E} {r : Int32 × mm_S} (C : gC X cX6_operand 4 (some .boolean) RX6 3 68) (M : mm_C X E) (s0 : Int32) (z : mm_S) (h : mo_operand_b292 s0 z = some r) : gW X (mm_G E) (.returned (some (.int r.1)), r.2) z 292 [(0, .ref E.2.2.1)] [.int s0] := by
  unfold mo_operand_b292 at h
  refine g_istore_n [(3, .int s0), (0, .ref E.2.2.1)] C dX6_operand_292 rfl (Nat.le_of_ble_eq_true rfl) rfl ?_
  refine g_iload_n C dX6_operand_293 rfl 0 rfl ?_
  refine g_iconst C dX6_operand_294 gk_iconst_m1 ?_
  refine g_icmp_ne C dX6_operand_295 rfl h (fun h => ?_) (fun h => ?_)
  · exact g_sub [(0, .ref E.2.2.1), (3, .int s0)] [1, 0] rfl (wk_operand_b307 C M s0 z h)
  · refine g_aload_n C dX6_operand_298 rfl 1 rfl ?_
    refine g_iconst C dX6_operand_299 gk_iconst_1 ?_
    refine g_aload_n C dX6_operand_300 rfl 1 rfl ?_
    refine mm_getI C M 4 (Nat.le_of_ble_eq_true rfl) (Nat.le_of_ble_eq_true rfl) q2007 rfl dX6_operand_301 h (fun v1 h => ?_)
    obtain ⟨u3, z2, e, h⟩ := g_callE h
    refine mm_callV C M 2 [.int (1 : Int32), .int v1] (st := []) (v := none) (z' := z2) (fun l => ct_blame l (1 : Int32) v1 z u3 z2 e) (lw_V q2284 q2286 qs86 q178 q2287) rfl rfl rfl (Nat.le_of_ble_eq_true rfl) (Nat.le_of_ble_eq_true rfl) (Nat.le_of_ble_eq_true rfl) dX6_operand_304 ?_
    refine gW_st (st' := []) rfl ?_
    exact g_sub [(0, .ref E.2.2.1), (3, .int s0)] [1, 0] rfl (wk_operand_b307 C M s0 z2 h)
def mo_operand_b121 (z : mm_S) : Option (Int32 × mm_S) := g_call (mo_isSign (40 : Int32) z) (fun v2 z1 => if v2 = 0 then (g_call (mo_isWord (7170414 : Int64) z1) (fun v4 z3 => if v4 = 0 then (g_call (mo_isWord (7168376 : Int64) z3) (fun v6 z5 => if v6 = 0 then (mm_gI 3 z5 (fun v7 => if v7 = (2 : Int32) then (mo_operand_b292 (0 : Int32) z5) else (g_call (mo_isWord (109330212154734 : Int64) z5) (fun v9 z8 => if v9 = 0 then (g_call (mo_isWord (7499639 : Int64) z8) (fun v11 z10 => if v11 = 0 then (g_call (mo_isWord (1752135026 : Int64) z10) (fun v13 z12 => if v13 = 0 then (g_call (mo_isWord (431198598248 : Int64) z12) (fun v15 z14 => if v15 = 0 then (mo_operand_b292 (-1 : Int32) z14) else (mo_operand_b292 (4 : Int32) z14))) else (mo_operand_b292 (3 : Int32) z12))) else (mo_operand_b292 (2 : Int32) z10))) else (mo_operand_b292 (1 : Int32) z8))))) else (mo_operand_b157 z5))) else (mo_operand_b157 z3))) else (g_call (mo_opens (2 : Int32) z1) (fun _ z16 => some ((0 : Int32), z16))))
theorem wk_operand_b121 {X : gX} {E : mm_E} {r : Int32 × mm_S} (C : gC X cX6_operand 4 (some .boolean) RX6 3 68) (M : mm_C X E) (z : mm_S) (h : mo_operand_b121 z = some r) : gW X (mm_G E) (.returned (some (.int r.1)), r.2) z 121 [(0, .ref E.2.2.1)] [] := by
  unfold mo_operand_b121 at h
  refine g_aload_n C dX6_operand_121 rfl 0 rfl ?_
  refine g_bipush C dX6_operand_122 gk_bipush_40 ?_
  obtain ⟨v2, z1, e, h⟩ := g_callE h
  refine mm_callV C M 1 [.int (40 : Int32)] (st := []) (v := some (.int v2)) (z' := z1) (fun l => ct_isSign l (40 : Int32) z v2 z1 e) (lw_V q2308 q2310 qs91 q178 q2311) rfl rfl rfl (Nat.le_of_ble_eq_true rfl) (Nat.le_of_ble_eq_true rfl) (Nat.le_of_ble_eq_true rfl) dX6_operand_124 ?_
  refine gW_st (st' := [.int v2]) rfl ?_
  refine g_if_eq C dX6_operand_127 rfl h (fun h => ?_) (fun h => ?_)
  · refine g_aload_n C dX6_operand_137 rfl 0 rfl ?_
    refine g_ldc2 C dX6_operand_138 q2360 ?_
    obtain ⟨v4, z3, e, h⟩ := g_callE h
    refine mm_callV C M 1 [.long (7170414 : Int64)] (st := []) (v := some (.int v4)) (z' := z3) (fun l => ct_isWord l (7170414 : Int64) z1 v4 z3 e) (lw_V q2293 q2295 qs88 q178 q2296) rfl rfl rfl (Nat.le_of_ble_eq_true rfl) (Nat.le_of_ble_eq_true rfl) (Nat.le_of_ble_eq_true rfl) dX6_operand_141 ?_
    refine gW_st (st' := [.int v4]) rfl ?_
    refine g_if_ne C dX6_operand_144 rfl h (fun h => ?_) (fun h => ?_)
    · exact wk_operand_b157 C M z3 h
    · refine g_aload_n C dX6_operand_147 rfl 0 rfl ?_
      refine g_ldc2 C dX6_operand_148 q2361 ?_
      obtain ⟨v6, z5, e, h⟩ := g_callE h
      refine mm_callV C M 1 [.long (7168376 : Int64)] (st := []) (v := some (.int v6)) (z' := z5) (fun l => ct_isWord l (7168376 : Int64) z3 v6 z5 e) (lw_V q2293 q2295 qs88 q178 q2296) rfl rfl rfl (Nat.le_of_ble_eq_true rfl) (Nat.le_of_ble_eq_true rfl) (Nat.le_of_ble_eq_true rfl) dX6_operand_151 ?_
      refine gW_st (st' := [.int v6]) rfl ?_
      refine g_if_eq C dX6_operand_154 rfl h (fun h => ?_) (fun h => ?_)
      · refine g_aload_n C dX6_operand_223 rfl 0 rfl ?_
        refine mm_getI C M 3 (Nat.le_of_ble_eq_true rfl) (Nat.le_of_ble_eq_true rfl) q2006 rfl dX6_operand_224 h (fun v7 h => ?_)
        refine g_iconst C dX6_operand_227 gk_iconst_2 ?_
        refine g_icmp_ne C dX6_operand_228 rfl h (fun h => ?_) (fun h => ?_)
        · refine g_aload_n C dX6_operand_235 rfl 0 rfl ?_
          refine g_ldc2 C dX6_operand_236 q2362 ?_
          obtain ⟨v9, z8, e, h⟩ := g_callE h
          refine mm_callV C M 1 [.long (109330212154734 : Int64)] (st := []) (v := some (.int v9)) (z' := z8) (fun l => ct_isWord l (109330212154734 : Int64) z5 v9 z8 e) (lw_V q2293 q2295 qs88 q178 q2296) rfl rfl rfl (Nat.le_of_ble_eq_true rfl) (Nat.le_of_ble_eq_true rfl) (Nat.le_of_ble_eq_true rfl) dX6_operand_239 ?_
          refine gW_st (st' := [.int v9]) rfl ?_
          refine g_if_eq C dX6_operand_242 rfl h (fun h => ?_) (fun h => ?_)
          · refine g_aload_n C dX6_operand_249 rfl 0 rfl ?_
            refine g_ldc2 C dX6_operand_250 q2363 ?_
            obtain ⟨v11, z10, e, h⟩ := g_callE h
            refine mm_callV C M 1 [.long (7499639 : Int64)] (st := []) (v := some (.int v11)) (z' := z10) (fun l => ct_isWord l (7499639 : Int64) z8 v11 z10 e) (lw_V q2293 q2295 qs88 q178 q2296) rfl rfl rfl (Nat.le_of_ble_eq_true rfl) (Nat.le_of_ble_eq_true rfl) (Nat.le_of_ble_eq_true rfl) dX6_operand_253 ?_
            refine gW_st (st' := [.int v11]) rfl ?_
            refine g_if_eq C dX6_operand_256 rfl h (fun h => ?_) (fun h => ?_)
            · refine g_aload_n C dX6_operand_263 rfl 0 rfl ?_
              refine g_ldc2 C dX6_operand_264 q2364 ?_
              obtain ⟨v13, z12, e, h⟩ := g_callE h
              refine mm_callV C M 1 [.long (1752135026 : Int64)] (st := []) (v := some (.int v13)) (z' := z12) (fun l => ct_isWord l (1752135026 : Int64) z10 v13 z12 e) (lw_V q2293 q2295 qs88 q178 q2296) rfl rfl rfl (Nat.le_of_ble_eq_true rfl) (Nat.le_of_ble_eq_true rfl) (Nat.le_of_ble_eq_true rfl) dX6_operand_267 ?_
              refine gW_st (st' := [.int v13]) rfl ?_
              refine g_if_eq C dX6_operand_270 rfl h (fun h => ?_) (fun h => ?_)
              · refine g_aload_n C dX6_operand_277 rfl 0 rfl ?_
                refine g_ldc2 C dX6_operand_278 q2316 ?_
                obtain ⟨v15, z14, e, h⟩ := g_callE h
                refine mm_callV C M 1 [.long (431198598248 : Int64)] (st := []) (v := some (.int v15)) (z' := z14) (fun l => ct_isWord l (431198598248 : Int64) z12 v15 z14 e) (lw_V q2293 q2295 qs88 q178 q2296) rfl rfl rfl (Nat.le_of_ble_eq_true rfl) (Nat.le_of_ble_eq_true rfl) (Nat.le_of_ble_eq_true rfl) dX6_operand_281 ?_
                refine gW_st (st' := [.int v15]) rfl ?_
                refine g_if_eq C dX6_operand_284 rfl h (fun h => ?_) (fun h => ?_)
                · refine g_iconst C dX6_operand_291 gk_iconst_m1 ?_
                  exact wk_operand_b292 C M (-1 : Int32) z14 h
                · refine g_iconst C dX6_operand_287 gk_iconst_4 ?_
                  refine g_goto C dX6_operand_288 rfl ?_
                  exact wk_operand_b292 C M (4 : Int32) z14 h
              · refine g_iconst C dX6_operand_273 gk_iconst_3 ?_
                refine g_goto C dX6_operand_274 rfl ?_
                exact wk_operand_b292 C M (3 : Int32) z12 h
            · refine g_iconst C dX6_operand_259 gk_iconst_2 ?_
              refine g_goto C dX6_operand_260 rfl ?_
              exact wk_operand_b292 C M (2 : Int32) z10 h
          · refine g_iconst C dX6_operand_245 gk_iconst_1 ?_
            refine g_goto C dX6_operand_246 rfl ?_
            exact wk_operand_b292 C M (1 : Int32) z8 h
        · refine g_iconst C dX6_operand_231 gk_iconst_0 ?_
          refine g_goto C dX6_operand_232 rfl ?_
          exact wk_operand_b292 C M (0 : Int32) z5 h
      · exact wk_operand_b157 C M z5 h
  · refine g_aload_n C dX6_operand_130 rfl 0 rfl ?_
    refine g_iconst C dX6_operand_131 gk_iconst_2 ?_
    obtain ⟨u17, z16, e, h⟩ := g_callE h
    refine mm_callV C M 1 [.int (2 : Int32)] (st := []) (v := none) (z' := z16) (fun l => ct_opens l (2 : Int32) z1 u17 z16 e) (lw_V q2351 q2353 qs99 q178 q2354) rfl rfl rfl (Nat.le_of_ble_eq_true rfl) (Nat.le_of_ble_eq_true rfl) (Nat.le_of_ble_eq_true rfl) dX6_operand_132 ?_
    refine gW_st (st' := []) rfl ?_
    refine g_iconst C dX6_operand_135 gk_iconst_0 ?_
    exact g_zretc C (fun _ => trivial) dX6_operand_136 (Or.inl rfl) h
def mo_operand_b87 (x1 : Int32) (x2 : Int32) (z : mm_S) : Option (Int32 × mm_S) := if x2 = 0 then (mo_operand_b121 z) else (g_call (mo_isWord (6384748 : Int64) z) (fun v2 z1 => if v2 = 0 then (mo_operand_b121 z1) else (g_call (mo_add (9 : Int32) (0 : Int32) z1) (fun _ z3 => mm_sI 43 x1 (2 : Int32) z3 (fun z5 => g_call (mo_ahead z5) (fun _ z6 => some ((1 : Int32), z6)))))))
theorem wk_operand_b87 {X : gX} {E : mm_E} {r : Int32 × mm_S} (C : gC X cX6_operand 4 (some .boolean) RX6 3 68) (M : mm_C X E) (x1 : Int32) (x2 : Int32) (z : mm_S) (h : mo_operand_b87 x1 x2 z = some r) : gW X (mm_G E) (.returned (some (.int r.1)), r.2) z 87 [(0, .ref E.2.2.1), (1, .int x1), (2, .int x2)] [] := by
  unfold mo_operand_b87 at h
  refine g_iload_n C dX6_operand_87 rfl 2 rfl ?_
  refine g_if_eq C dX6_operand_88 rfl h (fun h => ?_) (fun h => ?_)
  · exact g_sub [(0, .ref E.2.2.1)] [0] rfl (wk_operand_b121 C M z h)
  · refine g_aload_n C dX6_operand_91 rfl 0 rfl ?_
    refine g_ldc2 C dX6_operand_92 q2355 ?_
    obtain ⟨v2, z1, e, h⟩ := g_callE h
    refine mm_callV C M 1 [.long (6384748 : Int64)] (st := []) (v := some (.int v2)) (z' := z1) (fun l => ct_isWord l (6384748 : Int64) z v2 z1 e) (lw_V q2293 q2295 qs88 q178 q2296) rfl rfl rfl (Nat.le_of_ble_eq_true rfl) (Nat.le_of_ble_eq_true rfl) (Nat.le_of_ble_eq_true rfl) dX6_operand_95 ?_
    refine gW_st (st' := [.int v2]) rfl ?_
    refine g_if_eq C dX6_operand_98 rfl h (fun h => ?_) (fun h => ?_)
    · exact g_sub [(0, .ref E.2.2.1)] [0] rfl (wk_operand_b121 C M z1 h)
    · refine g_aload_n C dX6_operand_101 rfl 0 rfl ?_
      refine g_bipush C dX6_operand_102 gk_bipush_9 ?_
      refine g_iconst C dX6_operand_104 gk_iconst_0 ?_
      obtain ⟨u4, z3, e, h⟩ := g_callE h
      refine mm_callV C M 2 [.int (9 : Int32), .int (0 : Int32)] (st := []) (v := none) (z' := z3) (fun l => ct_add l (9 : Int32) (0 : Int32) z1 u4 z3 e) (lw_V q2356 q2358 qs100 q178 q2359) rfl rfl rfl (Nat.le_of_ble_eq_true rfl) (Nat.le_of_ble_eq_true rfl) (Nat.le_of_ble_eq_true rfl) dX6_operand_105 ?_
      refine gW_st (st' := []) rfl ?_
      refine g_aload_n C dX6_operand_108 rfl 0 rfl ?_
      refine mm_getA C M 43 (Nat.le_of_ble_eq_true rfl) (Nat.le_of_ble_eq_true rfl) q2046 rfl dX6_operand_109 ?_
      refine g_iload_n C dX6_operand_112 rfl 1 rfl ?_
      refine g_iconst C dX6_operand_113 gk_iconst_2 ?_
      refine mm_stI C M 43 (Nat.le_of_ble_eq_true rfl) rfl dX6_operand_114 h (fun z5 h => ?_)
      refine g_aload_n C dX6_operand_115 rfl 0 rfl ?_
      obtain ⟨u7, z6, e, h⟩ := g_callE h
      refine mm_callV C M 0 [] (st := []) (v := none) (z' := z6) (fun l => ct_ahead l z5 u7 z6 e) (lw_V q2274 q2276 qs85 q178 q2277) rfl rfl rfl (Nat.le_of_ble_eq_true rfl) (Nat.le_of_ble_eq_true rfl) (Nat.le_of_ble_eq_true rfl) dX6_operand_116 ?_
      refine gW_st (st' := []) rfl ?_
      refine g_iconst C dX6_operand_119 gk_iconst_1 ?_
      exact g_zretc C (fun _ => trivial) dX6_operand_120 (Or.inr rfl) h
def mo_operand_b60 (x1 : Int32) (x2 : Int32) (z : mm_S) : Option (Int32 × mm_S) := mm_sZ 44 x1 (0 : Int32) z (fun z1 => if x2 = 0 then (mo_operand_b87 x1 x2 z1) else (g_call (mo_isSign (91 : Int32) z1) (fun v3 z2 => if v3 = 0 then (mo_operand_b87 x1 x2 z2) else (g_call (mo_opens (5 : Int32) z2) (fun _ z4 => some ((0 : Int32), z4))))))
theorem wk_operand_b60 {X : gX} {E : mm_E} {r : Int32 × mm_S} (C : gC X cX6_operand 4 (some .boolean) RX6 3 68) (M : mm_C X E) (x1 : Int32) (x2 : Int32) (z : mm_S) (h : mo_operand_b60 x1 x2 z = some r) : gW X (mm_G E) (.returned (some (.int r.1)), r.2) z 60 [(0, .ref E.2.2.1), (1, .int x1), (2, .int x2)] [] := by
  unfold mo_operand_b60 at h
  refine g_aload_n C dX6_operand_60 rfl 0 rfl ?_
  refine mm_getA C M 44 (Nat.le_of_ble_eq_true rfl) (Nat.le_of_ble_eq_true rfl) q2047 rfl dX6_operand_61 ?_
  refine g_iload_n C dX6_operand_64 rfl 1 rfl ?_
  refine g_iconst C dX6_operand_65 gk_iconst_0 ?_
  refine mm_stZ C M 44 (Nat.le_of_ble_eq_true rfl) rfl dX6_operand_66 h (fun z1 h => ?_)
  refine g_iload_n C dX6_operand_67 rfl 2 rfl ?_
  refine g_if_eq C dX6_operand_68 rfl h (fun h => ?_) (fun h => ?_)
  · exact wk_operand_b87 C M x1 x2 z1 h
  · refine g_aload_n C dX6_operand_71 rfl 0 rfl ?_
    refine g_bipush C dX6_operand_72 gk_bipush_91 ?_
    obtain ⟨v3, z2, e, h⟩ := g_callE h
    refine mm_callV C M 1 [.int (91 : Int32)] (st := []) (v := some (.int v3)) (z' := z2) (fun l => ct_isSign l (91 : Int32) z1 v3 z2 e) (lw_V q2308 q2310 qs91 q178 q2311) rfl rfl rfl (Nat.le_of_ble_eq_true rfl) (Nat.le_of_ble_eq_true rfl) (Nat.le_of_ble_eq_true rfl) dX6_operand_74 ?_
    refine gW_st (st' := [.int v3]) rfl ?_
    refine g_if_eq C dX6_operand_77 rfl h (fun h => ?_) (fun h => ?_)
    · exact wk_operand_b87 C M x1 x2 z2 h
    · refine g_aload_n C dX6_operand_80 rfl 0 rfl ?_
      refine g_iconst C dX6_operand_81 gk_iconst_5 ?_
      obtain ⟨u5, z4, e, h⟩ := g_callE h
      refine mm_callV C M 1 [.int (5 : Int32)] (st := []) (v := none) (z' := z4) (fun l => ct_opens l (5 : Int32) z2 u5 z4 e) (lw_V q2351 q2353 qs99 q178 q2354) rfl rfl rfl (Nat.le_of_ble_eq_true rfl) (Nat.le_of_ble_eq_true rfl) (Nat.le_of_ble_eq_true rfl) dX6_operand_82 ?_
      refine gW_st (st' := []) rfl ?_
      refine g_iconst C dX6_operand_85 gk_iconst_0 ?_
      exact g_zretc C (fun _ => trivial) dX6_operand_86 (Or.inl rfl) h
def mo_operand_b33 (x1 : Int32) (s0 : Int32) (z : mm_S) : Option (Int32 × mm_S) := if s0 = 0 then (mo_operand_b60 x1 s0 z) else (g_call (mo_isWord (7237492 : Int64) z) (fun v2 z1 => if v2 = 0 then (mo_operand_b60 x1 s0 z1) else (g_call (mo_holdsBack (22 : Int32) z1) (fun _ z3 => g_call (mo_ahead z3) (fun _ z5 => some ((0 : Int32), z5))))))
theorem wk_operand_b33 {X : gX} {E : mm_E} {r : Int32 × mm_S} (C : gC X cX6_operand 4 (some .boolean) RX6 3 68) (M : mm_C X E) (x1 : Int32) (s0 : Int32) (z : mm_S) (h : mo_operand_b33 x1 s0 z = some r) : gW X (mm_G E) (.returned (some (.int r.1)), r.2) z 33 [(0, .ref E.2.2.1), (1, .int x1)] [.int s0] := by
  unfold mo_operand_b33 at h
  refine g_istore_n [(2, .int s0), (0, .ref E.2.2.1), (1, .int x1)] C dX6_operand_33 rfl (Nat.le_of_ble_eq_true rfl) rfl ?_
  refine g_iload_n C dX6_operand_34 rfl 0 rfl ?_
  refine g_if_eq C dX6_operand_35 rfl h (fun h => ?_) (fun h => ?_)
  · exact g_sub [(0, .ref E.2.2.1), (1, .int x1), (2, .int s0)] [1, 2, 0] rfl (wk_operand_b60 C M x1 s0 z h)
  · refine g_aload_n C dX6_operand_38 rfl 1 rfl ?_
    refine g_ldc2 C dX6_operand_39 q2346 ?_
    obtain ⟨v2, z1, e, h⟩ := g_callE h
    refine mm_callV C M 1 [.long (7237492 : Int64)] (st := []) (v := some (.int v2)) (z' := z1) (fun l => ct_isWord l (7237492 : Int64) z v2 z1 e) (lw_V q2293 q2295 qs88 q178 q2296) rfl rfl rfl (Nat.le_of_ble_eq_true rfl) (Nat.le_of_ble_eq_true rfl) (Nat.le_of_ble_eq_true rfl) dX6_operand_42 ?_
    refine gW_st (st' := [.int v2]) rfl ?_
    refine g_if_eq C dX6_operand_45 rfl h (fun h => ?_) (fun h => ?_)
    · exact g_sub [(0, .ref E.2.2.1), (1, .int x1), (2, .int s0)] [1, 2, 0] rfl (wk_operand_b60 C M x1 s0 z1 h)
    · refine g_aload_n C dX6_operand_48 rfl 1 rfl ?_
      refine g_bipush C dX6_operand_49 gk_bipush_22 ?_
      obtain ⟨u4, z3, e, h⟩ := g_callE h
      refine mm_callV C M 1 [.int (22 : Int32)] (st := []) (v := none) (z' := z3) (fun l => ct_holdsBack l (22 : Int32) z1 u4 z3 e) (lw_V q2347 q2349 qs98 q178 q2350) rfl rfl rfl (Nat.le_of_ble_eq_true rfl) (Nat.le_of_ble_eq_true rfl) (Nat.le_of_ble_eq_true rfl) dX6_operand_51 ?_
      refine gW_st (st' := []) rfl ?_
      refine g_aload_n C dX6_operand_54 rfl 1 rfl ?_
      obtain ⟨u6, z5, e, h⟩ := g_callE h
      refine mm_callV C M 0 [] (st := []) (v := none) (z' := z5) (fun l => ct_ahead l z3 u6 z5 e) (lw_V q2274 q2276 qs85 q178 q2277) rfl rfl rfl (Nat.le_of_ble_eq_true rfl) (Nat.le_of_ble_eq_true rfl) (Nat.le_of_ble_eq_true rfl) dX6_operand_55 ?_
      refine gW_st (st' := []) rfl ?_
      refine g_iconst C dX6_operand_58 gk_iconst_0 ?_
      exact g_zretc C (fun _ => trivial) dX6_operand_59 (Or.inl rfl) h
def mo_operand_b32 (x1 : Int32) (z : mm_S) : Option (Int32 × mm_S) := mo_operand_b33 x1 (0 : Int32) z
theorem wk_operand_b32 {X : gX} {E : mm_E} {r : Int32 × mm_S} (C : gC X cX6_operand 4 (some .boolean) RX6 3 68) (M : mm_C X E) (x1 : Int32) (z : mm_S) (h : mo_operand_b32 x1 z = some r) : gW X (mm_G E) (.returned (some (.int r.1)), r.2) z 32 [(0, .ref E.2.2.1), (1, .int x1)] [] := by
  unfold mo_operand_b32 at h
  refine g_iconst C dX6_operand_32 gk_iconst_0 ?_
  exact wk_operand_b33 C M x1 (0 : Int32) z h
def mo_operand (z : mm_S) : Option (Int32 × mm_S) := mm_gI 47 z (fun v1 => mm_lI 42 (v1 - (1 : Int32)) z (fun v2 => g_call (mo_isTest v2 z) (fun v4 z3 => if v4 = 0 then (mo_operand_b32 (v1 - (1 : Int32)) z3) else (mm_lI 44 (v1 - (1 : Int32)) z3 (fun v5 => if v5 = 0 then (mo_operand_b32 (v1 - (1 : Int32)) z3) else (mo_operand_b33 (v1 - (1 : Int32)) (1 : Int32) z3))))))
theorem wk_operand {X : gX} {E : mm_E} {r : Int32 × mm_S} (C : gC X cX6_operand 4 (some .boolean) RX6 3 68) (M : mm_C X E) (z : mm_S) (h : mo_operand z = some r) : gW X (mm_G E) (.returned (some (.int r.1)), r.2) z 0 [(0, .ref E.2.2.1)] [] := by
  unfold mo_operand at h
  refine g_aload_n C dX6_operand_0 rfl 0 rfl ?_
  refine mm_getI C M 47 (Nat.le_of_ble_eq_true rfl) (Nat.le_of_ble_eq_true rfl) q2050 rfl dX6_operand_1 h (fun v1 h => ?_)
  refine g_iconst C dX6_operand_4 gk_iconst_1 ?_
  refine g_isub C dX6_operand_5 ?_
  refine g_istore_n [(1, .int (v1 - (1 : Int32))), (0, .ref E.2.2.1)] C dX6_operand_6 rfl (Nat.le_of_ble_eq_true rfl) rfl ?_
  refine g_aload_n C dX6_operand_7 rfl 1 rfl ?_
  refine mm_getA C M 42 (Nat.le_of_ble_eq_true rfl) (Nat.le_of_ble_eq_true rfl) q2045 rfl dX6_operand_8 ?_
  refine g_iload_n C dX6_operand_11 rfl 0 rfl ?_
  refine mm_ldI C M 42 (Nat.le_of_ble_eq_true rfl) rfl dX6_operand_12 h (fun v2 h => ?_)
  obtain ⟨v4, z3, e, h⟩ := g_callE h
  refine mm_callS C M 1 [.int v2] (st := []) (v := some (.int v4)) (z' := z3) (fun l => ct_isTest l v2 z v4 z3 e) (lw_S q2343 q2344 q178 q2345) rfl rfl rfl (Nat.le_of_ble_eq_true rfl) (Nat.le_of_ble_eq_true rfl) (Nat.le_of_ble_eq_true rfl) dX6_operand_13 ?_
  refine gW_st (st' := [.int v4]) rfl ?_
  refine g_if_eq C dX6_operand_16 rfl h (fun h => ?_) (fun h => ?_)
  · exact g_sub [(0, .ref E.2.2.1), (1, .int (v1 - (1 : Int32)))] [1, 0] rfl (wk_operand_b32 C M (v1 - (1 : Int32)) z3 h)
  · refine g_aload_n C dX6_operand_19 rfl 1 rfl ?_
    refine mm_getA C M 44 (Nat.le_of_ble_eq_true rfl) (Nat.le_of_ble_eq_true rfl) q2047 rfl dX6_operand_20 ?_
    refine g_iload_n C dX6_operand_23 rfl 0 rfl ?_
    refine mm_ldZ C M 44 (Nat.le_of_ble_eq_true rfl) rfl dX6_operand_24 h (fun v5 h => ?_)
    refine g_if_eq C dX6_operand_25 rfl h (fun h => ?_) (fun h => ?_)
    · exact g_sub [(0, .ref E.2.2.1), (1, .int (v1 - (1 : Int32)))] [1, 0] rfl (wk_operand_b32 C M (v1 - (1 : Int32)) z3 h)
    · refine g_iconst C dX6_operand_28 gk_iconst_1 ?_
      refine g_goto C dX6_operand_29 rfl ?_
      exact g_sub [(0, .ref E.2.2.1), (1, .int (v1 - (1 : Int32)))] [1, 0] rfl (wk_operand_b33 C M (v1 - (1 : Int32)) (1 : Int32) z3 h)
theorem ct_operand (l : Launch) (z : mm_S) (r : Int32) (z' : mm_S) (h : mo_operand z = some (r, z')) : mm_MetV l yX6_operand cX6_operand 4 (some .boolean) 3 68 [] z (.returned (some (.int r)), z') := by
  intro E hD
  exact mm_enter E hD rfl ⟨_, rfl⟩ (.ref E.2.2.1 :: []) (Nat.le_of_ble_eq_true rfl) (fun X C M => wk_operand C M z h)
def mo_rank (x0 : Int32) (z : mm_S) : Option (Int32 × mm_S) := if x0 = (21 : Int32) then (some ((1 : Int32), z)) else (if x0 = (20 : Int32) then (some ((2 : Int32), z)) else (if x0 = (22 : Int32) then (some ((3 : Int32), z)) else (if x0 = (17 : Int32) then (some ((4 : Int32), z)) else (if x0 = (18 : Int32) then (some ((4 : Int32), z)) else (if x0 = (19 : Int32) then (some ((4 : Int32), z)) else (if x0 = (10 : Int32) then (some ((5 : Int32), z)) else (if x0 = (11 : Int32) then (some ((5 : Int32), z)) else (some ((6 : Int32), z)))))))))
theorem wk_rank {X : gX} {E : mm_E} {r : Int32 × mm_S} (C : gC X cX6_rank 1 (some .int) RX6 0 0) (M : mm_C X E) (x0 : Int32) (z : mm_S) (h : mo_rank x0 z = some r) : gW X (mm_G E) (.returned (some (.int r.1)), r.2) z 0 [(0, .int x0)] [] := by
  unfold mo_rank at h
  refine g_iload_n C dX6_rank_0 rfl 0 rfl ?_
  refine g_bipush C dX6_rank_1 gk_bipush_21 ?_
  refine g_icmp_ne C dX6_rank_3 rfl h (fun h => ?_) (fun h => ?_)
  · refine g_iload_n C dX6_rank_10 rfl 0 rfl ?_
    refine g_bipush C dX6_rank_11 gk_bipush_20 ?_
    refine g_icmp_ne C dX6_rank_13 rfl h (fun h => ?_) (fun h => ?_)
    · refine g_iload_n C dX6_rank_20 rfl 0 rfl ?_
      refine g_bipush C dX6_rank_21 gk_bipush_22 ?_
      refine g_icmp_ne C dX6_rank_23 rfl h (fun h => ?_) (fun h => ?_)
      · refine g_iload_n C dX6_rank_30 rfl 0 rfl ?_
        refine g_bipush C dX6_rank_31 gk_bipush_17 ?_
        refine g_icmp_eq C dX6_rank_33 rfl h (fun h => ?_) (fun h => ?_)
        · refine g_iconst C dX6_rank_48 gk_iconst_4 ?_
          refine g_goto C dX6_rank_49 rfl ?_
          exact g_iret C (fun _ => trivial) dX6_rank_70 h
        · refine g_iload_n C dX6_rank_36 rfl 0 rfl ?_
          refine g_bipush C dX6_rank_37 gk_bipush_18 ?_
          refine g_icmp_eq C dX6_rank_39 rfl h (fun h => ?_) (fun h => ?_)
          · refine g_iconst C dX6_rank_48 gk_iconst_4 ?_
            refine g_goto C dX6_rank_49 rfl ?_
            exact g_iret C (fun _ => trivial) dX6_rank_70 h
          · refine g_iload_n C dX6_rank_42 rfl 0 rfl ?_
            refine g_bipush C dX6_rank_43 gk_bipush_19 ?_
            refine g_icmp_ne C dX6_rank_45 rfl h (fun h => ?_) (fun h => ?_)
            · refine g_iload_n C dX6_rank_52 rfl 0 rfl ?_
              refine g_bipush C dX6_rank_53 gk_bipush_10 ?_
              refine g_icmp_eq C dX6_rank_55 rfl h (fun h => ?_) (fun h => ?_)
              · refine g_iconst C dX6_rank_64 gk_iconst_5 ?_
                refine g_goto C dX6_rank_65 rfl ?_
                exact g_iret C (fun _ => trivial) dX6_rank_70 h
              · refine g_iload_n C dX6_rank_58 rfl 0 rfl ?_
                refine g_bipush C dX6_rank_59 gk_bipush_11 ?_
                refine g_icmp_ne C dX6_rank_61 rfl h (fun h => ?_) (fun h => ?_)
                · refine g_bipush C dX6_rank_68 gk_bipush_6 ?_
                  exact g_iret C (fun _ => trivial) dX6_rank_70 h
                · refine g_iconst C dX6_rank_64 gk_iconst_5 ?_
                  refine g_goto C dX6_rank_65 rfl ?_
                  exact g_iret C (fun _ => trivial) dX6_rank_70 h
            · refine g_iconst C dX6_rank_48 gk_iconst_4 ?_
              refine g_goto C dX6_rank_49 rfl ?_
              exact g_iret C (fun _ => trivial) dX6_rank_70 h
      · refine g_iconst C dX6_rank_26 gk_iconst_3 ?_
        refine g_goto C dX6_rank_27 rfl ?_
        exact g_iret C (fun _ => trivial) dX6_rank_70 h
    · refine g_iconst C dX6_rank_16 gk_iconst_2 ?_
      refine g_goto C dX6_rank_17 rfl ?_
      exact g_iret C (fun _ => trivial) dX6_rank_70 h
  · refine g_iconst C dX6_rank_6 gk_iconst_1 ?_
    refine g_goto C dX6_rank_7 rfl ?_
    exact g_iret C (fun _ => trivial) dX6_rank_70 h
theorem ct_rank (l : Launch) (x0 : Int32) (z : mm_S) (r : Int32) (z' : mm_S) (h : mo_rank x0 z = some (r, z')) : mm_MetS l yX6_rank cX6_rank 1 (some .int) 0 0 [.int x0] z (.returned (some (.int r)), z') := by
  intro E hD
  exact mm_enter E hD rfl ⟨_, rfl⟩ [.int x0] (Nat.le_of_ble_eq_true rfl) (fun X C M => wk_rank C M x0 z h)
def mo_joins_b0 : Nat → Int32 → mm_S → Option (Unit × mm_S)
  | 0, _, _ => none
  | n + 1, x1, z => mm_gI 50 z (fun v1 => mm_gI 47 z (fun v2 => mm_lI 46 (v2 - (1 : Int32)) z (fun v3 => if v1 ≤ v3 then (some ((), z)) else (mm_gI 50 z (fun v4 => mm_lI 49 (v4 - (1 : Int32)) z (fun v5 => g_call (mo_rank v5 z) (fun v7 z6 => if v7 < x1 then (some ((), z6)) else (mm_gI 50 z6 (fun v8 => mm_pI 50 (v8 - (1 : Int32)) z6 (fun z9 => mm_gI 50 z9 (fun v10 => mm_lI 49 v10 z9 (fun v11 => g_call (mo_add v11 (0 : Int32) z9) (fun _ z12 => (mo_joins_b0 n) x1 z12)))))))))))))
theorem wk_joins_b0 {X : gX} {E : mm_E} {r : Unit × mm_S} (C : gC X cX6_joins 2 none RX6 1 22) (M : mm_C X E) : ∀ (n : Nat) (x1 : Int32) (z : mm_S), mo_joins_b0 n x1 z = some r → gW X (mm_G E) (.returned none, r.2) z 0 [(0, .ref E.2.2.1), (1, .int x1)] [] := by
  intro n
  induction n with
  | zero =>
    intro x1 z h
    have h : (none : Option (Unit × mm_S)) = some r := h
    cases h
  | succ n ih =>
    intro x1 z h
    rw [mo_joins_b0] at h
    refine g_aload_n C dX6_joins_0 rfl 0 rfl ?_
    refine mm_getI C M 50 (Nat.le_of_ble_eq_true rfl) (Nat.le_of_ble_eq_true rfl) q2053 rfl dX6_joins_1 h (fun v1 h => ?_)
    refine g_aload_n C dX6_joins_4 rfl 0 rfl ?_
    refine mm_getA C M 46 (Nat.le_of_ble_eq_true rfl) (Nat.le_of_ble_eq_true rfl) q2049 rfl dX6_joins_5 ?_
    refine g_aload_n C dX6_joins_8 rfl 0 rfl ?_
    refine mm_getI C M 47 (Nat.le_of_ble_eq_true rfl) (Nat.le_of_ble_eq_true rfl) q2050 rfl dX6_joins_9 h (fun v2 h => ?_)
    refine g_iconst C dX6_joins_12 gk_iconst_1 ?_
    refine g_isub C dX6_joins_13 ?_
    refine mm_ldI C M 46 (Nat.le_of_ble_eq_true rfl) rfl dX6_joins_14 h (fun v3 h => ?_)
    refine g_icmp_le C dX6_joins_15 rfl h (fun h => ?_) (fun h => ?_)
    · exact g_vret C (fun _ => trivial) dX6_joins_63 h
    · refine g_aload_n C dX6_joins_18 rfl 0 rfl ?_
      refine mm_getA C M 49 (Nat.le_of_ble_eq_true rfl) (Nat.le_of_ble_eq_true rfl) q2052 rfl dX6_joins_19 ?_
      refine g_aload_n C dX6_joins_22 rfl 0 rfl ?_
      refine mm_getI C M 50 (Nat.le_of_ble_eq_true rfl) (Nat.le_of_ble_eq_true rfl) q2053 rfl dX6_joins_23 h (fun v4 h => ?_)
      refine g_iconst C dX6_joins_26 gk_iconst_1 ?_
      refine g_isub C dX6_joins_27 ?_
      refine mm_ldI C M 49 (Nat.le_of_ble_eq_true rfl) rfl dX6_joins_28 h (fun v5 h => ?_)
      obtain ⟨v7, z6, e, h⟩ := g_callE h
      refine mm_callS C M 1 [.int v5] (st := []) (v := some (.int v7)) (z' := z6) (fun l => ct_rank l v5 z v7 z6 e) (lw_S q2373 q2374 q178 q2375) rfl rfl rfl (Nat.le_of_ble_eq_true rfl) (Nat.le_of_ble_eq_true rfl) (Nat.le_of_ble_eq_true rfl) dX6_joins_29 ?_
      refine gW_st (st' := [.int v7]) rfl ?_
      refine g_iload_n C dX6_joins_32 rfl 1 rfl ?_
      refine g_icmp_lt C dX6_joins_33 rfl h (fun h => ?_) (fun h => ?_)
      · exact g_vret C (fun _ => trivial) dX6_joins_63 h
      · refine g_aload_n C dX6_joins_36 rfl 0 rfl ?_
        refine g_dup C dX6_joins_37 rfl ?_
        refine mm_getI C M 50 (Nat.le_of_ble_eq_true rfl) (Nat.le_of_ble_eq_true rfl) q2053 rfl dX6_joins_38 h (fun v8 h => ?_)
        refine g_iconst C dX6_joins_41 gk_iconst_1 ?_
        refine g_isub C dX6_joins_42 ?_
        refine mm_putI C M 50 (Nat.le_of_ble_eq_true rfl) (Nat.le_of_ble_eq_true rfl) q2053 rfl rfl rfl dX6_joins_43 h (fun z9 h => ?_)
        refine g_aload_n C dX6_joins_46 rfl 0 rfl ?_
        refine g_aload_n C dX6_joins_47 rfl 0 rfl ?_
        refine mm_getA C M 49 (Nat.le_of_ble_eq_true rfl) (Nat.le_of_ble_eq_true rfl) q2052 rfl dX6_joins_48 ?_
        refine g_aload_n C dX6_joins_51 rfl 0 rfl ?_
        refine mm_getI C M 50 (Nat.le_of_ble_eq_true rfl) (Nat.le_of_ble_eq_true rfl) q2053 rfl dX6_joins_52 h (fun v10 h => ?_)
        refine mm_ldI C M 49 (Nat.le_of_ble_eq_true rfl) rfl dX6_joins_55 h (fun v11 h => ?_)
        refine g_iconst C dX6_joins_56 gk_iconst_0 ?_
        obtain ⟨u13, z12, e, h⟩ := g_callE h
        refine mm_callV C M 2 [.int v11, .int (0 : Int32)] (st := []) (v := none) (z' := z12) (fun l => ct_add l v11 (0 : Int32) z9 u13 z12 e) (lw_V q2356 q2358 qs100 q178 q2359) rfl rfl rfl (Nat.le_of_ble_eq_true rfl) (Nat.le_of_ble_eq_true rfl) (Nat.le_of_ble_eq_true rfl) dX6_joins_57 ?_
        refine gW_st (st' := []) rfl ?_
        refine g_goto C dX6_joins_60 rfl ?_
        exact ih x1 z12 h
def mo_joins (x1 : Int32) (z : mm_S) : Option (Unit × mm_S) := mo_joins_b0 g_fu x1 z
theorem wk_joins {X : gX} {E : mm_E} {r : Unit × mm_S} (C : gC X cX6_joins 2 none RX6 1 22) (M : mm_C X E) (x1 : Int32) (z : mm_S) (h : mo_joins x1 z = some r) : gW X (mm_G E) (.returned none, r.2) z 0 [(0, .ref E.2.2.1), (1, .int x1)] [] := by
  unfold mo_joins at h
  exact wk_joins_b0 C M g_fu x1 z h
theorem ct_joins (l : Launch) (x1 : Int32) (z : mm_S) (r : Unit) (z' : mm_S) (h : mo_joins x1 z = some (r, z')) : mm_MetV l yX6_joins cX6_joins 2 none 1 22 [.int x1] z (.returned none, z') := by
  intro E hD
  exact mm_enter E hD rfl ⟨_, rfl⟩ (.ref E.2.2.1 :: [.int x1]) (Nat.le_of_ble_eq_true rfl) (fun X C M => wk_joins C M x1 z h)
def mo_goesOn_b578 (z : mm_S) : Option (Int32 × mm_S) := g_call (mo_ahead z) (fun _ z1 => some ((1 : Int32), z1))
theorem wk_goesOn_b578 {X : gX} {E : mm_E} {r : Int32 × mm_S} (C : gC X cX6_goesOn 5 (some .boolean) RX6 2 47) (M : mm_C X E) (z : mm_S) (h : mo_goesOn_b578 z = some r) : gW X (mm_G E) (.returned (some (.int r.1)), r.2) z 578 [(0, .ref E.2.2.1)] [] := by
  unfold mo_goesOn_b578 at h
  refine g_aload_n C dX6_goesOn_578 rfl 0 rfl ?_
  obtain ⟨u2, z1, e, h⟩ := g_callE h
  refine mm_callV C M 0 [] (st := []) (v := none) (z' := z1) (fun l => ct_ahead l z u2 z1 e) (lw_V q2274 q2276 qs85 q178 q2277) rfl rfl rfl (Nat.le_of_ble_eq_true rfl) (Nat.le_of_ble_eq_true rfl) (Nat.le_of_ble_eq_true rfl) dX6_goesOn_579 ?_
  refine gW_st (st' := []) rfl ?_
  refine g_iconst C dX6_goesOn_582 gk_iconst_1 ?_
  exact g_zretc C (fun _ => trivial) dX6_goesOn_583 (Or.inr rfl) h
def mo_goesOn_b561 (x2 : Int32) (z : mm_S) : Option (Int32 × mm_S) := if x2 = (5 : Int32) then (mm_gI 47 z (fun v1 => mm_sI 43 (v1 - (1 : Int32)) (2 : Int32) z (fun z2 => mo_goesOn_b578 z2))) else (mo_goesOn_b578 z)
theorem wk_goesOn_b561 {X : gX} {E : mm_E} {r : Int32 × mm_S} (C : gC X cX6_goesOn 5 (some .boolean) RX6 2 47) (M : mm_C X E) (x2 : Int32) (z : mm_S) (h : mo_goesOn_b561 x2 z = some r) : gW X (mm_G E) (.returned (some (.int r.1)), r.2) z 561 [(0, .ref E.2.2.1), (2, .int x2)] [] := by
  unfold mo_goesOn_b561 at h
  refine g_iload_n C dX6_goesOn_561 rfl 1 rfl ?_
  refine g_iconst C dX6_goesOn_562 gk_iconst_5 ?_
  refine g_icmp_ne C dX6_goesOn_563 rfl h (fun h => ?_) (fun h => ?_)
  · exact g_sub [(0, .ref E.2.2.1)] [0] rfl (wk_goesOn_b578 C M z h)
  · refine g_aload_n C dX6_goesOn_566 rfl 0 rfl ?_
    refine mm_getA C M 43 (Nat.le_of_ble_eq_true rfl) (Nat.le_of_ble_eq_true rfl) q2046 rfl dX6_goesOn_567 ?_
    refine g_aload_n C dX6_goesOn_570 rfl 0 rfl ?_
    refine mm_getI C M 47 (Nat.le_of_ble_eq_true rfl) (Nat.le_of_ble_eq_true rfl) q2050 rfl dX6_goesOn_571 h (fun v1 h => ?_)
    refine g_iconst C dX6_goesOn_574 gk_iconst_1 ?_
    refine g_isub C dX6_goesOn_575 ?_
    refine g_iconst C dX6_goesOn_576 gk_iconst_2 ?_
    refine mm_stI C M 43 (Nat.le_of_ble_eq_true rfl) rfl dX6_goesOn_577 h (fun z2 h => ?_)
    exact g_sub [(0, .ref E.2.2.1)] [0] rfl (wk_goesOn_b578 C M z2 h)
def mo_goesOn_b511 (x1 : Int32) (x2 : Int32) (z : mm_S) : Option (Int32 × mm_S) := mm_gI 8 z (fun v1 => if v1 ≤ 0 then (g_call (mo_joins (1 : Int32) z) (fun _ z2 => mm_gI 47 z2 (fun v4 => mm_pI 47 (v4 - (1 : Int32)) z2 (fun z5 => mm_gI 48 z5 (fun v6 => mm_pI 48 (v6 - (1 : Int32)) z5 (fun z7 => if x2 = (4 : Int32) then (mm_lI 45 x1 z7 (fun v8 => g_call (mo_add v8 (0 : Int32) z7) (fun _ z9 => mo_goesOn_b561 x2 z9))) else (mo_goesOn_b561 x2 z7))))))) else (some ((0 : Int32), z)))
theorem wk_goesOn_b511 {X : gX} {E : mm_E} {r : Int32 × mm_S} (C : gC X cX6_goesOn 5 (some .boolean) RX6 2 47) (M : mm_C X E) (x1 : Int32) (x2 : Int32) (z : mm_S) (h : mo_goesOn_b511 x1 x2 z = some r) : gW X (mm_G E) (.returned (some (.int r.1)), r.2) z 511 [(0, .ref E.2.2.1), (1, .int x1), (2, .int x2)] [] := by
  unfold mo_goesOn_b511 at h
  refine g_aload_n C dX6_goesOn_511 rfl 0 rfl ?_
  refine mm_getI C M 8 (Nat.le_of_ble_eq_true rfl) (Nat.le_of_ble_eq_true rfl) q2011 rfl dX6_goesOn_512 h (fun v1 h => ?_)
  refine g_if_le C dX6_goesOn_515 rfl h (fun h => ?_) (fun h => ?_)
  · refine g_aload_n C dX6_goesOn_520 rfl 0 rfl ?_
    refine g_iconst C dX6_goesOn_521 gk_iconst_1 ?_
    obtain ⟨u3, z2, e, h⟩ := g_callE h
    refine mm_callV C M 1 [.int (1 : Int32)] (st := []) (v := none) (z' := z2) (fun l => ct_joins l (1 : Int32) z u3 z2 e) (lw_V q2369 q2371 qs102 q178 q2372) rfl rfl rfl (Nat.le_of_ble_eq_true rfl) (Nat.le_of_ble_eq_true rfl) (Nat.le_of_ble_eq_true rfl) dX6_goesOn_522 ?_
    refine gW_st (st' := []) rfl ?_
    refine g_aload_n C dX6_goesOn_525 rfl 0 rfl ?_
    refine g_dup C dX6_goesOn_526 rfl ?_
    refine mm_getI C M 47 (Nat.le_of_ble_eq_true rfl) (Nat.le_of_ble_eq_true rfl) q2050 rfl dX6_goesOn_527 h (fun v4 h => ?_)
    refine g_iconst C dX6_goesOn_530 gk_iconst_1 ?_
    refine g_isub C dX6_goesOn_531 ?_
    refine mm_putI C M 47 (Nat.le_of_ble_eq_true rfl) (Nat.le_of_ble_eq_true rfl) q2050 rfl rfl rfl dX6_goesOn_532 h (fun z5 h => ?_)
    refine g_aload_n C dX6_goesOn_535 rfl 0 rfl ?_
    refine g_dup C dX6_goesOn_536 rfl ?_
    refine mm_getI C M 48 (Nat.le_of_ble_eq_true rfl) (Nat.le_of_ble_eq_true rfl) q2051 rfl dX6_goesOn_537 h (fun v6 h => ?_)
    refine g_iconst C dX6_goesOn_540 gk_iconst_1 ?_
    refine g_isub C dX6_goesOn_541 ?_
    refine mm_putI C M 48 (Nat.le_of_ble_eq_true rfl) (Nat.le_of_ble_eq_true rfl) q2051 rfl rfl rfl dX6_goesOn_542 h (fun z7 h => ?_)
    refine g_iload_n C dX6_goesOn_545 rfl 2 rfl ?_
    refine g_iconst C dX6_goesOn_546 gk_iconst_4 ?_
    refine g_icmp_ne C dX6_goesOn_547 rfl h (fun h => ?_) (fun h => ?_)
    · exact g_sub [(0, .ref E.2.2.1), (2, .int x2)] [0, 2] rfl (wk_goesOn_b561 C M x2 z7 h)
    · refine g_aload_n C dX6_goesOn_550 rfl 0 rfl ?_
      refine g_aload_n C dX6_goesOn_551 rfl 0 rfl ?_
      refine mm_getA C M 45 (Nat.le_of_ble_eq_true rfl) (Nat.le_of_ble_eq_true rfl) q2048 rfl dX6_goesOn_552 ?_
      refine g_iload_n C dX6_goesOn_555 rfl 1 rfl ?_
      refine mm_ldI C M 45 (Nat.le_of_ble_eq_true rfl) rfl dX6_goesOn_556 h (fun v8 h => ?_)
      refine g_iconst C dX6_goesOn_557 gk_iconst_0 ?_
      obtain ⟨u10, z9, e, h⟩ := g_callE h
      refine mm_callV C M 2 [.int v8, .int (0 : Int32)] (st := []) (v := none) (z' := z9) (fun l => ct_add l v8 (0 : Int32) z7 u10 z9 e) (lw_V q2356 q2358 qs100 q178 q2359) rfl rfl rfl (Nat.le_of_ble_eq_true rfl) (Nat.le_of_ble_eq_true rfl) (Nat.le_of_ble_eq_true rfl) dX6_goesOn_558 ?_
      refine gW_st (st' := []) rfl ?_
      exact g_sub [(0, .ref E.2.2.1), (2, .int x2)] [0, 2] rfl (wk_goesOn_b561 C M x2 z9 h)
  · refine g_iconst C dX6_goesOn_518 gk_iconst_0 ?_
    exact g_zretc C (fun _ => trivial) dX6_goesOn_519 (Or.inl rfl) h
def mo_goesOn_b496 (x1 : Int32) (x2 : Int32) (s1 : Int32) (z : mm_S) : Option (Int32 × mm_S) := g_call (mo_isSign s1 z) (fun v2 z1 => if v2 = 0 then (mm_gI 4 z1 (fun v3 => g_call (mo_blame (1 : Int32) v3 z1) (fun _ z4 => mo_goesOn_b511 x1 x2 z4))) else (mo_goesOn_b511 x1 x2 z1))
theorem wk_goesOn_b496 {X : gX} {E : mm_E} {r : Int32 × mm_S} (C : gC X cX6_goesOn 5 (some .boolean) RX6 2 47) (M : mm_C X E) (x1 : Int32) (x2 : Int32) (s1 : Int32) (z : mm_S) (h : mo_goesOn_b496 x1 x2 s1 z = some r) : gW X (mm_G E) (.returned (some (.int r.1)), r.2) z 496 [(0, .ref E.2.2.1), (1, .int x1), (2, .int x2)] [.int s1, .ref E.2.2.1] := by
  unfold mo_goesOn_b496 at h
  obtain ⟨v2, z1, e, h⟩ := g_callE h
  refine mm_callV C M 1 [.int s1] (st := []) (v := some (.int v2)) (z' := z1) (fun l => ct_isSign l s1 z v2 z1 e) (lw_V q2308 q2310 qs91 q178 q2311) rfl rfl rfl (Nat.le_of_ble_eq_true rfl) (Nat.le_of_ble_eq_true rfl) (Nat.le_of_ble_eq_true rfl) dX6_goesOn_496 ?_
  refine gW_st (st' := [.int v2]) rfl ?_
  refine g_if_ne C dX6_goesOn_499 rfl h (fun h => ?_) (fun h => ?_)
  · exact wk_goesOn_b511 C M x1 x2 z1 h
  · refine g_aload_n C dX6_goesOn_502 rfl 0 rfl ?_
    refine g_iconst C dX6_goesOn_503 gk_iconst_1 ?_
    refine g_aload_n C dX6_goesOn_504 rfl 0 rfl ?_
    refine mm_getI C M 4 (Nat.le_of_ble_eq_true rfl) (Nat.le_of_ble_eq_true rfl) q2007 rfl dX6_goesOn_505 h (fun v3 h => ?_)
    obtain ⟨u5, z4, e, h⟩ := g_callE h
    refine mm_callV C M 2 [.int (1 : Int32), .int v3] (st := []) (v := none) (z' := z4) (fun l => ct_blame l (1 : Int32) v3 z1 u5 z4 e) (lw_V q2284 q2286 qs86 q178 q2287) rfl rfl rfl (Nat.le_of_ble_eq_true rfl) (Nat.le_of_ble_eq_true rfl) (Nat.le_of_ble_eq_true rfl) dX6_goesOn_508 ?_
    refine gW_st (st' := []) rfl ?_
    exact wk_goesOn_b511 C M x1 x2 z4 h
def mo_goesOn_b451 (x1 : Int32) (z : mm_S) : Option (Int32 × mm_S) := mm_gI 8 z (fun v1 => if v1 ≤ 0 then (g_call (mo_joins (1 : Int32) z) (fun _ z2 => mm_sI 42 x1 (4 : Int32) z2 (fun z4 => g_call (mo_ahead z4) (fun _ z5 => mm_pZ 51 (0 : Int32) z5 (fun z7 => some ((1 : Int32), z7)))))) else (some ((0 : Int32), z)))
theorem wk_goesOn_b451 {X : gX} {E : mm_E} {r : Int32 × mm_S} (C : gC X cX6_goesOn 5 (some .boolean) RX6 2 47) (M : mm_C X E) (x1 : Int32) (z : mm_S) (h : mo_goesOn_b451 x1 z = some r) : gW X (mm_G E) (.returned (some (.int r.1)), r.2) z 451 [(0, .ref E.2.2.1), (1, .int x1)] [] := by
  unfold mo_goesOn_b451 at h
  refine g_aload_n C dX6_goesOn_451 rfl 0 rfl ?_
  refine mm_getI C M 8 (Nat.le_of_ble_eq_true rfl) (Nat.le_of_ble_eq_true rfl) q2011 rfl dX6_goesOn_452 h (fun v1 h => ?_)
  refine g_if_le C dX6_goesOn_455 rfl h (fun h => ?_) (fun h => ?_)
  · refine g_aload_n C dX6_goesOn_460 rfl 0 rfl ?_
    refine g_iconst C dX6_goesOn_461 gk_iconst_1 ?_
    obtain ⟨u3, z2, e, h⟩ := g_callE h
    refine mm_callV C M 1 [.int (1 : Int32)] (st := []) (v := none) (z' := z2) (fun l => ct_joins l (1 : Int32) z u3 z2 e) (lw_V q2369 q2371 qs102 q178 q2372) rfl rfl rfl (Nat.le_of_ble_eq_true rfl) (Nat.le_of_ble_eq_true rfl) (Nat.le_of_ble_eq_true rfl) dX6_goesOn_462 ?_
    refine gW_st (st' := []) rfl ?_
    refine g_aload_n C dX6_goesOn_465 rfl 0 rfl ?_
    refine mm_getA C M 42 (Nat.le_of_ble_eq_true rfl) (Nat.le_of_ble_eq_true rfl) q2045 rfl dX6_goesOn_466 ?_
    refine g_iload_n C dX6_goesOn_469 rfl 1 rfl ?_
    refine g_iconst C dX6_goesOn_470 gk_iconst_4 ?_
    refine mm_stI C M 42 (Nat.le_of_ble_eq_true rfl) rfl dX6_goesOn_471 h (fun z4 h => ?_)
    refine g_aload_n C dX6_goesOn_472 rfl 0 rfl ?_
    obtain ⟨u6, z5, e, h⟩ := g_callE h
    refine mm_callV C M 0 [] (st := []) (v := none) (z' := z5) (fun l => ct_ahead l z4 u6 z5 e) (lw_V q2274 q2276 qs85 q178 q2277) rfl rfl rfl (Nat.le_of_ble_eq_true rfl) (Nat.le_of_ble_eq_true rfl) (Nat.le_of_ble_eq_true rfl) dX6_goesOn_473 ?_
    refine gW_st (st' := []) rfl ?_
    refine g_aload_n C dX6_goesOn_476 rfl 0 rfl ?_
    refine g_iconst C dX6_goesOn_477 gk_iconst_0 ?_
    refine mm_putZ C M 51 (Nat.le_of_ble_eq_true rfl) (Nat.le_of_ble_eq_true rfl) q2054 rfl rfl rfl dX6_goesOn_478 h (fun z7 h => ?_)
    refine g_iconst C dX6_goesOn_481 gk_iconst_1 ?_
    exact g_zretc C (fun _ => trivial) dX6_goesOn_482 (Or.inr rfl) h
  · refine g_iconst C dX6_goesOn_458 gk_iconst_0 ?_
    exact g_zretc C (fun _ => trivial) dX6_goesOn_459 (Or.inl rfl) h
def mo_goesOn_b409 (x1 : Int32) (x2 : Int32) (z : mm_S) : Option (Int32 × mm_S) := if (2 : Int32) ≤ x2 then (if x2 = (3 : Int32) then (g_call (mo_isSign (44 : Int32) z) (fun v2 z1 => if v2 = 0 then (mm_gI 4 z1 (fun v3 => g_call (mo_blame (1 : Int32) v3 z1) (fun _ z4 => mo_goesOn_b451 x1 z4))) else (mo_goesOn_b451 x1 z1))) else (if x2 = (5 : Int32) then (mo_goesOn_b496 x1 x2 (93 : Int32) z) else (mo_goesOn_b496 x1 x2 (41 : Int32) z))) else (mm_gI 8 z (fun v6 => if v6 = 0 then (g_call (mo_joins (1 : Int32) z) (fun _ z7 => some ((0 : Int32), z7))) else (some ((0 : Int32), z))))
theorem wk_goesOn_b409 {X : gX} {E : mm_E} {r : Int32 × mm_S} (C : gC X cX6_goesOn 5 (some .boolean) RX6 2 47) (M : mm_C X E) (x1 : Int32) (x2 : Int32) (z : mm_S) (h : mo_goesOn_b409 x1 x2 z = some r) : gW X (mm_G E) (.returned (some (.int r.1)), r.2) z 409 [(0, .ref E.2.2.1), (1, .int x1), (2, .int x2)] [] := by
  unfold mo_goesOn_b409 at h
  refine g_iload_n C dX6_goesOn_409 rfl 2 rfl ?_
  refine g_iconst C dX6_goesOn_410 gk_iconst_2 ?_
  refine g_icmp_ge C dX6_goesOn_411 rfl h (fun h => ?_) (fun h => ?_)
  · refine g_iload_n C dX6_goesOn_428 rfl 2 rfl ?_
    refine g_iconst C dX6_goesOn_429 gk_iconst_3 ?_
    refine g_icmp_ne C dX6_goesOn_430 rfl h (fun h => ?_) (fun h => ?_)
    · refine g_aload_n C dX6_goesOn_483 rfl 0 rfl ?_
      refine g_iload_n C dX6_goesOn_484 rfl 2 rfl ?_
      refine g_iconst C dX6_goesOn_485 gk_iconst_5 ?_
      refine g_icmp_ne C dX6_goesOn_486 rfl h (fun h => ?_) (fun h => ?_)
      · refine g_bipush C dX6_goesOn_494 gk_bipush_41 ?_
        exact wk_goesOn_b496 C M x1 x2 (41 : Int32) z h
      · refine g_bipush C dX6_goesOn_489 gk_bipush_93 ?_
        refine g_goto C dX6_goesOn_491 rfl ?_
        exact wk_goesOn_b496 C M x1 x2 (93 : Int32) z h
    · refine g_aload_n C dX6_goesOn_433 rfl 0 rfl ?_
      refine g_bipush C dX6_goesOn_434 gk_bipush_44 ?_
      obtain ⟨v2, z1, e, h⟩ := g_callE h
      refine mm_callV C M 1 [.int (44 : Int32)] (st := []) (v := some (.int v2)) (z' := z1) (fun l => ct_isSign l (44 : Int32) z v2 z1 e) (lw_V q2308 q2310 qs91 q178 q2311) rfl rfl rfl (Nat.le_of_ble_eq_true rfl) (Nat.le_of_ble_eq_true rfl) (Nat.le_of_ble_eq_true rfl) dX6_goesOn_436 ?_
      refine gW_st (st' := [.int v2]) rfl ?_
      refine g_if_ne C dX6_goesOn_439 rfl h (fun h => ?_) (fun h => ?_)
      · exact g_sub [(0, .ref E.2.2.1), (1, .int x1)] [0, 1] rfl (wk_goesOn_b451 C M x1 z1 h)
      · refine g_aload_n C dX6_goesOn_442 rfl 0 rfl ?_
        refine g_iconst C dX6_goesOn_443 gk_iconst_1 ?_
        refine g_aload_n C dX6_goesOn_444 rfl 0 rfl ?_
        refine mm_getI C M 4 (Nat.le_of_ble_eq_true rfl) (Nat.le_of_ble_eq_true rfl) q2007 rfl dX6_goesOn_445 h (fun v3 h => ?_)
        obtain ⟨u5, z4, e, h⟩ := g_callE h
        refine mm_callV C M 2 [.int (1 : Int32), .int v3] (st := []) (v := none) (z' := z4) (fun l => ct_blame l (1 : Int32) v3 z1 u5 z4 e) (lw_V q2284 q2286 qs86 q178 q2287) rfl rfl rfl (Nat.le_of_ble_eq_true rfl) (Nat.le_of_ble_eq_true rfl) (Nat.le_of_ble_eq_true rfl) dX6_goesOn_448 ?_
        refine gW_st (st' := []) rfl ?_
        exact g_sub [(0, .ref E.2.2.1), (1, .int x1)] [0, 1] rfl (wk_goesOn_b451 C M x1 z4 h)
  · refine g_aload_n C dX6_goesOn_414 rfl 0 rfl ?_
    refine mm_getI C M 8 (Nat.le_of_ble_eq_true rfl) (Nat.le_of_ble_eq_true rfl) q2011 rfl dX6_goesOn_415 h (fun v6 h => ?_)
    refine g_if_ne C dX6_goesOn_418 rfl h (fun h => ?_) (fun h => ?_)
    · refine g_iconst C dX6_goesOn_426 gk_iconst_0 ?_
      exact g_zretc C (fun _ => trivial) dX6_goesOn_427 (Or.inl rfl) h
    · refine g_aload_n C dX6_goesOn_421 rfl 0 rfl ?_
      refine g_iconst C dX6_goesOn_422 gk_iconst_1 ?_
      obtain ⟨u8, z7, e, h⟩ := g_callE h
      refine mm_callV C M 1 [.int (1 : Int32)] (st := []) (v := none) (z' := z7) (fun l => ct_joins l (1 : Int32) z u8 z7 e) (lw_V q2369 q2371 qs102 q178 q2372) rfl rfl rfl (Nat.le_of_ble_eq_true rfl) (Nat.le_of_ble_eq_true rfl) (Nat.le_of_ble_eq_true rfl) dX6_goesOn_423 ?_
      refine gW_st (st' := []) rfl ?_
      refine g_iconst C dX6_goesOn_426 gk_iconst_0 ?_
      exact g_zretc C (fun _ => trivial) dX6_goesOn_427 (Or.inl rfl) h
def mo_goesOn_b387 (x1 : Int32) (x2 : Int32) (x3 : Int32) (z : mm_S) : Option (Int32 × mm_S) := if x3 = 0 then (mo_goesOn_b409 x1 x2 z) else (mm_lI 43 x1 z (fun v1 => if v1 = 0 then (mm_gI 4 z (fun v2 => g_call (mo_blame (1 : Int32) v2 z) (fun _ z3 => mo_goesOn_b409 x1 x2 z3))) else (mo_goesOn_b409 x1 x2 z)))
theorem wk_goesOn_b387 {X : gX} {E : mm_E} {r : Int32 × mm_S} (C : gC X cX6_goesOn 5 (some .boolean) RX6 2 47) (M : mm_C X E) (x1 : Int32) (x2 : Int32) (x3 : Int32) (z : mm_S) (h : mo_goesOn_b387 x1 x2 x3 z = some r) : gW X (mm_G E) (.returned (some (.int r.1)), r.2) z 387 [(0, .ref E.2.2.1), (1, .int x1), (2, .int x2), (3, .int x3)] [] := by
  unfold mo_goesOn_b387 at h
  refine g_iload_n C dX6_goesOn_387 rfl 3 rfl ?_
  refine g_if_eq C dX6_goesOn_388 rfl h (fun h => ?_) (fun h => ?_)
  · exact g_sub [(0, .ref E.2.2.1), (1, .int x1), (2, .int x2)] [0, 1, 2] rfl (wk_goesOn_b409 C M x1 x2 z h)
  · refine g_aload_n C dX6_goesOn_391 rfl 0 rfl ?_
    refine mm_getA C M 43 (Nat.le_of_ble_eq_true rfl) (Nat.le_of_ble_eq_true rfl) q2046 rfl dX6_goesOn_392 ?_
    refine g_iload_n C dX6_goesOn_395 rfl 1 rfl ?_
    refine mm_ldI C M 43 (Nat.le_of_ble_eq_true rfl) rfl dX6_goesOn_396 h (fun v1 h => ?_)
    refine g_if_ne C dX6_goesOn_397 rfl h (fun h => ?_) (fun h => ?_)
    · exact g_sub [(0, .ref E.2.2.1), (1, .int x1), (2, .int x2)] [0, 1, 2] rfl (wk_goesOn_b409 C M x1 x2 z h)
    · refine g_aload_n C dX6_goesOn_400 rfl 0 rfl ?_
      refine g_iconst C dX6_goesOn_401 gk_iconst_1 ?_
      refine g_aload_n C dX6_goesOn_402 rfl 0 rfl ?_
      refine mm_getI C M 4 (Nat.le_of_ble_eq_true rfl) (Nat.le_of_ble_eq_true rfl) q2007 rfl dX6_goesOn_403 h (fun v2 h => ?_)
      obtain ⟨u4, z3, e, h⟩ := g_callE h
      refine mm_callV C M 2 [.int (1 : Int32), .int v2] (st := []) (v := none) (z' := z3) (fun l => ct_blame l (1 : Int32) v2 z u4 z3 e) (lw_V q2284 q2286 qs86 q178 q2287) rfl rfl rfl (Nat.le_of_ble_eq_true rfl) (Nat.le_of_ble_eq_true rfl) (Nat.le_of_ble_eq_true rfl) dX6_goesOn_406 ?_
      refine gW_st (st' := []) rfl ?_
      exact g_sub [(0, .ref E.2.2.1), (1, .int x1), (2, .int x2)] [0, 1, 2] rfl (wk_goesOn_b409 C M x1 x2 z3 h)
def mo_goesOn_b359 (x1 : Int32) (s1 : Int32) (z : mm_S) : Option (Int32 × mm_S) := g_call (mo_holdsBack s1 z) (fun _ z1 => mm_sI 43 x1 (0 : Int32) z1 (fun z3 => mm_sZ 44 x1 (1 : Int32) z3 (fun z4 => g_call (mo_ahead z4) (fun _ z5 => mm_pZ 51 (0 : Int32) z5 (fun z7 => some ((1 : Int32), z7))))))
theorem wk_goesOn_b359 {X : gX} {E : mm_E} {r : Int32 × mm_S} (C : gC X cX6_goesOn 5 (some .boolean) RX6 2 47) (M : mm_C X E) (x1 : Int32) (s1 : Int32) (z : mm_S) (h : mo_goesOn_b359 x1 s1 z = some r) : gW X (mm_G E) (.returned (some (.int r.1)), r.2) z 359 [(0, .ref E.2.2.1), (1, .int x1)] [.int s1, .ref E.2.2.1] := by
  unfold mo_goesOn_b359 at h
  obtain ⟨u2, z1, e, h⟩ := g_callE h
  refine mm_callV C M 1 [.int s1] (st := []) (v := none) (z' := z1) (fun l => ct_holdsBack l s1 z u2 z1 e) (lw_V q2347 q2349 qs98 q178 q2350) rfl rfl rfl (Nat.le_of_ble_eq_true rfl) (Nat.le_of_ble_eq_true rfl) (Nat.le_of_ble_eq_true rfl) dX6_goesOn_359 ?_
  refine gW_st (st' := []) rfl ?_
  refine g_aload_n C dX6_goesOn_362 rfl 0 rfl ?_
  refine mm_getA C M 43 (Nat.le_of_ble_eq_true rfl) (Nat.le_of_ble_eq_true rfl) q2046 rfl dX6_goesOn_363 ?_
  refine g_iload_n C dX6_goesOn_366 rfl 1 rfl ?_
  refine g_iconst C dX6_goesOn_367 gk_iconst_0 ?_
  refine mm_stI C M 43 (Nat.le_of_ble_eq_true rfl) rfl dX6_goesOn_368 h (fun z3 h => ?_)
  refine g_aload_n C dX6_goesOn_369 rfl 0 rfl ?_
  refine mm_getA C M 44 (Nat.le_of_ble_eq_true rfl) (Nat.le_of_ble_eq_true rfl) q2047 rfl dX6_goesOn_370 ?_
  refine g_iload_n C dX6_goesOn_373 rfl 1 rfl ?_
  refine g_iconst C dX6_goesOn_374 gk_iconst_1 ?_
  refine mm_stZ C M 44 (Nat.le_of_ble_eq_true rfl) rfl dX6_goesOn_375 h (fun z4 h => ?_)
  refine g_aload_n C dX6_goesOn_376 rfl 0 rfl ?_
  obtain ⟨u6, z5, e, h⟩ := g_callE h
  refine mm_callV C M 0 [] (st := []) (v := none) (z' := z5) (fun l => ct_ahead l z4 u6 z5 e) (lw_V q2274 q2276 qs85 q178 q2277) rfl rfl rfl (Nat.le_of_ble_eq_true rfl) (Nat.le_of_ble_eq_true rfl) (Nat.le_of_ble_eq_true rfl) dX6_goesOn_377 ?_
  refine gW_st (st' := []) rfl ?_
  refine g_aload_n C dX6_goesOn_380 rfl 0 rfl ?_
  refine g_iconst C dX6_goesOn_381 gk_iconst_0 ?_
  refine mm_putZ C M 51 (Nat.le_of_ble_eq_true rfl) (Nat.le_of_ble_eq_true rfl) q2054 rfl rfl rfl dX6_goesOn_382 h (fun z7 h => ?_)
  refine g_iconst C dX6_goesOn_385 gk_iconst_1 ?_
  exact g_zretc C (fun _ => trivial) dX6_goesOn_386 (Or.inr rfl) h
def mo_goesOn_b343 (x1 : Int32) (x4 : Int32) (s1 : Int32) (z : mm_S) : Option (Int32 × mm_S) := g_call (mo_joins s1 z) (fun _ z1 => if x4 = 0 then (mo_goesOn_b359 x1 (21 : Int32) z1) else (mo_goesOn_b359 x1 (20 : Int32) z1))
theorem wk_goesOn_b343 {X : gX} {E : mm_E} {r : Int32 × mm_S} (C : gC X cX6_goesOn 5 (some .boolean) RX6 2 47) (M : mm_C X E) (x1 : Int32) (x4 : Int32) (s1 : Int32) (z : mm_S) (h : mo_goesOn_b343 x1 x4 s1 z = some r) : gW X (mm_G E) (.returned (some (.int r.1)), r.2) z 343 [(0, .ref E.2.2.1), (1, .int x1), (4, .int x4)] [.int s1, .ref E.2.2.1] := by
  unfold mo_goesOn_b343 at h
  obtain ⟨u2, z1, e, h⟩ := g_callE h
  refine mm_callV C M 1 [.int s1] (st := []) (v := none) (z' := z1) (fun l => ct_joins l s1 z u2 z1 e) (lw_V q2369 q2371 qs102 q178 q2372) rfl rfl rfl (Nat.le_of_ble_eq_true rfl) (Nat.le_of_ble_eq_true rfl) (Nat.le_of_ble_eq_true rfl) dX6_goesOn_343 ?_
  refine gW_st (st' := []) rfl ?_
  refine g_aload_n C dX6_goesOn_346 rfl 0 rfl ?_
  refine g_iload C dX6_goesOn_347 2 rfl ?_
  refine g_if_eq C dX6_goesOn_349 rfl h (fun h => ?_) (fun h => ?_)
  · refine g_bipush C dX6_goesOn_357 gk_bipush_21 ?_
    exact g_sub [(0, .ref E.2.2.1), (1, .int x1)] [0, 1] rfl (wk_goesOn_b359 C M x1 (21 : Int32) z1 h)
  · refine g_bipush C dX6_goesOn_352 gk_bipush_20 ?_
    refine g_goto C dX6_goesOn_354 rfl ?_
    exact g_sub [(0, .ref E.2.2.1), (1, .int x1)] [0, 1] rfl (wk_goesOn_b359 C M x1 (20 : Int32) z1 h)
def mo_goesOn_b314 (x1 : Int32) (z : mm_S) : Option (Int32 × mm_S) := mm_gI 8 z (fun v1 => if v1 ≤ 0 then (g_call (mo_isWord (6385252 : Int64) z) (fun v3 z2 => if v3 = 0 then (mo_goesOn_b343 x1 v3 (1 : Int32) z2) else (mo_goesOn_b343 x1 v3 (2 : Int32) z2))) else (some ((0 : Int32), z)))
theorem wk_goesOn_b314 {X : gX} {E : mm_E} {r : Int32 × mm_S} (C : gC X cX6_goesOn 5 (some .boolean) RX6 2 47) (M : mm_C X E) (x1 : Int32) (z : mm_S) (h : mo_goesOn_b314 x1 z = some r) : gW X (mm_G E) (.returned (some (.int r.1)), r.2) z 314 [(0, .ref E.2.2.1), (1, .int x1)] [] := by
  unfold mo_goesOn_b314 at h
  refine g_aload_n C dX6_goesOn_314 rfl 0 rfl ?_
  refine mm_getI C M 8 (Nat.le_of_ble_eq_true rfl) (Nat.le_of_ble_eq_true rfl) q2011 rfl dX6_goesOn_315 h (fun v1 h => ?_)
  refine g_if_le C dX6_goesOn_318 rfl h (fun h => ?_) (fun h => ?_)
  · refine g_aload_n C dX6_goesOn_323 rfl 0 rfl ?_
    refine g_ldc2 C dX6_goesOn_324 q2376 ?_
    obtain ⟨v3, z2, e, h⟩ := g_callE h
    refine mm_callV C M 1 [.long (6385252 : Int64)] (st := []) (v := some (.int v3)) (z' := z2) (fun l => ct_isWord l (6385252 : Int64) z v3 z2 e) (lw_V q2293 q2295 qs88 q178 q2296) rfl rfl rfl (Nat.le_of_ble_eq_true rfl) (Nat.le_of_ble_eq_true rfl) (Nat.le_of_ble_eq_true rfl) dX6_goesOn_327 ?_
    refine gW_st (st' := [.int v3]) rfl ?_
    refine g_istore [(4, .int v3), (0, .ref E.2.2.1), (1, .int x1)] C dX6_goesOn_330 (Nat.le_of_ble_eq_true rfl) rfl ?_
    refine g_aload_n C dX6_goesOn_332 rfl 1 rfl ?_
    refine g_iload C dX6_goesOn_333 0 rfl ?_
    refine g_if_eq C dX6_goesOn_335 rfl h (fun h => ?_) (fun h => ?_)
    · refine g_iconst C dX6_goesOn_342 gk_iconst_1 ?_
      exact g_sub [(0, .ref E.2.2.1), (1, .int x1), (4, .int v3)] [1, 2, 0] rfl (wk_goesOn_b343 C M x1 v3 (1 : Int32) z2 h)
    · refine g_iconst C dX6_goesOn_338 gk_iconst_2 ?_
      refine g_goto C dX6_goesOn_339 rfl ?_
      exact g_sub [(0, .ref E.2.2.1), (1, .int x1), (4, .int v3)] [1, 2, 0] rfl (wk_goesOn_b343 C M x1 v3 (2 : Int32) z2 h)
  · refine g_iconst C dX6_goesOn_321 gk_iconst_0 ?_
    exact g_zretc C (fun _ => trivial) dX6_goesOn_322 (Or.inl rfl) h
def mo_goesOn_b296 (x1 : Int32) (z : mm_S) : Option (Int32 × mm_S) := mm_lI 43 x1 z (fun v1 => if v1 = 0 then (mm_gI 4 z (fun v2 => g_call (mo_blame (1 : Int32) v2 z) (fun _ z3 => mo_goesOn_b314 x1 z3))) else (mo_goesOn_b314 x1 z))
theorem wk_goesOn_b296 {X : gX} {E : mm_E} {r : Int32 × mm_S} (C : gC X cX6_goesOn 5 (some .boolean) RX6 2 47) (M : mm_C X E) (x1 : Int32) (z : mm_S) (h : mo_goesOn_b296 x1 z = some r) : gW X (mm_G E) (.returned (some (.int r.1)), r.2) z 296 [(0, .ref E.2.2.1), (1, .int x1)] [] := by
  unfold mo_goesOn_b296 at h
  refine g_aload_n C dX6_goesOn_296 rfl 0 rfl ?_
  refine mm_getA C M 43 (Nat.le_of_ble_eq_true rfl) (Nat.le_of_ble_eq_true rfl) q2046 rfl dX6_goesOn_297 ?_
  refine g_iload_n C dX6_goesOn_300 rfl 1 rfl ?_
  refine mm_ldI C M 43 (Nat.le_of_ble_eq_true rfl) rfl dX6_goesOn_301 h (fun v1 h => ?_)
  refine g_if_ne C dX6_goesOn_302 rfl h (fun h => ?_) (fun h => ?_)
  · exact wk_goesOn_b314 C M x1 z h
  · refine g_aload_n C dX6_goesOn_305 rfl 0 rfl ?_
    refine g_iconst C dX6_goesOn_306 gk_iconst_1 ?_
    refine g_aload_n C dX6_goesOn_307 rfl 0 rfl ?_
    refine mm_getI C M 4 (Nat.le_of_ble_eq_true rfl) (Nat.le_of_ble_eq_true rfl) q2007 rfl dX6_goesOn_308 h (fun v2 h => ?_)
    obtain ⟨u4, z3, e, h⟩ := g_callE h
    refine mm_callV C M 2 [.int (1 : Int32), .int v2] (st := []) (v := none) (z' := z3) (fun l => ct_blame l (1 : Int32) v2 z u4 z3 e) (lw_V q2284 q2286 qs86 q178 q2287) rfl rfl rfl (Nat.le_of_ble_eq_true rfl) (Nat.le_of_ble_eq_true rfl) (Nat.le_of_ble_eq_true rfl) dX6_goesOn_311 ?_
    refine gW_st (st' := []) rfl ?_
    exact wk_goesOn_b314 C M x1 z3 h
def mo_goesOn_b272 (x1 : Int32) (x2 : Int32) (x3 : Int32) (z : mm_S) : Option (Int32 × mm_S) := if x3 = 0 then (mo_goesOn_b387 x1 x2 x3 z) else (g_call (mo_isWord (6385252 : Int64) z) (fun v2 z1 => if v2 = 0 then (g_call (mo_isWord (28530 : Int64) z1) (fun v4 z3 => if v4 = 0 then (mo_goesOn_b387 x1 x2 x3 z3) else (mo_goesOn_b296 x1 z3))) else (mo_goesOn_b296 x1 z1)))
theorem wk_goesOn_b272 {X : gX} {E : mm_E} {r : Int32 × mm_S} (C : gC X cX6_goesOn 5 (some .boolean) RX6 2 47) (M : mm_C X E) (x1 : Int32) (x2 : Int32) (x3 : Int32) (z : mm_S) (h : mo_goesOn_b272 x1 x2 x3 z = some r) : gW X (mm_G E) (.returned (some (.int r.1)), r.2) z 272 [(0, .ref E.2.2.1), (1, .int x1), (2, .int x2), (3, .int x3)] [] := by
  unfold mo_goesOn_b272 at h
  refine g_iload_n C dX6_goesOn_272 rfl 3 rfl ?_
  refine g_if_eq C dX6_goesOn_273 rfl h (fun h => ?_) (fun h => ?_)
  · exact wk_goesOn_b387 C M x1 x2 x3 z h
  · refine g_aload_n C dX6_goesOn_276 rfl 0 rfl ?_
    refine g_ldc2 C dX6_goesOn_277 q2376 ?_
    obtain ⟨v2, z1, e, h⟩ := g_callE h
    refine mm_callV C M 1 [.long (6385252 : Int64)] (st := []) (v := some (.int v2)) (z' := z1) (fun l => ct_isWord l (6385252 : Int64) z v2 z1 e) (lw_V q2293 q2295 qs88 q178 q2296) rfl rfl rfl (Nat.le_of_ble_eq_true rfl) (Nat.le_of_ble_eq_true rfl) (Nat.le_of_ble_eq_true rfl) dX6_goesOn_280 ?_
    refine gW_st (st' := [.int v2]) rfl ?_
    refine g_if_ne C dX6_goesOn_283 rfl h (fun h => ?_) (fun h => ?_)
    · exact g_sub [(0, .ref E.2.2.1), (1, .int x1)] [0, 1] rfl (wk_goesOn_b296 C M x1 z1 h)
    · refine g_aload_n C dX6_goesOn_286 rfl 0 rfl ?_
      refine g_ldc2 C dX6_goesOn_287 q2377 ?_
      obtain ⟨v4, z3, e, h⟩ := g_callE h
      refine mm_callV C M 1 [.long (28530 : Int64)] (st := []) (v := some (.int v4)) (z' := z3) (fun l => ct_isWord l (28530 : Int64) z1 v4 z3 e) (lw_V q2293 q2295 qs88 q178 q2296) rfl rfl rfl (Nat.le_of_ble_eq_true rfl) (Nat.le_of_ble_eq_true rfl) (Nat.le_of_ble_eq_true rfl) dX6_goesOn_290 ?_
      refine gW_st (st' := [.int v4]) rfl ?_
      refine g_if_eq C dX6_goesOn_293 rfl h (fun h => ?_) (fun h => ?_)
      · exact wk_goesOn_b387 C M x1 x2 x3 z3 h
      · exact g_sub [(0, .ref E.2.2.1), (1, .int x1)] [0, 1] rfl (wk_goesOn_b296 C M x1 z3 h)
def mo_goesOn_b251 (x1 : Int32) (s1 : Int32) (z : mm_S) : Option (Int32 × mm_S) := g_call (mo_holdsBack s1 z) (fun _ z1 => mm_sI 43 x1 (1 : Int32) z1 (fun z3 => g_call (mo_ahead z3) (fun _ z4 => mm_pZ 51 (0 : Int32) z4 (fun z6 => some ((1 : Int32), z6)))))
theorem wk_goesOn_b251 {X : gX} {E : mm_E} {r : Int32 × mm_S} (C : gC X cX6_goesOn 5 (some .boolean) RX6 2 47) (M : mm_C X E) (x1 : Int32) (s1 : Int32) (z : mm_S) (h : mo_goesOn_b251 x1 s1 z = some r) : gW X (mm_G E) (.returned (some (.int r.1)), r.2) z 251 [(0, .ref E.2.2.1), (1, .int x1)] [.int s1, .ref E.2.2.1] := by
  unfold mo_goesOn_b251 at h
  obtain ⟨u2, z1, e, h⟩ := g_callE h
  refine mm_callV C M 1 [.int s1] (st := []) (v := none) (z' := z1) (fun l => ct_holdsBack l s1 z u2 z1 e) (lw_V q2347 q2349 qs98 q178 q2350) rfl rfl rfl (Nat.le_of_ble_eq_true rfl) (Nat.le_of_ble_eq_true rfl) (Nat.le_of_ble_eq_true rfl) dX6_goesOn_251 ?_
  refine gW_st (st' := []) rfl ?_
  refine g_aload_n C dX6_goesOn_254 rfl 0 rfl ?_
  refine mm_getA C M 43 (Nat.le_of_ble_eq_true rfl) (Nat.le_of_ble_eq_true rfl) q2046 rfl dX6_goesOn_255 ?_
  refine g_iload_n C dX6_goesOn_258 rfl 1 rfl ?_
  refine g_iconst C dX6_goesOn_259 gk_iconst_1 ?_
  refine mm_stI C M 43 (Nat.le_of_ble_eq_true rfl) rfl dX6_goesOn_260 h (fun z3 h => ?_)
  refine g_aload_n C dX6_goesOn_261 rfl 0 rfl ?_
  obtain ⟨u5, z4, e, h⟩ := g_callE h
  refine mm_callV C M 0 [] (st := []) (v := none) (z' := z4) (fun l => ct_ahead l z3 u5 z4 e) (lw_V q2274 q2276 qs85 q178 q2277) rfl rfl rfl (Nat.le_of_ble_eq_true rfl) (Nat.le_of_ble_eq_true rfl) (Nat.le_of_ble_eq_true rfl) dX6_goesOn_262 ?_
  refine gW_st (st' := []) rfl ?_
  refine g_aload_n C dX6_goesOn_265 rfl 0 rfl ?_
  refine g_iconst C dX6_goesOn_266 gk_iconst_0 ?_
  refine mm_putZ C M 51 (Nat.le_of_ble_eq_true rfl) (Nat.le_of_ble_eq_true rfl) q2054 rfl rfl rfl dX6_goesOn_267 h (fun z6 h => ?_)
  refine g_iconst C dX6_goesOn_270 gk_iconst_1 ?_
  exact g_zretc C (fun _ => trivial) dX6_goesOn_271 (Or.inr rfl) h
def mo_goesOn_b215 (x1 : Int32) (z : mm_S) : Option (Int32 × mm_S) := g_call (mo_joins (5 : Int32) z) (fun _ z1 => g_call (mo_isSign (60 : Int32) z1) (fun v4 z3 => if v4 = 0 then (g_call (mo_isSign (62 : Int32) z3) (fun v6 z5 => if v6 = 0 then (mo_goesOn_b251 x1 (19 : Int32) z5) else (mo_goesOn_b251 x1 (18 : Int32) z5))) else (mo_goesOn_b251 x1 (17 : Int32) z3)))
theorem wk_goesOn_b215 {X : gX} {E : mm_E} {r : Int32 × mm_S} (C : gC X cX6_goesOn 5 (some .boolean) RX6 2 47) (M : mm_C X E) (x1 : Int32) (z : mm_S) (h : mo_goesOn_b215 x1 z = some r) : gW X (mm_G E) (.returned (some (.int r.1)), r.2) z 215 [(0, .ref E.2.2.1), (1, .int x1)] [] := by
  unfold mo_goesOn_b215 at h
  refine g_aload_n C dX6_goesOn_215 rfl 0 rfl ?_
  refine g_iconst C dX6_goesOn_216 gk_iconst_5 ?_
  obtain ⟨u2, z1, e, h⟩ := g_callE h
  refine mm_callV C M 1 [.int (5 : Int32)] (st := []) (v := none) (z' := z1) (fun l => ct_joins l (5 : Int32) z u2 z1 e) (lw_V q2369 q2371 qs102 q178 q2372) rfl rfl rfl (Nat.le_of_ble_eq_true rfl) (Nat.le_of_ble_eq_true rfl) (Nat.le_of_ble_eq_true rfl) dX6_goesOn_217 ?_
  refine gW_st (st' := []) rfl ?_
  refine g_aload_n C dX6_goesOn_220 rfl 0 rfl ?_
  refine g_aload_n C dX6_goesOn_221 rfl 0 rfl ?_
  refine g_bipush C dX6_goesOn_222 gk_bipush_60 ?_
  obtain ⟨v4, z3, e, h⟩ := g_callE h
  refine mm_callV C M 1 [.int (60 : Int32)] (st := [.ref E.2.2.1]) (v := some (.int v4)) (z' := z3) (fun l => ct_isSign l (60 : Int32) z1 v4 z3 e) (lw_V q2308 q2310 qs91 q178 q2311) rfl rfl rfl (Nat.le_of_ble_eq_true rfl) (Nat.le_of_ble_eq_true rfl) (Nat.le_of_ble_eq_true rfl) dX6_goesOn_224 ?_
  refine gW_st (st' := [.int v4, .ref E.2.2.1]) rfl ?_
  refine g_if_eq C dX6_goesOn_227 rfl h (fun h => ?_) (fun h => ?_)
  · refine g_aload_n C dX6_goesOn_235 rfl 0 rfl ?_
    refine g_bipush C dX6_goesOn_236 gk_bipush_62 ?_
    obtain ⟨v6, z5, e, h⟩ := g_callE h
    refine mm_callV C M 1 [.int (62 : Int32)] (st := [.ref E.2.2.1]) (v := some (.int v6)) (z' := z5) (fun l => ct_isSign l (62 : Int32) z3 v6 z5 e) (lw_V q2308 q2310 qs91 q178 q2311) rfl rfl rfl (Nat.le_of_ble_eq_true rfl) (Nat.le_of_ble_eq_true rfl) (Nat.le_of_ble_eq_true rfl) dX6_goesOn_238 ?_
    refine gW_st (st' := [.int v6, .ref E.2.2.1]) rfl ?_
    refine g_if_eq C dX6_goesOn_241 rfl h (fun h => ?_) (fun h => ?_)
    · refine g_bipush C dX6_goesOn_249 gk_bipush_19 ?_
      exact wk_goesOn_b251 C M x1 (19 : Int32) z5 h
    · refine g_bipush C dX6_goesOn_244 gk_bipush_18 ?_
      refine g_goto C dX6_goesOn_246 rfl ?_
      exact wk_goesOn_b251 C M x1 (18 : Int32) z5 h
  · refine g_bipush C dX6_goesOn_230 gk_bipush_17 ?_
    refine g_goto C dX6_goesOn_232 rfl ?_
    exact wk_goesOn_b251 C M x1 (17 : Int32) z3 h
def mo_goesOn_b175 (x1 : Int32) (x2 : Int32) (x3 : Int32) (z : mm_S) : Option (Int32 × mm_S) := if x3 = 0 then (mo_goesOn_b272 x1 x2 x3 z) else (mm_lI 43 x1 z (fun v1 => if v1 = 0 then (g_call (mo_isSign (60 : Int32) z) (fun v3 z2 => if v3 = 0 then (g_call (mo_isSign (62 : Int32) z2) (fun v5 z4 => if v5 = 0 then (g_call (mo_isSign (61 : Int32) z4) (fun v7 z6 => if v7 = 0 then (mo_goesOn_b272 x1 x2 x3 z6) else (mo_goesOn_b215 x1 z6))) else (mo_goesOn_b215 x1 z4))) else (mo_goesOn_b215 x1 z2))) else (mo_goesOn_b272 x1 x2 x3 z)))
theorem wk_goesOn_b175 {X : gX} {E : mm_E} {r : Int32 × mm_S} (C : gC X cX6_goesOn 5 (some .boolean) RX6 2 47) (M : mm_C X E) (x1 : Int32) (x2 : Int32) (x3 : Int32) (z : mm_S) (h : mo_goesOn_b175 x1 x2 x3 z = some r) : gW X (mm_G E) (.returned (some (.int r.1)), r.2) z 175 [(0, .ref E.2.2.1), (1, .int x1), (2, .int x2), (3, .int x3)] [] := by
  unfold mo_goesOn_b175 at h
  refine g_iload_n C dX6_goesOn_175 rfl 3 rfl ?_
  refine g_if_eq C dX6_goesOn_176 rfl h (fun h => ?_) (fun h => ?_)
  · exact wk_goesOn_b272 C M x1 x2 x3 z h
  · refine g_aload_n C dX6_goesOn_179 rfl 0 rfl ?_
    refine mm_getA C M 43 (Nat.le_of_ble_eq_true rfl) (Nat.le_of_ble_eq_true rfl) q2046 rfl dX6_goesOn_180 ?_
    refine g_iload_n C dX6_goesOn_183 rfl 1 rfl ?_
    refine mm_ldI C M 43 (Nat.le_of_ble_eq_true rfl) rfl dX6_goesOn_184 h (fun v1 h => ?_)
    refine g_if_ne C dX6_goesOn_185 rfl h (fun h => ?_) (fun h => ?_)
    · exact wk_goesOn_b272 C M x1 x2 x3 z h
    · refine g_aload_n C dX6_goesOn_188 rfl 0 rfl ?_
      refine g_bipush C dX6_goesOn_189 gk_bipush_60 ?_
      obtain ⟨v3, z2, e, h⟩ := g_callE h
      refine mm_callV C M 1 [.int (60 : Int32)] (st := []) (v := some (.int v3)) (z' := z2) (fun l => ct_isSign l (60 : Int32) z v3 z2 e) (lw_V q2308 q2310 qs91 q178 q2311) rfl rfl rfl (Nat.le_of_ble_eq_true rfl) (Nat.le_of_ble_eq_true rfl) (Nat.le_of_ble_eq_true rfl) dX6_goesOn_191 ?_
      refine gW_st (st' := [.int v3]) rfl ?_
      refine g_if_ne C dX6_goesOn_194 rfl h (fun h => ?_) (fun h => ?_)
      · exact g_sub [(0, .ref E.2.2.1), (1, .int x1)] [0, 1] rfl (wk_goesOn_b215 C M x1 z2 h)
      · refine g_aload_n C dX6_goesOn_197 rfl 0 rfl ?_
        refine g_bipush C dX6_goesOn_198 gk_bipush_62 ?_
        obtain ⟨v5, z4, e, h⟩ := g_callE h
        refine mm_callV C M 1 [.int (62 : Int32)] (st := []) (v := some (.int v5)) (z' := z4) (fun l => ct_isSign l (62 : Int32) z2 v5 z4 e) (lw_V q2308 q2310 qs91 q178 q2311) rfl rfl rfl (Nat.le_of_ble_eq_true rfl) (Nat.le_of_ble_eq_true rfl) (Nat.le_of_ble_eq_true rfl) dX6_goesOn_200 ?_
        refine gW_st (st' := [.int v5]) rfl ?_
        refine g_if_ne C dX6_goesOn_203 rfl h (fun h => ?_) (fun h => ?_)
        · exact g_sub [(0, .ref E.2.2.1), (1, .int x1)] [0, 1] rfl (wk_goesOn_b215 C M x1 z4 h)
        · refine g_aload_n C dX6_goesOn_206 rfl 0 rfl ?_
          refine g_bipush C dX6_goesOn_207 gk_bipush_61 ?_
          obtain ⟨v7, z6, e, h⟩ := g_callE h
          refine mm_callV C M 1 [.int (61 : Int32)] (st := []) (v := some (.int v7)) (z' := z6) (fun l => ct_isSign l (61 : Int32) z4 v7 z6 e) (lw_V q2308 q2310 qs91 q178 q2311) rfl rfl rfl (Nat.le_of_ble_eq_true rfl) (Nat.le_of_ble_eq_true rfl) (Nat.le_of_ble_eq_true rfl) dX6_goesOn_209 ?_
          refine gW_st (st' := [.int v7]) rfl ?_
          refine g_if_eq C dX6_goesOn_212 rfl h (fun h => ?_) (fun h => ?_)
          · exact wk_goesOn_b272 C M x1 x2 x3 z6 h
          · exact g_sub [(0, .ref E.2.2.1), (1, .int x1)] [0, 1] rfl (wk_goesOn_b215 C M x1 z6 h)
def mo_goesOn_b161 (s1 : Int32) (z : mm_S) : Option (Int32 × mm_S) := g_call (mo_holdsBack s1 z) (fun _ z1 => g_call (mo_ahead z1) (fun _ z3 => mm_pZ 51 (0 : Int32) z3 (fun z5 => some ((1 : Int32), z5))))
theorem wk_goesOn_b161 {X : gX} {E : mm_E} {r : Int32 × mm_S} (C : gC X cX6_goesOn 5 (some .boolean) RX6 2 47) (M : mm_C X E) (s1 : Int32) (z : mm_S) (h : mo_goesOn_b161 s1 z = some r) : gW X (mm_G E) (.returned (some (.int r.1)), r.2) z 161 [(0, .ref E.2.2.1)] [.int s1, .ref E.2.2.1] := by
  unfold mo_goesOn_b161 at h
  obtain ⟨u2, z1, e, h⟩ := g_callE h
  refine mm_callV C M 1 [.int s1] (st := []) (v := none) (z' := z1) (fun l => ct_holdsBack l s1 z u2 z1 e) (lw_V q2347 q2349 qs98 q178 q2350) rfl rfl rfl (Nat.le_of_ble_eq_true rfl) (Nat.le_of_ble_eq_true rfl) (Nat.le_of_ble_eq_true rfl) dX6_goesOn_161 ?_
  refine gW_st (st' := []) rfl ?_
  refine g_aload_n C dX6_goesOn_164 rfl 0 rfl ?_
  obtain ⟨u4, z3, e, h⟩ := g_callE h
  refine mm_callV C M 0 [] (st := []) (v := none) (z' := z3) (fun l => ct_ahead l z1 u4 z3 e) (lw_V q2274 q2276 qs85 q178 q2277) rfl rfl rfl (Nat.le_of_ble_eq_true rfl) (Nat.le_of_ble_eq_true rfl) (Nat.le_of_ble_eq_true rfl) dX6_goesOn_165 ?_
  refine gW_st (st' := []) rfl ?_
  refine g_aload_n C dX6_goesOn_168 rfl 0 rfl ?_
  refine g_iconst C dX6_goesOn_169 gk_iconst_0 ?_
  refine mm_putZ C M 51 (Nat.le_of_ble_eq_true rfl) (Nat.le_of_ble_eq_true rfl) q2054 rfl rfl rfl dX6_goesOn_170 h (fun z5 h => ?_)
  refine g_iconst C dX6_goesOn_173 gk_iconst_1 ?_
  exact g_zretc C (fun _ => trivial) dX6_goesOn_174 (Or.inr rfl) h
def mo_goesOn_b99 (s1 : Int32) (z : mm_S) : Option (Int32 × mm_S) := g_call (mo_joins s1 z) (fun _ z1 => g_call (mo_isSign (43 : Int32) z1) (fun v4 z3 => if v4 = 0 then (g_call (mo_isSign (45 : Int32) z3) (fun v6 z5 => if v6 = 0 then (g_call (mo_isSign (42 : Int32) z5) (fun v8 z7 => if v8 = 0 then (g_call (mo_isSign (47 : Int32) z7) (fun v10 z9 => if v10 = 0 then (mo_goesOn_b161 (14 : Int32) z9) else (mo_goesOn_b161 (13 : Int32) z9))) else (mo_goesOn_b161 (12 : Int32) z7))) else (mo_goesOn_b161 (11 : Int32) z5))) else (mo_goesOn_b161 (10 : Int32) z3)))
theorem wk_goesOn_b99 {X : gX} {E : mm_E} {r : Int32 × mm_S} (C : gC X cX6_goesOn 5 (some .boolean) RX6 2 47) (M : mm_C X E) (s1 : Int32) (z : mm_S) (h : mo_goesOn_b99 s1 z = some r) : gW X (mm_G E) (.returned (some (.int r.1)), r.2) z 99 [(0, .ref E.2.2.1)] [.int s1, .ref E.2.2.1] := by
  unfold mo_goesOn_b99 at h
  obtain ⟨u2, z1, e, h⟩ := g_callE h
  refine mm_callV C M 1 [.int s1] (st := []) (v := none) (z' := z1) (fun l => ct_joins l s1 z u2 z1 e) (lw_V q2369 q2371 qs102 q178 q2372) rfl rfl rfl (Nat.le_of_ble_eq_true rfl) (Nat.le_of_ble_eq_true rfl) (Nat.le_of_ble_eq_true rfl) dX6_goesOn_99 ?_
  refine gW_st (st' := []) rfl ?_
  refine g_aload_n C dX6_goesOn_102 rfl 0 rfl ?_
  refine g_aload_n C dX6_goesOn_103 rfl 0 rfl ?_
  refine g_bipush C dX6_goesOn_104 gk_bipush_43 ?_
  obtain ⟨v4, z3, e, h⟩ := g_callE h
  refine mm_callV C M 1 [.int (43 : Int32)] (st := [.ref E.2.2.1]) (v := some (.int v4)) (z' := z3) (fun l => ct_isSign l (43 : Int32) z1 v4 z3 e) (lw_V q2308 q2310 qs91 q178 q2311) rfl rfl rfl (Nat.le_of_ble_eq_true rfl) (Nat.le_of_ble_eq_true rfl) (Nat.le_of_ble_eq_true rfl) dX6_goesOn_106 ?_
  refine gW_st (st' := [.int v4, .ref E.2.2.1]) rfl ?_
  refine g_if_eq C dX6_goesOn_109 rfl h (fun h => ?_) (fun h => ?_)
  · refine g_aload_n C dX6_goesOn_117 rfl 0 rfl ?_
    refine g_bipush C dX6_goesOn_118 gk_bipush_45 ?_
    obtain ⟨v6, z5, e, h⟩ := g_callE h
    refine mm_callV C M 1 [.int (45 : Int32)] (st := [.ref E.2.2.1]) (v := some (.int v6)) (z' := z5) (fun l => ct_isSign l (45 : Int32) z3 v6 z5 e) (lw_V q2308 q2310 qs91 q178 q2311) rfl rfl rfl (Nat.le_of_ble_eq_true rfl) (Nat.le_of_ble_eq_true rfl) (Nat.le_of_ble_eq_true rfl) dX6_goesOn_120 ?_
    refine gW_st (st' := [.int v6, .ref E.2.2.1]) rfl ?_
    refine g_if_eq C dX6_goesOn_123 rfl h (fun h => ?_) (fun h => ?_)
    · refine g_aload_n C dX6_goesOn_131 rfl 0 rfl ?_
      refine g_bipush C dX6_goesOn_132 gk_bipush_42 ?_
      obtain ⟨v8, z7, e, h⟩ := g_callE h
      refine mm_callV C M 1 [.int (42 : Int32)] (st := [.ref E.2.2.1]) (v := some (.int v8)) (z' := z7) (fun l => ct_isSign l (42 : Int32) z5 v8 z7 e) (lw_V q2308 q2310 qs91 q178 q2311) rfl rfl rfl (Nat.le_of_ble_eq_true rfl) (Nat.le_of_ble_eq_true rfl) (Nat.le_of_ble_eq_true rfl) dX6_goesOn_134 ?_
      refine gW_st (st' := [.int v8, .ref E.2.2.1]) rfl ?_
      refine g_if_eq C dX6_goesOn_137 rfl h (fun h => ?_) (fun h => ?_)
      · refine g_aload_n C dX6_goesOn_145 rfl 0 rfl ?_
        refine g_bipush C dX6_goesOn_146 gk_bipush_47 ?_
        obtain ⟨v10, z9, e, h⟩ := g_callE h
        refine mm_callV C M 1 [.int (47 : Int32)] (st := [.ref E.2.2.1]) (v := some (.int v10)) (z' := z9) (fun l => ct_isSign l (47 : Int32) z7 v10 z9 e) (lw_V q2308 q2310 qs91 q178 q2311) rfl rfl rfl (Nat.le_of_ble_eq_true rfl) (Nat.le_of_ble_eq_true rfl) (Nat.le_of_ble_eq_true rfl) dX6_goesOn_148 ?_
        refine gW_st (st' := [.int v10, .ref E.2.2.1]) rfl ?_
        refine g_if_eq C dX6_goesOn_151 rfl h (fun h => ?_) (fun h => ?_)
        · refine g_bipush C dX6_goesOn_159 gk_bipush_14 ?_
          exact wk_goesOn_b161 C M (14 : Int32) z9 h
        · refine g_bipush C dX6_goesOn_154 gk_bipush_13 ?_
          refine g_goto C dX6_goesOn_156 rfl ?_
          exact wk_goesOn_b161 C M (13 : Int32) z9 h
      · refine g_bipush C dX6_goesOn_140 gk_bipush_12 ?_
        refine g_goto C dX6_goesOn_142 rfl ?_
        exact wk_goesOn_b161 C M (12 : Int32) z7 h
    · refine g_bipush C dX6_goesOn_126 gk_bipush_11 ?_
      refine g_goto C dX6_goesOn_128 rfl ?_
      exact wk_goesOn_b161 C M (11 : Int32) z5 h
  · refine g_bipush C dX6_goesOn_112 gk_bipush_10 ?_
    refine g_goto C dX6_goesOn_114 rfl ?_
    exact wk_goesOn_b161 C M (10 : Int32) z3 h
def mo_goesOn_b93 (z : mm_S) : Option (Int32 × mm_S) := mo_goesOn_b99 (5 : Int32) z
theorem wk_goesOn_b93 {X : gX} {E : mm_E} {r : Int32 × mm_S} (C : gC X cX6_goesOn 5 (some .boolean) RX6 2 47) (M : mm_C X E) (z : mm_S) (h : mo_goesOn_b93 z = some r) : gW X (mm_G E) (.returned (some (.int r.1)), r.2) z 93 [(0, .ref E.2.2.1)] [.ref E.2.2.1] := by
  unfold mo_goesOn_b93 at h
  refine g_iconst C dX6_goesOn_93 gk_iconst_5 ?_
  refine g_goto C dX6_goesOn_94 rfl ?_
  exact wk_goesOn_b99 C M (5 : Int32) z h
def mo_goesOn_b74 (z : mm_S) : Option (Int32 × mm_S) := g_call (mo_isSign (43 : Int32) z) (fun v2 z1 => if v2 = 0 then (g_call (mo_isSign (45 : Int32) z1) (fun v4 z3 => if v4 = 0 then (mo_goesOn_b99 (6 : Int32) z3) else (mo_goesOn_b93 z3))) else (mo_goesOn_b93 z1))
theorem wk_goesOn_b74 {X : gX} {E : mm_E} {r : Int32 × mm_S} (C : gC X cX6_goesOn 5 (some .boolean) RX6 2 47) (M : mm_C X E) (z : mm_S) (h : mo_goesOn_b74 z = some r) : gW X (mm_G E) (.returned (some (.int r.1)), r.2) z 74 [(0, .ref E.2.2.1)] [] := by
  unfold mo_goesOn_b74 at h
  refine g_aload_n C dX6_goesOn_74 rfl 0 rfl ?_
  refine g_aload_n C dX6_goesOn_75 rfl 0 rfl ?_
  refine g_bipush C dX6_goesOn_76 gk_bipush_43 ?_
  obtain ⟨v2, z1, e, h⟩ := g_callE h
  refine mm_callV C M 1 [.int (43 : Int32)] (st := [.ref E.2.2.1]) (v := some (.int v2)) (z' := z1) (fun l => ct_isSign l (43 : Int32) z v2 z1 e) (lw_V q2308 q2310 qs91 q178 q2311) rfl rfl rfl (Nat.le_of_ble_eq_true rfl) (Nat.le_of_ble_eq_true rfl) (Nat.le_of_ble_eq_true rfl) dX6_goesOn_78 ?_
  refine gW_st (st' := [.int v2, .ref E.2.2.1]) rfl ?_
  refine g_if_ne C dX6_goesOn_81 rfl h (fun h => ?_) (fun h => ?_)
  · exact wk_goesOn_b93 C M z1 h
  · refine g_aload_n C dX6_goesOn_84 rfl 0 rfl ?_
    refine g_bipush C dX6_goesOn_85 gk_bipush_45 ?_
    obtain ⟨v4, z3, e, h⟩ := g_callE h
    refine mm_callV C M 1 [.int (45 : Int32)] (st := [.ref E.2.2.1]) (v := some (.int v4)) (z' := z3) (fun l => ct_isSign l (45 : Int32) z1 v4 z3 e) (lw_V q2308 q2310 qs91 q178 q2311) rfl rfl rfl (Nat.le_of_ble_eq_true rfl) (Nat.le_of_ble_eq_true rfl) (Nat.le_of_ble_eq_true rfl) dX6_goesOn_87 ?_
    refine gW_st (st' := [.int v4, .ref E.2.2.1]) rfl ?_
    refine g_if_eq C dX6_goesOn_90 rfl h (fun h => ?_) (fun h => ?_)
    · refine g_bipush C dX6_goesOn_97 gk_bipush_6 ?_
      exact wk_goesOn_b99 C M (6 : Int32) z3 h
    · exact wk_goesOn_b93 C M z3 h
def mo_goesOn (z : mm_S) : Option (Int32 × mm_S) := mm_gI 47 z (fun v1 => mm_lI 42 (v1 - (1 : Int32)) z (fun v2 => g_call (mo_isTest v2 z) (fun v4 z3 => mm_lI 43 (v1 - (1 : Int32)) z3 (fun v5 => if (2 : Int32) ≤ v5 then (mo_goesOn_b175 (v1 - (1 : Int32)) v2 v4 z3) else (g_call (mo_isSign (43 : Int32) z3) (fun v7 z6 => if v7 = 0 then (g_call (mo_isSign (45 : Int32) z6) (fun v9 z8 => if v9 = 0 then (g_call (mo_isSign (42 : Int32) z8) (fun v11 z10 => if v11 = 0 then (g_call (mo_isSign (47 : Int32) z10) (fun v13 z12 => if v13 = 0 then (g_call (mo_isSign (37 : Int32) z12) (fun v15 z14 => if v15 = 0 then (mo_goesOn_b175 (v1 - (1 : Int32)) v2 v4 z14) else (mo_goesOn_b74 z14))) else (mo_goesOn_b74 z12))) else (mo_goesOn_b74 z10))) else (mo_goesOn_b74 z8))) else (mo_goesOn_b74 z6)))))))
theorem wk_goesOn {X : gX} {E : mm_E} {r : Int32 × mm_S} (C : gC X cX6_goesOn 5 (some .boolean) RX6 2 47) (M : mm_C X E) (z : mm_S) (h : mo_goesOn z = some r) : gW X (mm_G E) (.returned (some (.int r.1)), r.2) z 0 [(0, .ref E.2.2.1)] [] := by
  unfold mo_goesOn at h
  refine g_aload_n C dX6_goesOn_0 rfl 0 rfl ?_
  refine mm_getI C M 47 (Nat.le_of_ble_eq_true rfl) (Nat.le_of_ble_eq_true rfl) q2050 rfl dX6_goesOn_1 h (fun v1 h => ?_)
  refine g_iconst C dX6_goesOn_4 gk_iconst_1 ?_
  refine g_isub C dX6_goesOn_5 ?_
  refine g_istore_n [(1, .int (v1 - (1 : Int32))), (0, .ref E.2.2.1)] C dX6_goesOn_6 rfl (Nat.le_of_ble_eq_true rfl) rfl ?_
  refine g_aload_n C dX6_goesOn_7 rfl 1 rfl ?_
  refine mm_getA C M 42 (Nat.le_of_ble_eq_true rfl) (Nat.le_of_ble_eq_true rfl) q2045 rfl dX6_goesOn_8 ?_
  refine g_iload_n C dX6_goesOn_11 rfl 0 rfl ?_
  refine mm_ldI C M 42 (Nat.le_of_ble_eq_true rfl) rfl dX6_goesOn_12 h (fun v2 h => ?_)
  refine g_istore_n [(2, .int v2), (1, .int (v1 - (1 : Int32))), (0, .ref E.2.2.1)] C dX6_goesOn_13 rfl (Nat.le_of_ble_eq_true rfl) rfl ?_
  refine g_iload_n C dX6_goesOn_14 rfl 0 rfl ?_
  obtain ⟨v4, z3, e, h⟩ := g_callE h
  refine mm_callS C M 1 [.int v2] (st := []) (v := some (.int v4)) (z' := z3) (fun l => ct_isTest l v2 z v4 z3 e) (lw_S q2343 q2344 q178 q2345) rfl rfl rfl (Nat.le_of_ble_eq_true rfl) (Nat.le_of_ble_eq_true rfl) (Nat.le_of_ble_eq_true rfl) dX6_goesOn_15 ?_
  refine gW_st (st' := [.int v4]) rfl ?_
  refine g_istore_n [(3, .int v4), (2, .int v2), (1, .int (v1 - (1 : Int32))), (0, .ref E.2.2.1)] C dX6_goesOn_18 rfl (Nat.le_of_ble_eq_true rfl) rfl ?_
  refine g_aload_n C dX6_goesOn_19 rfl 3 rfl ?_
  refine mm_getA C M 43 (Nat.le_of_ble_eq_true rfl) (Nat.le_of_ble_eq_true rfl) q2046 rfl dX6_goesOn_20 ?_
  refine g_iload_n C dX6_goesOn_23 rfl 2 rfl ?_
  refine mm_ldI C M 43 (Nat.le_of_ble_eq_true rfl) rfl dX6_goesOn_24 h (fun v5 h => ?_)
  refine g_iconst C dX6_goesOn_25 gk_iconst_2 ?_
  refine g_icmp_ge C dX6_goesOn_26 rfl h (fun h => ?_) (fun h => ?_)
  · exact g_sub [(0, .ref E.2.2.1), (1, .int (v1 - (1 : Int32))), (2, .int v2), (3, .int v4)] [3, 2, 1, 0] rfl (wk_goesOn_b175 C M (v1 - (1 : Int32)) v2 v4 z3 h)
  · refine g_aload_n C dX6_goesOn_29 rfl 3 rfl ?_
    refine g_bipush C dX6_goesOn_30 gk_bipush_43 ?_
    obtain ⟨v7, z6, e, h⟩ := g_callE h
    refine mm_callV C M 1 [.int (43 : Int32)] (st := []) (v := some (.int v7)) (z' := z6) (fun l => ct_isSign l (43 : Int32) z3 v7 z6 e) (lw_V q2308 q2310 qs91 q178 q2311) rfl rfl rfl (Nat.le_of_ble_eq_true rfl) (Nat.le_of_ble_eq_true rfl) (Nat.le_of_ble_eq_true rfl) dX6_goesOn_32 ?_
    refine gW_st (st' := [.int v7]) rfl ?_
    refine g_if_ne C dX6_goesOn_35 rfl h (fun h => ?_) (fun h => ?_)
    · exact g_sub [(0, .ref E.2.2.1)] [3] rfl (wk_goesOn_b74 C M z6 h)
    · refine g_aload_n C dX6_goesOn_38 rfl 3 rfl ?_
      refine g_bipush C dX6_goesOn_39 gk_bipush_45 ?_
      obtain ⟨v9, z8, e, h⟩ := g_callE h
      refine mm_callV C M 1 [.int (45 : Int32)] (st := []) (v := some (.int v9)) (z' := z8) (fun l => ct_isSign l (45 : Int32) z6 v9 z8 e) (lw_V q2308 q2310 qs91 q178 q2311) rfl rfl rfl (Nat.le_of_ble_eq_true rfl) (Nat.le_of_ble_eq_true rfl) (Nat.le_of_ble_eq_true rfl) dX6_goesOn_41 ?_
      refine gW_st (st' := [.int v9]) rfl ?_
      refine g_if_ne C dX6_goesOn_44 rfl h (fun h => ?_) (fun h => ?_)
      · exact g_sub [(0, .ref E.2.2.1)] [3] rfl (wk_goesOn_b74 C M z8 h)
      · refine g_aload_n C dX6_goesOn_47 rfl 3 rfl ?_
        refine g_bipush C dX6_goesOn_48 gk_bipush_42 ?_
        obtain ⟨v11, z10, e, h⟩ := g_callE h
        refine mm_callV C M 1 [.int (42 : Int32)] (st := []) (v := some (.int v11)) (z' := z10) (fun l => ct_isSign l (42 : Int32) z8 v11 z10 e) (lw_V q2308 q2310 qs91 q178 q2311) rfl rfl rfl (Nat.le_of_ble_eq_true rfl) (Nat.le_of_ble_eq_true rfl) (Nat.le_of_ble_eq_true rfl) dX6_goesOn_50 ?_
        refine gW_st (st' := [.int v11]) rfl ?_
        refine g_if_ne C dX6_goesOn_53 rfl h (fun h => ?_) (fun h => ?_)
        · exact g_sub [(0, .ref E.2.2.1)] [3] rfl (wk_goesOn_b74 C M z10 h)
        · refine g_aload_n C dX6_goesOn_56 rfl 3 rfl ?_
          refine g_bipush C dX6_goesOn_57 gk_bipush_47 ?_
          obtain ⟨v13, z12, e, h⟩ := g_callE h
          refine mm_callV C M 1 [.int (47 : Int32)] (st := []) (v := some (.int v13)) (z' := z12) (fun l => ct_isSign l (47 : Int32) z10 v13 z12 e) (lw_V q2308 q2310 qs91 q178 q2311) rfl rfl rfl (Nat.le_of_ble_eq_true rfl) (Nat.le_of_ble_eq_true rfl) (Nat.le_of_ble_eq_true rfl) dX6_goesOn_59 ?_
          refine gW_st (st' := [.int v13]) rfl ?_
          refine g_if_ne C dX6_goesOn_62 rfl h (fun h => ?_) (fun h => ?_)
          · exact g_sub [(0, .ref E.2.2.1)] [3] rfl (wk_goesOn_b74 C M z12 h)
          · refine g_aload_n C dX6_goesOn_65 rfl 3 rfl ?_
            refine g_bipush C dX6_goesOn_66 gk_bipush_37 ?_
            obtain ⟨v15, z14, e, h⟩ := g_callE h
            refine mm_callV C M 1 [.int (37 : Int32)] (st := []) (v := some (.int v15)) (z' := z14) (fun l => ct_isSign l (37 : Int32) z12 v15 z14 e) (lw_V q2308 q2310 qs91 q178 q2311) rfl rfl rfl (Nat.le_of_ble_eq_true rfl) (Nat.le_of_ble_eq_true rfl) (Nat.le_of_ble_eq_true rfl) dX6_goesOn_68 ?_
            refine gW_st (st' := [.int v15]) rfl ?_
            refine g_if_eq C dX6_goesOn_71 rfl h (fun h => ?_) (fun h => ?_)
            · exact g_sub [(0, .ref E.2.2.1), (1, .int (v1 - (1 : Int32))), (2, .int v2), (3, .int v4)] [3, 2, 1, 0] rfl (wk_goesOn_b175 C M (v1 - (1 : Int32)) v2 v4 z14 h)
            · exact g_sub [(0, .ref E.2.2.1)] [3] rfl (wk_goesOn_b74 C M z14 h)
theorem ct_goesOn (l : Launch) (z : mm_S) (r : Int32) (z' : mm_S) (h : mo_goesOn z = some (r, z')) : mm_MetV l yX6_goesOn cX6_goesOn 5 (some .boolean) 2 47 [] z (.returned (some (.int r)), z') := by
  intro E hD
  exact mm_enter E hD rfl ⟨_, rfl⟩ (.ref E.2.2.1 :: []) (Nat.le_of_ble_eq_true rfl) (fun X C M => wk_goesOn C M z h)
