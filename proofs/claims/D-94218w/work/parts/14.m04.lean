set_option maxRecDepth 100000
def mo_bringsSets_b2 : Nat → Int32 → mm_S → Option (Unit × mm_S)
  | 0, _, _ => none
  | n + 1, x1, z => if (48 : Int32) ≤ x1 then (some ((), z)) else (mm_lI 75 x1 z (fun v1 => mm_sI 74 x1 v1 z (fun z2 => (mo_bringsSets_b2 n) (x1 + (1 : Int32)) z2)))
theorem wk_bringsSets_b2 {X : gX} {E : mm_E} {r : Unit × mm_S} (C : gC X cX6_bringsSets 2 none RX6 0 0) (M : mm_C X E) : ∀ (n : Nat) (x1 : Int32) (z : mm_S), mo_bringsSets_b2 n x1 z = some r → gW X (mm_G E) (.returned none, r.2) z 2 [(0, .ref E.2.2.1), (1, .int x1)] [] := by
  intro n
  induction n with
  | zero =>
    intro x1 z h
    have h : (none : Option (Unit × mm_S)) = some r := h
    cases h
  | succ n ih =>
    intro x1 z h
    rw [mo_bringsSets_b2] at h
    refine g_iload_n C dX6_bringsSets_2 rfl 1 rfl ?_
    refine g_bipush C dX6_bringsSets_3 gk_bipush_48 ?_
    refine g_icmp_ge C dX6_bringsSets_5 rfl h (fun h => ?_) (fun h => ?_)
    · exact g_vret C (fun _ => trivial) dX6_bringsSets_26 h
    · refine g_aload_n C dX6_bringsSets_8 rfl 0 rfl ?_
      refine mm_getA C M 74 (Nat.le_of_ble_eq_true rfl) (Nat.le_of_ble_eq_true rfl) q2077 rfl dX6_bringsSets_9 ?_
      refine g_iload_n C dX6_bringsSets_12 rfl 1 rfl ?_
      refine g_aload_n C dX6_bringsSets_13 rfl 0 rfl ?_
      refine mm_getA C M 75 (Nat.le_of_ble_eq_true rfl) (Nat.le_of_ble_eq_true rfl) q2078 rfl dX6_bringsSets_14 ?_
      refine g_iload_n C dX6_bringsSets_17 rfl 1 rfl ?_
      refine mm_ldI C M 75 (Nat.le_of_ble_eq_true rfl) rfl dX6_bringsSets_18 h (fun v1 h => ?_)
      refine mm_stI C M 74 (Nat.le_of_ble_eq_true rfl) rfl dX6_bringsSets_19 h (fun z2 h => ?_)
      refine g_iinc [(1, .int (x1 + (1 : Int32))), (0, .ref E.2.2.1)] C dX6_bringsSets_20 (j := 1) rfl (gk_inc_1 _) (Nat.le_of_ble_eq_true rfl) rfl ?_
      refine g_goto C dX6_bringsSets_23 rfl ?_
      exact g_sub [(0, .ref E.2.2.1), (1, .int (x1 + (1 : Int32)))] [1, 0] rfl (ih (x1 + (1 : Int32)) z2 h)
def mo_bringsSets (z : mm_S) : Option (Unit × mm_S) := mo_bringsSets_b2 g_fu (0 : Int32) z
theorem wk_bringsSets {X : gX} {E : mm_E} {r : Unit × mm_S} (C : gC X cX6_bringsSets 2 none RX6 0 0) (M : mm_C X E) (z : mm_S) (h : mo_bringsSets z = some r) : gW X (mm_G E) (.returned none, r.2) z 0 [(0, .ref E.2.2.1)] [] := by
  unfold mo_bringsSets at h
  refine g_iconst C dX6_bringsSets_0 gk_iconst_0 ?_
  refine g_istore_n [(1, .int (0 : Int32)), (0, .ref E.2.2.1)] C dX6_bringsSets_1 rfl (Nat.le_of_ble_eq_true rfl) rfl ?_
  exact g_sub [(0, .ref E.2.2.1), (1, .int (0 : Int32))] [1, 0] rfl (wk_bringsSets_b2 C M g_fu (0 : Int32) z h)
theorem ct_bringsSets (l : Launch) (z : mm_S) (r : Unit) (z' : mm_S) (h : mo_bringsSets z = some (r, z')) : mm_MetV l yX6_bringsSets cX6_bringsSets 2 none 0 0 [] z (.returned none, z') := by
  intro E hD
  exact mm_enter E hD rfl ⟨_, rfl⟩ (.ref E.2.2.1 :: []) (Nat.le_of_ble_eq_true rfl) (fun X C M => wk_bringsSets C M z h)
def mo_isPair_b214 : Nat → Int32 → Int32 → mm_S → Option (Int32 × mm_S)
  | 0, _, _, _ => none
  | n + 1, x3, x4, z => mm_gI 65 z (fun v1 => if v1 ≤ x4 then (if x3 ≤ 0 then (some ((0 : Int32), z)) else (mm_gI 65 z (fun v2 => if v2 ≤ x3 then (some ((0 : Int32), z)) else (some ((1 : Int32), z))))) else (mm_lI 74 x4 z (fun v3 => (mo_isPair_b214 n) (x3 + v3) (x4 + (1 : Int32)) z)))
theorem wk_isPair_b214 {X : gX} {E : mm_E} {r : Int32 × mm_S} (C : gC X cX6_isPair 5 (some .boolean) RX6 6 143) (M : mm_C X E) : ∀ (n : Nat) (x3 : Int32) (x4 : Int32) (z : mm_S), mo_isPair_b214 n x3 x4 z = some r → gW X (mm_G E) (.returned (some (.int r.1)), r.2) z 214 [(0, .ref E.2.2.1), (3, .int x3), (4, .int x4)] [] := by
  intro n
  induction n with
  | zero =>
    intro x3 x4 z h
    have h : (none : Option (Int32 × mm_S)) = some r := h
    cases h
  | succ n ih =>
    intro x3 x4 z h
    rw [mo_isPair_b214] at h
    refine g_iload C dX6_isPair_214 2 rfl ?_
    refine g_aload_n C dX6_isPair_216 rfl 0 rfl ?_
    refine mm_getI C M 65 (Nat.le_of_ble_eq_true rfl) (Nat.le_of_ble_eq_true rfl) q2068 rfl dX6_isPair_217 h (fun v1 h => ?_)
    refine g_icmp_ge C dX6_isPair_220 rfl h (fun h => ?_) (fun h => ?_)
    · refine g_iload_n C dX6_isPair_239 rfl 1 rfl ?_
      refine g_if_le C dX6_isPair_240 rfl h (fun h => ?_) (fun h => ?_)
      · refine g_iconst C dX6_isPair_255 gk_iconst_0 ?_
        exact g_zretc C (fun _ => trivial) dX6_isPair_256 (Or.inl rfl) h
      · refine g_iload_n C dX6_isPair_243 rfl 1 rfl ?_
        refine g_aload_n C dX6_isPair_244 rfl 0 rfl ?_
        refine mm_getI C M 65 (Nat.le_of_ble_eq_true rfl) (Nat.le_of_ble_eq_true rfl) q2068 rfl dX6_isPair_245 h (fun v2 h => ?_)
        refine g_icmp_ge C dX6_isPair_248 rfl h (fun h => ?_) (fun h => ?_)
        · refine g_iconst C dX6_isPair_255 gk_iconst_0 ?_
          exact g_zretc C (fun _ => trivial) dX6_isPair_256 (Or.inl rfl) h
        · refine g_iconst C dX6_isPair_251 gk_iconst_1 ?_
          refine g_goto C dX6_isPair_252 rfl ?_
          exact g_zretc C (fun _ => trivial) dX6_isPair_256 (Or.inr rfl) h
    · refine g_iload_n C dX6_isPair_223 rfl 1 rfl ?_
      refine g_aload_n C dX6_isPair_224 rfl 0 rfl ?_
      refine mm_getA C M 74 (Nat.le_of_ble_eq_true rfl) (Nat.le_of_ble_eq_true rfl) q2077 rfl dX6_isPair_225 ?_
      refine g_iload C dX6_isPair_228 2 rfl ?_
      refine mm_ldI C M 74 (Nat.le_of_ble_eq_true rfl) rfl dX6_isPair_230 h (fun v3 h => ?_)
      refine g_iadd C dX6_isPair_231 ?_
      refine g_istore_n [(3, .int (x3 + v3)), (0, .ref E.2.2.1), (4, .int x4)] C dX6_isPair_232 rfl (Nat.le_of_ble_eq_true rfl) rfl ?_
      refine g_iinc [(4, .int (x4 + (1 : Int32))), (3, .int (x3 + v3)), (0, .ref E.2.2.1)] C dX6_isPair_233 (j := 2) rfl (gk_inc_1 _) (Nat.le_of_ble_eq_true rfl) rfl ?_
      refine g_goto C dX6_isPair_236 rfl ?_
      exact g_sub [(0, .ref E.2.2.1), (3, .int (x3 + v3)), (4, .int (x4 + (1 : Int32)))] [2, 1, 0] rfl (ih (x3 + v3) (x4 + (1 : Int32)) z h)
def mo_isPair_b203 (k142 : Int32 → mm_S → Option (Int32 × mm_S)) (x3 : Int32) (z : mm_S) : Option (Int32 × mm_S) := k142 (x3 + (1 : Int32)) z
theorem wk_isPair_b203 {X : gX} {E : mm_E} {r : Int32 × mm_S} (C : gC X cX6_isPair 5 (some .boolean) RX6 6 143) (M : mm_C X E) {k142 : Int32 → mm_S → Option (Int32 × mm_S)} (hk142 : ∀ (x3 : Int32) (z : mm_S), k142 x3 z = some r → gW X (mm_G E) (.returned (some (.int r.1)), r.2) z 142 [(0, .ref E.2.2.1), (3, .int x3)] []) (x3 : Int32) (z : mm_S) (h : mo_isPair_b203 k142 x3 z = some r) : gW X (mm_G E) (.returned (some (.int r.1)), r.2) z 203 [(0, .ref E.2.2.1), (3, .int x3)] [] := by
  unfold mo_isPair_b203 at h
  refine g_iinc [(3, .int (x3 + (1 : Int32))), (0, .ref E.2.2.1)] C dX6_isPair_203 (j := 1) rfl (gk_inc_1 _) (Nat.le_of_ble_eq_true rfl) rfl ?_
  refine g_goto C dX6_isPair_206 rfl ?_
  exact g_sub [(0, .ref E.2.2.1), (3, .int (x3 + (1 : Int32)))] [1, 0] rfl (hk142 (x3 + (1 : Int32)) z h)
def mo_isPair_b188 (k142 : Int32 → mm_S → Option (Int32 × mm_S)) (x3 : Int32) (z : mm_S) : Option (Int32 × mm_S) := g_call (mo_bringsSets z) (fun _ z1 => g_call (mo_parts x3 (1 : Int32) z1) (fun v4 z3 => if v4 = 0 then (some ((0 : Int32), z3)) else (mo_isPair_b203 k142 x3 z3)))
theorem wk_isPair_b188 {X : gX} {E : mm_E} {r : Int32 × mm_S} (C : gC X cX6_isPair 5 (some .boolean) RX6 6 143) (M : mm_C X E) {k142 : Int32 → mm_S → Option (Int32 × mm_S)} (hk142 : ∀ (x3 : Int32) (z : mm_S), k142 x3 z = some r → gW X (mm_G E) (.returned (some (.int r.1)), r.2) z 142 [(0, .ref E.2.2.1), (3, .int x3)] []) (x3 : Int32) (z : mm_S) (h : mo_isPair_b188 k142 x3 z = some r) : gW X (mm_G E) (.returned (some (.int r.1)), r.2) z 188 [(0, .ref E.2.2.1), (3, .int x3)] [] := by
  unfold mo_isPair_b188 at h
  refine g_aload_n C dX6_isPair_188 rfl 0 rfl ?_
  obtain ⟨u2, z1, e, h⟩ := g_callE h
  refine mm_callV C M 0 [] (st := []) (v := none) (z' := z1) (fun l => ct_bringsSets l z u2 z1 e) (lw_V q2657 q2659 qs152 q178 q2660) rfl rfl rfl (Nat.le_of_ble_eq_true rfl) (Nat.le_of_ble_eq_true rfl) (Nat.le_of_ble_eq_true rfl) dX6_isPair_189 ?_
  refine gW_st (st' := []) rfl ?_
  refine g_aload_n C dX6_isPair_192 rfl 0 rfl ?_
  refine g_iload_n C dX6_isPair_193 rfl 1 rfl ?_
  refine g_iconst C dX6_isPair_194 gk_iconst_1 ?_
  obtain ⟨v4, z3, e, h⟩ := g_callE h
  refine mm_callV C M 2 [.int x3, .int (1 : Int32)] (st := []) (v := some (.int v4)) (z' := z3) (fun l => ct_parts l x3 (1 : Int32) z1 v4 z3 e) (lw_V q2653 q2655 qs151 q178 q2656) rfl rfl rfl (Nat.le_of_ble_eq_true rfl) (Nat.le_of_ble_eq_true rfl) (Nat.le_of_ble_eq_true rfl) dX6_isPair_195 ?_
  refine gW_st (st' := [.int v4]) rfl ?_
  refine g_if_ne C dX6_isPair_198 rfl h (fun h => ?_) (fun h => ?_)
  · exact wk_isPair_b203 C M hk142 x3 z3 h
  · refine g_iconst C dX6_isPair_201 gk_iconst_0 ?_
    exact g_zretc C (fun _ => trivial) dX6_isPair_202 (Or.inl rfl) h
def mo_isPair_b142 : Nat → Int32 → mm_S → Option (Int32 × mm_S)
  | 0, _, _ => none
  | n + 1, x3, z => mm_gI 65 z (fun v1 => if v1 ≤ x3 then (mo_isPair_b214 g_fu (0 : Int32) (0 : Int32) z) else (mm_lI 74 x3 z (fun v2 => if v2 = (-1 : Int32) then (g_call (mo_keepsSets z) (fun _ z3 => mm_lI 68 x3 z3 (fun v5 => if v5 = 0 then (mo_isPair_b188 (mo_isPair_b142 n) x3 z3) else (g_call (mo_parts x3 (0 : Int32) z3) (fun v7 z6 => if v7 = 0 then (mo_isPair_b188 (mo_isPair_b142 n) x3 z6) else (mo_isPair_b203 (mo_isPair_b142 n) x3 z6)))))) else (mo_isPair_b203 (mo_isPair_b142 n) x3 z))))
theorem wk_isPair_b142 {X : gX} {E : mm_E} {r : Int32 × mm_S} (C : gC X cX6_isPair 5 (some .boolean) RX6 6 143) (M : mm_C X E) : ∀ (n : Nat) (x3 : Int32) (z : mm_S), mo_isPair_b142 n x3 z = some r → gW X (mm_G E) (.returned (some (.int r.1)), r.2) z 142 [(0, .ref E.2.2.1), (3, .int x3)] [] := by
  intro n
  induction n with
  | zero =>
    intro x3 z h
    have h : (none : Option (Int32 × mm_S)) = some r := h
    cases h
  | succ n ih =>
    intro x3 z h
    rw [mo_isPair_b142] at h
    refine g_iload_n C dX6_isPair_142 rfl 1 rfl ?_
    refine g_aload_n C dX6_isPair_143 rfl 0 rfl ?_
    refine mm_getI C M 65 (Nat.le_of_ble_eq_true rfl) (Nat.le_of_ble_eq_true rfl) q2068 rfl dX6_isPair_144 h (fun v1 h => ?_)
    refine g_icmp_ge C dX6_isPair_147 rfl h (fun h => ?_) (fun h => ?_)
    · refine g_iconst C dX6_isPair_209 gk_iconst_0 ?_
      refine g_istore_n [(3, .int (0 : Int32)), (0, .ref E.2.2.1)] C dX6_isPair_210 rfl (Nat.le_of_ble_eq_true rfl) rfl ?_
      refine g_iconst C dX6_isPair_211 gk_iconst_0 ?_
      refine g_istore [(4, .int (0 : Int32)), (3, .int (0 : Int32)), (0, .ref E.2.2.1)] C dX6_isPair_212 (Nat.le_of_ble_eq_true rfl) rfl ?_
      exact g_sub [(0, .ref E.2.2.1), (3, .int (0 : Int32)), (4, .int (0 : Int32))] [2, 1, 0] rfl (wk_isPair_b214 C M g_fu (0 : Int32) (0 : Int32) z h)
    · refine g_aload_n C dX6_isPair_150 rfl 0 rfl ?_
      refine mm_getA C M 74 (Nat.le_of_ble_eq_true rfl) (Nat.le_of_ble_eq_true rfl) q2077 rfl dX6_isPair_151 ?_
      refine g_iload_n C dX6_isPair_154 rfl 1 rfl ?_
      refine mm_ldI C M 74 (Nat.le_of_ble_eq_true rfl) rfl dX6_isPair_155 h (fun v2 h => ?_)
      refine g_iconst C dX6_isPair_156 gk_iconst_m1 ?_
      refine g_icmp_eq C dX6_isPair_157 rfl h (fun h => ?_) (fun h => ?_)
      · refine g_aload_n C dX6_isPair_163 rfl 0 rfl ?_
        obtain ⟨u4, z3, e, h⟩ := g_callE h
        refine mm_callV C M 0 [] (st := []) (v := none) (z' := z3) (fun l => ct_keepsSets l z u4 z3 e) (lw_V q2649 q2651 qs150 q178 q2652) rfl rfl rfl (Nat.le_of_ble_eq_true rfl) (Nat.le_of_ble_eq_true rfl) (Nat.le_of_ble_eq_true rfl) dX6_isPair_164 ?_
        refine gW_st (st' := []) rfl ?_
        refine g_aload_n C dX6_isPair_167 rfl 0 rfl ?_
        refine mm_getA C M 68 (Nat.le_of_ble_eq_true rfl) (Nat.le_of_ble_eq_true rfl) q2071 rfl dX6_isPair_168 ?_
        refine g_iload_n C dX6_isPair_171 rfl 1 rfl ?_
        refine mm_ldZ C M 68 (Nat.le_of_ble_eq_true rfl) rfl dX6_isPair_172 h (fun v5 h => ?_)
        refine g_if_eq C dX6_isPair_173 rfl h (fun h => ?_) (fun h => ?_)
        · exact wk_isPair_b188 C M ih x3 z3 h
        · refine g_aload_n C dX6_isPair_176 rfl 0 rfl ?_
          refine g_iload_n C dX6_isPair_177 rfl 1 rfl ?_
          refine g_iconst C dX6_isPair_178 gk_iconst_0 ?_
          obtain ⟨v7, z6, e, h⟩ := g_callE h
          refine mm_callV C M 2 [.int x3, .int (0 : Int32)] (st := []) (v := some (.int v7)) (z' := z6) (fun l => ct_parts l x3 (0 : Int32) z3 v7 z6 e) (lw_V q2653 q2655 qs151 q178 q2656) rfl rfl rfl (Nat.le_of_ble_eq_true rfl) (Nat.le_of_ble_eq_true rfl) (Nat.le_of_ble_eq_true rfl) dX6_isPair_179 ?_
          refine gW_st (st' := [.int v7]) rfl ?_
          refine g_if_eq C dX6_isPair_182 rfl h (fun h => ?_) (fun h => ?_)
          · exact wk_isPair_b188 C M ih x3 z6 h
          · refine g_goto C dX6_isPair_185 rfl ?_
            exact wk_isPair_b203 C M ih x3 z6 h
      · refine g_goto C dX6_isPair_160 rfl ?_
        exact wk_isPair_b203 C M ih x3 z h
def mo_isPair_b114 (k19 : Int32 → Int32 → Int32 → mm_S → Option (Int32 × mm_S)) (k81 : Int32 → Int32 → Int32 → Int32 → mm_S → Option (Int32 × mm_S)) (x1 : Int32) (x3 : Int32) (x4 : Int32) (s0 : Int32) (z : mm_S) : Option (Int32 × mm_S) := k81 x1 s0 x3 (x4 + (1 : Int32)) z
theorem wk_isPair_b114 {X : gX} {E : mm_E} {r : Int32 × mm_S} (C : gC X cX6_isPair 5 (some .boolean) RX6 6 143) (M : mm_C X E) {k19 : Int32 → Int32 → Int32 → mm_S → Option (Int32 × mm_S)} (hk19 : ∀ (x1 : Int32) (x2 : Int32) (x3 : Int32) (z : mm_S), k19 x1 x2 x3 z = some r → gW X (mm_G E) (.returned (some (.int r.1)), r.2) z 19 [(0, .ref E.2.2.1), (1, .int x1), (2, .int x2), (3, .int x3)] []) {k81 : Int32 → Int32 → Int32 → Int32 → mm_S → Option (Int32 × mm_S)} (hk81 : ∀ (x1 : Int32) (x2 : Int32) (x3 : Int32) (x4 : Int32) (z : mm_S), k81 x1 x2 x3 x4 z = some r → gW X (mm_G E) (.returned (some (.int r.1)), r.2) z 81 [(0, .ref E.2.2.1), (1, .int x1), (2, .int x2), (3, .int x3), (4, .int x4)] []) (x1 : Int32) (x3 : Int32) (x4 : Int32) (s0 : Int32) (z : mm_S) (h : mo_isPair_b114 k19 k81 x1 x3 x4 s0 z = some r) : gW X (mm_G E) (.returned (some (.int r.1)), r.2) z 114 [(0, .ref E.2.2.1), (1, .int x1), (3, .int x3), (4, .int x4)] [.int s0] := by
  unfold mo_isPair_b114 at h
  refine g_istore_n [(2, .int s0), (0, .ref E.2.2.1), (1, .int x1), (3, .int x3), (4, .int x4)] C dX6_isPair_114 rfl (Nat.le_of_ble_eq_true rfl) rfl ?_
  refine g_iinc [(4, .int (x4 + (1 : Int32))), (2, .int s0), (0, .ref E.2.2.1), (1, .int x1), (3, .int x3)] C dX6_isPair_115 (j := 4) rfl (gk_inc_1 _) (Nat.le_of_ble_eq_true rfl) rfl ?_
  refine g_goto C dX6_isPair_118 rfl ?_
  exact g_sub [(0, .ref E.2.2.1), (1, .int x1), (2, .int s0), (3, .int x3), (4, .int (x4 + (1 : Int32)))] [2, 3, 1, 4, 0] rfl (hk81 x1 s0 x3 (x4 + (1 : Int32)) z h)
def mo_isPair_b113 (k19 : Int32 → Int32 → Int32 → mm_S → Option (Int32 × mm_S)) (k81 : Int32 → Int32 → Int32 → Int32 → mm_S → Option (Int32 × mm_S)) (x1 : Int32) (x3 : Int32) (x4 : Int32) (z : mm_S) : Option (Int32 × mm_S) := mo_isPair_b114 k19 k81 x1 x3 x4 (0 : Int32) z
theorem wk_isPair_b113 {X : gX} {E : mm_E} {r : Int32 × mm_S} (C : gC X cX6_isPair 5 (some .boolean) RX6 6 143) (M : mm_C X E) {k19 : Int32 → Int32 → Int32 → mm_S → Option (Int32 × mm_S)} (hk19 : ∀ (x1 : Int32) (x2 : Int32) (x3 : Int32) (z : mm_S), k19 x1 x2 x3 z = some r → gW X (mm_G E) (.returned (some (.int r.1)), r.2) z 19 [(0, .ref E.2.2.1), (1, .int x1), (2, .int x2), (3, .int x3)] []) {k81 : Int32 → Int32 → Int32 → Int32 → mm_S → Option (Int32 × mm_S)} (hk81 : ∀ (x1 : Int32) (x2 : Int32) (x3 : Int32) (x4 : Int32) (z : mm_S), k81 x1 x2 x3 x4 z = some r → gW X (mm_G E) (.returned (some (.int r.1)), r.2) z 81 [(0, .ref E.2.2.1), (1, .int x1), (2, .int x2), (3, .int x3), (4, .int x4)] []) (x1 : Int32) (x3 : Int32) (x4 : Int32) (z : mm_S) (h : mo_isPair_b113 k19 k81 x1 x3 x4 z = some r) : gW X (mm_G E) (.returned (some (.int r.1)), r.2) z 113 [(0, .ref E.2.2.1), (1, .int x1), (3, .int x3), (4, .int x4)] [] := by
  unfold mo_isPair_b113 at h
  refine g_iconst C dX6_isPair_113 gk_iconst_0 ?_
  exact wk_isPair_b114 C M hk19 hk81 x1 x3 x4 (0 : Int32) z h
def mo_isPair_b81 (k19 : Int32 → Int32 → Int32 → mm_S → Option (Int32 × mm_S)) : Nat → Int32 → Int32 → Int32 → Int32 → mm_S → Option (Int32 × mm_S)
  | 0, _, _, _, _, _ => none
  | n + 1, x1, x2, x3, x4, z => mm_gI 65 z (fun v1 => if v1 ≤ x4 then (mm_sI 74 x3 (-1 : Int32) z (fun z2 => k19 x1 x2 (x3 + (1 : Int32)) z2)) else (if x2 = 0 then (mo_isPair_b113 k19 (mo_isPair_b81 k19 n) x1 x3 x4 z) else (mm_lI 70 (((48 : Int32) * x3) + x4) z (fun v3 => if v3 = 0 then (mo_isPair_b113 k19 (mo_isPair_b81 k19 n) x1 x3 x4 z) else (mo_isPair_b114 k19 (mo_isPair_b81 k19 n) x1 x3 x4 (1 : Int32) z)))))
theorem wk_isPair_b81 {X : gX} {E : mm_E} {r : Int32 × mm_S} (C : gC X cX6_isPair 5 (some .boolean) RX6 6 143) (M : mm_C X E) {k19 : Int32 → Int32 → Int32 → mm_S → Option (Int32 × mm_S)} (hk19 : ∀ (x1 : Int32) (x2 : Int32) (x3 : Int32) (z : mm_S), k19 x1 x2 x3 z = some r → gW X (mm_G E) (.returned (some (.int r.1)), r.2) z 19 [(0, .ref E.2.2.1), (1, .int x1), (2, .int x2), (3, .int x3)] []) : ∀ (n : Nat) (x1 : Int32) (x2 : Int32) (x3 : Int32) (x4 : Int32) (z : mm_S), mo_isPair_b81 k19 n x1 x2 x3 x4 z = some r → gW X (mm_G E) (.returned (some (.int r.1)), r.2) z 81 [(0, .ref E.2.2.1), (1, .int x1), (2, .int x2), (3, .int x3), (4, .int x4)] [] := by
  intro n
  induction n with
  | zero =>
    intro x1 x2 x3 x4 z h
    have h : (none : Option (Int32 × mm_S)) = some r := h
    cases h
  | succ n ih =>
    intro x1 x2 x3 x4 z h
    rw [mo_isPair_b81] at h
    refine g_iload C dX6_isPair_81 4 rfl ?_
    refine g_aload_n C dX6_isPair_83 rfl 0 rfl ?_
    refine mm_getI C M 65 (Nat.le_of_ble_eq_true rfl) (Nat.le_of_ble_eq_true rfl) q2068 rfl dX6_isPair_84 h (fun v1 h => ?_)
    refine g_icmp_ge C dX6_isPair_87 rfl h (fun h => ?_) (fun h => ?_)
    · refine g_aload_n C dX6_isPair_121 rfl 0 rfl ?_
      refine mm_getA C M 74 (Nat.le_of_ble_eq_true rfl) (Nat.le_of_ble_eq_true rfl) q2077 rfl dX6_isPair_122 ?_
      refine g_iload_n C dX6_isPair_125 rfl 3 rfl ?_
      refine g_iconst C dX6_isPair_126 gk_iconst_m1 ?_
      refine mm_stI C M 74 (Nat.le_of_ble_eq_true rfl) rfl dX6_isPair_127 h (fun z2 h => ?_)
      refine g_iinc [(3, .int (x3 + (1 : Int32))), (0, .ref E.2.2.1), (1, .int x1), (2, .int x2), (4, .int x4)] C dX6_isPair_128 (j := 3) rfl (gk_inc_1 _) (Nat.le_of_ble_eq_true rfl) rfl ?_
      refine g_goto C dX6_isPair_131 rfl ?_
      exact g_sub [(0, .ref E.2.2.1), (1, .int x1), (2, .int x2), (3, .int (x3 + (1 : Int32)))] [1, 2, 3, 0] rfl (hk19 x1 x2 (x3 + (1 : Int32)) z2 h)
    · refine g_iload_n C dX6_isPair_90 rfl 2 rfl ?_
      refine g_if_eq C dX6_isPair_91 rfl h (fun h => ?_) (fun h => ?_)
      · exact g_sub [(0, .ref E.2.2.1), (1, .int x1), (3, .int x3), (4, .int x4)] [0, 1, 3, 4] rfl (wk_isPair_b113 C M hk19 ih x1 x3 x4 z h)
      · refine g_aload_n C dX6_isPair_94 rfl 0 rfl ?_
        refine mm_getA C M 70 (Nat.le_of_ble_eq_true rfl) (Nat.le_of_ble_eq_true rfl) q2073 rfl dX6_isPair_95 ?_
        refine g_bipush C dX6_isPair_98 gk_bipush_48 ?_
        refine g_iload_n C dX6_isPair_100 rfl 3 rfl ?_
        refine g_imul C dX6_isPair_101 ?_
        refine g_iload C dX6_isPair_102 4 rfl ?_
        refine g_iadd C dX6_isPair_104 ?_
        refine mm_ldZ C M 70 (Nat.le_of_ble_eq_true rfl) rfl dX6_isPair_105 h (fun v3 h => ?_)
        refine g_if_eq C dX6_isPair_106 rfl h (fun h => ?_) (fun h => ?_)
        · exact g_sub [(0, .ref E.2.2.1), (1, .int x1), (3, .int x3), (4, .int x4)] [0, 1, 3, 4] rfl (wk_isPair_b113 C M hk19 ih x1 x3 x4 z h)
        · refine g_iconst C dX6_isPair_109 gk_iconst_1 ?_
          refine g_goto C dX6_isPair_110 rfl ?_
          exact g_sub [(0, .ref E.2.2.1), (1, .int x1), (3, .int x3), (4, .int x4)] [0, 1, 3, 4] rfl (wk_isPair_b114 C M hk19 ih x1 x3 x4 (1 : Int32) z h)
def mo_isPair_b77 (k19 : Int32 → Int32 → Int32 → mm_S → Option (Int32 × mm_S)) (x1 : Int32) (x3 : Int32) (s0 : Int32) (z : mm_S) : Option (Int32 × mm_S) := mo_isPair_b81 k19 g_fu x1 s0 x3 (0 : Int32) z
theorem wk_isPair_b77 {X : gX} {E : mm_E} {r : Int32 × mm_S} (C : gC X cX6_isPair 5 (some .boolean) RX6 6 143) (M : mm_C X E) {k19 : Int32 → Int32 → Int32 → mm_S → Option (Int32 × mm_S)} (hk19 : ∀ (x1 : Int32) (x2 : Int32) (x3 : Int32) (z : mm_S), k19 x1 x2 x3 z = some r → gW X (mm_G E) (.returned (some (.int r.1)), r.2) z 19 [(0, .ref E.2.2.1), (1, .int x1), (2, .int x2), (3, .int x3)] []) (x1 : Int32) (x3 : Int32) (s0 : Int32) (z : mm_S) (h : mo_isPair_b77 k19 x1 x3 s0 z = some r) : gW X (mm_G E) (.returned (some (.int r.1)), r.2) z 77 [(0, .ref E.2.2.1), (1, .int x1), (3, .int x3)] [.int s0] := by
  unfold mo_isPair_b77 at h
  refine g_istore_n [(2, .int s0), (0, .ref E.2.2.1), (1, .int x1), (3, .int x3)] C dX6_isPair_77 rfl (Nat.le_of_ble_eq_true rfl) rfl ?_
  refine g_iconst C dX6_isPair_78 gk_iconst_0 ?_
  refine g_istore [(4, .int (0 : Int32)), (2, .int s0), (0, .ref E.2.2.1), (1, .int x1), (3, .int x3)] C dX6_isPair_79 (Nat.le_of_ble_eq_true rfl) rfl ?_
  exact g_sub [(0, .ref E.2.2.1), (1, .int x1), (2, .int s0), (3, .int x3), (4, .int (0 : Int32))] [2, 3, 1, 4, 0] rfl (wk_isPair_b81 C M hk19 g_fu x1 s0 x3 (0 : Int32) z h)
def mo_isPair_b76 (k19 : Int32 → Int32 → Int32 → mm_S → Option (Int32 × mm_S)) (x1 : Int32) (x3 : Int32) (z : mm_S) : Option (Int32 × mm_S) := mo_isPair_b77 k19 x1 x3 (0 : Int32) z
theorem wk_isPair_b76 {X : gX} {E : mm_E} {r : Int32 × mm_S} (C : gC X cX6_isPair 5 (some .boolean) RX6 6 143) (M : mm_C X E) {k19 : Int32 → Int32 → Int32 → mm_S → Option (Int32 × mm_S)} (hk19 : ∀ (x1 : Int32) (x2 : Int32) (x3 : Int32) (z : mm_S), k19 x1 x2 x3 z = some r → gW X (mm_G E) (.returned (some (.int r.1)), r.2) z 19 [(0, .ref E.2.2.1), (1, .int x1), (2, .int x2), (3, .int x3)] []) (x1 : Int32) (x3 : Int32) (z : mm_S) (h : mo_isPair_b76 k19 x1 x3 z = some r) : gW X (mm_G E) (.returned (some (.int r.1)), r.2) z 76 [(0, .ref E.2.2.1), (1, .int x1), (3, .int x3)] [] := by
  unfold mo_isPair_b76 at h
  refine g_iconst C dX6_isPair_76 gk_iconst_0 ?_
  exact wk_isPair_b77 C M hk19 x1 x3 (0 : Int32) z h
def mo_isPair_b19 : Nat → Int32 → Int32 → Int32 → mm_S → Option (Int32 × mm_S)
  | 0, _, _, _, _ => none
  | n + 1, x1, x2, x3, z => mm_gI 65 z (fun v1 => if v1 ≤ x3 then (if x2 = 0 then (mo_isPair_b142 g_fu (0 : Int32) z) else (some ((0 : Int32), z))) else (mm_lI 67 x3 z (fun v2 => g_call (mo_said x1 v2 z) (fun v4 z3 => mm_lI 67 x3 z3 (fun v5 => g_call (mo_laden x1 v5 z3) (fun v7 z6 => g_call (mo_isSound x1 v4 v7 z6) (fun v9 z8 => if v9 = 0 then (some ((0 : Int32), z8)) else (if x2 = 0 then (mo_isPair_b76 (mo_isPair_b19 n) x1 x3 z8) else (mm_lI 68 x3 z8 (fun v10 => if v10 = 0 then (mo_isPair_b76 (mo_isPair_b19 n) x1 x3 z8) else (mo_isPair_b77 (mo_isPair_b19 n) x1 x3 (1 : Int32) z8)))))))))))
theorem wk_isPair_b19 {X : gX} {E : mm_E} {r : Int32 × mm_S} (C : gC X cX6_isPair 5 (some .boolean) RX6 6 143) (M : mm_C X E) : ∀ (n : Nat) (x1 : Int32) (x2 : Int32) (x3 : Int32) (z : mm_S), mo_isPair_b19 n x1 x2 x3 z = some r → gW X (mm_G E) (.returned (some (.int r.1)), r.2) z 19 [(0, .ref E.2.2.1), (1, .int x1), (2, .int x2), (3, .int x3)] [] := by
  intro n
  induction n with
  | zero =>
    intro x1 x2 x3 z h
    have h : (none : Option (Int32 × mm_S)) = some r := h
    cases h
  | succ n ih =>
    intro x1 x2 x3 z h
    rw [mo_isPair_b19] at h
    refine g_iload_n C dX6_isPair_19 rfl 3 rfl ?_
    refine g_aload_n C dX6_isPair_20 rfl 0 rfl ?_
    refine mm_getI C M 65 (Nat.le_of_ble_eq_true rfl) (Nat.le_of_ble_eq_true rfl) q2068 rfl dX6_isPair_21 h (fun v1 h => ?_)
    refine g_icmp_ge C dX6_isPair_24 rfl h (fun h => ?_) (fun h => ?_)
    · refine g_iload_n C dX6_isPair_134 rfl 2 rfl ?_
      refine g_if_eq C dX6_isPair_135 rfl h (fun h => ?_) (fun h => ?_)
      · refine g_iconst C dX6_isPair_140 gk_iconst_0 ?_
        refine g_istore_n [(3, .int (0 : Int32)), (0, .ref E.2.2.1), (1, .int x1), (2, .int x2)] C dX6_isPair_141 rfl (Nat.le_of_ble_eq_true rfl) rfl ?_
        exact g_sub [(0, .ref E.2.2.1), (3, .int (0 : Int32))] [1, 0] rfl (wk_isPair_b142 C M g_fu (0 : Int32) z h)
      · refine g_iconst C dX6_isPair_138 gk_iconst_0 ?_
        exact g_zretc C (fun _ => trivial) dX6_isPair_139 (Or.inl rfl) h
    · refine g_aload_n C dX6_isPair_27 rfl 0 rfl ?_
      refine g_iload_n C dX6_isPair_28 rfl 1 rfl ?_
      refine g_aload_n C dX6_isPair_29 rfl 0 rfl ?_
      refine g_iload_n C dX6_isPair_30 rfl 1 rfl ?_
      refine g_aload_n C dX6_isPair_31 rfl 0 rfl ?_
      refine mm_getA C M 67 (Nat.le_of_ble_eq_true rfl) (Nat.le_of_ble_eq_true rfl) q2070 rfl dX6_isPair_32 ?_
      refine g_iload_n C dX6_isPair_35 rfl 3 rfl ?_
      refine mm_ldI C M 67 (Nat.le_of_ble_eq_true rfl) rfl dX6_isPair_36 h (fun v2 h => ?_)
      obtain ⟨v4, z3, e, h⟩ := g_callE h
      refine mm_callV C M 2 [.int x1, .int v2] (st := [.int x1, .ref E.2.2.1]) (v := some (.int v4)) (z' := z3) (fun l => ct_said l x1 v2 z v4 z3 e) (lw_V q2513 q2515 qs125 q178 q2516) rfl rfl rfl (Nat.le_of_ble_eq_true rfl) (Nat.le_of_ble_eq_true rfl) (Nat.le_of_ble_eq_true rfl) dX6_isPair_37 ?_
      refine gW_st (st' := [.int v4, .int x1, .ref E.2.2.1]) rfl ?_
      refine g_aload_n C dX6_isPair_40 rfl 0 rfl ?_
      refine g_iload_n C dX6_isPair_41 rfl 1 rfl ?_
      refine g_aload_n C dX6_isPair_42 rfl 0 rfl ?_
      refine mm_getA C M 67 (Nat.le_of_ble_eq_true rfl) (Nat.le_of_ble_eq_true rfl) q2070 rfl dX6_isPair_43 ?_
      refine g_iload_n C dX6_isPair_46 rfl 3 rfl ?_
      refine mm_ldI C M 67 (Nat.le_of_ble_eq_true rfl) rfl dX6_isPair_47 h (fun v5 h => ?_)
      obtain ⟨v7, z6, e, h⟩ := g_callE h
      refine mm_callV C M 2 [.int x1, .int v5] (st := [.int v4, .int x1, .ref E.2.2.1]) (v := some (.int v7)) (z' := z6) (fun l => ct_laden l x1 v5 z3 v7 z6 e) (lw_V q2581 q2583 qs138 q178 q2584) rfl rfl rfl (Nat.le_of_ble_eq_true rfl) (Nat.le_of_ble_eq_true rfl) (Nat.le_of_ble_eq_true rfl) dX6_isPair_48 ?_
      refine gW_st (st' := [.int v7, .int v4, .int x1, .ref E.2.2.1]) rfl ?_
      obtain ⟨v9, z8, e, h⟩ := g_callE h
      refine mm_callV C M 3 [.int x1, .int v4, .int v7] (st := []) (v := some (.int v9)) (z' := z8) (fun l => ct_isSound l x1 v4 v7 z6 v9 z8 e) (lw_V q2585 q2587 qs139 q178 q2588) rfl rfl rfl (Nat.le_of_ble_eq_true rfl) (Nat.le_of_ble_eq_true rfl) (Nat.le_of_ble_eq_true rfl) dX6_isPair_51 ?_
      refine gW_st (st' := [.int v9]) rfl ?_
      refine g_if_ne C dX6_isPair_54 rfl h (fun h => ?_) (fun h => ?_)
      · refine g_iload_n C dX6_isPair_59 rfl 2 rfl ?_
        refine g_if_eq C dX6_isPair_60 rfl h (fun h => ?_) (fun h => ?_)
        · exact g_sub [(0, .ref E.2.2.1), (1, .int x1), (3, .int x3)] [0, 1, 3] rfl (wk_isPair_b76 C M ih x1 x3 z8 h)
        · refine g_aload_n C dX6_isPair_63 rfl 0 rfl ?_
          refine mm_getA C M 68 (Nat.le_of_ble_eq_true rfl) (Nat.le_of_ble_eq_true rfl) q2071 rfl dX6_isPair_64 ?_
          refine g_iload_n C dX6_isPair_67 rfl 3 rfl ?_
          refine mm_ldZ C M 68 (Nat.le_of_ble_eq_true rfl) rfl dX6_isPair_68 h (fun v10 h => ?_)
          refine g_if_eq C dX6_isPair_69 rfl h (fun h => ?_) (fun h => ?_)
          · exact g_sub [(0, .ref E.2.2.1), (1, .int x1), (3, .int x3)] [0, 1, 3] rfl (wk_isPair_b76 C M ih x1 x3 z8 h)
          · refine g_iconst C dX6_isPair_72 gk_iconst_1 ?_
            refine g_goto C dX6_isPair_73 rfl ?_
            exact g_sub [(0, .ref E.2.2.1), (1, .int x1), (3, .int x3)] [0, 1, 3] rfl (wk_isPair_b77 C M ih x1 x3 (1 : Int32) z8 h)
      · refine g_iconst C dX6_isPair_57 gk_iconst_0 ?_
        exact g_zretc C (fun _ => trivial) dX6_isPair_58 (Or.inl rfl) h
def mo_isPair (x1 : Int32) (z : mm_S) : Option (Int32 × mm_S) := g_call (mo_booksFit x1 z) (fun v2 z1 => if v2 = 0 then (some ((0 : Int32), z1)) else (g_call (mo_pairs x1 z1) (fun _ z3 => mo_isPair_b19 g_fu x1 (1 : Int32) (0 : Int32) z3)))
theorem wk_isPair {X : gX} {E : mm_E} {r : Int32 × mm_S} (C : gC X cX6_isPair 5 (some .boolean) RX6 6 143) (M : mm_C X E) (x1 : Int32) (z : mm_S) (h : mo_isPair x1 z = some r) : gW X (mm_G E) (.returned (some (.int r.1)), r.2) z 0 [(0, .ref E.2.2.1), (1, .int x1)] [] := by
  unfold mo_isPair at h
  refine g_aload_n C dX6_isPair_0 rfl 0 rfl ?_
  refine g_iload_n C dX6_isPair_1 rfl 1 rfl ?_
  obtain ⟨v2, z1, e, h⟩ := g_callE h
  refine mm_callV C M 1 [.int x1] (st := []) (v := some (.int v2)) (z' := z1) (fun l => ct_booksFit l x1 z v2 z1 e) (lw_V q2554 q2556 qs132 q178 q2557) rfl rfl rfl (Nat.le_of_ble_eq_true rfl) (Nat.le_of_ble_eq_true rfl) (Nat.le_of_ble_eq_true rfl) dX6_isPair_2 ?_
  refine gW_st (st' := [.int v2]) rfl ?_
  refine g_if_ne C dX6_isPair_5 rfl h (fun h => ?_) (fun h => ?_)
  · refine g_aload_n C dX6_isPair_10 rfl 0 rfl ?_
    refine g_iload_n C dX6_isPair_11 rfl 1 rfl ?_
    obtain ⟨u4, z3, e, h⟩ := g_callE h
    refine mm_callV C M 1 [.int x1] (st := []) (v := none) (z' := z3) (fun l => ct_pairs l x1 z1 u4 z3 e) (lw_V q2577 q2579 qs137 q178 q2580) rfl rfl rfl (Nat.le_of_ble_eq_true rfl) (Nat.le_of_ble_eq_true rfl) (Nat.le_of_ble_eq_true rfl) dX6_isPair_12 ?_
    refine gW_st (st' := []) rfl ?_
    refine g_iconst C dX6_isPair_15 gk_iconst_1 ?_
    refine g_istore_n [(2, .int (1 : Int32)), (0, .ref E.2.2.1), (1, .int x1)] C dX6_isPair_16 rfl (Nat.le_of_ble_eq_true rfl) rfl ?_
    refine g_iconst C dX6_isPair_17 gk_iconst_0 ?_
    refine g_istore_n [(3, .int (0 : Int32)), (2, .int (1 : Int32)), (0, .ref E.2.2.1), (1, .int x1)] C dX6_isPair_18 rfl (Nat.le_of_ble_eq_true rfl) rfl ?_
    exact g_sub [(0, .ref E.2.2.1), (1, .int x1), (2, .int (1 : Int32)), (3, .int (0 : Int32))] [2, 3, 1, 0] rfl (wk_isPair_b19 C M g_fu x1 (1 : Int32) (0 : Int32) z3 h)
  · refine g_iconst C dX6_isPair_8 gk_iconst_0 ?_
    exact g_zretc C (fun _ => trivial) dX6_isPair_9 (Or.inl rfl) h
theorem ct_isPair (l : Launch) (x1 : Int32) (z : mm_S) (r : Int32) (z' : mm_S) (h : mo_isPair x1 z = some (r, z')) : mm_MetV l yX6_isPair cX6_isPair 5 (some .boolean) 6 143 [.int x1] z (.returned (some (.int r)), z') := by
  intro E hD
  exact mm_enter E hD rfl ⟨_, rfl⟩ (.ref E.2.2.1 :: [.int x1]) (Nat.le_of_ble_eq_true rfl) (fun X C M => wk_isPair C M x1 z h)
def mo_isHonest_b31 (k2 : Int32 → Int32 → Int32 → mm_S → Option (Int32 × mm_S)) (x1 : Int32) (x2 : Int32) (x3 : Int32) (z : mm_S) : Option (Int32 × mm_S) := k2 x1 x2 (x3 + (1 : Int32)) z
theorem wk_isHonest_b31 {X : gX} {E : mm_E} {r : Int32 × mm_S} (C : gC X cX6_isHonest 4 (some .boolean) RX6 5 122) (M : mm_C X E) {k2 : Int32 → Int32 → Int32 → mm_S → Option (Int32 × mm_S)} (hk2 : ∀ (x1 : Int32) (x2 : Int32) (x3 : Int32) (z : mm_S), k2 x1 x2 x3 z = some r → gW X (mm_G E) (.returned (some (.int r.1)), r.2) z 2 [(0, .ref E.2.2.1), (1, .int x1), (2, .int x2), (3, .int x3)] []) (x1 : Int32) (x2 : Int32) (x3 : Int32) (z : mm_S) (h : mo_isHonest_b31 k2 x1 x2 x3 z = some r) : gW X (mm_G E) (.returned (some (.int r.1)), r.2) z 31 [(0, .ref E.2.2.1), (1, .int x1), (2, .int x2), (3, .int x3)] [] := by
  unfold mo_isHonest_b31 at h
  refine g_iinc [(3, .int (x3 + (1 : Int32))), (0, .ref E.2.2.1), (1, .int x1), (2, .int x2)] C dX6_isHonest_31 (j := 3) rfl (gk_inc_1 _) (Nat.le_of_ble_eq_true rfl) rfl ?_
  refine g_goto C dX6_isHonest_34 rfl ?_
  exact g_sub [(0, .ref E.2.2.1), (1, .int x1), (2, .int x2), (3, .int (x3 + (1 : Int32)))] [1, 2, 3, 0] rfl (hk2 x1 x2 (x3 + (1 : Int32)) z h)
def mo_isHonest_b2 : Nat → Int32 → Int32 → Int32 → mm_S → Option (Int32 × mm_S)
  | 0, _, _, _, _ => none
  | n + 1, x1, x2, x3, z => g_call (mo_cells z) (fun v2 z1 => if v2 ≤ x3 then (some ((0 : Int32), z1)) else (g_call (mo_mayBe x1 x3 x2 z1) (fun v4 z3 => if v4 = 0 then (mo_isHonest_b31 (mo_isHonest_b2 n) x1 x2 x3 z3) else (g_call (mo_isQuiet x3 x2 z3) (fun v6 z5 => if v6 = 0 then (mo_isHonest_b31 (mo_isHonest_b2 n) x1 x2 x3 z5) else (some ((1 : Int32), z5)))))))
theorem wk_isHonest_b2 {X : gX} {E : mm_E} {r : Int32 × mm_S} (C : gC X cX6_isHonest 4 (some .boolean) RX6 5 122) (M : mm_C X E) : ∀ (n : Nat) (x1 : Int32) (x2 : Int32) (x3 : Int32) (z : mm_S), mo_isHonest_b2 n x1 x2 x3 z = some r → gW X (mm_G E) (.returned (some (.int r.1)), r.2) z 2 [(0, .ref E.2.2.1), (1, .int x1), (2, .int x2), (3, .int x3)] [] := by
  intro n
  induction n with
  | zero =>
    intro x1 x2 x3 z h
    have h : (none : Option (Int32 × mm_S)) = some r := h
    cases h
  | succ n ih =>
    intro x1 x2 x3 z h
    rw [mo_isHonest_b2] at h
    refine g_iload_n C dX6_isHonest_2 rfl 3 rfl ?_
    refine g_aload_n C dX6_isHonest_3 rfl 0 rfl ?_
    obtain ⟨v2, z1, e, h⟩ := g_callE h
    refine mm_callV C M 0 [] (st := [.int x3]) (v := some (.int v2)) (z' := z1) (fun l => ct_cells l z v2 z1 e) (lw_V q2442 q2444 qs115 q178 q2445) rfl rfl rfl (Nat.le_of_ble_eq_true rfl) (Nat.le_of_ble_eq_true rfl) (Nat.le_of_ble_eq_true rfl) dX6_isHonest_4 ?_
    refine gW_st (st' := [.int v2, .int x3]) rfl ?_
    refine g_icmp_ge C dX6_isHonest_7 rfl h (fun h => ?_) (fun h => ?_)
    · refine g_iconst C dX6_isHonest_37 gk_iconst_0 ?_
      exact g_zretc C (fun _ => trivial) dX6_isHonest_38 (Or.inl rfl) h
    · refine g_aload_n C dX6_isHonest_10 rfl 0 rfl ?_
      refine g_iload_n C dX6_isHonest_11 rfl 1 rfl ?_
      refine g_iload_n C dX6_isHonest_12 rfl 3 rfl ?_
      refine g_iload_n C dX6_isHonest_13 rfl 2 rfl ?_
      obtain ⟨v4, z3, e, h⟩ := g_callE h
      refine mm_callV C M 3 [.int x1, .int x3, .int x2] (st := []) (v := some (.int v4)) (z' := z3) (fun l => ct_mayBe l x1 x3 x2 z1 v4 z3 e) (lw_V q2617 q2619 qs144 q178 q2620) rfl rfl rfl (Nat.le_of_ble_eq_true rfl) (Nat.le_of_ble_eq_true rfl) (Nat.le_of_ble_eq_true rfl) dX6_isHonest_14 ?_
      refine gW_st (st' := [.int v4]) rfl ?_
      refine g_if_eq C dX6_isHonest_17 rfl h (fun h => ?_) (fun h => ?_)
      · exact wk_isHonest_b31 C M ih x1 x2 x3 z3 h
      · refine g_aload_n C dX6_isHonest_20 rfl 0 rfl ?_
        refine g_iload_n C dX6_isHonest_21 rfl 3 rfl ?_
        refine g_iload_n C dX6_isHonest_22 rfl 2 rfl ?_
        obtain ⟨v6, z5, e, h⟩ := g_callE h
        refine mm_callV C M 2 [.int x3, .int x2] (st := []) (v := some (.int v6)) (z' := z5) (fun l => ct_isQuiet l x3 x2 z3 v6 z5 e) (lw_V q2501 q2503 qs123 q178 q2504) rfl rfl rfl (Nat.le_of_ble_eq_true rfl) (Nat.le_of_ble_eq_true rfl) (Nat.le_of_ble_eq_true rfl) dX6_isHonest_23 ?_
        refine gW_st (st' := [.int v6]) rfl ?_
        refine g_if_eq C dX6_isHonest_26 rfl h (fun h => ?_) (fun h => ?_)
        · exact wk_isHonest_b31 C M ih x1 x2 x3 z5 h
        · refine g_iconst C dX6_isHonest_29 gk_iconst_1 ?_
          exact g_zretc C (fun _ => trivial) dX6_isHonest_30 (Or.inr rfl) h
def mo_isHonest (x1 : Int32) (x2 : Int32) (z : mm_S) : Option (Int32 × mm_S) := mo_isHonest_b2 g_fu x1 x2 (0 : Int32) z
theorem wk_isHonest {X : gX} {E : mm_E} {r : Int32 × mm_S} (C : gC X cX6_isHonest 4 (some .boolean) RX6 5 122) (M : mm_C X E) (x1 : Int32) (x2 : Int32) (z : mm_S) (h : mo_isHonest x1 x2 z = some r) : gW X (mm_G E) (.returned (some (.int r.1)), r.2) z 0 [(0, .ref E.2.2.1), (1, .int x1), (2, .int x2)] [] := by
  unfold mo_isHonest at h
  refine g_iconst C dX6_isHonest_0 gk_iconst_0 ?_
  refine g_istore_n [(3, .int (0 : Int32)), (0, .ref E.2.2.1), (1, .int x1), (2, .int x2)] C dX6_isHonest_1 rfl (Nat.le_of_ble_eq_true rfl) rfl ?_
  exact g_sub [(0, .ref E.2.2.1), (1, .int x1), (2, .int x2), (3, .int (0 : Int32))] [1, 2, 3, 0] rfl (wk_isHonest_b2 C M g_fu x1 x2 (0 : Int32) z h)
theorem ct_isHonest (l : Launch) (x1 : Int32) (x2 : Int32) (z : mm_S) (r : Int32) (z' : mm_S) (h : mo_isHonest x1 x2 z = some (r, z')) : mm_MetV l yX6_isHonest cX6_isHonest 4 (some .boolean) 5 122 [.int x1, .int x2] z (.returned (some (.int r)), z') := by
  intro E hD
  exact mm_enter E hD rfl ⟨_, rfl⟩ (.ref E.2.2.1 :: [.int x1, .int x2]) (Nat.le_of_ble_eq_true rfl) (fun X C M => wk_isHonest C M x1 x2 z h)
def mo_gapsOf_b93 (k31 : Int32 → Int32 → Int32 → mm_S → Option (Int32 × mm_S)) (x1 : Int32) (x2 : Int32) (x3 : Int32) (z : mm_S) : Option (Int32 × mm_S) := k31 x1 x2 (x3 + (1 : Int32)) z
theorem wk_gapsOf_b93 {X : gX} {E : mm_E} {r : Int32 × mm_S} (C : gC X cX6_gapsOf 4 (some .int) RX6 8 190) (M : mm_C X E) {k31 : Int32 → Int32 → Int32 → mm_S → Option (Int32 × mm_S)} (hk31 : ∀ (x1 : Int32) (x2 : Int32) (x3 : Int32) (z : mm_S), k31 x1 x2 x3 z = some r → gW X (mm_G E) (.returned (some (.int r.1)), r.2) z 31 [(0, .ref E.2.2.1), (1, .int x1), (2, .int x2), (3, .int x3)] []) (x1 : Int32) (x2 : Int32) (x3 : Int32) (z : mm_S) (h : mo_gapsOf_b93 k31 x1 x2 x3 z = some r) : gW X (mm_G E) (.returned (some (.int r.1)), r.2) z 93 [(0, .ref E.2.2.1), (1, .int x1), (2, .int x2), (3, .int x3)] [] := by
  unfold mo_gapsOf_b93 at h
  refine g_iinc [(3, .int (x3 + (1 : Int32))), (0, .ref E.2.2.1), (1, .int x1), (2, .int x2)] C dX6_gapsOf_93 (j := 3) rfl (gk_inc_1 _) (Nat.le_of_ble_eq_true rfl) rfl ?_
  refine g_goto C dX6_gapsOf_96 rfl ?_
  exact g_sub [(0, .ref E.2.2.1), (1, .int x1), (2, .int x2), (3, .int (x3 + (1 : Int32)))] [1, 2, 3, 0] rfl (hk31 x1 x2 (x3 + (1 : Int32)) z h)
def mo_gapsOf_b91 (k31 : Int32 → Int32 → Int32 → mm_S → Option (Int32 × mm_S)) (x1 : Int32) (x3 : Int32) (s0 : Int32) (s1 : Int32) (z : mm_S) : Option (Int32 × mm_S) := mo_gapsOf_b93 k31 x1 (s0 + s1) x3 z
theorem wk_gapsOf_b91 {X : gX} {E : mm_E} {r : Int32 × mm_S} (C : gC X cX6_gapsOf 4 (some .int) RX6 8 190) (M : mm_C X E) {k31 : Int32 → Int32 → Int32 → mm_S → Option (Int32 × mm_S)} (hk31 : ∀ (x1 : Int32) (x2 : Int32) (x3 : Int32) (z : mm_S), k31 x1 x2 x3 z = some r → gW X (mm_G E) (.returned (some (.int r.1)), r.2) z 31 [(0, .ref E.2.2.1), (1, .int x1), (2, .int x2), (3, .int x3)] []) (x1 : Int32) (x3 : Int32) (s0 : Int32) (s1 : Int32) (z : mm_S) (h : mo_gapsOf_b91 k31 x1 x3 s0 s1 z = some r) : gW X (mm_G E) (.returned (some (.int r.1)), r.2) z 91 [(0, .ref E.2.2.1), (1, .int x1), (3, .int x3)] [.int s1, .int s0] := by
  unfold mo_gapsOf_b91 at h
  refine g_iadd C dX6_gapsOf_91 ?_
  refine g_istore_n [(2, .int (s0 + s1)), (0, .ref E.2.2.1), (1, .int x1), (3, .int x3)] C dX6_gapsOf_92 rfl (Nat.le_of_ble_eq_true rfl) rfl ?_
  exact g_sub [(0, .ref E.2.2.1), (1, .int x1), (2, .int (s0 + s1)), (3, .int x3)] [1, 2, 0, 3] rfl (wk_gapsOf_b93 C M hk31 x1 (s0 + s1) x3 z h)
def mo_gapsOf_b31 : Nat → Int32 → Int32 → Int32 → mm_S → Option (Int32 × mm_S)
  | 0, _, _, _, _ => none
  | n + 1, x1, x2, x3, z => mm_gI 65 z (fun v1 => if v1 ≤ 0 then (some (x2, z)) else (mm_gI 65 z (fun v2 => mm_lI 67 (v2 - (1 : Int32)) z (fun v3 => if v3 ≤ x3 then (some (x2, z)) else (g_call (mo_said x1 x3 z) (fun v5 z4 => if v5 = (-1 : Int32) then (mm_gI 73 z4 (fun v6 => mm_pI 73 (v6 + (1 : Int32)) z4 (fun z7 => g_call (mo_isHonest x1 x3 z7) (fun v9 z8 => if v9 = 0 then (mo_gapsOf_b91 (mo_gapsOf_b31 n) x1 x3 x2 (1 : Int32) z8) else (mo_gapsOf_b91 (mo_gapsOf_b31 n) x1 x3 x2 (0 : Int32) z8))))) else (mo_gapsOf_b93 (mo_gapsOf_b31 n) x1 x2 x3 z4)))))))
theorem wk_gapsOf_b31 {X : gX} {E : mm_E} {r : Int32 × mm_S} (C : gC X cX6_gapsOf 4 (some .int) RX6 8 190) (M : mm_C X E) : ∀ (n : Nat) (x1 : Int32) (x2 : Int32) (x3 : Int32) (z : mm_S), mo_gapsOf_b31 n x1 x2 x3 z = some r → gW X (mm_G E) (.returned (some (.int r.1)), r.2) z 31 [(0, .ref E.2.2.1), (1, .int x1), (2, .int x2), (3, .int x3)] [] := by
  intro n
  induction n with
  | zero =>
    intro x1 x2 x3 z h
    have h : (none : Option (Int32 × mm_S)) = some r := h
    cases h
  | succ n ih =>
    intro x1 x2 x3 z h
    rw [mo_gapsOf_b31] at h
    refine g_aload_n C dX6_gapsOf_31 rfl 0 rfl ?_
    refine mm_getI C M 65 (Nat.le_of_ble_eq_true rfl) (Nat.le_of_ble_eq_true rfl) q2068 rfl dX6_gapsOf_32 h (fun v1 h => ?_)
    refine g_if_le C dX6_gapsOf_35 rfl h (fun h => ?_) (fun h => ?_)
    · refine g_iload_n C dX6_gapsOf_99 rfl 2 rfl ?_
      exact g_iret C (fun _ => trivial) dX6_gapsOf_100 h
    · refine g_iload_n C dX6_gapsOf_38 rfl 3 rfl ?_
      refine g_aload_n C dX6_gapsOf_39 rfl 0 rfl ?_
      refine mm_getA C M 67 (Nat.le_of_ble_eq_true rfl) (Nat.le_of_ble_eq_true rfl) q2070 rfl dX6_gapsOf_40 ?_
      refine g_aload_n C dX6_gapsOf_43 rfl 0 rfl ?_
      refine mm_getI C M 65 (Nat.le_of_ble_eq_true rfl) (Nat.le_of_ble_eq_true rfl) q2068 rfl dX6_gapsOf_44 h (fun v2 h => ?_)
      refine g_iconst C dX6_gapsOf_47 gk_iconst_1 ?_
      refine g_isub C dX6_gapsOf_48 ?_
      refine mm_ldI C M 67 (Nat.le_of_ble_eq_true rfl) rfl dX6_gapsOf_49 h (fun v3 h => ?_)
      refine g_icmp_ge C dX6_gapsOf_50 rfl h (fun h => ?_) (fun h => ?_)
      · refine g_iload_n C dX6_gapsOf_99 rfl 2 rfl ?_
        exact g_iret C (fun _ => trivial) dX6_gapsOf_100 h
      · refine g_aload_n C dX6_gapsOf_53 rfl 0 rfl ?_
        refine g_iload_n C dX6_gapsOf_54 rfl 1 rfl ?_
        refine g_iload_n C dX6_gapsOf_55 rfl 3 rfl ?_
        obtain ⟨v5, z4, e, h⟩ := g_callE h
        refine mm_callV C M 2 [.int x1, .int x3] (st := []) (v := some (.int v5)) (z' := z4) (fun l => ct_said l x1 x3 z v5 z4 e) (lw_V q2513 q2515 qs125 q178 q2516) rfl rfl rfl (Nat.le_of_ble_eq_true rfl) (Nat.le_of_ble_eq_true rfl) (Nat.le_of_ble_eq_true rfl) dX6_gapsOf_56 ?_
        refine gW_st (st' := [.int v5]) rfl ?_
        refine g_iconst C dX6_gapsOf_59 gk_iconst_m1 ?_
        refine g_icmp_eq C dX6_gapsOf_60 rfl h (fun h => ?_) (fun h => ?_)
        · refine g_aload_n C dX6_gapsOf_66 rfl 0 rfl ?_
          refine g_dup C dX6_gapsOf_67 rfl ?_
          refine mm_getI C M 73 (Nat.le_of_ble_eq_true rfl) (Nat.le_of_ble_eq_true rfl) q2076 rfl dX6_gapsOf_68 h (fun v6 h => ?_)
          refine g_iconst C dX6_gapsOf_71 gk_iconst_1 ?_
          refine g_iadd C dX6_gapsOf_72 ?_
          refine mm_putI C M 73 (Nat.le_of_ble_eq_true rfl) (Nat.le_of_ble_eq_true rfl) q2076 rfl rfl rfl dX6_gapsOf_73 h (fun z7 h => ?_)
          refine g_iload_n C dX6_gapsOf_76 rfl 2 rfl ?_
          refine g_aload_n C dX6_gapsOf_77 rfl 0 rfl ?_
          refine g_iload_n C dX6_gapsOf_78 rfl 1 rfl ?_
          refine g_iload_n C dX6_gapsOf_79 rfl 3 rfl ?_
          obtain ⟨v9, z8, e, h⟩ := g_callE h
          refine mm_callV C M 2 [.int x1, .int x3] (st := [.int x2]) (v := some (.int v9)) (z' := z8) (fun l => ct_isHonest l x1 x3 z7 v9 z8 e) (lw_V q2665 q2667 qs154 q178 q2668) rfl rfl rfl (Nat.le_of_ble_eq_true rfl) (Nat.le_of_ble_eq_true rfl) (Nat.le_of_ble_eq_true rfl) dX6_gapsOf_80 ?_
          refine gW_st (st' := [.int v9, .int x2]) rfl ?_
          refine g_if_eq C dX6_gapsOf_83 rfl h (fun h => ?_) (fun h => ?_)
          · refine g_iconst C dX6_gapsOf_90 gk_iconst_1 ?_
            exact g_sub [(0, .ref E.2.2.1), (1, .int x1), (3, .int x3)] [0, 1, 3] rfl (wk_gapsOf_b91 C M ih x1 x3 x2 (1 : Int32) z8 h)
          · refine g_iconst C dX6_gapsOf_86 gk_iconst_0 ?_
            refine g_goto C dX6_gapsOf_87 rfl ?_
            exact g_sub [(0, .ref E.2.2.1), (1, .int x1), (3, .int x3)] [0, 1, 3] rfl (wk_gapsOf_b91 C M ih x1 x3 x2 (0 : Int32) z8 h)
        · refine g_goto C dX6_gapsOf_63 rfl ?_
          exact wk_gapsOf_b93 C M ih x1 x2 x3 z4 h
def mo_gapsOf_b30 (x1 : Int32) (x2 : Int32) (s0 : Int32) (z : mm_S) : Option (Int32 × mm_S) := mo_gapsOf_b31 g_fu x1 x2 s0 z
theorem wk_gapsOf_b30 {X : gX} {E : mm_E} {r : Int32 × mm_S} (C : gC X cX6_gapsOf 4 (some .int) RX6 8 190) (M : mm_C X E) (x1 : Int32) (x2 : Int32) (s0 : Int32) (z : mm_S) (h : mo_gapsOf_b30 x1 x2 s0 z = some r) : gW X (mm_G E) (.returned (some (.int r.1)), r.2) z 30 [(0, .ref E.2.2.1), (1, .int x1), (2, .int x2)] [.int s0] := by
  unfold mo_gapsOf_b30 at h
  refine g_istore_n [(3, .int s0), (0, .ref E.2.2.1), (1, .int x1), (2, .int x2)] C dX6_gapsOf_30 rfl (Nat.le_of_ble_eq_true rfl) rfl ?_
  exact g_sub [(0, .ref E.2.2.1), (1, .int x1), (2, .int x2), (3, .int s0)] [1, 2, 3, 0] rfl (wk_gapsOf_b31 C M g_fu x1 x2 s0 z h)
def mo_gapsOf (x1 : Int32) (z : mm_S) : Option (Int32 × mm_S) := g_call (mo_lays_2 x1 z) (fun _ z1 => mm_pI 73 (0 : Int32) z1 (fun z3 => mm_gI 65 z3 (fun v4 => if v4 = 0 then (mo_gapsOf_b30 x1 (0 : Int32) (48 : Int32) z3) else (mm_lI 67 (0 : Int32) z3 (fun v5 => mo_gapsOf_b30 x1 (0 : Int32) v5 z3)))))
theorem wk_gapsOf {X : gX} {E : mm_E} {r : Int32 × mm_S} (C : gC X cX6_gapsOf 4 (some .int) RX6 8 190) (M : mm_C X E) (x1 : Int32) (z : mm_S) (h : mo_gapsOf x1 z = some r) : gW X (mm_G E) (.returned (some (.int r.1)), r.2) z 0 [(0, .ref E.2.2.1), (1, .int x1)] [] := by
  unfold mo_gapsOf at h
  refine g_aload_n C dX6_gapsOf_0 rfl 0 rfl ?_
  refine g_iload_n C dX6_gapsOf_1 rfl 1 rfl ?_
  obtain ⟨u2, z1, e, h⟩ := g_callE h
  refine mm_callV C M 1 [.int x1] (st := []) (v := none) (z' := z1) (fun l => ct_lays_2 l x1 z u2 z1 e) (lw_V q2609 q2611 qs142 q178 q2612) rfl rfl rfl (Nat.le_of_ble_eq_true rfl) (Nat.le_of_ble_eq_true rfl) (Nat.le_of_ble_eq_true rfl) dX6_gapsOf_2 ?_
  refine gW_st (st' := []) rfl ?_
  refine g_aload_n C dX6_gapsOf_5 rfl 0 rfl ?_
  refine g_iconst C dX6_gapsOf_6 gk_iconst_0 ?_
  refine mm_putI C M 73 (Nat.le_of_ble_eq_true rfl) (Nat.le_of_ble_eq_true rfl) q2076 rfl rfl rfl dX6_gapsOf_7 h (fun z3 h => ?_)
  refine g_iconst C dX6_gapsOf_10 gk_iconst_0 ?_
  refine g_istore_n [(2, .int (0 : Int32)), (0, .ref E.2.2.1), (1, .int x1)] C dX6_gapsOf_11 rfl (Nat.le_of_ble_eq_true rfl) rfl ?_
  refine g_aload_n C dX6_gapsOf_12 rfl 1 rfl ?_
  refine mm_getI C M 65 (Nat.le_of_ble_eq_true rfl) (Nat.le_of_ble_eq_true rfl) q2068 rfl dX6_gapsOf_13 h (fun v4 h => ?_)
  refine g_if_ne C dX6_gapsOf_16 rfl h (fun h => ?_) (fun h => ?_)
  · refine g_aload_n C dX6_gapsOf_24 rfl 1 rfl ?_
    refine mm_getA C M 67 (Nat.le_of_ble_eq_true rfl) (Nat.le_of_ble_eq_true rfl) q2070 rfl dX6_gapsOf_25 ?_
    refine g_iconst C dX6_gapsOf_28 gk_iconst_0 ?_
    refine mm_ldI C M 67 (Nat.le_of_ble_eq_true rfl) rfl dX6_gapsOf_29 h (fun v5 h => ?_)
    exact g_sub [(0, .ref E.2.2.1), (1, .int x1), (2, .int (0 : Int32))] [1, 2, 0] rfl (wk_gapsOf_b30 C M x1 (0 : Int32) v5 z3 h)
  · refine g_bipush C dX6_gapsOf_19 gk_bipush_48 ?_
    refine g_goto C dX6_gapsOf_21 rfl ?_
    exact g_sub [(0, .ref E.2.2.1), (1, .int x1), (2, .int (0 : Int32))] [1, 2, 0] rfl (wk_gapsOf_b30 C M x1 (0 : Int32) (48 : Int32) z3 h)
theorem ct_gapsOf (l : Launch) (x1 : Int32) (z : mm_S) (r : Int32) (z' : mm_S) (h : mo_gapsOf x1 z = some (r, z')) : mm_MetV l yX6_gapsOf cX6_gapsOf 4 (some .int) 8 190 [.int x1] z (.returned (some (.int r)), z') := by
  intro E hD
  exact mm_enter E hD rfl ⟨_, rfl⟩ (.ref E.2.2.1 :: [.int x1]) (Nat.le_of_ble_eq_true rfl) (fun X C M => wk_gapsOf C M x1 z h)
def mo_isKind_b104 (s0 : Int32) (s1 : Int32) (z : mm_S) : Option (Int32 × mm_S) := if s0 = s1 then (some ((1 : Int32), z)) else (some ((0 : Int32), z))
theorem wk_isKind_b104 {X : gX} {E : mm_E} {r : Int32 × mm_S} (C : gC X cX6_isKind 4 (some .boolean) RX6 9 213) (M : mm_C X E) (s0 : Int32) (s1 : Int32) (z : mm_S) (h : mo_isKind_b104 s0 s1 z = some r) : gW X (mm_G E) (.returned (some (.int r.1)), r.2) z 104 [(0, .ref E.2.2.1)] [.int s1, .int s0] := by
  unfold mo_isKind_b104 at h
  refine g_icmp_ne C dX6_isKind_104 rfl h (fun h => ?_) (fun h => ?_)
  · refine g_iconst C dX6_isKind_111 gk_iconst_0 ?_
    exact g_zretc C (fun _ => trivial) dX6_isKind_112 (Or.inl rfl) h
  · refine g_iconst C dX6_isKind_107 gk_iconst_1 ?_
    refine g_goto C dX6_isKind_108 rfl ?_
    exact g_zretc C (fun _ => trivial) dX6_isKind_112 (Or.inr rfl) h
def mo_isKind_b95 (x2 : Int32) (s0 : Int32) (z : mm_S) : Option (Int32 × mm_S) := if x2 = 0 then (mo_isKind_b104 s0 (1 : Int32) z) else (mo_isKind_b104 s0 (0 : Int32) z)
theorem wk_isKind_b95 {X : gX} {E : mm_E} {r : Int32 × mm_S} (C : gC X cX6_isKind 4 (some .boolean) RX6 9 213) (M : mm_C X E) (x2 : Int32) (s0 : Int32) (z : mm_S) (h : mo_isKind_b95 x2 s0 z = some r) : gW X (mm_G E) (.returned (some (.int r.1)), r.2) z 95 [(0, .ref E.2.2.1), (2, .int x2)] [.int s0] := by
  unfold mo_isKind_b95 at h
  refine g_iload_n C dX6_isKind_95 rfl 1 rfl ?_
  refine g_if_ne C dX6_isKind_96 rfl h (fun h => ?_) (fun h => ?_)
  · refine g_iconst C dX6_isKind_103 gk_iconst_0 ?_
    exact g_sub [(0, .ref E.2.2.1)] [0] rfl (wk_isKind_b104 C M s0 (0 : Int32) z h)
  · refine g_iconst C dX6_isKind_99 gk_iconst_1 ?_
    refine g_goto C dX6_isKind_100 rfl ?_
    exact g_sub [(0, .ref E.2.2.1)] [0] rfl (wk_isKind_b104 C M s0 (1 : Int32) z h)
def mo_isKind (x1 : Int32) (x2 : Int32) (z : mm_S) : Option (Int32 × mm_S) := g_call (mo_sayingsOf x1 z) (fun v2 z1 => if v2 = 0 then (some ((0 : Int32), z1)) else (if x2 = (2 : Int32) then (g_call (mo_whoOf x1 z1) (fun v13 z12 => if v13 = 0 then (some ((0 : Int32), z12)) else (some ((1 : Int32), z12)))) else (if x2 = (3 : Int32) then (g_call (mo_isPair x1 z1) (fun v11 z10 => (if v11 = 0 ∨ v11 = 1 then some (v11, z10) else none))) else (g_call (mo_gapsOf x1 z1) (fun v4 z3 => if x2 = (4 : Int32) then (mm_gI 66 z3 (fun v7 => if v7 ≤ 0 then (some ((0 : Int32), z3)) else (mm_gI 66 z3 (fun v8 => mm_gI 65 z3 (fun v9 => if v9 ≤ v8 then (some ((0 : Int32), z3)) else (some ((1 : Int32), z3))))))) else (mm_gI 66 z3 (fun v5 => mm_gI 65 z3 (fun v6 => if v5 = v6 then (if v4 = 0 then (mo_isKind_b95 x2 (1 : Int32) z3) else (mo_isKind_b95 x2 (0 : Int32) z3)) else (some ((0 : Int32), z3))))))))))
theorem wk_isKind {X : gX} {E : mm_E} {r : Int32 × mm_S} (C : gC X cX6_isKind 4 (some .boolean) RX6 9 213) (M : mm_C X E) (x1 : Int32) (x2 : Int32) (z : mm_S) (h : mo_isKind x1 x2 z = some r) : gW X (mm_G E) (.returned (some (.int r.1)), r.2) z 0 [(0, .ref E.2.2.1), (1, .int x1), (2, .int x2)] [] := by
  unfold mo_isKind at h
  refine g_aload_n C dX6_isKind_0 rfl 0 rfl ?_
  refine g_iload_n C dX6_isKind_1 rfl 1 rfl ?_
  obtain ⟨v2, z1, e, h⟩ := g_callE h
  refine mm_callV C M 1 [.int x1] (st := []) (v := some (.int v2)) (z' := z1) (fun l => ct_sayingsOf l x1 z v2 z1 e) (lw_V q2509 q2511 qs124 q178 q2512) rfl rfl rfl (Nat.le_of_ble_eq_true rfl) (Nat.le_of_ble_eq_true rfl) (Nat.le_of_ble_eq_true rfl) dX6_isKind_2 ?_
  refine gW_st (st' := [.int v2]) rfl ?_
  refine g_if_ne C dX6_isKind_5 rfl h (fun h => ?_) (fun h => ?_)
  · refine g_iload_n C dX6_isKind_10 rfl 2 rfl ?_
    refine g_iconst C dX6_isKind_11 gk_iconst_2 ?_
    refine g_icmp_ne C dX6_isKind_12 rfl h (fun h => ?_) (fun h => ?_)
    · refine g_iload_n C dX6_isKind_29 rfl 2 rfl ?_
      refine g_iconst C dX6_isKind_30 gk_iconst_3 ?_
      refine g_icmp_ne C dX6_isKind_31 rfl h (fun h => ?_) (fun h => ?_)
      · refine g_aload_n C dX6_isKind_40 rfl 0 rfl ?_
        refine g_iload_n C dX6_isKind_41 rfl 1 rfl ?_
        obtain ⟨v4, z3, e, h⟩ := g_callE h
        refine mm_callV C M 1 [.int x1] (st := []) (v := some (.int v4)) (z' := z3) (fun l => ct_gapsOf l x1 z1 v4 z3 e) (lw_V q2661 q2663 qs153 q178 q2664) rfl rfl rfl (Nat.le_of_ble_eq_true rfl) (Nat.le_of_ble_eq_true rfl) (Nat.le_of_ble_eq_true rfl) dX6_isKind_42 ?_
        refine gW_st (st' := [.int v4]) rfl ?_
        refine g_istore_n [(3, .int v4), (0, .ref E.2.2.1), (1, .int x1), (2, .int x2)] C dX6_isKind_45 rfl (Nat.le_of_ble_eq_true rfl) rfl ?_
        refine g_iload_n C dX6_isKind_46 rfl 3 rfl ?_
        refine g_iconst C dX6_isKind_47 gk_iconst_4 ?_
        refine g_icmp_ne C dX6_isKind_48 rfl h (fun h => ?_) (fun h => ?_)
        · refine g_aload_n C dX6_isKind_75 rfl 1 rfl ?_
          refine mm_getI C M 66 (Nat.le_of_ble_eq_true rfl) (Nat.le_of_ble_eq_true rfl) q2069 rfl dX6_isKind_76 h (fun v5 h => ?_)
          refine g_aload_n C dX6_isKind_79 rfl 1 rfl ?_
          refine mm_getI C M 65 (Nat.le_of_ble_eq_true rfl) (Nat.le_of_ble_eq_true rfl) q2068 rfl dX6_isKind_80 h (fun v6 h => ?_)
          refine g_icmp_ne C dX6_isKind_83 rfl h (fun h => ?_) (fun h => ?_)
          · refine g_iconst C dX6_isKind_111 gk_iconst_0 ?_
            exact g_zretc C (fun _ => trivial) dX6_isKind_112 (Or.inl rfl) h
          · refine g_iload_n C dX6_isKind_86 rfl 0 rfl ?_
            refine g_if_ne C dX6_isKind_87 rfl h (fun h => ?_) (fun h => ?_)
            · refine g_iconst C dX6_isKind_94 gk_iconst_0 ?_
              exact g_sub [(0, .ref E.2.2.1), (2, .int x2)] [1, 3] rfl (wk_isKind_b95 C M x2 (0 : Int32) z3 h)
            · refine g_iconst C dX6_isKind_90 gk_iconst_1 ?_
              refine g_goto C dX6_isKind_91 rfl ?_
              exact g_sub [(0, .ref E.2.2.1), (2, .int x2)] [1, 3] rfl (wk_isKind_b95 C M x2 (1 : Int32) z3 h)
        · refine g_aload_n C dX6_isKind_51 rfl 1 rfl ?_
          refine mm_getI C M 66 (Nat.le_of_ble_eq_true rfl) (Nat.le_of_ble_eq_true rfl) q2069 rfl dX6_isKind_52 h (fun v7 h => ?_)
          refine g_if_le C dX6_isKind_55 rfl h (fun h => ?_) (fun h => ?_)
          · refine g_iconst C dX6_isKind_73 gk_iconst_0 ?_
            exact g_zretc C (fun _ => trivial) dX6_isKind_74 (Or.inl rfl) h
          · refine g_aload_n C dX6_isKind_58 rfl 1 rfl ?_
            refine mm_getI C M 66 (Nat.le_of_ble_eq_true rfl) (Nat.le_of_ble_eq_true rfl) q2069 rfl dX6_isKind_59 h (fun v8 h => ?_)
            refine g_aload_n C dX6_isKind_62 rfl 1 rfl ?_
            refine mm_getI C M 65 (Nat.le_of_ble_eq_true rfl) (Nat.le_of_ble_eq_true rfl) q2068 rfl dX6_isKind_63 h (fun v9 h => ?_)
            refine g_icmp_ge C dX6_isKind_66 rfl h (fun h => ?_) (fun h => ?_)
            · refine g_iconst C dX6_isKind_73 gk_iconst_0 ?_
              exact g_zretc C (fun _ => trivial) dX6_isKind_74 (Or.inl rfl) h
            · refine g_iconst C dX6_isKind_69 gk_iconst_1 ?_
              refine g_goto C dX6_isKind_70 rfl ?_
              exact g_zretc C (fun _ => trivial) dX6_isKind_74 (Or.inr rfl) h
      · refine g_aload_n C dX6_isKind_34 rfl 0 rfl ?_
        refine g_iload_n C dX6_isKind_35 rfl 1 rfl ?_
        obtain ⟨v11, z10, e, h⟩ := g_callE h
        refine mm_callV C M 1 [.int x1] (st := []) (v := some (.int v11)) (z' := z10) (fun l => ct_isPair l x1 z1 v11 z10 e) (lw_V q2645 q2647 qs149 q178 q2648) rfl rfl rfl (Nat.le_of_ble_eq_true rfl) (Nat.le_of_ble_eq_true rfl) (Nat.le_of_ble_eq_true rfl) dX6_isKind_36 ?_
        refine gW_st (st' := [.int v11]) rfl ?_
        exact g_zret C (fun _ => trivial) dX6_isKind_39 h
    · refine g_aload_n C dX6_isKind_15 rfl 0 rfl ?_
      refine g_iload_n C dX6_isKind_16 rfl 1 rfl ?_
      obtain ⟨v13, z12, e, h⟩ := g_callE h
      refine mm_callV C M 1 [.int x1] (st := []) (v := some (.int v13)) (z' := z12) (fun l => ct_whoOf l x1 z1 v13 z12 e) (lw_V q2633 q2635 qs146 q178 q2636) rfl rfl rfl (Nat.le_of_ble_eq_true rfl) (Nat.le_of_ble_eq_true rfl) (Nat.le_of_ble_eq_true rfl) dX6_isKind_17 ?_
      refine gW_st (st' := [.int v13]) rfl ?_
      refine g_if_eq C dX6_isKind_20 rfl h (fun h => ?_) (fun h => ?_)
      · refine g_iconst C dX6_isKind_27 gk_iconst_0 ?_
        exact g_zretc C (fun _ => trivial) dX6_isKind_28 (Or.inl rfl) h
      · refine g_iconst C dX6_isKind_23 gk_iconst_1 ?_
        refine g_goto C dX6_isKind_24 rfl ?_
        exact g_zretc C (fun _ => trivial) dX6_isKind_28 (Or.inr rfl) h
  · refine g_iconst C dX6_isKind_8 gk_iconst_0 ?_
    exact g_zretc C (fun _ => trivial) dX6_isKind_9 (Or.inl rfl) h
theorem ct_isKind (l : Launch) (x1 : Int32) (x2 : Int32) (z : mm_S) (r : Int32) (z' : mm_S) (h : mo_isKind x1 x2 z = some (r, z')) : mm_MetV l yX6_isKind cX6_isKind 4 (some .boolean) 9 213 [.int x1, .int x2] z (.returned (some (.int r)), z') := by
  intro E hD
  exact mm_enter E hD rfl ⟨_, rfl⟩ (.ref E.2.2.1 :: [.int x1, .int x2]) (Nat.le_of_ble_eq_true rfl) (fun X C M => wk_isKind C M x1 x2 z h)
def mo_judge (x1 : Int32) (x2 : Int32) (z : mm_S) : Option (Int32 × mm_S) := g_call (mo_isShip x1 z) (fun v2 z1 => if v2 = 0 then (some ((-1 : Int32), z1)) else (g_call (mo_is x2 (0 : Int32) (4 : Int32) z1) (fun v4 z3 => if v4 = 0 then (some ((-1 : Int32), z3)) else (g_call (mo_isKind x1 x2 z3) (fun v6 z5 => if v6 = 0 then (some ((0 : Int32), z5)) else (some ((1 : Int32), z5)))))))
theorem wk_judge {X : gX} {E : mm_E} {r : Int32 × mm_S} (C : gC X cX6_judge 3 (some .int) RX6 10 236) (M : mm_C X E) (x1 : Int32) (x2 : Int32) (z : mm_S) (h : mo_judge x1 x2 z = some r) : gW X (mm_G E) (.returned (some (.int r.1)), r.2) z 0 [(0, .ref E.2.2.1), (1, .int x1), (2, .int x2)] [] := by
  unfold mo_judge at h
  refine g_aload_n C dX6_judge_0 rfl 0 rfl ?_
  refine g_iload_n C dX6_judge_1 rfl 1 rfl ?_
  obtain ⟨v2, z1, e, h⟩ := g_callE h
  refine mm_callV C M 1 [.int x1] (st := []) (v := some (.int v2)) (z' := z1) (fun l => ct_isShip l x1 z v2 z1 e) (lw_V q2521 q2523 qs126 q178 q2524) rfl rfl rfl (Nat.le_of_ble_eq_true rfl) (Nat.le_of_ble_eq_true rfl) (Nat.le_of_ble_eq_true rfl) dX6_judge_2 ?_
  refine gW_st (st' := [.int v2]) rfl ?_
  refine g_if_eq C dX6_judge_5 rfl h (fun h => ?_) (fun h => ?_)
  · refine g_iconst C dX6_judge_17 gk_iconst_m1 ?_
    refine g_goto C dX6_judge_18 rfl ?_
    exact g_iret C (fun _ => trivial) dX6_judge_35 h
  · refine g_iload_n C dX6_judge_8 rfl 2 rfl ?_
    refine g_iconst C dX6_judge_9 gk_iconst_0 ?_
    refine g_iconst C dX6_judge_10 gk_iconst_4 ?_
    obtain ⟨v4, z3, e, h⟩ := g_callE h
    refine mm_callS C M 3 [.int x2, .int (0 : Int32), .int (4 : Int32)] (st := []) (v := some (.int v4)) (z' := z3) (fun l => ct_is l x2 (0 : Int32) (4 : Int32) z1 v4 z3 e) (lw_S q2301 q2302 q178 q2303) rfl rfl rfl (Nat.le_of_ble_eq_true rfl) (Nat.le_of_ble_eq_true rfl) (Nat.le_of_ble_eq_true rfl) dX6_judge_11 ?_
    refine gW_st (st' := [.int v4]) rfl ?_
    refine g_if_ne C dX6_judge_14 rfl h (fun h => ?_) (fun h => ?_)
    · refine g_aload_n C dX6_judge_21 rfl 0 rfl ?_
      refine g_iload_n C dX6_judge_22 rfl 1 rfl ?_
      refine g_iload_n C dX6_judge_23 rfl 2 rfl ?_
      obtain ⟨v6, z5, e, h⟩ := g_callE h
      refine mm_callV C M 2 [.int x1, .int x2] (st := []) (v := some (.int v6)) (z' := z5) (fun l => ct_isKind l x1 x2 z3 v6 z5 e) (lw_V q2629 q2631 qs145 q178 q2632) rfl rfl rfl (Nat.le_of_ble_eq_true rfl) (Nat.le_of_ble_eq_true rfl) (Nat.le_of_ble_eq_true rfl) dX6_judge_24 ?_
      refine gW_st (st' := [.int v6]) rfl ?_
      refine g_if_eq C dX6_judge_27 rfl h (fun h => ?_) (fun h => ?_)
      · refine g_iconst C dX6_judge_34 gk_iconst_0 ?_
        exact g_iret C (fun _ => trivial) dX6_judge_35 h
      · refine g_iconst C dX6_judge_30 gk_iconst_1 ?_
        refine g_goto C dX6_judge_31 rfl ?_
        exact g_iret C (fun _ => trivial) dX6_judge_35 h
    · refine g_iconst C dX6_judge_17 gk_iconst_m1 ?_
      refine g_goto C dX6_judge_18 rfl ?_
      exact g_iret C (fun _ => trivial) dX6_judge_35 h
theorem ct_judge (l : Launch) (x1 : Int32) (x2 : Int32) (z : mm_S) (r : Int32) (z' : mm_S) (h : mo_judge x1 x2 z = some (r, z')) : mm_MetV l yX6_judge cX6_judge 3 (some .int) 10 236 [.int x1, .int x2] z (.returned (some (.int r)), z') := by
  intro E hD
  exact mm_enter E hD rfl ⟨_, rfl⟩ (.ref E.2.2.1 :: [.int x1, .int x2]) (Nat.le_of_ble_eq_true rfl) (fun X C M => wk_judge C M x1 x2 z h)
def mo_taleOf_b38 (k5 : Int32 → Int32 → Int32 → mm_S → Option (Int32 × mm_S)) (x1 : Int32) (x3 : Int32) (x4 : Int32) (z : mm_S) : Option (Int32 × mm_S) := k5 x1 x3 (x4 + (1 : Int32)) z
theorem wk_taleOf_b38 {X : gX} {E : mm_E} {r : Int32 × mm_S} (C : gC X cX6_taleOf 5 (some .int) RX6 10 236) (M : mm_C X E) {k5 : Int32 → Int32 → Int32 → mm_S → Option (Int32 × mm_S)} (hk5 : ∀ (x1 : Int32) (x3 : Int32) (x4 : Int32) (z : mm_S), k5 x1 x3 x4 z = some r → gW X (mm_G E) (.returned (some (.int r.1)), r.2) z 5 [(0, .ref E.2.2.1), (1, .int x1), (3, .int x3), (4, .int x4)] []) (x1 : Int32) (x3 : Int32) (x4 : Int32) (z : mm_S) (h : mo_taleOf_b38 k5 x1 x3 x4 z = some r) : gW X (mm_G E) (.returned (some (.int r.1)), r.2) z 38 [(0, .ref E.2.2.1), (1, .int x1), (3, .int x3), (4, .int x4)] [] := by
  unfold mo_taleOf_b38 at h
  refine g_iinc [(4, .int (x4 + (1 : Int32))), (0, .ref E.2.2.1), (1, .int x1), (3, .int x3)] C dX6_taleOf_38 (j := 3) rfl (gk_inc_1 _) (Nat.le_of_ble_eq_true rfl) rfl ?_
  refine g_goto C dX6_taleOf_41 rfl ?_
  exact g_sub [(0, .ref E.2.2.1), (1, .int x1), (3, .int x3), (4, .int (x4 + (1 : Int32)))] [1, 2, 3, 0] rfl (hk5 x1 x3 (x4 + (1 : Int32)) z h)
def mo_taleOf_b5 : Nat → Int32 → Int32 → Int32 → mm_S → Option (Int32 × mm_S)
  | 0, _, _, _, _ => none
  | n + 1, x1, x3, x4, z => if (4 : Int32) < x4 then (some ((-1 : Int32), z)) else (if x3 < 0 then (some ((-1 : Int32), z)) else (g_call (mo_isKind x1 x4 z) (fun v2 z1 => if v2 = 0 then (mo_taleOf_b38 (mo_taleOf_b5 n) x1 x3 x4 z1) else (if x3 = 0 then (some (x4, z1)) else (mo_taleOf_b38 (mo_taleOf_b5 n) x1 (x3 + (-1 : Int32)) x4 z1)))))
theorem wk_taleOf_b5 {X : gX} {E : mm_E} {r : Int32 × mm_S} (C : gC X cX6_taleOf 5 (some .int) RX6 10 236) (M : mm_C X E) : ∀ (n : Nat) (x1 : Int32) (x3 : Int32) (x4 : Int32) (z : mm_S), mo_taleOf_b5 n x1 x3 x4 z = some r → gW X (mm_G E) (.returned (some (.int r.1)), r.2) z 5 [(0, .ref E.2.2.1), (1, .int x1), (3, .int x3), (4, .int x4)] [] := by
  intro n
  induction n with
  | zero =>
    intro x1 x3 x4 z h
    have h : (none : Option (Int32 × mm_S)) = some r := h
    cases h
  | succ n ih =>
    intro x1 x3 x4 z h
    rw [mo_taleOf_b5] at h
    refine g_iload C dX6_taleOf_5 3 rfl ?_
    refine g_iconst C dX6_taleOf_7 gk_iconst_4 ?_
    refine g_icmp_gt C dX6_taleOf_8 rfl h (fun h => ?_) (fun h => ?_)
    · refine g_iconst C dX6_taleOf_44 gk_iconst_m1 ?_
      exact g_iret C (fun _ => trivial) dX6_taleOf_45 h
    · refine g_iload_n C dX6_taleOf_11 rfl 2 rfl ?_
      refine g_if_lt C dX6_taleOf_12 rfl h (fun h => ?_) (fun h => ?_)
      · refine g_iconst C dX6_taleOf_44 gk_iconst_m1 ?_
        exact g_iret C (fun _ => trivial) dX6_taleOf_45 h
      · refine g_aload_n C dX6_taleOf_15 rfl 0 rfl ?_
        refine g_iload_n C dX6_taleOf_16 rfl 1 rfl ?_
        refine g_iload C dX6_taleOf_17 3 rfl ?_
        obtain ⟨v2, z1, e, h⟩ := g_callE h
        refine mm_callV C M 2 [.int x1, .int x4] (st := []) (v := some (.int v2)) (z' := z1) (fun l => ct_isKind l x1 x4 z v2 z1 e) (lw_V q2629 q2631 qs145 q178 q2632) rfl rfl rfl (Nat.le_of_ble_eq_true rfl) (Nat.le_of_ble_eq_true rfl) (Nat.le_of_ble_eq_true rfl) dX6_taleOf_19 ?_
        refine gW_st (st' := [.int v2]) rfl ?_
        refine g_if_ne C dX6_taleOf_22 rfl h (fun h => ?_) (fun h => ?_)
        · refine g_iload_n C dX6_taleOf_28 rfl 2 rfl ?_
          refine g_if_ne C dX6_taleOf_29 rfl h (fun h => ?_) (fun h => ?_)
          · refine g_iinc [(3, .int (x3 + (-1 : Int32))), (0, .ref E.2.2.1), (1, .int x1), (4, .int x4)] C dX6_taleOf_35 (j := 2) rfl (gk_inc_m1 _) (Nat.le_of_ble_eq_true rfl) rfl ?_
            exact g_sub [(0, .ref E.2.2.1), (1, .int x1), (3, .int (x3 + (-1 : Int32))), (4, .int x4)] [1, 2, 0, 3] rfl (wk_taleOf_b38 C M ih x1 (x3 + (-1 : Int32)) x4 z1 h)
          · refine g_iload C dX6_taleOf_32 3 rfl ?_
            exact g_iret C (fun _ => trivial) dX6_taleOf_34 h
        · refine g_goto C dX6_taleOf_25 rfl ?_
          exact wk_taleOf_b38 C M ih x1 x3 x4 z1 h
def mo_taleOf (x1 : Int32) (x2 : Int32) (z : mm_S) : Option (Int32 × mm_S) := mo_taleOf_b5 g_fu x1 x2 (0 : Int32) z
theorem wk_taleOf {X : gX} {E : mm_E} {r : Int32 × mm_S} (C : gC X cX6_taleOf 5 (some .int) RX6 10 236) (M : mm_C X E) (x1 : Int32) (x2 : Int32) (z : mm_S) (h : mo_taleOf x1 x2 z = some r) : gW X (mm_G E) (.returned (some (.int r.1)), r.2) z 0 [(0, .ref E.2.2.1), (1, .int x1), (2, .int x2)] [] := by
  unfold mo_taleOf at h
  refine g_iload_n C dX6_taleOf_0 rfl 2 rfl ?_
  refine g_istore_n [(3, .int x2), (0, .ref E.2.2.1), (1, .int x1), (2, .int x2)] C dX6_taleOf_1 rfl (Nat.le_of_ble_eq_true rfl) rfl ?_
  refine g_iconst C dX6_taleOf_2 gk_iconst_0 ?_
  refine g_istore [(4, .int (0 : Int32)), (3, .int x2), (0, .ref E.2.2.1), (1, .int x1), (2, .int x2)] C dX6_taleOf_3 (Nat.le_of_ble_eq_true rfl) rfl ?_
  exact g_sub [(0, .ref E.2.2.1), (1, .int x1), (3, .int x2), (4, .int (0 : Int32))] [2, 3, 1, 0] rfl (wk_taleOf_b5 C M g_fu x1 x2 (0 : Int32) z h)
theorem ct_taleOf (l : Launch) (x1 : Int32) (x2 : Int32) (z : mm_S) (r : Int32) (z' : mm_S) (h : mo_taleOf x1 x2 z = some (r, z')) : mm_MetV l yX6_taleOf cX6_taleOf 5 (some .int) 10 236 [.int x1, .int x2] z (.returned (some (.int r)), z') := by
  intro E hD
  exact mm_enter E hD rfl ⟨_, rfl⟩ (.ref E.2.2.1 :: [.int x1, .int x2]) (Nat.le_of_ble_eq_true rfl) (fun X C M => wk_taleOf C M x1 x2 z h)
def mo_tale (x1 : Int32) (x2 : Int32) (z : mm_S) : Option (Int32 × mm_S) := g_call (mo_isShip x1 z) (fun v2 z1 => if v2 = 0 then (some ((-1 : Int32), z1)) else (g_call (mo_taleOf x1 x2 z1) (fun v4 z3 => some (v4, z3))))
theorem wk_tale {X : gX} {E : mm_E} {r : Int32 × mm_S} (C : gC X cX6_tale 3 (some .int) RX6 11 260) (M : mm_C X E) (x1 : Int32) (x2 : Int32) (z : mm_S) (h : mo_tale x1 x2 z = some r) : gW X (mm_G E) (.returned (some (.int r.1)), r.2) z 0 [(0, .ref E.2.2.1), (1, .int x1), (2, .int x2)] [] := by
  unfold mo_tale at h
  refine g_aload_n C dX6_tale_0 rfl 0 rfl ?_
  refine g_iload_n C dX6_tale_1 rfl 1 rfl ?_
  obtain ⟨v2, z1, e, h⟩ := g_callE h
  refine mm_callV C M 1 [.int x1] (st := []) (v := some (.int v2)) (z' := z1) (fun l => ct_isShip l x1 z v2 z1 e) (lw_V q2521 q2523 qs126 q178 q2524) rfl rfl rfl (Nat.le_of_ble_eq_true rfl) (Nat.le_of_ble_eq_true rfl) (Nat.le_of_ble_eq_true rfl) dX6_tale_2 ?_
  refine gW_st (st' := [.int v2]) rfl ?_
  refine g_if_eq C dX6_tale_5 rfl h (fun h => ?_) (fun h => ?_)
  · refine g_iconst C dX6_tale_17 gk_iconst_m1 ?_
    exact g_iret C (fun _ => trivial) dX6_tale_18 h
  · refine g_aload_n C dX6_tale_8 rfl 0 rfl ?_
    refine g_iload_n C dX6_tale_9 rfl 1 rfl ?_
    refine g_iload_n C dX6_tale_10 rfl 2 rfl ?_
    obtain ⟨v4, z3, e, h⟩ := g_callE h
    refine mm_callV C M 2 [.int x1, .int x2] (st := []) (v := some (.int v4)) (z' := z3) (fun l => ct_taleOf l x1 x2 z1 v4 z3 e) (lw_V q2673 q2675 qs155 q178 q2676) rfl rfl rfl (Nat.le_of_ble_eq_true rfl) (Nat.le_of_ble_eq_true rfl) (Nat.le_of_ble_eq_true rfl) dX6_tale_11 ?_
    refine gW_st (st' := [.int v4]) rfl ?_
    refine g_goto C dX6_tale_14 rfl ?_
    exact g_iret C (fun _ => trivial) dX6_tale_18 h
theorem ct_tale (l : Launch) (x1 : Int32) (x2 : Int32) (z : mm_S) (r : Int32) (z' : mm_S) (h : mo_tale x1 x2 z = some (r, z')) : mm_MetV l yX6_tale cX6_tale 3 (some .int) 11 260 [.int x1, .int x2] z (.returned (some (.int r)), z') := by
  intro E hD
  exact mm_enter E hD rfl ⟨_, rfl⟩ (.ref E.2.2.1 :: [.int x1, .int x2]) (Nat.le_of_ble_eq_true rfl) (fun X C M => wk_tale C M x1 x2 z h)
def mo_bars_b83 (k23 : Int32 → Int32 → mm_S → Option (Int32 × mm_S)) (k53 : Int32 → Int32 → Int32 → mm_S → Option (Int32 × mm_S)) (x3 : Int32) (x4 : Int32) (s0 : Int32) (z : mm_S) : Option (Int32 × mm_S) := k53 s0 x3 (x4 + (1 : Int32)) z
theorem wk_bars_b83 {X : gX} {E : mm_E} {r : Int32 × mm_S} (C : gC X cX6_bars 5 (some .int) RX6 6 143) (M : mm_C X E) {k23 : Int32 → Int32 → mm_S → Option (Int32 × mm_S)} (hk23 : ∀ (x2 : Int32) (x3 : Int32) (z : mm_S), k23 x2 x3 z = some r → gW X (mm_G E) (.returned (some (.int r.1)), r.2) z 23 [(0, .ref E.2.2.1), (2, .int x2), (3, .int x3)] []) {k53 : Int32 → Int32 → Int32 → mm_S → Option (Int32 × mm_S)} (hk53 : ∀ (x2 : Int32) (x3 : Int32) (x4 : Int32) (z : mm_S), k53 x2 x3 x4 z = some r → gW X (mm_G E) (.returned (some (.int r.1)), r.2) z 53 [(0, .ref E.2.2.1), (2, .int x2), (3, .int x3), (4, .int x4)] []) (x3 : Int32) (x4 : Int32) (s0 : Int32) (z : mm_S) (h : mo_bars_b83 k23 k53 x3 x4 s0 z = some r) : gW X (mm_G E) (.returned (some (.int r.1)), r.2) z 83 [(0, .ref E.2.2.1), (3, .int x3), (4, .int x4)] [.int s0] := by
  unfold mo_bars_b83 at h
  refine g_istore_n [(2, .int s0), (0, .ref E.2.2.1), (3, .int x3), (4, .int x4)] C dX6_bars_83 rfl (Nat.le_of_ble_eq_true rfl) rfl ?_
  refine g_iinc [(4, .int (x4 + (1 : Int32))), (2, .int s0), (0, .ref E.2.2.1), (3, .int x3)] C dX6_bars_84 (j := 3) rfl (gk_inc_1 _) (Nat.le_of_ble_eq_true rfl) rfl ?_
  refine g_goto C dX6_bars_87 rfl ?_
  exact g_sub [(0, .ref E.2.2.1), (2, .int s0), (3, .int x3), (4, .int (x4 + (1 : Int32)))] [2, 1, 3, 0] rfl (hk53 s0 x3 (x4 + (1 : Int32)) z h)
def mo_bars_b82 (k23 : Int32 → Int32 → mm_S → Option (Int32 × mm_S)) (k53 : Int32 → Int32 → Int32 → mm_S → Option (Int32 × mm_S)) (x3 : Int32) (x4 : Int32) (z : mm_S) : Option (Int32 × mm_S) := mo_bars_b83 k23 k53 x3 x4 (0 : Int32) z
theorem wk_bars_b82 {X : gX} {E : mm_E} {r : Int32 × mm_S} (C : gC X cX6_bars 5 (some .int) RX6 6 143) (M : mm_C X E) {k23 : Int32 → Int32 → mm_S → Option (Int32 × mm_S)} (hk23 : ∀ (x2 : Int32) (x3 : Int32) (z : mm_S), k23 x2 x3 z = some r → gW X (mm_G E) (.returned (some (.int r.1)), r.2) z 23 [(0, .ref E.2.2.1), (2, .int x2), (3, .int x3)] []) {k53 : Int32 → Int32 → Int32 → mm_S → Option (Int32 × mm_S)} (hk53 : ∀ (x2 : Int32) (x3 : Int32) (x4 : Int32) (z : mm_S), k53 x2 x3 x4 z = some r → gW X (mm_G E) (.returned (some (.int r.1)), r.2) z 53 [(0, .ref E.2.2.1), (2, .int x2), (3, .int x3), (4, .int x4)] []) (x3 : Int32) (x4 : Int32) (z : mm_S) (h : mo_bars_b82 k23 k53 x3 x4 z = some r) : gW X (mm_G E) (.returned (some (.int r.1)), r.2) z 82 [(0, .ref E.2.2.1), (3, .int x3), (4, .int x4)] [] := by
  unfold mo_bars_b82 at h
  refine g_iconst C dX6_bars_82 gk_iconst_0 ?_
  exact wk_bars_b83 C M hk23 hk53 x3 x4 (0 : Int32) z h
def mo_bars_b53 (k23 : Int32 → Int32 → mm_S → Option (Int32 × mm_S)) : Nat → Int32 → Int32 → Int32 → mm_S → Option (Int32 × mm_S)
  | 0, _, _, _, _ => none
  | n + 1, x2, x3, x4, z => if x3 ≤ x4 then (if x2 = 0 then (some (x3, z)) else (k23 x2 (x3 + (1 : Int32)) z)) else (if x2 = 0 then (mo_bars_b82 k23 (mo_bars_b53 k23 n) x3 x4 z) else (mm_lI 70 (((48 : Int32) * x3) + x4) z (fun v1 => if v1 = 0 then (mo_bars_b82 k23 (mo_bars_b53 k23 n) x3 x4 z) else (mo_bars_b83 k23 (mo_bars_b53 k23 n) x3 x4 (1 : Int32) z))))
theorem wk_bars_b53 {X : gX} {E : mm_E} {r : Int32 × mm_S} (C : gC X cX6_bars 5 (some .int) RX6 6 143) (M : mm_C X E) {k23 : Int32 → Int32 → mm_S → Option (Int32 × mm_S)} (hk23 : ∀ (x2 : Int32) (x3 : Int32) (z : mm_S), k23 x2 x3 z = some r → gW X (mm_G E) (.returned (some (.int r.1)), r.2) z 23 [(0, .ref E.2.2.1), (2, .int x2), (3, .int x3)] []) : ∀ (n : Nat) (x2 : Int32) (x3 : Int32) (x4 : Int32) (z : mm_S), mo_bars_b53 k23 n x2 x3 x4 z = some r → gW X (mm_G E) (.returned (some (.int r.1)), r.2) z 53 [(0, .ref E.2.2.1), (2, .int x2), (3, .int x3), (4, .int x4)] [] := by
  intro n
  induction n with
  | zero =>
    intro x2 x3 x4 z h
    have h : (none : Option (Int32 × mm_S)) = some r := h
    cases h
  | succ n ih =>
    intro x2 x3 x4 z h
    rw [mo_bars_b53] at h
    refine g_iload C dX6_bars_53 3 rfl ?_
    refine g_iload_n C dX6_bars_55 rfl 2 rfl ?_
    refine g_icmp_ge C dX6_bars_56 rfl h (fun h => ?_) (fun h => ?_)
    · refine g_iload_n C dX6_bars_90 rfl 1 rfl ?_
      refine g_if_ne C dX6_bars_91 rfl h (fun h => ?_) (fun h => ?_)
      · refine g_iinc [(3, .int (x3 + (1 : Int32))), (0, .ref E.2.2.1), (2, .int x2), (4, .int x4)] C dX6_bars_96 (j := 2) rfl (gk_inc_1 _) (Nat.le_of_ble_eq_true rfl) rfl ?_
        refine g_goto C dX6_bars_99 rfl ?_
        exact g_sub [(0, .ref E.2.2.1), (2, .int x2), (3, .int (x3 + (1 : Int32)))] [1, 2, 0] rfl (hk23 x2 (x3 + (1 : Int32)) z h)
      · refine g_iload_n C dX6_bars_94 rfl 2 rfl ?_
        exact g_iret C (fun _ => trivial) dX6_bars_95 h
    · refine g_iload_n C dX6_bars_59 rfl 1 rfl ?_
      refine g_if_eq C dX6_bars_60 rfl h (fun h => ?_) (fun h => ?_)
      · exact g_sub [(0, .ref E.2.2.1), (3, .int x3), (4, .int x4)] [0, 2, 3] rfl (wk_bars_b82 C M hk23 ih x3 x4 z h)
      · refine g_aload_n C dX6_bars_63 rfl 0 rfl ?_
        refine mm_getA C M 70 (Nat.le_of_ble_eq_true rfl) (Nat.le_of_ble_eq_true rfl) q2073 rfl dX6_bars_64 ?_
        refine g_bipush C dX6_bars_67 gk_bipush_48 ?_
        refine g_iload_n C dX6_bars_69 rfl 2 rfl ?_
        refine g_imul C dX6_bars_70 ?_
        refine g_iload C dX6_bars_71 3 rfl ?_
        refine g_iadd C dX6_bars_73 ?_
        refine mm_ldZ C M 70 (Nat.le_of_ble_eq_true rfl) rfl dX6_bars_74 h (fun v1 h => ?_)
        refine g_if_eq C dX6_bars_75 rfl h (fun h => ?_) (fun h => ?_)
        · exact g_sub [(0, .ref E.2.2.1), (3, .int x3), (4, .int x4)] [0, 2, 3] rfl (wk_bars_b82 C M hk23 ih x3 x4 z h)
        · refine g_iconst C dX6_bars_78 gk_iconst_1 ?_
          refine g_goto C dX6_bars_79 rfl ?_
          exact g_sub [(0, .ref E.2.2.1), (3, .int x3), (4, .int x4)] [0, 2, 3] rfl (wk_bars_b83 C M hk23 ih x3 x4 (1 : Int32) z h)
def mo_bars_b49 (k23 : Int32 → Int32 → mm_S → Option (Int32 × mm_S)) (x3 : Int32) (s0 : Int32) (z : mm_S) : Option (Int32 × mm_S) := mo_bars_b53 k23 g_fu s0 x3 (0 : Int32) z
theorem wk_bars_b49 {X : gX} {E : mm_E} {r : Int32 × mm_S} (C : gC X cX6_bars 5 (some .int) RX6 6 143) (M : mm_C X E) {k23 : Int32 → Int32 → mm_S → Option (Int32 × mm_S)} (hk23 : ∀ (x2 : Int32) (x3 : Int32) (z : mm_S), k23 x2 x3 z = some r → gW X (mm_G E) (.returned (some (.int r.1)), r.2) z 23 [(0, .ref E.2.2.1), (2, .int x2), (3, .int x3)] []) (x3 : Int32) (s0 : Int32) (z : mm_S) (h : mo_bars_b49 k23 x3 s0 z = some r) : gW X (mm_G E) (.returned (some (.int r.1)), r.2) z 49 [(0, .ref E.2.2.1), (3, .int x3)] [.int s0] := by
  unfold mo_bars_b49 at h
  refine g_istore_n [(2, .int s0), (0, .ref E.2.2.1), (3, .int x3)] C dX6_bars_49 rfl (Nat.le_of_ble_eq_true rfl) rfl ?_
  refine g_iconst C dX6_bars_50 gk_iconst_0 ?_
  refine g_istore [(4, .int (0 : Int32)), (2, .int s0), (0, .ref E.2.2.1), (3, .int x3)] C dX6_bars_51 (Nat.le_of_ble_eq_true rfl) rfl ?_
  exact g_sub [(0, .ref E.2.2.1), (2, .int s0), (3, .int x3), (4, .int (0 : Int32))] [2, 1, 3, 0] rfl (wk_bars_b53 C M hk23 g_fu s0 x3 (0 : Int32) z h)
def mo_bars_b48 (k23 : Int32 → Int32 → mm_S → Option (Int32 × mm_S)) (x3 : Int32) (z : mm_S) : Option (Int32 × mm_S) := mo_bars_b49 k23 x3 (0 : Int32) z
theorem wk_bars_b48 {X : gX} {E : mm_E} {r : Int32 × mm_S} (C : gC X cX6_bars 5 (some .int) RX6 6 143) (M : mm_C X E) {k23 : Int32 → Int32 → mm_S → Option (Int32 × mm_S)} (hk23 : ∀ (x2 : Int32) (x3 : Int32) (z : mm_S), k23 x2 x3 z = some r → gW X (mm_G E) (.returned (some (.int r.1)), r.2) z 23 [(0, .ref E.2.2.1), (2, .int x2), (3, .int x3)] []) (x3 : Int32) (z : mm_S) (h : mo_bars_b48 k23 x3 z = some r) : gW X (mm_G E) (.returned (some (.int r.1)), r.2) z 48 [(0, .ref E.2.2.1), (3, .int x3)] [] := by
  unfold mo_bars_b48 at h
  refine g_iconst C dX6_bars_48 gk_iconst_0 ?_
  exact wk_bars_b49 C M hk23 x3 (0 : Int32) z h
def mo_bars_b23 : Nat → Int32 → Int32 → mm_S → Option (Int32 × mm_S)
  | 0, _, _, _ => none
  | n + 1, x2, x3, z => mm_gI 65 z (fun v1 => if v1 ≤ x3 then (some ((-1 : Int32), z)) else (if x2 = 0 then (mo_bars_b48 (mo_bars_b23 n) x3 z) else (mm_lI 68 x3 z (fun v2 => if v2 = 0 then (mo_bars_b48 (mo_bars_b23 n) x3 z) else (mo_bars_b49 (mo_bars_b23 n) x3 (1 : Int32) z)))))
theorem wk_bars_b23 {X : gX} {E : mm_E} {r : Int32 × mm_S} (C : gC X cX6_bars 5 (some .int) RX6 6 143) (M : mm_C X E) : ∀ (n : Nat) (x2 : Int32) (x3 : Int32) (z : mm_S), mo_bars_b23 n x2 x3 z = some r → gW X (mm_G E) (.returned (some (.int r.1)), r.2) z 23 [(0, .ref E.2.2.1), (2, .int x2), (3, .int x3)] [] := by
  intro n
  induction n with
  | zero =>
    intro x2 x3 z h
    have h : (none : Option (Int32 × mm_S)) = some r := h
    cases h
  | succ n ih =>
    intro x2 x3 z h
    rw [mo_bars_b23] at h
    refine g_iload_n C dX6_bars_23 rfl 2 rfl ?_
    refine g_aload_n C dX6_bars_24 rfl 0 rfl ?_
    refine mm_getI C M 65 (Nat.le_of_ble_eq_true rfl) (Nat.le_of_ble_eq_true rfl) q2068 rfl dX6_bars_25 h (fun v1 h => ?_)
    refine g_icmp_ge C dX6_bars_28 rfl h (fun h => ?_) (fun h => ?_)
    · refine g_iconst C dX6_bars_102 gk_iconst_m1 ?_
      exact g_iret C (fun _ => trivial) dX6_bars_103 h
    · refine g_iload_n C dX6_bars_31 rfl 1 rfl ?_
      refine g_if_eq C dX6_bars_32 rfl h (fun h => ?_) (fun h => ?_)
      · exact g_sub [(0, .ref E.2.2.1), (3, .int x3)] [0, 2] rfl (wk_bars_b48 C M ih x3 z h)
      · refine g_aload_n C dX6_bars_35 rfl 0 rfl ?_
        refine mm_getA C M 68 (Nat.le_of_ble_eq_true rfl) (Nat.le_of_ble_eq_true rfl) q2071 rfl dX6_bars_36 ?_
        refine g_iload_n C dX6_bars_39 rfl 2 rfl ?_
        refine mm_ldZ C M 68 (Nat.le_of_ble_eq_true rfl) rfl dX6_bars_40 h (fun v2 h => ?_)
        refine g_if_eq C dX6_bars_41 rfl h (fun h => ?_) (fun h => ?_)
        · exact g_sub [(0, .ref E.2.2.1), (3, .int x3)] [0, 2] rfl (wk_bars_b48 C M ih x3 z h)
        · refine g_iconst C dX6_bars_44 gk_iconst_1 ?_
          refine g_goto C dX6_bars_45 rfl ?_
          exact g_sub [(0, .ref E.2.2.1), (3, .int x3)] [0, 2] rfl (wk_bars_b49 C M ih x3 (1 : Int32) z h)
def mo_bars (x1 : Int32) (z : mm_S) : Option (Int32 × mm_S) := g_call (mo_isShip x1 z) (fun v2 z1 => if v2 = 0 then (some ((-1 : Int32), z1)) else (g_call (mo_booksFit x1 z1) (fun v4 z3 => g_call (mo_pairs x1 z3) (fun _ z5 => mo_bars_b23 g_fu v4 (0 : Int32) z5))))
theorem wk_bars {X : gX} {E : mm_E} {r : Int32 × mm_S} (C : gC X cX6_bars 5 (some .int) RX6 6 143) (M : mm_C X E) (x1 : Int32) (z : mm_S) (h : mo_bars x1 z = some r) : gW X (mm_G E) (.returned (some (.int r.1)), r.2) z 0 [(0, .ref E.2.2.1), (1, .int x1)] [] := by
  unfold mo_bars at h
  refine g_aload_n C dX6_bars_0 rfl 0 rfl ?_
  refine g_iload_n C dX6_bars_1 rfl 1 rfl ?_
  obtain ⟨v2, z1, e, h⟩ := g_callE h
  refine mm_callV C M 1 [.int x1] (st := []) (v := some (.int v2)) (z' := z1) (fun l => ct_isShip l x1 z v2 z1 e) (lw_V q2521 q2523 qs126 q178 q2524) rfl rfl rfl (Nat.le_of_ble_eq_true rfl) (Nat.le_of_ble_eq_true rfl) (Nat.le_of_ble_eq_true rfl) dX6_bars_2 ?_
  refine gW_st (st' := [.int v2]) rfl ?_
  refine g_if_ne C dX6_bars_5 rfl h (fun h => ?_) (fun h => ?_)
  · refine g_aload_n C dX6_bars_10 rfl 0 rfl ?_
    refine g_iload_n C dX6_bars_11 rfl 1 rfl ?_
    obtain ⟨v4, z3, e, h⟩ := g_callE h
    refine mm_callV C M 1 [.int x1] (st := []) (v := some (.int v4)) (z' := z3) (fun l => ct_booksFit l x1 z1 v4 z3 e) (lw_V q2554 q2556 qs132 q178 q2557) rfl rfl rfl (Nat.le_of_ble_eq_true rfl) (Nat.le_of_ble_eq_true rfl) (Nat.le_of_ble_eq_true rfl) dX6_bars_12 ?_
    refine gW_st (st' := [.int v4]) rfl ?_
    refine g_istore_n [(2, .int v4), (0, .ref E.2.2.1), (1, .int x1)] C dX6_bars_15 rfl (Nat.le_of_ble_eq_true rfl) rfl ?_
    refine g_aload_n C dX6_bars_16 rfl 1 rfl ?_
    refine g_iload_n C dX6_bars_17 rfl 2 rfl ?_
    obtain ⟨u6, z5, e, h⟩ := g_callE h
    refine mm_callV C M 1 [.int x1] (st := []) (v := none) (z' := z5) (fun l => ct_pairs l x1 z3 u6 z5 e) (lw_V q2577 q2579 qs137 q178 q2580) rfl rfl rfl (Nat.le_of_ble_eq_true rfl) (Nat.le_of_ble_eq_true rfl) (Nat.le_of_ble_eq_true rfl) dX6_bars_18 ?_
    refine gW_st (st' := []) rfl ?_
    refine g_iconst C dX6_bars_21 gk_iconst_0 ?_
    refine g_istore_n [(3, .int (0 : Int32)), (2, .int v4), (0, .ref E.2.2.1), (1, .int x1)] C dX6_bars_22 rfl (Nat.le_of_ble_eq_true rfl) rfl ?_
    exact g_sub [(0, .ref E.2.2.1), (2, .int v4), (3, .int (0 : Int32))] [2, 1, 0] rfl (wk_bars_b23 C M g_fu v4 (0 : Int32) z5 h)
  · refine g_iconst C dX6_bars_8 gk_iconst_m1 ?_
    exact g_iret C (fun _ => trivial) dX6_bars_9 h
theorem ct_bars (l : Launch) (x1 : Int32) (z : mm_S) (r : Int32) (z' : mm_S) (h : mo_bars x1 z = some (r, z')) : mm_MetV l yX6_bars cX6_bars 5 (some .int) 6 143 [.int x1] z (.returned (some (.int r)), z') := by
  intro E hD
  exact mm_enter E hD rfl ⟨_, rfl⟩ (.ref E.2.2.1 :: [.int x1]) (Nat.le_of_ble_eq_true rfl) (fun X C M => wk_bars C M x1 z h)
def mo_clash_b158 (x2 : Int32) (x3 : Int32) (x4 : Int32) (x5 : Int32) (x6 : Int32) (z : mm_S) : Option (Int32 × mm_S) := if x6 = 0 then (if x2 = 0 then (some (x5, z)) else (if x2 = (1 : Int32) then (some (x4, z)) else (mm_lI 67 x5 z (fun v1 => some (v1, z))))) else (if x2 = 0 then (some ((-1 : Int32), z)) else (if x2 = (1 : Int32) then (some (x3, z)) else (mm_lI 67 x3 z (fun v2 => some (v2, z)))))
theorem wk_clash_b158 {X : gX} {E : mm_E} {r : Int32 × mm_S} (C : gC X cX6_clash 8 (some .int) RX6 6 143) (M : mm_C X E) (x2 : Int32) (x3 : Int32) (x4 : Int32) (x5 : Int32) (x6 : Int32) (z : mm_S) (h : mo_clash_b158 x2 x3 x4 x5 x6 z = some r) : gW X (mm_G E) (.returned (some (.int r.1)), r.2) z 158 [(0, .ref E.2.2.1), (2, .int x2), (3, .int x3), (4, .int x4), (5, .int x5), (6, .int x6)] [] := by
  unfold mo_clash_b158 at h
  refine g_iload C dX6_clash_158 5 rfl ?_
  refine g_if_eq C dX6_clash_160 rfl h (fun h => ?_) (fun h => ?_)
  · refine g_iload_n C dX6_clash_187 rfl 1 rfl ?_
    refine g_if_ne C dX6_clash_188 rfl h (fun h => ?_) (fun h => ?_)
    · refine g_iload_n C dX6_clash_196 rfl 1 rfl ?_
      refine g_iconst C dX6_clash_197 gk_iconst_1 ?_
      refine g_icmp_ne C dX6_clash_198 rfl h (fun h => ?_) (fun h => ?_)
      · refine g_aload_n C dX6_clash_206 rfl 0 rfl ?_
        refine mm_getA C M 67 (Nat.le_of_ble_eq_true rfl) (Nat.le_of_ble_eq_true rfl) q2070 rfl dX6_clash_207 ?_
        refine g_iload C dX6_clash_210 4 rfl ?_
        refine mm_ldI C M 67 (Nat.le_of_ble_eq_true rfl) rfl dX6_clash_212 h (fun v1 h => ?_)
        exact g_iret C (fun _ => trivial) dX6_clash_213 h
      · refine g_iload C dX6_clash_201 3 rfl ?_
        refine g_goto C dX6_clash_203 rfl ?_
        exact g_iret C (fun _ => trivial) dX6_clash_213 h
    · refine g_iload C dX6_clash_191 4 rfl ?_
      refine g_goto C dX6_clash_193 rfl ?_
      exact g_iret C (fun _ => trivial) dX6_clash_213 h
  · refine g_iload_n C dX6_clash_163 rfl 1 rfl ?_
    refine g_if_ne C dX6_clash_164 rfl h (fun h => ?_) (fun h => ?_)
    · refine g_iload_n C dX6_clash_171 rfl 1 rfl ?_
      refine g_iconst C dX6_clash_172 gk_iconst_1 ?_
      refine g_icmp_ne C dX6_clash_173 rfl h (fun h => ?_) (fun h => ?_)
      · refine g_aload_n C dX6_clash_180 rfl 0 rfl ?_
        refine mm_getA C M 67 (Nat.le_of_ble_eq_true rfl) (Nat.le_of_ble_eq_true rfl) q2070 rfl dX6_clash_181 ?_
        refine g_iload_n C dX6_clash_184 rfl 2 rfl ?_
        refine mm_ldI C M 67 (Nat.le_of_ble_eq_true rfl) rfl dX6_clash_185 h (fun v2 h => ?_)
        exact g_iret C (fun _ => trivial) dX6_clash_186 h
      · refine g_iload_n C dX6_clash_176 rfl 2 rfl ?_
        refine g_goto C dX6_clash_177 rfl ?_
        exact g_iret C (fun _ => trivial) dX6_clash_186 h
    · refine g_iconst C dX6_clash_167 gk_iconst_m1 ?_
      refine g_goto C dX6_clash_168 rfl ?_
      exact g_iret C (fun _ => trivial) dX6_clash_186 h
def mo_clash_b143 (x2 : Int32) (x3 : Int32) (x4 : Int32) (x5 : Int32) (s0 : Int32) (z : mm_S) : Option (Int32 × mm_S) := if s0 = 0 then (if x4 = (-1 : Int32) then (some ((-1 : Int32), z)) else (mo_clash_b158 x2 x3 x4 x5 s0 z)) else (mo_clash_b158 x2 x3 x4 x5 s0 z)
theorem wk_clash_b143 {X : gX} {E : mm_E} {r : Int32 × mm_S} (C : gC X cX6_clash 8 (some .int) RX6 6 143) (M : mm_C X E) (x2 : Int32) (x3 : Int32) (x4 : Int32) (x5 : Int32) (s0 : Int32) (z : mm_S) (h : mo_clash_b143 x2 x3 x4 x5 s0 z = some r) : gW X (mm_G E) (.returned (some (.int r.1)), r.2) z 143 [(0, .ref E.2.2.1), (2, .int x2), (3, .int x3), (4, .int x4), (5, .int x5)] [.int s0] := by
  unfold mo_clash_b143 at h
  refine g_istore [(6, .int s0), (0, .ref E.2.2.1), (2, .int x2), (3, .int x3), (4, .int x4), (5, .int x5)] C dX6_clash_143 (Nat.le_of_ble_eq_true rfl) rfl ?_
  refine g_iload C dX6_clash_145 0 rfl ?_
  refine g_if_ne C dX6_clash_147 rfl h (fun h => ?_) (fun h => ?_)
  · exact g_sub [(0, .ref E.2.2.1), (2, .int x2), (3, .int x3), (4, .int x4), (5, .int x5), (6, .int s0)] [1, 2, 3, 4, 5, 0] rfl (wk_clash_b158 C M x2 x3 x4 x5 s0 z h)
  · refine g_iload C dX6_clash_150 4 rfl ?_
    refine g_iconst C dX6_clash_152 gk_iconst_m1 ?_
    refine g_icmp_ne C dX6_clash_153 rfl h (fun h => ?_) (fun h => ?_)
    · exact g_sub [(0, .ref E.2.2.1), (2, .int x2), (3, .int x3), (4, .int x4), (5, .int x5), (6, .int s0)] [1, 2, 3, 4, 5, 0] rfl (wk_clash_b158 C M x2 x3 x4 x5 s0 z h)
    · refine g_iconst C dX6_clash_156 gk_iconst_m1 ?_
      exact g_iret C (fun _ => trivial) dX6_clash_157 h
def mo_clash_b142 (x2 : Int32) (x3 : Int32) (x4 : Int32) (x5 : Int32) (z : mm_S) : Option (Int32 × mm_S) := mo_clash_b143 x2 x3 x4 x5 (0 : Int32) z
theorem wk_clash_b142 {X : gX} {E : mm_E} {r : Int32 × mm_S} (C : gC X cX6_clash 8 (some .int) RX6 6 143) (M : mm_C X E) (x2 : Int32) (x3 : Int32) (x4 : Int32) (x5 : Int32) (z : mm_S) (h : mo_clash_b142 x2 x3 x4 x5 z = some r) : gW X (mm_G E) (.returned (some (.int r.1)), r.2) z 142 [(0, .ref E.2.2.1), (2, .int x2), (3, .int x3), (4, .int x4), (5, .int x5)] [] := by
  unfold mo_clash_b142 at h
  refine g_iconst C dX6_clash_142 gk_iconst_0 ?_
  exact wk_clash_b143 C M x2 x3 x4 x5 (0 : Int32) z h
def mo_clash_b138 (x2 : Int32) (x3 : Int32) (x4 : Int32) (x5 : Int32) (z : mm_S) : Option (Int32 × mm_S) := mo_clash_b143 x2 x3 x4 x5 (1 : Int32) z
theorem wk_clash_b138 {X : gX} {E : mm_E} {r : Int32 × mm_S} (C : gC X cX6_clash 8 (some .int) RX6 6 143) (M : mm_C X E) (x2 : Int32) (x3 : Int32) (x4 : Int32) (x5 : Int32) (z : mm_S) (h : mo_clash_b138 x2 x3 x4 x5 z = some r) : gW X (mm_G E) (.returned (some (.int r.1)), r.2) z 138 [(0, .ref E.2.2.1), (2, .int x2), (3, .int x3), (4, .int x4), (5, .int x5)] [] := by
  unfold mo_clash_b138 at h
  refine g_iconst C dX6_clash_138 gk_iconst_1 ?_
  refine g_goto C dX6_clash_139 rfl ?_
  exact wk_clash_b143 C M x2 x3 x4 x5 (1 : Int32) z h
def mo_clash_b115 (k35 : Int32 → Int32 → Int32 → Int32 → Int32 → mm_S → Option (Int32 × mm_S)) (x2 : Int32) (x3 : Int32) (x4 : Int32) (x5 : Int32) (x6 : Int32) (z : mm_S) : Option (Int32 × mm_S) := k35 x2 x3 x4 x5 (x6 + (1 : Int32)) z
theorem wk_clash_b115 {X : gX} {E : mm_E} {r : Int32 × mm_S} (C : gC X cX6_clash 8 (some .int) RX6 6 143) (M : mm_C X E) {k35 : Int32 → Int32 → Int32 → Int32 → Int32 → mm_S → Option (Int32 × mm_S)} (hk35 : ∀ (x2 : Int32) (x3 : Int32) (x4 : Int32) (x5 : Int32) (x6 : Int32) (z : mm_S), k35 x2 x3 x4 x5 x6 z = some r → gW X (mm_G E) (.returned (some (.int r.1)), r.2) z 35 [(0, .ref E.2.2.1), (2, .int x2), (3, .int x3), (4, .int x4), (5, .int x5), (6, .int x6)] []) (x2 : Int32) (x3 : Int32) (x4 : Int32) (x5 : Int32) (x6 : Int32) (z : mm_S) (h : mo_clash_b115 k35 x2 x3 x4 x5 x6 z = some r) : gW X (mm_G E) (.returned (some (.int r.1)), r.2) z 115 [(0, .ref E.2.2.1), (2, .int x2), (3, .int x3), (4, .int x4), (5, .int x5), (6, .int x6)] [] := by
  unfold mo_clash_b115 at h
  refine g_iinc [(6, .int (x6 + (1 : Int32))), (0, .ref E.2.2.1), (2, .int x2), (3, .int x3), (4, .int x4), (5, .int x5)] C dX6_clash_115 (j := 5) rfl (gk_inc_1 _) (Nat.le_of_ble_eq_true rfl) rfl ?_
  refine g_goto C dX6_clash_118 rfl ?_
  exact g_sub [(0, .ref E.2.2.1), (2, .int x2), (3, .int x3), (4, .int x4), (5, .int x5), (6, .int (x6 + (1 : Int32)))] [1, 2, 3, 4, 5, 0] rfl (hk35 x2 x3 x4 x5 (x6 + (1 : Int32)) z h)
def mo_clash_b109 (k35 : Int32 → Int32 → Int32 → Int32 → Int32 → mm_S → Option (Int32 × mm_S)) (k69 : Int32 → Int32 → Int32 → Int32 → Int32 → Int32 → mm_S → Option (Int32 × mm_S)) (x2 : Int32) (x3 : Int32) (x4 : Int32) (x5 : Int32) (x6 : Int32) (x7 : Int32) (z : mm_S) : Option (Int32 × mm_S) := k69 x2 x3 x4 x5 x6 (x7 + (1 : Int32)) z
theorem wk_clash_b109 {X : gX} {E : mm_E} {r : Int32 × mm_S} (C : gC X cX6_clash 8 (some .int) RX6 6 143) (M : mm_C X E) {k35 : Int32 → Int32 → Int32 → Int32 → Int32 → mm_S → Option (Int32 × mm_S)} (hk35 : ∀ (x2 : Int32) (x3 : Int32) (x4 : Int32) (x5 : Int32) (x6 : Int32) (z : mm_S), k35 x2 x3 x4 x5 x6 z = some r → gW X (mm_G E) (.returned (some (.int r.1)), r.2) z 35 [(0, .ref E.2.2.1), (2, .int x2), (3, .int x3), (4, .int x4), (5, .int x5), (6, .int x6)] []) {k69 : Int32 → Int32 → Int32 → Int32 → Int32 → Int32 → mm_S → Option (Int32 × mm_S)} (hk69 : ∀ (x2 : Int32) (x3 : Int32) (x4 : Int32) (x5 : Int32) (x6 : Int32) (x7 : Int32) (z : mm_S), k69 x2 x3 x4 x5 x6 x7 z = some r → gW X (mm_G E) (.returned (some (.int r.1)), r.2) z 69 [(0, .ref E.2.2.1), (2, .int x2), (3, .int x3), (4, .int x4), (5, .int x5), (6, .int x6), (7, .int x7)] []) (x2 : Int32) (x3 : Int32) (x4 : Int32) (x5 : Int32) (x6 : Int32) (x7 : Int32) (z : mm_S) (h : mo_clash_b109 k35 k69 x2 x3 x4 x5 x6 x7 z = some r) : gW X (mm_G E) (.returned (some (.int r.1)), r.2) z 109 [(0, .ref E.2.2.1), (2, .int x2), (3, .int x3), (4, .int x4), (5, .int x5), (6, .int x6), (7, .int x7)] [] := by
  unfold mo_clash_b109 at h
  refine g_iinc [(7, .int (x7 + (1 : Int32))), (0, .ref E.2.2.1), (2, .int x2), (3, .int x3), (4, .int x4), (5, .int x5), (6, .int x6)] C dX6_clash_109 (j := 6) rfl (gk_inc_1 _) (Nat.le_of_ble_eq_true rfl) rfl ?_
  refine g_goto C dX6_clash_112 rfl ?_
  exact g_sub [(0, .ref E.2.2.1), (2, .int x2), (3, .int x3), (4, .int x4), (5, .int x5), (6, .int x6), (7, .int (x7 + (1 : Int32)))] [1, 2, 3, 4, 5, 6, 0] rfl (hk69 x2 x3 x4 x5 x6 (x7 + (1 : Int32)) z h)
def mo_clash_b69 (k35 : Int32 → Int32 → Int32 → Int32 → Int32 → mm_S → Option (Int32 × mm_S)) : Nat → Int32 → Int32 → Int32 → Int32 → Int32 → Int32 → mm_S → Option (Int32 × mm_S)
  | 0, _, _, _, _, _, _, _ => none
  | n + 1, x2, x3, x4, x5, x6, x7, z => if x6 ≤ x7 then (mo_clash_b115 k35 x2 x3 x4 x5 x6 z) else (if x4 = (-1 : Int32) then (mm_lI 70 (((48 : Int32) * x6) + x7) z (fun v1 => if v1 = 0 then (mo_clash_b109 k35 (mo_clash_b69 k35 n) x2 x3 x6 x7 x6 x7 z) else (mo_clash_b109 k35 (mo_clash_b69 k35 n) x2 x3 x4 x5 x6 x7 z))) else (mo_clash_b115 k35 x2 x3 x4 x5 x6 z))
theorem wk_clash_b69 {X : gX} {E : mm_E} {r : Int32 × mm_S} (C : gC X cX6_clash 8 (some .int) RX6 6 143) (M : mm_C X E) {k35 : Int32 → Int32 → Int32 → Int32 → Int32 → mm_S → Option (Int32 × mm_S)} (hk35 : ∀ (x2 : Int32) (x3 : Int32) (x4 : Int32) (x5 : Int32) (x6 : Int32) (z : mm_S), k35 x2 x3 x4 x5 x6 z = some r → gW X (mm_G E) (.returned (some (.int r.1)), r.2) z 35 [(0, .ref E.2.2.1), (2, .int x2), (3, .int x3), (4, .int x4), (5, .int x5), (6, .int x6)] []) : ∀ (n : Nat) (x2 : Int32) (x3 : Int32) (x4 : Int32) (x5 : Int32) (x6 : Int32) (x7 : Int32) (z : mm_S), mo_clash_b69 k35 n x2 x3 x4 x5 x6 x7 z = some r → gW X (mm_G E) (.returned (some (.int r.1)), r.2) z 69 [(0, .ref E.2.2.1), (2, .int x2), (3, .int x3), (4, .int x4), (5, .int x5), (6, .int x6), (7, .int x7)] [] := by
  intro n
  induction n with
  | zero =>
    intro x2 x3 x4 x5 x6 x7 z h
    have h : (none : Option (Int32 × mm_S)) = some r := h
    cases h
  | succ n ih =>
    intro x2 x3 x4 x5 x6 x7 z h
    rw [mo_clash_b69] at h
    refine g_iload C dX6_clash_69 6 rfl ?_
    refine g_iload C dX6_clash_71 5 rfl ?_
    refine g_icmp_ge C dX6_clash_73 rfl h (fun h => ?_) (fun h => ?_)
    · exact g_sub [(0, .ref E.2.2.1), (2, .int x2), (3, .int x3), (4, .int x4), (5, .int x5), (6, .int x6)] [0, 1, 2, 3, 4, 5] rfl (wk_clash_b115 C M hk35 x2 x3 x4 x5 x6 z h)
    · refine g_iload C dX6_clash_76 3 rfl ?_
      refine g_iconst C dX6_clash_78 gk_iconst_m1 ?_
      refine g_icmp_ne C dX6_clash_79 rfl h (fun h => ?_) (fun h => ?_)
      · exact g_sub [(0, .ref E.2.2.1), (2, .int x2), (3, .int x3), (4, .int x4), (5, .int x5), (6, .int x6)] [0, 1, 2, 3, 4, 5] rfl (wk_clash_b115 C M hk35 x2 x3 x4 x5 x6 z h)
      · refine g_aload_n C dX6_clash_82 rfl 0 rfl ?_
        refine mm_getA C M 70 (Nat.le_of_ble_eq_true rfl) (Nat.le_of_ble_eq_true rfl) q2073 rfl dX6_clash_83 ?_
        refine g_bipush C dX6_clash_86 gk_bipush_48 ?_
        refine g_iload C dX6_clash_88 5 rfl ?_
        refine g_imul C dX6_clash_90 ?_
        refine g_iload C dX6_clash_91 6 rfl ?_
        refine g_iadd C dX6_clash_93 ?_
        refine mm_ldZ C M 70 (Nat.le_of_ble_eq_true rfl) rfl dX6_clash_94 h (fun v1 h => ?_)
        refine g_if_eq C dX6_clash_95 rfl h (fun h => ?_) (fun h => ?_)
        · refine g_iload C dX6_clash_101 5 rfl ?_
          refine g_istore [(4, .int x6), (0, .ref E.2.2.1), (2, .int x2), (3, .int x3), (5, .int x5), (6, .int x6), (7, .int x7)] C dX6_clash_103 (Nat.le_of_ble_eq_true rfl) rfl ?_
          refine g_iload C dX6_clash_105 6 rfl ?_
          refine g_istore [(5, .int x7), (4, .int x6), (0, .ref E.2.2.1), (2, .int x2), (3, .int x3), (6, .int x6), (7, .int x7)] C dX6_clash_107 (Nat.le_of_ble_eq_true rfl) rfl ?_
          exact g_sub [(0, .ref E.2.2.1), (2, .int x2), (3, .int x3), (4, .int x6), (5, .int x7), (6, .int x6), (7, .int x7)] [2, 3, 4, 1, 0, 5, 6] rfl (wk_clash_b109 C M hk35 ih x2 x3 x6 x7 x6 x7 z h)
        · refine g_goto C dX6_clash_98 rfl ?_
          exact wk_clash_b109 C M hk35 ih x2 x3 x4 x5 x6 x7 z h
def mo_clash_b65 (k35 : Int32 → Int32 → Int32 → Int32 → Int32 → mm_S → Option (Int32 × mm_S)) (x2 : Int32) (x4 : Int32) (x5 : Int32) (x6 : Int32) (s0 : Int32) (z : mm_S) : Option (Int32 × mm_S) := mo_clash_b69 k35 g_fu x2 s0 x4 x5 x6 (0 : Int32) z
theorem wk_clash_b65 {X : gX} {E : mm_E} {r : Int32 × mm_S} (C : gC X cX6_clash 8 (some .int) RX6 6 143) (M : mm_C X E) {k35 : Int32 → Int32 → Int32 → Int32 → Int32 → mm_S → Option (Int32 × mm_S)} (hk35 : ∀ (x2 : Int32) (x3 : Int32) (x4 : Int32) (x5 : Int32) (x6 : Int32) (z : mm_S), k35 x2 x3 x4 x5 x6 z = some r → gW X (mm_G E) (.returned (some (.int r.1)), r.2) z 35 [(0, .ref E.2.2.1), (2, .int x2), (3, .int x3), (4, .int x4), (5, .int x5), (6, .int x6)] []) (x2 : Int32) (x4 : Int32) (x5 : Int32) (x6 : Int32) (s0 : Int32) (z : mm_S) (h : mo_clash_b65 k35 x2 x4 x5 x6 s0 z = some r) : gW X (mm_G E) (.returned (some (.int r.1)), r.2) z 65 [(0, .ref E.2.2.1), (2, .int x2), (4, .int x4), (5, .int x5), (6, .int x6)] [.int s0] := by
  unfold mo_clash_b65 at h
  refine g_istore_n [(3, .int s0), (0, .ref E.2.2.1), (2, .int x2), (4, .int x4), (5, .int x5), (6, .int x6)] C dX6_clash_65 rfl (Nat.le_of_ble_eq_true rfl) rfl ?_
  refine g_iconst C dX6_clash_66 gk_iconst_0 ?_
  refine g_istore [(7, .int (0 : Int32)), (3, .int s0), (0, .ref E.2.2.1), (2, .int x2), (4, .int x4), (5, .int x5), (6, .int x6)] C dX6_clash_67 (Nat.le_of_ble_eq_true rfl) rfl ?_
  exact g_sub [(0, .ref E.2.2.1), (2, .int x2), (3, .int s0), (4, .int x4), (5, .int x5), (6, .int x6), (7, .int (0 : Int32))] [2, 3, 1, 4, 5, 6, 0] rfl (wk_clash_b69 C M hk35 g_fu x2 s0 x4 x5 x6 (0 : Int32) z h)
def mo_clash_b64 (k35 : Int32 → Int32 → Int32 → Int32 → Int32 → mm_S → Option (Int32 × mm_S)) (x2 : Int32) (x3 : Int32) (x4 : Int32) (x5 : Int32) (x6 : Int32) (z : mm_S) : Option (Int32 × mm_S) := mo_clash_b65 k35 x2 x4 x5 x6 x3 z
theorem wk_clash_b64 {X : gX} {E : mm_E} {r : Int32 × mm_S} (C : gC X cX6_clash 8 (some .int) RX6 6 143) (M : mm_C X E) {k35 : Int32 → Int32 → Int32 → Int32 → Int32 → mm_S → Option (Int32 × mm_S)} (hk35 : ∀ (x2 : Int32) (x3 : Int32) (x4 : Int32) (x5 : Int32) (x6 : Int32) (z : mm_S), k35 x2 x3 x4 x5 x6 z = some r → gW X (mm_G E) (.returned (some (.int r.1)), r.2) z 35 [(0, .ref E.2.2.1), (2, .int x2), (3, .int x3), (4, .int x4), (5, .int x5), (6, .int x6)] []) (x2 : Int32) (x3 : Int32) (x4 : Int32) (x5 : Int32) (x6 : Int32) (z : mm_S) (h : mo_clash_b64 k35 x2 x3 x4 x5 x6 z = some r) : gW X (mm_G E) (.returned (some (.int r.1)), r.2) z 64 [(0, .ref E.2.2.1), (2, .int x2), (3, .int x3), (4, .int x4), (5, .int x5), (6, .int x6)] [] := by
  unfold mo_clash_b64 at h
  refine g_iload_n C dX6_clash_64 rfl 2 rfl ?_
  exact g_sub [(0, .ref E.2.2.1), (2, .int x2), (4, .int x4), (5, .int x5), (6, .int x6)] [0, 1, 3, 4, 5] rfl (wk_clash_b65 C M hk35 x2 x4 x5 x6 x3 z h)
def mo_clash_b35 : Nat → Int32 → Int32 → Int32 → Int32 → Int32 → mm_S → Option (Int32 × mm_S)
  | 0, _, _, _, _, _, _ => none
  | n + 1, x2, x3, x4, x5, x6, z => mm_gI 65 z (fun v1 => if v1 ≤ x6 then (if x3 = (-1 : Int32) then (mo_clash_b142 x2 x3 x4 x5 z) else (if x4 = (-1 : Int32) then (mo_clash_b138 x2 x3 x4 x5 z) else (if x4 < x3 then (mo_clash_b142 x2 x3 x4 x5 z) else (mo_clash_b138 x2 x3 x4 x5 z)))) else (if x3 = (-1 : Int32) then (mm_lI 68 x6 z (fun v2 => if v2 = 0 then (mo_clash_b65 (mo_clash_b35 n) x2 x4 x5 x6 x6 z) else (mo_clash_b64 (mo_clash_b35 n) x2 x3 x4 x5 x6 z))) else (mo_clash_b64 (mo_clash_b35 n) x2 x3 x4 x5 x6 z)))
theorem wk_clash_b35 {X : gX} {E : mm_E} {r : Int32 × mm_S} (C : gC X cX6_clash 8 (some .int) RX6 6 143) (M : mm_C X E) : ∀ (n : Nat) (x2 : Int32) (x3 : Int32) (x4 : Int32) (x5 : Int32) (x6 : Int32) (z : mm_S), mo_clash_b35 n x2 x3 x4 x5 x6 z = some r → gW X (mm_G E) (.returned (some (.int r.1)), r.2) z 35 [(0, .ref E.2.2.1), (2, .int x2), (3, .int x3), (4, .int x4), (5, .int x5), (6, .int x6)] [] := by
  intro n
  induction n with
  | zero =>
    intro x2 x3 x4 x5 x6 z h
    have h : (none : Option (Int32 × mm_S)) = some r := h
    cases h
  | succ n ih =>
    intro x2 x3 x4 x5 x6 z h
    rw [mo_clash_b35] at h
    refine g_iload C dX6_clash_35 5 rfl ?_
    refine g_aload_n C dX6_clash_37 rfl 0 rfl ?_
    refine mm_getI C M 65 (Nat.le_of_ble_eq_true rfl) (Nat.le_of_ble_eq_true rfl) q2068 rfl dX6_clash_38 h (fun v1 h => ?_)
    refine g_icmp_ge C dX6_clash_41 rfl h (fun h => ?_) (fun h => ?_)
    · refine g_iload_n C dX6_clash_121 rfl 2 rfl ?_
      refine g_iconst C dX6_clash_122 gk_iconst_m1 ?_
      refine g_icmp_eq C dX6_clash_123 rfl h (fun h => ?_) (fun h => ?_)
      · exact g_sub [(0, .ref E.2.2.1), (2, .int x2), (3, .int x3), (4, .int x4), (5, .int x5)] [0, 1, 2, 3, 4] rfl (wk_clash_b142 C M x2 x3 x4 x5 z h)
      · refine g_iload C dX6_clash_126 3 rfl ?_
        refine g_iconst C dX6_clash_128 gk_iconst_m1 ?_
        refine g_icmp_eq C dX6_clash_129 rfl h (fun h => ?_) (fun h => ?_)
        · exact g_sub [(0, .ref E.2.2.1), (2, .int x2), (3, .int x3), (4, .int x4), (5, .int x5)] [0, 1, 2, 3, 4] rfl (wk_clash_b138 C M x2 x3 x4 x5 z h)
        · refine g_iload_n C dX6_clash_132 rfl 2 rfl ?_
          refine g_iload C dX6_clash_133 3 rfl ?_
          refine g_icmp_gt C dX6_clash_135 rfl h (fun h => ?_) (fun h => ?_)
          · exact g_sub [(0, .ref E.2.2.1), (2, .int x2), (3, .int x3), (4, .int x4), (5, .int x5)] [0, 1, 2, 3, 4] rfl (wk_clash_b142 C M x2 x3 x4 x5 z h)
          · exact g_sub [(0, .ref E.2.2.1), (2, .int x2), (3, .int x3), (4, .int x4), (5, .int x5)] [0, 1, 2, 3, 4] rfl (wk_clash_b138 C M x2 x3 x4 x5 z h)
    · refine g_iload_n C dX6_clash_44 rfl 2 rfl ?_
      refine g_iconst C dX6_clash_45 gk_iconst_m1 ?_
      refine g_icmp_ne C dX6_clash_46 rfl h (fun h => ?_) (fun h => ?_)
      · exact wk_clash_b64 C M ih x2 x3 x4 x5 x6 z h
      · refine g_aload_n C dX6_clash_49 rfl 0 rfl ?_
        refine mm_getA C M 68 (Nat.le_of_ble_eq_true rfl) (Nat.le_of_ble_eq_true rfl) q2071 rfl dX6_clash_50 ?_
        refine g_iload C dX6_clash_53 5 rfl ?_
        refine mm_ldZ C M 68 (Nat.le_of_ble_eq_true rfl) rfl dX6_clash_55 h (fun v2 h => ?_)
        refine g_if_ne C dX6_clash_56 rfl h (fun h => ?_) (fun h => ?_)
        · exact wk_clash_b64 C M ih x2 x3 x4 x5 x6 z h
        · refine g_iload C dX6_clash_59 5 rfl ?_
          refine g_goto C dX6_clash_61 rfl ?_
          exact g_sub [(0, .ref E.2.2.1), (2, .int x2), (4, .int x4), (5, .int x5), (6, .int x6)] [0, 1, 3, 4, 5] rfl (wk_clash_b65 C M ih x2 x4 x5 x6 x6 z h)
def mo_clash (x1 : Int32) (x2 : Int32) (z : mm_S) : Option (Int32 × mm_S) := g_call (mo_isShip x1 z) (fun v2 z1 => if v2 = 0 then (some ((-1 : Int32), z1)) else (g_call (mo_is x2 (0 : Int32) (2 : Int32) z1) (fun v4 z3 => if v4 = 0 then (some ((-1 : Int32), z3)) else (g_call (mo_pairs x1 z3) (fun _ z5 => mo_clash_b35 g_fu x2 (-1 : Int32) (-1 : Int32) (-1 : Int32) (0 : Int32) z5)))))
theorem wk_clash {X : gX} {E : mm_E} {r : Int32 × mm_S} (C : gC X cX6_clash 8 (some .int) RX6 6 143) (M : mm_C X E) (x1 : Int32) (x2 : Int32) (z : mm_S) (h : mo_clash x1 x2 z = some r) : gW X (mm_G E) (.returned (some (.int r.1)), r.2) z 0 [(0, .ref E.2.2.1), (1, .int x1), (2, .int x2)] [] := by
  unfold mo_clash at h
  refine g_aload_n C dX6_clash_0 rfl 0 rfl ?_
  refine g_iload_n C dX6_clash_1 rfl 1 rfl ?_
  obtain ⟨v2, z1, e, h⟩ := g_callE h
  refine mm_callV C M 1 [.int x1] (st := []) (v := some (.int v2)) (z' := z1) (fun l => ct_isShip l x1 z v2 z1 e) (lw_V q2521 q2523 qs126 q178 q2524) rfl rfl rfl (Nat.le_of_ble_eq_true rfl) (Nat.le_of_ble_eq_true rfl) (Nat.le_of_ble_eq_true rfl) dX6_clash_2 ?_
  refine gW_st (st' := [.int v2]) rfl ?_
  refine g_if_eq C dX6_clash_5 rfl h (fun h => ?_) (fun h => ?_)
  · refine g_iconst C dX6_clash_17 gk_iconst_m1 ?_
    exact g_iret C (fun _ => trivial) dX6_clash_18 h
  · refine g_iload_n C dX6_clash_8 rfl 2 rfl ?_
    refine g_iconst C dX6_clash_9 gk_iconst_0 ?_
    refine g_iconst C dX6_clash_10 gk_iconst_2 ?_
    obtain ⟨v4, z3, e, h⟩ := g_callE h
    refine mm_callS C M 3 [.int x2, .int (0 : Int32), .int (2 : Int32)] (st := []) (v := some (.int v4)) (z' := z3) (fun l => ct_is l x2 (0 : Int32) (2 : Int32) z1 v4 z3 e) (lw_S q2301 q2302 q178 q2303) rfl rfl rfl (Nat.le_of_ble_eq_true rfl) (Nat.le_of_ble_eq_true rfl) (Nat.le_of_ble_eq_true rfl) dX6_clash_11 ?_
    refine gW_st (st' := [.int v4]) rfl ?_
    refine g_if_ne C dX6_clash_14 rfl h (fun h => ?_) (fun h => ?_)
    · refine g_aload_n C dX6_clash_19 rfl 0 rfl ?_
      refine g_iload_n C dX6_clash_20 rfl 1 rfl ?_
      obtain ⟨u6, z5, e, h⟩ := g_callE h
      refine mm_callV C M 1 [.int x1] (st := []) (v := none) (z' := z5) (fun l => ct_pairs l x1 z3 u6 z5 e) (lw_V q2577 q2579 qs137 q178 q2580) rfl rfl rfl (Nat.le_of_ble_eq_true rfl) (Nat.le_of_ble_eq_true rfl) (Nat.le_of_ble_eq_true rfl) dX6_clash_21 ?_
      refine gW_st (st' := []) rfl ?_
      refine g_iconst C dX6_clash_24 gk_iconst_m1 ?_
      refine g_istore_n [(3, .int (-1 : Int32)), (0, .ref E.2.2.1), (1, .int x1), (2, .int x2)] C dX6_clash_25 rfl (Nat.le_of_ble_eq_true rfl) rfl ?_
      refine g_iconst C dX6_clash_26 gk_iconst_m1 ?_
      refine g_istore [(4, .int (-1 : Int32)), (3, .int (-1 : Int32)), (0, .ref E.2.2.1), (1, .int x1), (2, .int x2)] C dX6_clash_27 (Nat.le_of_ble_eq_true rfl) rfl ?_
      refine g_iconst C dX6_clash_29 gk_iconst_m1 ?_
      refine g_istore [(5, .int (-1 : Int32)), (4, .int (-1 : Int32)), (3, .int (-1 : Int32)), (0, .ref E.2.2.1), (1, .int x1), (2, .int x2)] C dX6_clash_30 (Nat.le_of_ble_eq_true rfl) rfl ?_
      refine g_iconst C dX6_clash_32 gk_iconst_0 ?_
      refine g_istore [(6, .int (0 : Int32)), (5, .int (-1 : Int32)), (4, .int (-1 : Int32)), (3, .int (-1 : Int32)), (0, .ref E.2.2.1), (1, .int x1), (2, .int x2)] C dX6_clash_33 (Nat.le_of_ble_eq_true rfl) rfl ?_
      exact g_sub [(0, .ref E.2.2.1), (2, .int x2), (3, .int (-1 : Int32)), (4, .int (-1 : Int32)), (5, .int (-1 : Int32)), (6, .int (0 : Int32))] [4, 6, 3, 2, 1, 0] rfl (wk_clash_b35 C M g_fu x2 (-1 : Int32) (-1 : Int32) (-1 : Int32) (0 : Int32) z5 h)
    · refine g_iconst C dX6_clash_17 gk_iconst_m1 ?_
      exact g_iret C (fun _ => trivial) dX6_clash_18 h
theorem ct_clash (l : Launch) (x1 : Int32) (x2 : Int32) (z : mm_S) (r : Int32) (z' : mm_S) (h : mo_clash x1 x2 z = some (r, z')) : mm_MetV l yX6_clash cX6_clash 8 (some .int) 6 143 [.int x1, .int x2] z (.returned (some (.int r)), z') := by
  intro E hD
  exact mm_enter E hD rfl ⟨_, rfl⟩ (.ref E.2.2.1 :: [.int x1, .int x2]) (Nat.le_of_ble_eq_true rfl) (fun X C M => wk_clash C M x1 x2 z h)
def mo_who (x1 : Int32) (z : mm_S) : Option (Int32 × mm_S) := g_call (mo_isShip x1 z) (fun v2 z1 => if v2 = 0 then (some ((-1 : Int32), z1)) else (g_call (mo_whoOf x1 z1) (fun v4 z3 => some (v4, z3))))
theorem wk_who {X : gX} {E : mm_E} {r : Int32 × mm_S} (C : gC X cX6_who 2 (some .int) RX6 7 164) (M : mm_C X E) (x1 : Int32) (z : mm_S) (h : mo_who x1 z = some r) : gW X (mm_G E) (.returned (some (.int r.1)), r.2) z 0 [(0, .ref E.2.2.1), (1, .int x1)] [] := by
  unfold mo_who at h
  refine g_aload_n C dX6_who_0 rfl 0 rfl ?_
  refine g_iload_n C dX6_who_1 rfl 1 rfl ?_
  obtain ⟨v2, z1, e, h⟩ := g_callE h
  refine mm_callV C M 1 [.int x1] (st := []) (v := some (.int v2)) (z' := z1) (fun l => ct_isShip l x1 z v2 z1 e) (lw_V q2521 q2523 qs126 q178 q2524) rfl rfl rfl (Nat.le_of_ble_eq_true rfl) (Nat.le_of_ble_eq_true rfl) (Nat.le_of_ble_eq_true rfl) dX6_who_2 ?_
  refine gW_st (st' := [.int v2]) rfl ?_
  refine g_if_eq C dX6_who_5 rfl h (fun h => ?_) (fun h => ?_)
  · refine g_iconst C dX6_who_16 gk_iconst_m1 ?_
    exact g_iret C (fun _ => trivial) dX6_who_17 h
  · refine g_aload_n C dX6_who_8 rfl 0 rfl ?_
    refine g_iload_n C dX6_who_9 rfl 1 rfl ?_
    obtain ⟨v4, z3, e, h⟩ := g_callE h
    refine mm_callV C M 1 [.int x1] (st := []) (v := some (.int v4)) (z' := z3) (fun l => ct_whoOf l x1 z1 v4 z3 e) (lw_V q2633 q2635 qs146 q178 q2636) rfl rfl rfl (Nat.le_of_ble_eq_true rfl) (Nat.le_of_ble_eq_true rfl) (Nat.le_of_ble_eq_true rfl) dX6_who_10 ?_
    refine gW_st (st' := [.int v4]) rfl ?_
    refine g_goto C dX6_who_13 rfl ?_
    exact g_iret C (fun _ => trivial) dX6_who_17 h
theorem ct_who (l : Launch) (x1 : Int32) (z : mm_S) (r : Int32) (z' : mm_S) (h : mo_who x1 z = some (r, z')) : mm_MetV l yX6_who cX6_who 2 (some .int) 7 164 [.int x1] z (.returned (some (.int r)), z') := by
  intro E hD
  exact mm_enter E hD rfl ⟨_, rfl⟩ (.ref E.2.2.1 :: [.int x1]) (Nat.le_of_ble_eq_true rfl) (fun X C M => wk_who C M x1 z h)
def mo_isFor (x1 : Int32) (x2 : Int32) (z : mm_S) : Option (Int32 × mm_S) := mm_pI 60 (0 : Int32) z (fun z1 => g_call (mo_addSayings x1 x2 (0 : Int32) z1) (fun v3 z2 => g_call (mo_addBooks x2 z2) (fun _ z4 => if v3 = 0 then (some ((0 : Int32), z4)) else (g_call (mo_fit x2 z4) (fun v7 z6 => if v7 = 0 then (some ((0 : Int32), z6)) else (some ((1 : Int32), z6)))))))
theorem wk_isFor {X : gX} {E : mm_E} {r : Int32 × mm_S} (C : gC X cX6_isFor 4 (some .boolean) RX6 5 118) (M : mm_C X E) (x1 : Int32) (x2 : Int32) (z : mm_S) (h : mo_isFor x1 x2 z = some r) : gW X (mm_G E) (.returned (some (.int r.1)), r.2) z 0 [(0, .ref E.2.2.1), (1, .int x1), (2, .int x2)] [] := by
  unfold mo_isFor at h
  refine g_aload_n C dX6_isFor_0 rfl 0 rfl ?_
  refine g_iconst C dX6_isFor_1 gk_iconst_0 ?_
  refine mm_putI C M 60 (Nat.le_of_ble_eq_true rfl) (Nat.le_of_ble_eq_true rfl) q2063 rfl rfl rfl dX6_isFor_2 h (fun z1 h => ?_)
  refine g_aload_n C dX6_isFor_5 rfl 0 rfl ?_
  refine g_iload_n C dX6_isFor_6 rfl 1 rfl ?_
  refine g_iload_n C dX6_isFor_7 rfl 2 rfl ?_
  refine g_iconst C dX6_isFor_8 gk_iconst_0 ?_
  obtain ⟨v3, z2, e, h⟩ := g_callE h
  refine mm_callV C M 3 [.int x1, .int x2, .int (0 : Int32)] (st := []) (v := some (.int v3)) (z' := z2) (fun l => ct_addSayings l x1 x2 (0 : Int32) z1 v3 z2 e) (lw_V q2641 q2643 qs148 q178 q2644) rfl rfl rfl (Nat.le_of_ble_eq_true rfl) (Nat.le_of_ble_eq_true rfl) (Nat.le_of_ble_eq_true rfl) dX6_isFor_9 ?_
  refine gW_st (st' := [.int v3]) rfl ?_
  refine g_istore_n [(3, .int v3), (0, .ref E.2.2.1), (1, .int x1), (2, .int x2)] C dX6_isFor_12 rfl (Nat.le_of_ble_eq_true rfl) rfl ?_
  refine g_aload_n C dX6_isFor_13 rfl 1 rfl ?_
  refine g_iload_n C dX6_isFor_14 rfl 3 rfl ?_
  obtain ⟨u5, z4, e, h⟩ := g_callE h
  refine mm_callV C M 1 [.int x2] (st := []) (v := none) (z' := z4) (fun l => ct_addBooks l x2 z2 u5 z4 e) (lw_V q2558 q2560 qs133 q178 q2561) rfl rfl rfl (Nat.le_of_ble_eq_true rfl) (Nat.le_of_ble_eq_true rfl) (Nat.le_of_ble_eq_true rfl) dX6_isFor_15 ?_
  refine gW_st (st' := []) rfl ?_
  refine g_iload_n C dX6_isFor_18 rfl 0 rfl ?_
  refine g_if_eq C dX6_isFor_19 rfl h (fun h => ?_) (fun h => ?_)
  · refine g_iconst C dX6_isFor_34 gk_iconst_0 ?_
    exact g_zretc C (fun _ => trivial) dX6_isFor_35 (Or.inl rfl) h
  · refine g_aload_n C dX6_isFor_22 rfl 1 rfl ?_
    refine g_iload_n C dX6_isFor_23 rfl 3 rfl ?_
    obtain ⟨v7, z6, e, h⟩ := g_callE h
    refine mm_callV C M 1 [.int x2] (st := []) (v := some (.int v7)) (z' := z6) (fun l => ct_fit l x2 z4 v7 z6 e) (lw_V q2566 q2568 qs135 q178 q2569) rfl rfl rfl (Nat.le_of_ble_eq_true rfl) (Nat.le_of_ble_eq_true rfl) (Nat.le_of_ble_eq_true rfl) dX6_isFor_24 ?_
    refine gW_st (st' := [.int v7]) rfl ?_
    refine g_if_eq C dX6_isFor_27 rfl h (fun h => ?_) (fun h => ?_)
    · refine g_iconst C dX6_isFor_34 gk_iconst_0 ?_
      exact g_zretc C (fun _ => trivial) dX6_isFor_35 (Or.inl rfl) h
    · refine g_iconst C dX6_isFor_30 gk_iconst_1 ?_
      refine g_goto C dX6_isFor_31 rfl ?_
      exact g_zretc C (fun _ => trivial) dX6_isFor_35 (Or.inr rfl) h
theorem ct_isFor (l : Launch) (x1 : Int32) (x2 : Int32) (z : mm_S) (r : Int32) (z' : mm_S) (h : mo_isFor x1 x2 z = some (r, z')) : mm_MetV l yX6_isFor cX6_isFor 4 (some .boolean) 5 118 [.int x1, .int x2] z (.returned (some (.int r)), z') := by
  intro E hD
  exact mm_enter E hD rfl ⟨_, rfl⟩ (.ref E.2.2.1 :: [.int x1, .int x2]) (Nat.le_of_ble_eq_true rfl) (fun X C M => wk_isFor C M x1 x2 z h)
def mo_swap (x1 : Int32) (x2 : Int32) (z : mm_S) : Option (Int32 × mm_S) := g_call (mo_isShip x1 z) (fun v2 z1 => if v2 = 0 then (some ((-1 : Int32), z1)) else (g_call (mo_isShip x2 z1) (fun v4 z3 => if v4 = 0 then (some ((-1 : Int32), z3)) else (if x1 = x2 then (some ((-1 : Int32), z3)) else (g_call (mo_sayingsOf x1 z3) (fun v6 z5 => if v6 = 0 then (some ((-1 : Int32), z5)) else (g_call (mo_sayingsOf x2 z5) (fun v8 z7 => if v8 = 0 then (some ((-1 : Int32), z7)) else (g_call (mo_isFor x1 x2 z7) (fun v10 z9 => if v10 = 0 then (some ((0 : Int32), z9)) else (g_call (mo_isFor x2 x1 z9) (fun v12 z11 => if v12 = 0 then (some ((0 : Int32), z11)) else (some ((1 : Int32), z11))))))))))))))
theorem wk_swap {X : gX} {E : mm_E} {r : Int32 × mm_S} (C : gC X cX6_swap 3 (some .int) RX6 6 141) (M : mm_C X E) (x1 : Int32) (x2 : Int32) (z : mm_S) (h : mo_swap x1 x2 z = some r) : gW X (mm_G E) (.returned (some (.int r.1)), r.2) z 0 [(0, .ref E.2.2.1), (1, .int x1), (2, .int x2)] [] := by
  unfold mo_swap at h
  refine g_aload_n C dX6_swap_0 rfl 0 rfl ?_
  refine g_iload_n C dX6_swap_1 rfl 1 rfl ?_
  obtain ⟨v2, z1, e, h⟩ := g_callE h
  refine mm_callV C M 1 [.int x1] (st := []) (v := some (.int v2)) (z' := z1) (fun l => ct_isShip l x1 z v2 z1 e) (lw_V q2521 q2523 qs126 q178 q2524) rfl rfl rfl (Nat.le_of_ble_eq_true rfl) (Nat.le_of_ble_eq_true rfl) (Nat.le_of_ble_eq_true rfl) dX6_swap_2 ?_
  refine gW_st (st' := [.int v2]) rfl ?_
  refine g_if_eq C dX6_swap_5 rfl h (fun h => ?_) (fun h => ?_)
  · refine g_iconst C dX6_swap_37 gk_iconst_m1 ?_
    exact g_iret C (fun _ => trivial) dX6_swap_38 h
  · refine g_aload_n C dX6_swap_8 rfl 0 rfl ?_
    refine g_iload_n C dX6_swap_9 rfl 2 rfl ?_
    obtain ⟨v4, z3, e, h⟩ := g_callE h
    refine mm_callV C M 1 [.int x2] (st := []) (v := some (.int v4)) (z' := z3) (fun l => ct_isShip l x2 z1 v4 z3 e) (lw_V q2521 q2523 qs126 q178 q2524) rfl rfl rfl (Nat.le_of_ble_eq_true rfl) (Nat.le_of_ble_eq_true rfl) (Nat.le_of_ble_eq_true rfl) dX6_swap_10 ?_
    refine gW_st (st' := [.int v4]) rfl ?_
    refine g_if_eq C dX6_swap_13 rfl h (fun h => ?_) (fun h => ?_)
    · refine g_iconst C dX6_swap_37 gk_iconst_m1 ?_
      exact g_iret C (fun _ => trivial) dX6_swap_38 h
    · refine g_iload_n C dX6_swap_16 rfl 1 rfl ?_
      refine g_iload_n C dX6_swap_17 rfl 2 rfl ?_
      refine g_icmp_eq C dX6_swap_18 rfl h (fun h => ?_) (fun h => ?_)
      · refine g_iconst C dX6_swap_37 gk_iconst_m1 ?_
        exact g_iret C (fun _ => trivial) dX6_swap_38 h
      · refine g_aload_n C dX6_swap_21 rfl 0 rfl ?_
        refine g_iload_n C dX6_swap_22 rfl 1 rfl ?_
        obtain ⟨v6, z5, e, h⟩ := g_callE h
        refine mm_callV C M 1 [.int x1] (st := []) (v := some (.int v6)) (z' := z5) (fun l => ct_sayingsOf l x1 z3 v6 z5 e) (lw_V q2509 q2511 qs124 q178 q2512) rfl rfl rfl (Nat.le_of_ble_eq_true rfl) (Nat.le_of_ble_eq_true rfl) (Nat.le_of_ble_eq_true rfl) dX6_swap_23 ?_
        refine gW_st (st' := [.int v6]) rfl ?_
        refine g_if_eq C dX6_swap_26 rfl h (fun h => ?_) (fun h => ?_)
        · refine g_iconst C dX6_swap_37 gk_iconst_m1 ?_
          exact g_iret C (fun _ => trivial) dX6_swap_38 h
        · refine g_aload_n C dX6_swap_29 rfl 0 rfl ?_
          refine g_iload_n C dX6_swap_30 rfl 2 rfl ?_
          obtain ⟨v8, z7, e, h⟩ := g_callE h
          refine mm_callV C M 1 [.int x2] (st := []) (v := some (.int v8)) (z' := z7) (fun l => ct_sayingsOf l x2 z5 v8 z7 e) (lw_V q2509 q2511 qs124 q178 q2512) rfl rfl rfl (Nat.le_of_ble_eq_true rfl) (Nat.le_of_ble_eq_true rfl) (Nat.le_of_ble_eq_true rfl) dX6_swap_31 ?_
          refine gW_st (st' := [.int v8]) rfl ?_
          refine g_if_ne C dX6_swap_34 rfl h (fun h => ?_) (fun h => ?_)
          · refine g_aload_n C dX6_swap_39 rfl 0 rfl ?_
            refine g_iload_n C dX6_swap_40 rfl 1 rfl ?_
            refine g_iload_n C dX6_swap_41 rfl 2 rfl ?_
            obtain ⟨v10, z9, e, h⟩ := g_callE h
            refine mm_callV C M 2 [.int x1, .int x2] (st := []) (v := some (.int v10)) (z' := z9) (fun l => ct_isFor l x1 x2 z7 v10 z9 e) (lw_V q2693 q2695 qs156 q178 q2696) rfl rfl rfl (Nat.le_of_ble_eq_true rfl) (Nat.le_of_ble_eq_true rfl) (Nat.le_of_ble_eq_true rfl) dX6_swap_42 ?_
            refine gW_st (st' := [.int v10]) rfl ?_
            refine g_if_eq C dX6_swap_45 rfl h (fun h => ?_) (fun h => ?_)
            · refine g_iconst C dX6_swap_61 gk_iconst_0 ?_
              exact g_iret C (fun _ => trivial) dX6_swap_62 h
            · refine g_aload_n C dX6_swap_48 rfl 0 rfl ?_
              refine g_iload_n C dX6_swap_49 rfl 2 rfl ?_
              refine g_iload_n C dX6_swap_50 rfl 1 rfl ?_
              obtain ⟨v12, z11, e, h⟩ := g_callE h
              refine mm_callV C M 2 [.int x2, .int x1] (st := []) (v := some (.int v12)) (z' := z11) (fun l => ct_isFor l x2 x1 z9 v12 z11 e) (lw_V q2693 q2695 qs156 q178 q2696) rfl rfl rfl (Nat.le_of_ble_eq_true rfl) (Nat.le_of_ble_eq_true rfl) (Nat.le_of_ble_eq_true rfl) dX6_swap_51 ?_
              refine gW_st (st' := [.int v12]) rfl ?_
              refine g_if_eq C dX6_swap_54 rfl h (fun h => ?_) (fun h => ?_)
              · refine g_iconst C dX6_swap_61 gk_iconst_0 ?_
                exact g_iret C (fun _ => trivial) dX6_swap_62 h
              · refine g_iconst C dX6_swap_57 gk_iconst_1 ?_
                refine g_goto C dX6_swap_58 rfl ?_
                exact g_iret C (fun _ => trivial) dX6_swap_62 h
          · refine g_iconst C dX6_swap_37 gk_iconst_m1 ?_
            exact g_iret C (fun _ => trivial) dX6_swap_38 h
theorem ct_swap (l : Launch) (x1 : Int32) (x2 : Int32) (z : mm_S) (r : Int32) (z' : mm_S) (h : mo_swap x1 x2 z = some (r, z')) : mm_MetV l yX6_swap cX6_swap 3 (some .int) 6 141 [.int x1, .int x2] z (.returned (some (.int r)), z') := by
  intro E hD
  exact mm_enter E hD rfl ⟨_, rfl⟩ (.ref E.2.2.1 :: [.int x1, .int x2]) (Nat.le_of_ble_eq_true rfl) (fun X C M => wk_swap C M x1 x2 z h)
def mo_kinds_b52 (k15 : Int32 → Int32 → Int32 → mm_S → Option (Int32 × mm_S)) (x1 : Int32) (x3 : Int32) (s0 : Int32) (s1 : Int32) (z : mm_S) : Option (Int32 × mm_S) := k15 x1 (s0 + s1) (x3 + (1 : Int32)) z
theorem wk_kinds_b52 {X : gX} {E : mm_E} {r : Int32 × mm_S} (C : gC X cX6_kinds 4 (some .int) RX6 11 260) (M : mm_C X E) {k15 : Int32 → Int32 → Int32 → mm_S → Option (Int32 × mm_S)} (hk15 : ∀ (x1 : Int32) (x2 : Int32) (x3 : Int32) (z : mm_S), k15 x1 x2 x3 z = some r → gW X (mm_G E) (.returned (some (.int r.1)), r.2) z 15 [(0, .ref E.2.2.1), (1, .int x1), (2, .int x2), (3, .int x3)] []) (x1 : Int32) (x3 : Int32) (s0 : Int32) (s1 : Int32) (z : mm_S) (h : mo_kinds_b52 k15 x1 x3 s0 s1 z = some r) : gW X (mm_G E) (.returned (some (.int r.1)), r.2) z 52 [(0, .ref E.2.2.1), (1, .int x1), (3, .int x3)] [.int s1, .int s0] := by
  unfold mo_kinds_b52 at h
  refine g_iadd C dX6_kinds_52 ?_
  refine g_istore_n [(2, .int (s0 + s1)), (0, .ref E.2.2.1), (1, .int x1), (3, .int x3)] C dX6_kinds_53 rfl (Nat.le_of_ble_eq_true rfl) rfl ?_
  refine g_iinc [(3, .int (x3 + (1 : Int32))), (2, .int (s0 + s1)), (0, .ref E.2.2.1), (1, .int x1)] C dX6_kinds_54 (j := 3) rfl (gk_inc_1 _) (Nat.le_of_ble_eq_true rfl) rfl ?_
  refine g_goto C dX6_kinds_57 rfl ?_
  exact g_sub [(0, .ref E.2.2.1), (1, .int x1), (2, .int (s0 + s1)), (3, .int (x3 + (1 : Int32)))] [2, 3, 1, 0] rfl (hk15 x1 (s0 + s1) (x3 + (1 : Int32)) z h)
def mo_kinds_b51 (k15 : Int32 → Int32 → Int32 → mm_S → Option (Int32 × mm_S)) (x1 : Int32) (x3 : Int32) (s0 : Int32) (z : mm_S) : Option (Int32 × mm_S) := mo_kinds_b52 k15 x1 x3 s0 (0 : Int32) z
theorem wk_kinds_b51 {X : gX} {E : mm_E} {r : Int32 × mm_S} (C : gC X cX6_kinds 4 (some .int) RX6 11 260) (M : mm_C X E) {k15 : Int32 → Int32 → Int32 → mm_S → Option (Int32 × mm_S)} (hk15 : ∀ (x1 : Int32) (x2 : Int32) (x3 : Int32) (z : mm_S), k15 x1 x2 x3 z = some r → gW X (mm_G E) (.returned (some (.int r.1)), r.2) z 15 [(0, .ref E.2.2.1), (1, .int x1), (2, .int x2), (3, .int x3)] []) (x1 : Int32) (x3 : Int32) (s0 : Int32) (z : mm_S) (h : mo_kinds_b51 k15 x1 x3 s0 z = some r) : gW X (mm_G E) (.returned (some (.int r.1)), r.2) z 51 [(0, .ref E.2.2.1), (1, .int x1), (3, .int x3)] [.int s0] := by
  unfold mo_kinds_b51 at h
  refine g_iconst C dX6_kinds_51 gk_iconst_0 ?_
  exact wk_kinds_b52 C M hk15 x1 x3 s0 (0 : Int32) z h
def mo_kinds_b15 : Nat → Int32 → Int32 → Int32 → mm_S → Option (Int32 × mm_S)
  | 0, _, _, _, _ => none
  | n + 1, x1, x2, x3, z => mm_gI 12 z (fun v1 => mm_lI 19 v1 z (fun v2 => if v2 ≤ x3 then (some (x2, z)) else (g_call (mo_sayingsOf x3 z) (fun v4 z3 => if v4 ≤ 0 then (mo_kinds_b51 (mo_kinds_b15 n) x1 x3 x2 z3) else (g_call (mo_taleOf x3 (0 : Int32) z3) (fun v6 z5 => if v6 = x1 then (mo_kinds_b52 (mo_kinds_b15 n) x1 x3 x2 (1 : Int32) z5) else (mo_kinds_b51 (mo_kinds_b15 n) x1 x3 x2 z5)))))))
theorem wk_kinds_b15 {X : gX} {E : mm_E} {r : Int32 × mm_S} (C : gC X cX6_kinds 4 (some .int) RX6 11 260) (M : mm_C X E) : ∀ (n : Nat) (x1 : Int32) (x2 : Int32) (x3 : Int32) (z : mm_S), mo_kinds_b15 n x1 x2 x3 z = some r → gW X (mm_G E) (.returned (some (.int r.1)), r.2) z 15 [(0, .ref E.2.2.1), (1, .int x1), (2, .int x2), (3, .int x3)] [] := by
  intro n
  induction n with
  | zero =>
    intro x1 x2 x3 z h
    have h : (none : Option (Int32 × mm_S)) = some r := h
    cases h
  | succ n ih =>
    intro x1 x2 x3 z h
    rw [mo_kinds_b15] at h
    refine g_iload_n C dX6_kinds_15 rfl 3 rfl ?_
    refine g_aload_n C dX6_kinds_16 rfl 0 rfl ?_
    refine mm_getA C M 19 (Nat.le_of_ble_eq_true rfl) (Nat.le_of_ble_eq_true rfl) q2022 rfl dX6_kinds_17 ?_
    refine g_aload_n C dX6_kinds_20 rfl 0 rfl ?_
    refine mm_getI C M 12 (Nat.le_of_ble_eq_true rfl) (Nat.le_of_ble_eq_true rfl) q2015 rfl dX6_kinds_21 h (fun v1 h => ?_)
    refine mm_ldI C M 19 (Nat.le_of_ble_eq_true rfl) rfl dX6_kinds_24 h (fun v2 h => ?_)
    refine g_icmp_ge C dX6_kinds_25 rfl h (fun h => ?_) (fun h => ?_)
    · refine g_iload_n C dX6_kinds_60 rfl 2 rfl ?_
      exact g_iret C (fun _ => trivial) dX6_kinds_61 h
    · refine g_iload_n C dX6_kinds_28 rfl 2 rfl ?_
      refine g_aload_n C dX6_kinds_29 rfl 0 rfl ?_
      refine g_iload_n C dX6_kinds_30 rfl 3 rfl ?_
      obtain ⟨v4, z3, e, h⟩ := g_callE h
      refine mm_callV C M 1 [.int x3] (st := [.int x2]) (v := some (.int v4)) (z' := z3) (fun l => ct_sayingsOf l x3 z v4 z3 e) (lw_V q2509 q2511 qs124 q178 q2512) rfl rfl rfl (Nat.le_of_ble_eq_true rfl) (Nat.le_of_ble_eq_true rfl) (Nat.le_of_ble_eq_true rfl) dX6_kinds_31 ?_
      refine gW_st (st' := [.int v4, .int x2]) rfl ?_
      refine g_if_le C dX6_kinds_34 rfl h (fun h => ?_) (fun h => ?_)
      · exact g_sub [(0, .ref E.2.2.1), (1, .int x1), (3, .int x3)] [0, 1, 3] rfl (wk_kinds_b51 C M ih x1 x3 x2 z3 h)
      · refine g_aload_n C dX6_kinds_37 rfl 0 rfl ?_
        refine g_iload_n C dX6_kinds_38 rfl 3 rfl ?_
        refine g_iconst C dX6_kinds_39 gk_iconst_0 ?_
        obtain ⟨v6, z5, e, h⟩ := g_callE h
        refine mm_callV C M 2 [.int x3, .int (0 : Int32)] (st := [.int x2]) (v := some (.int v6)) (z' := z5) (fun l => ct_taleOf l x3 (0 : Int32) z3 v6 z5 e) (lw_V q2673 q2675 qs155 q178 q2676) rfl rfl rfl (Nat.le_of_ble_eq_true rfl) (Nat.le_of_ble_eq_true rfl) (Nat.le_of_ble_eq_true rfl) dX6_kinds_40 ?_
        refine gW_st (st' := [.int v6, .int x2]) rfl ?_
        refine g_iload_n C dX6_kinds_43 rfl 1 rfl ?_
        refine g_icmp_ne C dX6_kinds_44 rfl h (fun h => ?_) (fun h => ?_)
        · exact g_sub [(0, .ref E.2.2.1), (1, .int x1), (3, .int x3)] [0, 1, 3] rfl (wk_kinds_b51 C M ih x1 x3 x2 z5 h)
        · refine g_iconst C dX6_kinds_47 gk_iconst_1 ?_
          refine g_goto C dX6_kinds_48 rfl ?_
          exact g_sub [(0, .ref E.2.2.1), (1, .int x1), (3, .int x3)] [0, 1, 3] rfl (wk_kinds_b52 C M ih x1 x3 x2 (1 : Int32) z5 h)
def mo_kinds (x1 : Int32) (z : mm_S) : Option (Int32 × mm_S) := g_call (mo_is x1 (-1 : Int32) (4 : Int32) z) (fun v2 z1 => if v2 = 0 then (some ((-1 : Int32), z1)) else (mo_kinds_b15 g_fu x1 (0 : Int32) (0 : Int32) z1))
theorem wk_kinds {X : gX} {E : mm_E} {r : Int32 × mm_S} (C : gC X cX6_kinds 4 (some .int) RX6 11 260) (M : mm_C X E) (x1 : Int32) (z : mm_S) (h : mo_kinds x1 z = some r) : gW X (mm_G E) (.returned (some (.int r.1)), r.2) z 0 [(0, .ref E.2.2.1), (1, .int x1)] [] := by
  unfold mo_kinds at h
  refine g_iload_n C dX6_kinds_0 rfl 1 rfl ?_
  refine g_iconst C dX6_kinds_1 gk_iconst_m1 ?_
  refine g_iconst C dX6_kinds_2 gk_iconst_4 ?_
  obtain ⟨v2, z1, e, h⟩ := g_callE h
  refine mm_callS C M 3 [.int x1, .int (-1 : Int32), .int (4 : Int32)] (st := []) (v := some (.int v2)) (z' := z1) (fun l => ct_is l x1 (-1 : Int32) (4 : Int32) z v2 z1 e) (lw_S q2301 q2302 q178 q2303) rfl rfl rfl (Nat.le_of_ble_eq_true rfl) (Nat.le_of_ble_eq_true rfl) (Nat.le_of_ble_eq_true rfl) dX6_kinds_3 ?_
  refine gW_st (st' := [.int v2]) rfl ?_
  refine g_if_ne C dX6_kinds_6 rfl h (fun h => ?_) (fun h => ?_)
  · refine g_iconst C dX6_kinds_11 gk_iconst_0 ?_
    refine g_istore_n [(2, .int (0 : Int32)), (0, .ref E.2.2.1), (1, .int x1)] C dX6_kinds_12 rfl (Nat.le_of_ble_eq_true rfl) rfl ?_
    refine g_iconst C dX6_kinds_13 gk_iconst_0 ?_
    refine g_istore_n [(3, .int (0 : Int32)), (2, .int (0 : Int32)), (0, .ref E.2.2.1), (1, .int x1)] C dX6_kinds_14 rfl (Nat.le_of_ble_eq_true rfl) rfl ?_
    exact g_sub [(0, .ref E.2.2.1), (1, .int x1), (2, .int (0 : Int32)), (3, .int (0 : Int32))] [2, 3, 1, 0] rfl (wk_kinds_b15 C M g_fu x1 (0 : Int32) (0 : Int32) z1 h)
  · refine g_iconst C dX6_kinds_9 gk_iconst_m1 ?_
    exact g_iret C (fun _ => trivial) dX6_kinds_10 h
theorem ct_kinds (l : Launch) (x1 : Int32) (z : mm_S) (r : Int32) (z' : mm_S) (h : mo_kinds x1 z = some (r, z')) : mm_MetV l yX6_kinds cX6_kinds 4 (some .int) 11 260 [.int x1] z (.returned (some (.int r)), z') := by
  intro E hD
  exact mm_enter E hD rfl ⟨_, rfl⟩ (.ref E.2.2.1 :: [.int x1]) (Nat.le_of_ble_eq_true rfl) (fun X C M => wk_kinds C M x1 z h)
def mo_liesOf (x1 : Int32) (z : mm_S) : Option (Int32 × mm_S) := g_call (mo_keeps x1 z) (fun _ z1 => mm_gI 65 z1 (fun v3 => mm_gI 66 z1 (fun v4 => some ((v3 - v4), z1))))
theorem wk_liesOf {X : gX} {E : mm_E} {r : Int32 × mm_S} (C : gC X cX6_liesOf 2 (some .int) RX6 7 167) (M : mm_C X E) (x1 : Int32) (z : mm_S) (h : mo_liesOf x1 z = some r) : gW X (mm_G E) (.returned (some (.int r.1)), r.2) z 0 [(0, .ref E.2.2.1), (1, .int x1)] [] := by
  unfold mo_liesOf at h
  refine g_aload_n C dX6_liesOf_0 rfl 0 rfl ?_
  refine g_iload_n C dX6_liesOf_1 rfl 1 rfl ?_
  obtain ⟨u2, z1, e, h⟩ := g_callE h
  refine mm_callV C M 1 [.int x1] (st := []) (v := none) (z' := z1) (fun l => ct_keeps l x1 z u2 z1 e) (lw_V q2573 q2575 qs136 q178 q2576) rfl rfl rfl (Nat.le_of_ble_eq_true rfl) (Nat.le_of_ble_eq_true rfl) (Nat.le_of_ble_eq_true rfl) dX6_liesOf_2 ?_
  refine gW_st (st' := []) rfl ?_
  refine g_aload_n C dX6_liesOf_5 rfl 0 rfl ?_
  refine mm_getI C M 65 (Nat.le_of_ble_eq_true rfl) (Nat.le_of_ble_eq_true rfl) q2068 rfl dX6_liesOf_6 h (fun v3 h => ?_)
  refine g_aload_n C dX6_liesOf_9 rfl 0 rfl ?_
  refine mm_getI C M 66 (Nat.le_of_ble_eq_true rfl) (Nat.le_of_ble_eq_true rfl) q2069 rfl dX6_liesOf_10 h (fun v4 h => ?_)
  refine g_isub C dX6_liesOf_13 ?_
  exact g_iret C (fun _ => trivial) dX6_liesOf_14 h
theorem ct_liesOf (l : Launch) (x1 : Int32) (z : mm_S) (r : Int32) (z' : mm_S) (h : mo_liesOf x1 z = some (r, z')) : mm_MetV l yX6_liesOf cX6_liesOf 2 (some .int) 7 167 [.int x1] z (.returned (some (.int r)), z') := by
  intro E hD
  exact mm_enter E hD rfl ⟨_, rfl⟩ (.ref E.2.2.1 :: [.int x1]) (Nat.le_of_ble_eq_true rfl) (fun X C M => wk_liesOf C M x1 z h)
def mo_lies_b4 : Nat → Int32 → Int32 → mm_S → Option (Int32 × mm_S)
  | 0, _, _, _ => none
  | n + 1, x1, x2, z => mm_gI 12 z (fun v1 => mm_lI 19 v1 z (fun v2 => if v2 ≤ x2 then (some (x1, z)) else (g_call (mo_liesOf x2 z) (fun v4 z3 => (mo_lies_b4 n) (x1 + v4) (x2 + (1 : Int32)) z3))))
theorem wk_lies_b4 {X : gX} {E : mm_E} {r : Int32 × mm_S} (C : gC X cX6_lies 3 (some .int) RX6 8 188) (M : mm_C X E) : ∀ (n : Nat) (x1 : Int32) (x2 : Int32) (z : mm_S), mo_lies_b4 n x1 x2 z = some r → gW X (mm_G E) (.returned (some (.int r.1)), r.2) z 4 [(0, .ref E.2.2.1), (1, .int x1), (2, .int x2)] [] := by
  intro n
  induction n with
  | zero =>
    intro x1 x2 z h
    have h : (none : Option (Int32 × mm_S)) = some r := h
    cases h
  | succ n ih =>
    intro x1 x2 z h
    rw [mo_lies_b4] at h
    refine g_iload_n C dX6_lies_4 rfl 2 rfl ?_
    refine g_aload_n C dX6_lies_5 rfl 0 rfl ?_
    refine mm_getA C M 19 (Nat.le_of_ble_eq_true rfl) (Nat.le_of_ble_eq_true rfl) q2022 rfl dX6_lies_6 ?_
    refine g_aload_n C dX6_lies_9 rfl 0 rfl ?_
    refine mm_getI C M 12 (Nat.le_of_ble_eq_true rfl) (Nat.le_of_ble_eq_true rfl) q2015 rfl dX6_lies_10 h (fun v1 h => ?_)
    refine mm_ldI C M 19 (Nat.le_of_ble_eq_true rfl) rfl dX6_lies_13 h (fun v2 h => ?_)
    refine g_icmp_ge C dX6_lies_14 rfl h (fun h => ?_) (fun h => ?_)
    · refine g_iload_n C dX6_lies_31 rfl 1 rfl ?_
      exact g_iret C (fun _ => trivial) dX6_lies_32 h
    · refine g_iload_n C dX6_lies_17 rfl 1 rfl ?_
      refine g_aload_n C dX6_lies_18 rfl 0 rfl ?_
      refine g_iload_n C dX6_lies_19 rfl 2 rfl ?_
      obtain ⟨v4, z3, e, h⟩ := g_callE h
      refine mm_callV C M 1 [.int x2] (st := [.int x1]) (v := some (.int v4)) (z' := z3) (fun l => ct_liesOf l x2 z v4 z3 e) (lw_V q2705 q2707 qs157 q178 q2708) rfl rfl rfl (Nat.le_of_ble_eq_true rfl) (Nat.le_of_ble_eq_true rfl) (Nat.le_of_ble_eq_true rfl) dX6_lies_20 ?_
      refine gW_st (st' := [.int v4, .int x1]) rfl ?_
      refine g_iadd C dX6_lies_23 ?_
      refine g_istore_n [(1, .int (x1 + v4)), (0, .ref E.2.2.1), (2, .int x2)] C dX6_lies_24 rfl (Nat.le_of_ble_eq_true rfl) rfl ?_
      refine g_iinc [(2, .int (x2 + (1 : Int32))), (1, .int (x1 + v4)), (0, .ref E.2.2.1)] C dX6_lies_25 (j := 2) rfl (gk_inc_1 _) (Nat.le_of_ble_eq_true rfl) rfl ?_
      refine g_goto C dX6_lies_28 rfl ?_
      exact g_sub [(0, .ref E.2.2.1), (1, .int (x1 + v4)), (2, .int (x2 + (1 : Int32)))] [2, 1, 0] rfl (ih (x1 + v4) (x2 + (1 : Int32)) z3 h)
def mo_lies (z : mm_S) : Option (Int32 × mm_S) := mo_lies_b4 g_fu (0 : Int32) (0 : Int32) z
theorem wk_lies {X : gX} {E : mm_E} {r : Int32 × mm_S} (C : gC X cX6_lies 3 (some .int) RX6 8 188) (M : mm_C X E) (z : mm_S) (h : mo_lies z = some r) : gW X (mm_G E) (.returned (some (.int r.1)), r.2) z 0 [(0, .ref E.2.2.1)] [] := by
  unfold mo_lies at h
  refine g_iconst C dX6_lies_0 gk_iconst_0 ?_
  refine g_istore_n [(1, .int (0 : Int32)), (0, .ref E.2.2.1)] C dX6_lies_1 rfl (Nat.le_of_ble_eq_true rfl) rfl ?_
  refine g_iconst C dX6_lies_2 gk_iconst_0 ?_
  refine g_istore_n [(2, .int (0 : Int32)), (1, .int (0 : Int32)), (0, .ref E.2.2.1)] C dX6_lies_3 rfl (Nat.le_of_ble_eq_true rfl) rfl ?_
  exact g_sub [(0, .ref E.2.2.1), (1, .int (0 : Int32)), (2, .int (0 : Int32))] [2, 1, 0] rfl (wk_lies_b4 C M g_fu (0 : Int32) (0 : Int32) z h)
theorem ct_lies (l : Launch) (z : mm_S) (r : Int32) (z' : mm_S) (h : mo_lies z = some (r, z')) : mm_MetV l yX6_lies cX6_lies 3 (some .int) 8 188 [] z (.returned (some (.int r)), z') := by
  intro E hD
  exact mm_enter E hD rfl ⟨_, rfl⟩ (.ref E.2.2.1 :: []) (Nat.le_of_ble_eq_true rfl) (fun X C M => wk_lies C M z h)
def mo_changes_b111 (k6 : Int32 → Int32 → Int32 → Int32 → Int32 → mm_S → Option (Int32 × mm_S)) (x1 : Int32) (x2 : Int32) (x3 : Int32) (x4 : Int32) (x5 : Int32) (z : mm_S) : Option (Int32 × mm_S) := k6 x1 x2 x3 x4 (x5 + (1 : Int32)) z
theorem wk_changes_b111 {X : gX} {E : mm_E} {r : Int32 × mm_S} (C : gC X cX6_changes 6 (some .boolean) RX6 1 22) (M : mm_C X E) {k6 : Int32 → Int32 → Int32 → Int32 → Int32 → mm_S → Option (Int32 × mm_S)} (hk6 : ∀ (x1 : Int32) (x2 : Int32) (x3 : Int32) (x4 : Int32) (x5 : Int32) (z : mm_S), k6 x1 x2 x3 x4 x5 z = some r → gW X (mm_G E) (.returned (some (.int r.1)), r.2) z 6 [(0, .ref E.2.2.1), (1, .int x1), (2, .int x2), (3, .int x3), (4, .int x4), (5, .int x5)] []) (x1 : Int32) (x2 : Int32) (x3 : Int32) (x4 : Int32) (x5 : Int32) (z : mm_S) (h : mo_changes_b111 k6 x1 x2 x3 x4 x5 z = some r) : gW X (mm_G E) (.returned (some (.int r.1)), r.2) z 111 [(0, .ref E.2.2.1), (1, .int x1), (2, .int x2), (3, .int x3), (4, .int x4), (5, .int x5)] [] := by
  unfold mo_changes_b111 at h
  refine g_iinc [(5, .int (x5 + (1 : Int32))), (0, .ref E.2.2.1), (1, .int x1), (2, .int x2), (3, .int x3), (4, .int x4)] C dX6_changes_111 (j := 5) rfl (gk_inc_1 _) (Nat.le_of_ble_eq_true rfl) rfl ?_
  refine g_goto C dX6_changes_114 rfl ?_
  exact g_sub [(0, .ref E.2.2.1), (1, .int x1), (2, .int x2), (3, .int x3), (4, .int x4), (5, .int (x5 + (1 : Int32)))] [1, 2, 3, 4, 5, 0] rfl (hk6 x1 x2 x3 x4 (x5 + (1 : Int32)) z h)
def mo_changes_b43 (k6 : Int32 → Int32 → Int32 → Int32 → Int32 → mm_S → Option (Int32 × mm_S)) (x1 : Int32) (x2 : Int32) (x3 : Int32) (x4 : Int32) (x5 : Int32) (z : mm_S) : Option (Int32 × mm_S) := mm_lI 67 x5 z (fun v1 => if v1 = x2 then (some ((0 : Int32), z)) else (mm_lI 67 x5 z (fun v2 => if v2 ≤ x2 then (mo_changes_b111 k6 x1 x2 x3 x4 x5 z) else (if x4 = (-1 : Int32) then (some ((0 : Int32), z)) else (mm_lI 67 x4 z (fun v3 => g_call (mo_laden x1 v3 z) (fun v5 z4 => if v5 = x3 then (some ((0 : Int32), z4)) else (mm_lI 67 x5 z4 (fun v6 => g_call (mo_laden x1 v6 z4) (fun v8 z7 => if v8 = x3 then (some ((1 : Int32), z7)) else (some ((0 : Int32), z7))))))))))))
theorem wk_changes_b43 {X : gX} {E : mm_E} {r : Int32 × mm_S} (C : gC X cX6_changes 6 (some .boolean) RX6 1 22) (M : mm_C X E) {k6 : Int32 → Int32 → Int32 → Int32 → Int32 → mm_S → Option (Int32 × mm_S)} (hk6 : ∀ (x1 : Int32) (x2 : Int32) (x3 : Int32) (x4 : Int32) (x5 : Int32) (z : mm_S), k6 x1 x2 x3 x4 x5 z = some r → gW X (mm_G E) (.returned (some (.int r.1)), r.2) z 6 [(0, .ref E.2.2.1), (1, .int x1), (2, .int x2), (3, .int x3), (4, .int x4), (5, .int x5)] []) (x1 : Int32) (x2 : Int32) (x3 : Int32) (x4 : Int32) (x5 : Int32) (z : mm_S) (h : mo_changes_b43 k6 x1 x2 x3 x4 x5 z = some r) : gW X (mm_G E) (.returned (some (.int r.1)), r.2) z 43 [(0, .ref E.2.2.1), (1, .int x1), (2, .int x2), (3, .int x3), (4, .int x4), (5, .int x5)] [] := by
  unfold mo_changes_b43 at h
  refine g_aload_n C dX6_changes_43 rfl 0 rfl ?_
  refine mm_getA C M 67 (Nat.le_of_ble_eq_true rfl) (Nat.le_of_ble_eq_true rfl) q2070 rfl dX6_changes_44 ?_
  refine g_iload C dX6_changes_47 5 rfl ?_
  refine mm_ldI C M 67 (Nat.le_of_ble_eq_true rfl) rfl dX6_changes_49 h (fun v1 h => ?_)
  refine g_iload_n C dX6_changes_50 rfl 2 rfl ?_
  refine g_icmp_ne C dX6_changes_51 rfl h (fun h => ?_) (fun h => ?_)
  · refine g_aload_n C dX6_changes_56 rfl 0 rfl ?_
    refine mm_getA C M 67 (Nat.le_of_ble_eq_true rfl) (Nat.le_of_ble_eq_true rfl) q2070 rfl dX6_changes_57 ?_
    refine g_iload C dX6_changes_60 5 rfl ?_
    refine mm_ldI C M 67 (Nat.le_of_ble_eq_true rfl) rfl dX6_changes_62 h (fun v2 h => ?_)
    refine g_iload_n C dX6_changes_63 rfl 2 rfl ?_
    refine g_icmp_le C dX6_changes_64 rfl h (fun h => ?_) (fun h => ?_)
    · exact wk_changes_b111 C M hk6 x1 x2 x3 x4 x5 z h
    · refine g_iload C dX6_changes_67 4 rfl ?_
      refine g_iconst C dX6_changes_69 gk_iconst_m1 ?_
      refine g_icmp_eq C dX6_changes_70 rfl h (fun h => ?_) (fun h => ?_)
      · refine g_iconst C dX6_changes_109 gk_iconst_0 ?_
        exact g_zretc C (fun _ => trivial) dX6_changes_110 (Or.inl rfl) h
      · refine g_aload_n C dX6_changes_73 rfl 0 rfl ?_
        refine g_iload_n C dX6_changes_74 rfl 1 rfl ?_
        refine g_aload_n C dX6_changes_75 rfl 0 rfl ?_
        refine mm_getA C M 67 (Nat.le_of_ble_eq_true rfl) (Nat.le_of_ble_eq_true rfl) q2070 rfl dX6_changes_76 ?_
        refine g_iload C dX6_changes_79 4 rfl ?_
        refine mm_ldI C M 67 (Nat.le_of_ble_eq_true rfl) rfl dX6_changes_81 h (fun v3 h => ?_)
        obtain ⟨v5, z4, e, h⟩ := g_callE h
        refine mm_callV C M 2 [.int x1, .int v3] (st := []) (v := some (.int v5)) (z' := z4) (fun l => ct_laden l x1 v3 z v5 z4 e) (lw_V q2581 q2583 qs138 q178 q2584) rfl rfl rfl (Nat.le_of_ble_eq_true rfl) (Nat.le_of_ble_eq_true rfl) (Nat.le_of_ble_eq_true rfl) dX6_changes_82 ?_
        refine gW_st (st' := [.int v5]) rfl ?_
        refine g_iload_n C dX6_changes_85 rfl 3 rfl ?_
        refine g_icmp_eq C dX6_changes_86 rfl h (fun h => ?_) (fun h => ?_)
        · refine g_iconst C dX6_changes_109 gk_iconst_0 ?_
          exact g_zretc C (fun _ => trivial) dX6_changes_110 (Or.inl rfl) h
        · refine g_aload_n C dX6_changes_89 rfl 0 rfl ?_
          refine g_iload_n C dX6_changes_90 rfl 1 rfl ?_
          refine g_aload_n C dX6_changes_91 rfl 0 rfl ?_
          refine mm_getA C M 67 (Nat.le_of_ble_eq_true rfl) (Nat.le_of_ble_eq_true rfl) q2070 rfl dX6_changes_92 ?_
          refine g_iload C dX6_changes_95 5 rfl ?_
          refine mm_ldI C M 67 (Nat.le_of_ble_eq_true rfl) rfl dX6_changes_97 h (fun v6 h => ?_)
          obtain ⟨v8, z7, e, h⟩ := g_callE h
          refine mm_callV C M 2 [.int x1, .int v6] (st := []) (v := some (.int v8)) (z' := z7) (fun l => ct_laden l x1 v6 z4 v8 z7 e) (lw_V q2581 q2583 qs138 q178 q2584) rfl rfl rfl (Nat.le_of_ble_eq_true rfl) (Nat.le_of_ble_eq_true rfl) (Nat.le_of_ble_eq_true rfl) dX6_changes_98 ?_
          refine gW_st (st' := [.int v8]) rfl ?_
          refine g_iload_n C dX6_changes_101 rfl 3 rfl ?_
          refine g_icmp_ne C dX6_changes_102 rfl h (fun h => ?_) (fun h => ?_)
          · refine g_iconst C dX6_changes_109 gk_iconst_0 ?_
            exact g_zretc C (fun _ => trivial) dX6_changes_110 (Or.inl rfl) h
          · refine g_iconst C dX6_changes_105 gk_iconst_1 ?_
            refine g_goto C dX6_changes_106 rfl ?_
            exact g_zretc C (fun _ => trivial) dX6_changes_110 (Or.inr rfl) h
  · refine g_iconst C dX6_changes_54 gk_iconst_0 ?_
    exact g_zretc C (fun _ => trivial) dX6_changes_55 (Or.inl rfl) h
def mo_changes_b6 : Nat → Int32 → Int32 → Int32 → Int32 → Int32 → mm_S → Option (Int32 × mm_S)
  | 0, _, _, _, _, _, _ => none
  | n + 1, x1, x2, x3, x4, x5, z => mm_gI 65 z (fun v1 => if v1 ≤ x5 then (some ((0 : Int32), z)) else (mm_lI 69 x5 z (fun v2 => if v2 = 0 then (mo_changes_b111 (mo_changes_b6 n) x1 x2 x3 x4 x5 z) else (mm_lI 67 x5 z (fun v3 => if x2 ≤ v3 then (mo_changes_b43 (mo_changes_b6 n) x1 x2 x3 x4 x5 z) else (mo_changes_b43 (mo_changes_b6 n) x1 x2 x3 x5 x5 z))))))
theorem wk_changes_b6 {X : gX} {E : mm_E} {r : Int32 × mm_S} (C : gC X cX6_changes 6 (some .boolean) RX6 1 22) (M : mm_C X E) : ∀ (n : Nat) (x1 : Int32) (x2 : Int32) (x3 : Int32) (x4 : Int32) (x5 : Int32) (z : mm_S), mo_changes_b6 n x1 x2 x3 x4 x5 z = some r → gW X (mm_G E) (.returned (some (.int r.1)), r.2) z 6 [(0, .ref E.2.2.1), (1, .int x1), (2, .int x2), (3, .int x3), (4, .int x4), (5, .int x5)] [] := by
  intro n
  induction n with
  | zero =>
    intro x1 x2 x3 x4 x5 z h
    have h : (none : Option (Int32 × mm_S)) = some r := h
    cases h
  | succ n ih =>
    intro x1 x2 x3 x4 x5 z h
    rw [mo_changes_b6] at h
    refine g_iload C dX6_changes_6 5 rfl ?_
    refine g_aload_n C dX6_changes_8 rfl 0 rfl ?_
    refine mm_getI C M 65 (Nat.le_of_ble_eq_true rfl) (Nat.le_of_ble_eq_true rfl) q2068 rfl dX6_changes_9 h (fun v1 h => ?_)
    refine g_icmp_ge C dX6_changes_12 rfl h (fun h => ?_) (fun h => ?_)
    · refine g_iconst C dX6_changes_117 gk_iconst_0 ?_
      exact g_zretc C (fun _ => trivial) dX6_changes_118 (Or.inl rfl) h
    · refine g_aload_n C dX6_changes_15 rfl 0 rfl ?_
      refine mm_getA C M 69 (Nat.le_of_ble_eq_true rfl) (Nat.le_of_ble_eq_true rfl) q2072 rfl dX6_changes_16 ?_
      refine g_iload C dX6_changes_19 5 rfl ?_
      refine mm_ldZ C M 69 (Nat.le_of_ble_eq_true rfl) rfl dX6_changes_21 h (fun v2 h => ?_)
      refine g_if_ne C dX6_changes_22 rfl h (fun h => ?_) (fun h => ?_)
      · refine g_aload_n C dX6_changes_28 rfl 0 rfl ?_
        refine mm_getA C M 67 (Nat.le_of_ble_eq_true rfl) (Nat.le_of_ble_eq_true rfl) q2070 rfl dX6_changes_29 ?_
        refine g_iload C dX6_changes_32 5 rfl ?_
        refine mm_ldI C M 67 (Nat.le_of_ble_eq_true rfl) rfl dX6_changes_34 h (fun v3 h => ?_)
        refine g_iload_n C dX6_changes_35 rfl 2 rfl ?_
        refine g_icmp_ge C dX6_changes_36 rfl h (fun h => ?_) (fun h => ?_)
        · exact wk_changes_b43 C M ih x1 x2 x3 x4 x5 z h
        · refine g_iload C dX6_changes_39 5 rfl ?_
          refine g_istore [(4, .int x5), (0, .ref E.2.2.1), (1, .int x1), (2, .int x2), (3, .int x3), (5, .int x5)] C dX6_changes_41 (Nat.le_of_ble_eq_true rfl) rfl ?_
          exact g_sub [(0, .ref E.2.2.1), (1, .int x1), (2, .int x2), (3, .int x3), (4, .int x5), (5, .int x5)] [1, 2, 3, 4, 0, 5] rfl (wk_changes_b43 C M ih x1 x2 x3 x5 x5 z h)
      · refine g_goto C dX6_changes_25 rfl ?_
        exact wk_changes_b111 C M ih x1 x2 x3 x4 x5 z h
def mo_changes (x1 : Int32) (x2 : Int32) (x3 : Int32) (z : mm_S) : Option (Int32 × mm_S) := mo_changes_b6 g_fu x1 x2 x3 (-1 : Int32) (0 : Int32) z
theorem wk_changes {X : gX} {E : mm_E} {r : Int32 × mm_S} (C : gC X cX6_changes 6 (some .boolean) RX6 1 22) (M : mm_C X E) (x1 : Int32) (x2 : Int32) (x3 : Int32) (z : mm_S) (h : mo_changes x1 x2 x3 z = some r) : gW X (mm_G E) (.returned (some (.int r.1)), r.2) z 0 [(0, .ref E.2.2.1), (1, .int x1), (2, .int x2), (3, .int x3)] [] := by
  unfold mo_changes at h
  refine g_iconst C dX6_changes_0 gk_iconst_m1 ?_
  refine g_istore [(4, .int (-1 : Int32)), (0, .ref E.2.2.1), (1, .int x1), (2, .int x2), (3, .int x3)] C dX6_changes_1 (Nat.le_of_ble_eq_true rfl) rfl ?_
  refine g_iconst C dX6_changes_3 gk_iconst_0 ?_
  refine g_istore [(5, .int (0 : Int32)), (4, .int (-1 : Int32)), (0, .ref E.2.2.1), (1, .int x1), (2, .int x2), (3, .int x3)] C dX6_changes_4 (Nat.le_of_ble_eq_true rfl) rfl ?_
  exact g_sub [(0, .ref E.2.2.1), (1, .int x1), (2, .int x2), (3, .int x3), (4, .int (-1 : Int32)), (5, .int (0 : Int32))] [2, 3, 4, 5, 1, 0] rfl (wk_changes_b6 C M g_fu x1 x2 x3 (-1 : Int32) (0 : Int32) z h)
theorem ct_changes (l : Launch) (x1 : Int32) (x2 : Int32) (x3 : Int32) (z : mm_S) (r : Int32) (z' : mm_S) (h : mo_changes x1 x2 x3 z = some (r, z')) : mm_MetV l yX6_changes cX6_changes 6 (some .boolean) 1 22 [.int x1, .int x2, .int x3] z (.returned (some (.int r)), z') := by
  intro E hD
  exact mm_enter E hD rfl ⟨_, rfl⟩ (.ref E.2.2.1 :: [.int x1, .int x2, .int x3]) (Nat.le_of_ble_eq_true rfl) (fun X C M => wk_changes C M x1 x2 x3 z h)
def mo_met_b268 (k144 : Int32 → Int32 → Int32 → Int32 → Int32 → Int32 → mm_S → Option (Int32 × mm_S)) (x2 : Int32) (x3 : Int32) (x4 : Int32) (x5 : Int32) (x6 : Int32) (x7 : Int32) (z : mm_S) : Option (Int32 × mm_S) := k144 x2 x3 x4 x5 x6 (x7 + (1 : Int32)) z
theorem wk_met_b268 {X : gX} {E : mm_E} {r : Int32 × mm_S} (C : gC X cX6_met 10 (some .int) RX6 8 190) (M : mm_C X E) {k144 : Int32 → Int32 → Int32 → Int32 → Int32 → Int32 → mm_S → Option (Int32 × mm_S)} (hk144 : ∀ (x2 : Int32) (x3 : Int32) (x4 : Int32) (x5 : Int32) (x6 : Int32) (x7 : Int32) (z : mm_S), k144 x2 x3 x4 x5 x6 x7 z = some r → gW X (mm_G E) (.returned (some (.int r.1)), r.2) z 144 [(0, .ref E.2.2.1), (2, .int x2), (3, .int x3), (4, .int x4), (5, .int x5), (6, .int x6), (7, .int x7)] []) (x2 : Int32) (x3 : Int32) (x4 : Int32) (x5 : Int32) (x6 : Int32) (x7 : Int32) (z : mm_S) (h : mo_met_b268 k144 x2 x3 x4 x5 x6 x7 z = some r) : gW X (mm_G E) (.returned (some (.int r.1)), r.2) z 268 [(0, .ref E.2.2.1), (2, .int x2), (3, .int x3), (4, .int x4), (5, .int x5), (6, .int x6), (7, .int x7)] [] := by
  unfold mo_met_b268 at h
  refine g_iinc [(7, .int (x7 + (1 : Int32))), (0, .ref E.2.2.1), (2, .int x2), (3, .int x3), (4, .int x4), (5, .int x5), (6, .int x6)] C dX6_met_268 (j := 6) rfl (gk_inc_1 _) (Nat.le_of_ble_eq_true rfl) rfl ?_
  refine g_goto C dX6_met_271 rfl ?_
  exact g_sub [(0, .ref E.2.2.1), (2, .int x2), (3, .int x3), (4, .int x4), (5, .int x5), (6, .int x6), (7, .int (x7 + (1 : Int32)))] [1, 2, 3, 4, 5, 6, 0] rfl (hk144 x2 x3 x4 x5 x6 (x7 + (1 : Int32)) z h)
def mo_met_b266 (k144 : Int32 → Int32 → Int32 → Int32 → Int32 → Int32 → mm_S → Option (Int32 × mm_S)) (x2 : Int32) (x3 : Int32) (x4 : Int32) (x6 : Int32) (x7 : Int32) (s0 : Int32) (z : mm_S) : Option (Int32 × mm_S) := mo_met_b268 k144 x2 x3 x4 s0 x6 x7 z
theorem wk_met_b266 {X : gX} {E : mm_E} {r : Int32 × mm_S} (C : gC X cX6_met 10 (some .int) RX6 8 190) (M : mm_C X E) {k144 : Int32 → Int32 → Int32 → Int32 → Int32 → Int32 → mm_S → Option (Int32 × mm_S)} (hk144 : ∀ (x2 : Int32) (x3 : Int32) (x4 : Int32) (x5 : Int32) (x6 : Int32) (x7 : Int32) (z : mm_S), k144 x2 x3 x4 x5 x6 x7 z = some r → gW X (mm_G E) (.returned (some (.int r.1)), r.2) z 144 [(0, .ref E.2.2.1), (2, .int x2), (3, .int x3), (4, .int x4), (5, .int x5), (6, .int x6), (7, .int x7)] []) (x2 : Int32) (x3 : Int32) (x4 : Int32) (x6 : Int32) (x7 : Int32) (s0 : Int32) (z : mm_S) (h : mo_met_b266 k144 x2 x3 x4 x6 x7 s0 z = some r) : gW X (mm_G E) (.returned (some (.int r.1)), r.2) z 266 [(0, .ref E.2.2.1), (2, .int x2), (3, .int x3), (4, .int x4), (6, .int x6), (7, .int x7)] [.int s0] := by
  unfold mo_met_b266 at h
  refine g_istore [(5, .int s0), (0, .ref E.2.2.1), (2, .int x2), (3, .int x3), (4, .int x4), (6, .int x6), (7, .int x7)] C dX6_met_266 (Nat.le_of_ble_eq_true rfl) rfl ?_
  exact g_sub [(0, .ref E.2.2.1), (2, .int x2), (3, .int x3), (4, .int x4), (5, .int s0), (6, .int x6), (7, .int x7)] [1, 2, 3, 4, 0, 5, 6] rfl (wk_met_b268 C M hk144 x2 x3 x4 s0 x6 x7 z h)
def mo_met_b226 (k144 : Int32 → Int32 → Int32 → Int32 → Int32 → Int32 → mm_S → Option (Int32 × mm_S)) (k181 : Int32 → Int32 → Int32 → Int32 → Int32 → Int32 → Int32 → Int32 → mm_S → Option (Int32 × mm_S)) (x2 : Int32) (x3 : Int32) (x4 : Int32) (x5 : Int32) (x6 : Int32) (x7 : Int32) (x9 : Int32) (s0 : Int32) (s1 : Int32) (z : mm_S) : Option (Int32 × mm_S) := k181 x2 x3 x4 x5 x6 x7 (s0 + s1) (x9 + (1 : Int32)) z
theorem wk_met_b226 {X : gX} {E : mm_E} {r : Int32 × mm_S} (C : gC X cX6_met 10 (some .int) RX6 8 190) (M : mm_C X E) {k144 : Int32 → Int32 → Int32 → Int32 → Int32 → Int32 → mm_S → Option (Int32 × mm_S)} (hk144 : ∀ (x2 : Int32) (x3 : Int32) (x4 : Int32) (x5 : Int32) (x6 : Int32) (x7 : Int32) (z : mm_S), k144 x2 x3 x4 x5 x6 x7 z = some r → gW X (mm_G E) (.returned (some (.int r.1)), r.2) z 144 [(0, .ref E.2.2.1), (2, .int x2), (3, .int x3), (4, .int x4), (5, .int x5), (6, .int x6), (7, .int x7)] []) {k181 : Int32 → Int32 → Int32 → Int32 → Int32 → Int32 → Int32 → Int32 → mm_S → Option (Int32 × mm_S)} (hk181 : ∀ (x2 : Int32) (x3 : Int32) (x4 : Int32) (x5 : Int32) (x6 : Int32) (x7 : Int32) (x8 : Int32) (x9 : Int32) (z : mm_S), k181 x2 x3 x4 x5 x6 x7 x8 x9 z = some r → gW X (mm_G E) (.returned (some (.int r.1)), r.2) z 181 [(0, .ref E.2.2.1), (2, .int x2), (3, .int x3), (4, .int x4), (5, .int x5), (6, .int x6), (7, .int x7), (8, .int x8), (9, .int x9)] []) (x2 : Int32) (x3 : Int32) (x4 : Int32) (x5 : Int32) (x6 : Int32) (x7 : Int32) (x9 : Int32) (s0 : Int32) (s1 : Int32) (z : mm_S) (h : mo_met_b226 k144 k181 x2 x3 x4 x5 x6 x7 x9 s0 s1 z = some r) : gW X (mm_G E) (.returned (some (.int r.1)), r.2) z 226 [(0, .ref E.2.2.1), (2, .int x2), (3, .int x3), (4, .int x4), (5, .int x5), (6, .int x6), (7, .int x7), (9, .int x9)] [.int s1, .int s0] := by
  unfold mo_met_b226 at h
  refine g_iadd C dX6_met_226 ?_
  refine g_istore [(8, .int (s0 + s1)), (0, .ref E.2.2.1), (2, .int x2), (3, .int x3), (4, .int x4), (5, .int x5), (6, .int x6), (7, .int x7), (9, .int x9)] C dX6_met_227 (Nat.le_of_ble_eq_true rfl) rfl ?_
  refine g_iinc [(9, .int (x9 + (1 : Int32))), (8, .int (s0 + s1)), (0, .ref E.2.2.1), (2, .int x2), (3, .int x3), (4, .int x4), (5, .int x5), (6, .int x6), (7, .int x7)] C dX6_met_229 (j := 8) rfl (gk_inc_1 _) (Nat.le_of_ble_eq_true rfl) rfl ?_
  refine g_goto C dX6_met_232 rfl ?_
  exact g_sub [(0, .ref E.2.2.1), (2, .int x2), (3, .int x3), (4, .int x4), (5, .int x5), (6, .int x6), (7, .int x7), (8, .int (s0 + s1)), (9, .int (x9 + (1 : Int32)))] [2, 3, 4, 5, 6, 7, 8, 1, 0] rfl (hk181 x2 x3 x4 x5 x6 x7 (s0 + s1) (x9 + (1 : Int32)) z h)
def mo_met_b225 (k144 : Int32 → Int32 → Int32 → Int32 → Int32 → Int32 → mm_S → Option (Int32 × mm_S)) (k181 : Int32 → Int32 → Int32 → Int32 → Int32 → Int32 → Int32 → Int32 → mm_S → Option (Int32 × mm_S)) (x2 : Int32) (x3 : Int32) (x4 : Int32) (x5 : Int32) (x6 : Int32) (x7 : Int32) (x9 : Int32) (s0 : Int32) (z : mm_S) : Option (Int32 × mm_S) := mo_met_b226 k144 k181 x2 x3 x4 x5 x6 x7 x9 s0 (0 : Int32) z
theorem wk_met_b225 {X : gX} {E : mm_E} {r : Int32 × mm_S} (C : gC X cX6_met 10 (some .int) RX6 8 190) (M : mm_C X E) {k144 : Int32 → Int32 → Int32 → Int32 → Int32 → Int32 → mm_S → Option (Int32 × mm_S)} (hk144 : ∀ (x2 : Int32) (x3 : Int32) (x4 : Int32) (x5 : Int32) (x6 : Int32) (x7 : Int32) (z : mm_S), k144 x2 x3 x4 x5 x6 x7 z = some r → gW X (mm_G E) (.returned (some (.int r.1)), r.2) z 144 [(0, .ref E.2.2.1), (2, .int x2), (3, .int x3), (4, .int x4), (5, .int x5), (6, .int x6), (7, .int x7)] []) {k181 : Int32 → Int32 → Int32 → Int32 → Int32 → Int32 → Int32 → Int32 → mm_S → Option (Int32 × mm_S)} (hk181 : ∀ (x2 : Int32) (x3 : Int32) (x4 : Int32) (x5 : Int32) (x6 : Int32) (x7 : Int32) (x8 : Int32) (x9 : Int32) (z : mm_S), k181 x2 x3 x4 x5 x6 x7 x8 x9 z = some r → gW X (mm_G E) (.returned (some (.int r.1)), r.2) z 181 [(0, .ref E.2.2.1), (2, .int x2), (3, .int x3), (4, .int x4), (5, .int x5), (6, .int x6), (7, .int x7), (8, .int x8), (9, .int x9)] []) (x2 : Int32) (x3 : Int32) (x4 : Int32) (x5 : Int32) (x6 : Int32) (x7 : Int32) (x9 : Int32) (s0 : Int32) (z : mm_S) (h : mo_met_b225 k144 k181 x2 x3 x4 x5 x6 x7 x9 s0 z = some r) : gW X (mm_G E) (.returned (some (.int r.1)), r.2) z 225 [(0, .ref E.2.2.1), (2, .int x2), (3, .int x3), (4, .int x4), (5, .int x5), (6, .int x6), (7, .int x7), (9, .int x9)] [.int s0] := by
  unfold mo_met_b225 at h
  refine g_iconst C dX6_met_225 gk_iconst_0 ?_
  exact wk_met_b226 C M hk144 hk181 x2 x3 x4 x5 x6 x7 x9 s0 (0 : Int32) z h
def mo_met_b181 (k144 : Int32 → Int32 → Int32 → Int32 → Int32 → Int32 → mm_S → Option (Int32 × mm_S)) : Nat → Int32 → Int32 → Int32 → Int32 → Int32 → Int32 → Int32 → Int32 → mm_S → Option (Int32 × mm_S)
  | 0, _, _, _, _, _, _, _, _, _ => none
  | n + 1, x2, x3, x4, x5, x6, x7, x8, x9, z => g_call (mo_cells z) (fun v2 z1 => if v2 ≤ x9 then (if x8 = 0 then (mo_met_b268 k144 x2 x3 x4 x5 x6 x7 z1) else (if x5 = (-1 : Int32) then (mo_met_b266 k144 x2 x3 (x4 + (1 : Int32)) (x6 + x8) x7 x7 z1) else (mo_met_b266 k144 x2 x3 (x4 + (1 : Int32)) (x6 + x8) x7 x5 z1))) else (mm_lI 76 (((256 : Int32) * x7) + x9) z1 (fun v3 => if v3 = 0 then (mo_met_b225 k144 (mo_met_b181 k144 n) x2 x3 x4 x5 x6 x7 x9 x8 z1) else (g_call (mo_mayBe x2 x9 x7 z1) (fun v5 z4 => if v5 = 0 then (mo_met_b225 k144 (mo_met_b181 k144 n) x2 x3 x4 x5 x6 x7 x9 x8 z4) else (mo_met_b226 k144 (mo_met_b181 k144 n) x2 x3 x4 x5 x6 x7 x9 x8 (1 : Int32) z4))))))
theorem wk_met_b181 {X : gX} {E : mm_E} {r : Int32 × mm_S} (C : gC X cX6_met 10 (some .int) RX6 8 190) (M : mm_C X E) {k144 : Int32 → Int32 → Int32 → Int32 → Int32 → Int32 → mm_S → Option (Int32 × mm_S)} (hk144 : ∀ (x2 : Int32) (x3 : Int32) (x4 : Int32) (x5 : Int32) (x6 : Int32) (x7 : Int32) (z : mm_S), k144 x2 x3 x4 x5 x6 x7 z = some r → gW X (mm_G E) (.returned (some (.int r.1)), r.2) z 144 [(0, .ref E.2.2.1), (2, .int x2), (3, .int x3), (4, .int x4), (5, .int x5), (6, .int x6), (7, .int x7)] []) : ∀ (n : Nat) (x2 : Int32) (x3 : Int32) (x4 : Int32) (x5 : Int32) (x6 : Int32) (x7 : Int32) (x8 : Int32) (x9 : Int32) (z : mm_S), mo_met_b181 k144 n x2 x3 x4 x5 x6 x7 x8 x9 z = some r → gW X (mm_G E) (.returned (some (.int r.1)), r.2) z 181 [(0, .ref E.2.2.1), (2, .int x2), (3, .int x3), (4, .int x4), (5, .int x5), (6, .int x6), (7, .int x7), (8, .int x8), (9, .int x9)] [] := by
  intro n
  induction n with
  | zero =>
    intro x2 x3 x4 x5 x6 x7 x8 x9 z h
    have h : (none : Option (Int32 × mm_S)) = some r := h
    cases h
  | succ n ih =>
    intro x2 x3 x4 x5 x6 x7 x8 x9 z h
    rw [mo_met_b181] at h
    refine g_iload C dX6_met_181 8 rfl ?_
    refine g_aload_n C dX6_met_183 rfl 0 rfl ?_
    obtain ⟨v2, z1, e, h⟩ := g_callE h
    refine mm_callV C M 0 [] (st := [.int x9]) (v := some (.int v2)) (z' := z1) (fun l => ct_cells l z v2 z1 e) (lw_V q2442 q2444 qs115 q178 q2445) rfl rfl rfl (Nat.le_of_ble_eq_true rfl) (Nat.le_of_ble_eq_true rfl) (Nat.le_of_ble_eq_true rfl) dX6_met_184 ?_
    refine gW_st (st' := [.int v2, .int x9]) rfl ?_
    refine g_icmp_ge C dX6_met_187 rfl h (fun h => ?_) (fun h => ?_)
    · refine g_iload C dX6_met_235 7 rfl ?_
      refine g_if_ne C dX6_met_237 rfl h (fun h => ?_) (fun h => ?_)
      · refine g_iinc [(4, .int (x4 + (1 : Int32))), (0, .ref E.2.2.1), (2, .int x2), (3, .int x3), (5, .int x5), (6, .int x6), (7, .int x7), (8, .int x8), (9, .int x9)] C dX6_met_243 (j := 3) rfl (gk_inc_1 _) (Nat.le_of_ble_eq_true rfl) rfl ?_
        refine g_iload C dX6_met_246 5 rfl ?_
        refine g_iload C dX6_met_248 7 rfl ?_
        refine g_iadd C dX6_met_250 ?_
        refine g_istore [(6, .int (x6 + x8)), (4, .int (x4 + (1 : Int32))), (0, .ref E.2.2.1), (2, .int x2), (3, .int x3), (5, .int x5), (7, .int x7), (8, .int x8), (9, .int x9)] C dX6_met_251 (Nat.le_of_ble_eq_true rfl) rfl ?_
        refine g_iload C dX6_met_253 5 rfl ?_
        refine g_iconst C dX6_met_255 gk_iconst_m1 ?_
        refine g_icmp_ne C dX6_met_256 rfl h (fun h => ?_) (fun h => ?_)
        · refine g_iload C dX6_met_264 5 rfl ?_
          exact g_sub [(0, .ref E.2.2.1), (2, .int x2), (3, .int x3), (4, .int (x4 + (1 : Int32))), (6, .int (x6 + x8)), (7, .int x7)] [2, 3, 4, 1, 0, 6] rfl (wk_met_b266 C M hk144 x2 x3 (x4 + (1 : Int32)) (x6 + x8) x7 x5 z1 h)
        · refine g_iload C dX6_met_259 6 rfl ?_
          refine g_goto C dX6_met_261 rfl ?_
          exact g_sub [(0, .ref E.2.2.1), (2, .int x2), (3, .int x3), (4, .int (x4 + (1 : Int32))), (6, .int (x6 + x8)), (7, .int x7)] [2, 3, 4, 1, 0, 6] rfl (wk_met_b266 C M hk144 x2 x3 (x4 + (1 : Int32)) (x6 + x8) x7 x7 z1 h)
      · refine g_goto C dX6_met_240 rfl ?_
        exact g_sub [(0, .ref E.2.2.1), (2, .int x2), (3, .int x3), (4, .int x4), (5, .int x5), (6, .int x6), (7, .int x7)] [0, 1, 2, 3, 4, 5, 6] rfl (wk_met_b268 C M hk144 x2 x3 x4 x5 x6 x7 z1 h)
    · refine g_iload C dX6_met_190 7 rfl ?_
      refine g_aload_n C dX6_met_192 rfl 0 rfl ?_
      refine mm_getA C M 76 (Nat.le_of_ble_eq_true rfl) (Nat.le_of_ble_eq_true rfl) q2079 rfl dX6_met_193 ?_
      refine g_sipush C dX6_met_196 gk_sipush_256 ?_
      refine g_iload C dX6_met_199 6 rfl ?_
      refine g_imul C dX6_met_201 ?_
      refine g_iload C dX6_met_202 8 rfl ?_
      refine g_iadd C dX6_met_204 ?_
      refine mm_ldZ C M 76 (Nat.le_of_ble_eq_true rfl) rfl dX6_met_205 h (fun v3 h => ?_)
      refine g_if_eq C dX6_met_206 rfl h (fun h => ?_) (fun h => ?_)
      · exact g_sub [(0, .ref E.2.2.1), (2, .int x2), (3, .int x3), (4, .int x4), (5, .int x5), (6, .int x6), (7, .int x7), (9, .int x9)] [0, 1, 2, 3, 4, 5, 6, 8] rfl (wk_met_b225 C M hk144 ih x2 x3 x4 x5 x6 x7 x9 x8 z1 h)
      · refine g_aload_n C dX6_met_209 rfl 0 rfl ?_
        refine g_iload_n C dX6_met_210 rfl 1 rfl ?_
        refine g_iload C dX6_met_211 8 rfl ?_
        refine g_iload C dX6_met_213 6 rfl ?_
        obtain ⟨v5, z4, e, h⟩ := g_callE h
        refine mm_callV C M 3 [.int x2, .int x9, .int x7] (st := [.int x8]) (v := some (.int v5)) (z' := z4) (fun l => ct_mayBe l x2 x9 x7 z1 v5 z4 e) (lw_V q2617 q2619 qs144 q178 q2620) rfl rfl rfl (Nat.le_of_ble_eq_true rfl) (Nat.le_of_ble_eq_true rfl) (Nat.le_of_ble_eq_true rfl) dX6_met_215 ?_
        refine gW_st (st' := [.int v5, .int x8]) rfl ?_
        refine g_if_eq C dX6_met_218 rfl h (fun h => ?_) (fun h => ?_)
        · exact g_sub [(0, .ref E.2.2.1), (2, .int x2), (3, .int x3), (4, .int x4), (5, .int x5), (6, .int x6), (7, .int x7), (9, .int x9)] [0, 1, 2, 3, 4, 5, 6, 8] rfl (wk_met_b225 C M hk144 ih x2 x3 x4 x5 x6 x7 x9 x8 z4 h)
        · refine g_iconst C dX6_met_221 gk_iconst_1 ?_
          refine g_goto C dX6_met_222 rfl ?_
          exact g_sub [(0, .ref E.2.2.1), (2, .int x2), (3, .int x3), (4, .int x4), (5, .int x5), (6, .int x6), (7, .int x7), (9, .int x9)] [0, 1, 2, 3, 4, 5, 6, 8] rfl (wk_met_b226 C M hk144 ih x2 x3 x4 x5 x6 x7 x9 x8 (1 : Int32) z4 h)
def mo_met_b144 : Nat → Int32 → Int32 → Int32 → Int32 → Int32 → Int32 → mm_S → Option (Int32 × mm_S)
  | 0, _, _, _, _, _, _, _ => none
  | n + 1, x2, x3, x4, x5, x6, x7, z => if (48 : Int32) ≤ x7 then (if x3 = 0 then (some (x4, z)) else (if x3 = (1 : Int32) then (some (x5, z)) else (some (x6, z)))) else (mm_lI 77 x7 z (fun v1 => if v1 = 0 then (mo_met_b268 (mo_met_b144 n) x2 x3 x4 x5 x6 x7 z) else (g_call (mo_changes x2 x7 (1 : Int32) z) (fun v3 z2 => if v3 = 0 then (mo_met_b268 (mo_met_b144 n) x2 x3 x4 x5 x6 x7 z2) else (mo_met_b181 (mo_met_b144 n) g_fu x2 x3 x4 x5 x6 x7 (0 : Int32) (0 : Int32) z2)))))
theorem wk_met_b144 {X : gX} {E : mm_E} {r : Int32 × mm_S} (C : gC X cX6_met 10 (some .int) RX6 8 190) (M : mm_C X E) : ∀ (n : Nat) (x2 : Int32) (x3 : Int32) (x4 : Int32) (x5 : Int32) (x6 : Int32) (x7 : Int32) (z : mm_S), mo_met_b144 n x2 x3 x4 x5 x6 x7 z = some r → gW X (mm_G E) (.returned (some (.int r.1)), r.2) z 144 [(0, .ref E.2.2.1), (2, .int x2), (3, .int x3), (4, .int x4), (5, .int x5), (6, .int x6), (7, .int x7)] [] := by
  intro n
  induction n with
  | zero =>
    intro x2 x3 x4 x5 x6 x7 z h
    have h : (none : Option (Int32 × mm_S)) = some r := h
    cases h
  | succ n ih =>
    intro x2 x3 x4 x5 x6 x7 z h
    rw [mo_met_b144] at h
    refine g_iload C dX6_met_144 6 rfl ?_
    refine g_bipush C dX6_met_146 gk_bipush_48 ?_
    refine g_icmp_ge C dX6_met_148 rfl h (fun h => ?_) (fun h => ?_)
    · refine g_iload_n C dX6_met_274 rfl 2 rfl ?_
      refine g_if_ne C dX6_met_275 rfl h (fun h => ?_) (fun h => ?_)
      · refine g_iload_n C dX6_met_283 rfl 2 rfl ?_
        refine g_iconst C dX6_met_284 gk_iconst_1 ?_
        refine g_icmp_ne C dX6_met_285 rfl h (fun h => ?_) (fun h => ?_)
        · refine g_iload C dX6_met_293 5 rfl ?_
          exact g_iret C (fun _ => trivial) dX6_met_295 h
        · refine g_iload C dX6_met_288 4 rfl ?_
          refine g_goto C dX6_met_290 rfl ?_
          exact g_iret C (fun _ => trivial) dX6_met_295 h
      · refine g_iload C dX6_met_278 3 rfl ?_
        refine g_goto C dX6_met_280 rfl ?_
        exact g_iret C (fun _ => trivial) dX6_met_295 h
    · refine g_aload_n C dX6_met_151 rfl 0 rfl ?_
      refine mm_getA C M 77 (Nat.le_of_ble_eq_true rfl) (Nat.le_of_ble_eq_true rfl) q2080 rfl dX6_met_152 ?_
      refine g_iload C dX6_met_155 6 rfl ?_
      refine mm_ldZ C M 77 (Nat.le_of_ble_eq_true rfl) rfl dX6_met_157 h (fun v1 h => ?_)
      refine g_if_eq C dX6_met_158 rfl h (fun h => ?_) (fun h => ?_)
      · exact wk_met_b268 C M ih x2 x3 x4 x5 x6 x7 z h
      · refine g_aload_n C dX6_met_161 rfl 0 rfl ?_
        refine g_iload_n C dX6_met_162 rfl 1 rfl ?_
        refine g_iload C dX6_met_163 6 rfl ?_
        refine g_iconst C dX6_met_165 gk_iconst_1 ?_
        obtain ⟨v3, z2, e, h⟩ := g_callE h
        refine mm_callV C M 3 [.int x2, .int x7, .int (1 : Int32)] (st := []) (v := some (.int v3)) (z' := z2) (fun l => ct_changes l x2 x7 (1 : Int32) z v3 z2 e) (lw_V q2713 q2715 qs158 q178 q2716) rfl rfl rfl (Nat.le_of_ble_eq_true rfl) (Nat.le_of_ble_eq_true rfl) (Nat.le_of_ble_eq_true rfl) dX6_met_166 ?_
        refine gW_st (st' := [.int v3]) rfl ?_
        refine g_if_ne C dX6_met_169 rfl h (fun h => ?_) (fun h => ?_)
        · refine g_iconst C dX6_met_175 gk_iconst_0 ?_
          refine g_istore [(8, .int (0 : Int32)), (0, .ref E.2.2.1), (2, .int x2), (3, .int x3), (4, .int x4), (5, .int x5), (6, .int x6), (7, .int x7)] C dX6_met_176 (Nat.le_of_ble_eq_true rfl) rfl ?_
          refine g_iconst C dX6_met_178 gk_iconst_0 ?_
          refine g_istore [(9, .int (0 : Int32)), (8, .int (0 : Int32)), (0, .ref E.2.2.1), (2, .int x2), (3, .int x3), (4, .int x4), (5, .int x5), (6, .int x6), (7, .int x7)] C dX6_met_179 (Nat.le_of_ble_eq_true rfl) rfl ?_
          exact g_sub [(0, .ref E.2.2.1), (2, .int x2), (3, .int x3), (4, .int x4), (5, .int x5), (6, .int x6), (7, .int x7), (8, .int (0 : Int32)), (9, .int (0 : Int32))] [2, 3, 4, 5, 6, 7, 8, 1, 0] rfl (wk_met_b181 C M ih g_fu x2 x3 x4 x5 x6 x7 (0 : Int32) (0 : Int32) z2 h)
        · refine g_goto C dX6_met_172 rfl ?_
          exact wk_met_b268 C M ih x2 x3 x4 x5 x6 x7 z2 h
def mo_met_b114 (k40 : Int32 → Int32 → Int32 → Int32 → mm_S → Option (Int32 × mm_S)) (k65 : Int32 → Int32 → Int32 → Int32 → Int32 → mm_S → Option (Int32 × mm_S)) (x1 : Int32) (x2 : Int32) (x3 : Int32) (x4 : Int32) (x5 : Int32) (s1 : Int32) (s2 : Int32) (z : mm_S) : Option (Int32 × mm_S) := mm_sZ 76 s1 s2 z (fun z1 => k65 x1 x2 x3 x4 (x5 + (1 : Int32)) z1)
theorem wk_met_b114 {X : gX} {E : mm_E} {r : Int32 × mm_S} (C : gC X cX6_met 10 (some .int) RX6 8 190) (M : mm_C X E) {k40 : Int32 → Int32 → Int32 → Int32 → mm_S → Option (Int32 × mm_S)} (hk40 : ∀ (x1 : Int32) (x2 : Int32) (x3 : Int32) (x4 : Int32) (z : mm_S), k40 x1 x2 x3 x4 z = some r → gW X (mm_G E) (.returned (some (.int r.1)), r.2) z 40 [(0, .ref E.2.2.1), (1, .int x1), (2, .int x2), (3, .int x3), (4, .int x4)] []) {k65 : Int32 → Int32 → Int32 → Int32 → Int32 → mm_S → Option (Int32 × mm_S)} (hk65 : ∀ (x1 : Int32) (x2 : Int32) (x3 : Int32) (x4 : Int32) (x5 : Int32) (z : mm_S), k65 x1 x2 x3 x4 x5 z = some r → gW X (mm_G E) (.returned (some (.int r.1)), r.2) z 65 [(0, .ref E.2.2.1), (1, .int x1), (2, .int x2), (3, .int x3), (4, .int x4), (5, .int x5)] []) (x1 : Int32) (x2 : Int32) (x3 : Int32) (x4 : Int32) (x5 : Int32) (s1 : Int32) (s2 : Int32) (z : mm_S) (h : mo_met_b114 k40 k65 x1 x2 x3 x4 x5 s1 s2 z = some r) : gW X (mm_G E) (.returned (some (.int r.1)), r.2) z 114 [(0, .ref E.2.2.1), (1, .int x1), (2, .int x2), (3, .int x3), (4, .int x4), (5, .int x5)] [.int s2, .int s1, .ref (E.2.2.2.1 76)] := by
  unfold mo_met_b114 at h
  refine mm_stZ C M 76 (Nat.le_of_ble_eq_true rfl) rfl dX6_met_114 h (fun z1 h => ?_)
  refine g_iinc [(5, .int (x5 + (1 : Int32))), (0, .ref E.2.2.1), (1, .int x1), (2, .int x2), (3, .int x3), (4, .int x4)] C dX6_met_115 (j := 5) rfl (gk_inc_1 _) (Nat.le_of_ble_eq_true rfl) rfl ?_
  refine g_goto C dX6_met_118 rfl ?_
  exact g_sub [(0, .ref E.2.2.1), (1, .int x1), (2, .int x2), (3, .int x3), (4, .int x4), (5, .int (x5 + (1 : Int32)))] [1, 2, 3, 4, 5, 0] rfl (hk65 x1 x2 x3 x4 (x5 + (1 : Int32)) z1 h)
def mo_met_b113 (k40 : Int32 → Int32 → Int32 → Int32 → mm_S → Option (Int32 × mm_S)) (k65 : Int32 → Int32 → Int32 → Int32 → Int32 → mm_S → Option (Int32 × mm_S)) (x1 : Int32) (x2 : Int32) (x3 : Int32) (x4 : Int32) (x5 : Int32) (s1 : Int32) (z : mm_S) : Option (Int32 × mm_S) := mo_met_b114 k40 k65 x1 x2 x3 x4 x5 s1 (0 : Int32) z
theorem wk_met_b113 {X : gX} {E : mm_E} {r : Int32 × mm_S} (C : gC X cX6_met 10 (some .int) RX6 8 190) (M : mm_C X E) {k40 : Int32 → Int32 → Int32 → Int32 → mm_S → Option (Int32 × mm_S)} (hk40 : ∀ (x1 : Int32) (x2 : Int32) (x3 : Int32) (x4 : Int32) (z : mm_S), k40 x1 x2 x3 x4 z = some r → gW X (mm_G E) (.returned (some (.int r.1)), r.2) z 40 [(0, .ref E.2.2.1), (1, .int x1), (2, .int x2), (3, .int x3), (4, .int x4)] []) {k65 : Int32 → Int32 → Int32 → Int32 → Int32 → mm_S → Option (Int32 × mm_S)} (hk65 : ∀ (x1 : Int32) (x2 : Int32) (x3 : Int32) (x4 : Int32) (x5 : Int32) (z : mm_S), k65 x1 x2 x3 x4 x5 z = some r → gW X (mm_G E) (.returned (some (.int r.1)), r.2) z 65 [(0, .ref E.2.2.1), (1, .int x1), (2, .int x2), (3, .int x3), (4, .int x4), (5, .int x5)] []) (x1 : Int32) (x2 : Int32) (x3 : Int32) (x4 : Int32) (x5 : Int32) (s1 : Int32) (z : mm_S) (h : mo_met_b113 k40 k65 x1 x2 x3 x4 x5 s1 z = some r) : gW X (mm_G E) (.returned (some (.int r.1)), r.2) z 113 [(0, .ref E.2.2.1), (1, .int x1), (2, .int x2), (3, .int x3), (4, .int x4), (5, .int x5)] [.int s1, .ref (E.2.2.2.1 76)] := by
  unfold mo_met_b113 at h
  refine g_iconst C dX6_met_113 gk_iconst_0 ?_
  exact wk_met_b114 C M hk40 hk65 x1 x2 x3 x4 x5 s1 (0 : Int32) z h
def mo_met_b65 (k40 : Int32 → Int32 → Int32 → Int32 → mm_S → Option (Int32 × mm_S)) : Nat → Int32 → Int32 → Int32 → Int32 → Int32 → mm_S → Option (Int32 × mm_S)
  | 0, _, _, _, _, _, _ => none
  | n + 1, x1, x2, x3, x4, x5, z => g_call (mo_cells z) (fun v2 z1 => if v2 ≤ x5 then (k40 x1 x2 x3 (x4 + (1 : Int32)) z1) else (mm_lI 77 x4 z1 (fun v3 => if v3 = 0 then (mo_met_b113 k40 (mo_met_b65 k40 n) x1 x2 x3 x4 x5 (((256 : Int32) * x4) + x5) z1) else (g_call (mo_mayBe x1 x5 x4 z1) (fun v5 z4 => if v5 = 0 then (mo_met_b113 k40 (mo_met_b65 k40 n) x1 x2 x3 x4 x5 (((256 : Int32) * x4) + x5) z4) else (mo_met_b114 k40 (mo_met_b65 k40 n) x1 x2 x3 x4 x5 (((256 : Int32) * x4) + x5) (1 : Int32) z4))))))
theorem wk_met_b65 {X : gX} {E : mm_E} {r : Int32 × mm_S} (C : gC X cX6_met 10 (some .int) RX6 8 190) (M : mm_C X E) {k40 : Int32 → Int32 → Int32 → Int32 → mm_S → Option (Int32 × mm_S)} (hk40 : ∀ (x1 : Int32) (x2 : Int32) (x3 : Int32) (x4 : Int32) (z : mm_S), k40 x1 x2 x3 x4 z = some r → gW X (mm_G E) (.returned (some (.int r.1)), r.2) z 40 [(0, .ref E.2.2.1), (1, .int x1), (2, .int x2), (3, .int x3), (4, .int x4)] []) : ∀ (n : Nat) (x1 : Int32) (x2 : Int32) (x3 : Int32) (x4 : Int32) (x5 : Int32) (z : mm_S), mo_met_b65 k40 n x1 x2 x3 x4 x5 z = some r → gW X (mm_G E) (.returned (some (.int r.1)), r.2) z 65 [(0, .ref E.2.2.1), (1, .int x1), (2, .int x2), (3, .int x3), (4, .int x4), (5, .int x5)] [] := by
  intro n
  induction n with
  | zero =>
    intro x1 x2 x3 x4 x5 z h
    have h : (none : Option (Int32 × mm_S)) = some r := h
    cases h
  | succ n ih =>
    intro x1 x2 x3 x4 x5 z h
    rw [mo_met_b65] at h
    refine g_iload C dX6_met_65 5 rfl ?_
    refine g_aload_n C dX6_met_67 rfl 0 rfl ?_
    obtain ⟨v2, z1, e, h⟩ := g_callE h
    refine mm_callV C M 0 [] (st := [.int x5]) (v := some (.int v2)) (z' := z1) (fun l => ct_cells l z v2 z1 e) (lw_V q2442 q2444 qs115 q178 q2445) rfl rfl rfl (Nat.le_of_ble_eq_true rfl) (Nat.le_of_ble_eq_true rfl) (Nat.le_of_ble_eq_true rfl) dX6_met_68 ?_
    refine gW_st (st' := [.int v2, .int x5]) rfl ?_
    refine g_icmp_ge C dX6_met_71 rfl h (fun h => ?_) (fun h => ?_)
    · refine g_iinc [(4, .int (x4 + (1 : Int32))), (0, .ref E.2.2.1), (1, .int x1), (2, .int x2), (3, .int x3), (5, .int x5)] C dX6_met_121 (j := 4) rfl (gk_inc_1 _) (Nat.le_of_ble_eq_true rfl) rfl ?_
      refine g_goto C dX6_met_124 rfl ?_
      exact g_sub [(0, .ref E.2.2.1), (1, .int x1), (2, .int x2), (3, .int x3), (4, .int (x4 + (1 : Int32)))] [1, 2, 3, 4, 0] rfl (hk40 x1 x2 x3 (x4 + (1 : Int32)) z1 h)
    · refine g_aload_n C dX6_met_74 rfl 0 rfl ?_
      refine mm_getA C M 76 (Nat.le_of_ble_eq_true rfl) (Nat.le_of_ble_eq_true rfl) q2079 rfl dX6_met_75 ?_
      refine g_sipush C dX6_met_78 gk_sipush_256 ?_
      refine g_iload C dX6_met_81 4 rfl ?_
      refine g_imul C dX6_met_83 ?_
      refine g_iload C dX6_met_84 5 rfl ?_
      refine g_iadd C dX6_met_86 ?_
      refine g_aload_n C dX6_met_87 rfl 0 rfl ?_
      refine mm_getA C M 77 (Nat.le_of_ble_eq_true rfl) (Nat.le_of_ble_eq_true rfl) q2080 rfl dX6_met_88 ?_
      refine g_iload C dX6_met_91 4 rfl ?_
      refine mm_ldZ C M 77 (Nat.le_of_ble_eq_true rfl) rfl dX6_met_93 h (fun v3 h => ?_)
      refine g_if_eq C dX6_met_94 rfl h (fun h => ?_) (fun h => ?_)
      · exact wk_met_b113 C M hk40 ih x1 x2 x3 x4 x5 (((256 : Int32) * x4) + x5) z1 h
      · refine g_aload_n C dX6_met_97 rfl 0 rfl ?_
        refine g_iload_n C dX6_met_98 rfl 1 rfl ?_
        refine g_iload C dX6_met_99 5 rfl ?_
        refine g_iload C dX6_met_101 4 rfl ?_
        obtain ⟨v5, z4, e, h⟩ := g_callE h
        refine mm_callV C M 3 [.int x1, .int x5, .int x4] (st := [.int (((256 : Int32) * x4) + x5), .ref (E.2.2.2.1 76)]) (v := some (.int v5)) (z' := z4) (fun l => ct_mayBe l x1 x5 x4 z1 v5 z4 e) (lw_V q2617 q2619 qs144 q178 q2620) rfl rfl rfl (Nat.le_of_ble_eq_true rfl) (Nat.le_of_ble_eq_true rfl) (Nat.le_of_ble_eq_true rfl) dX6_met_103 ?_
        refine gW_st (st' := [.int v5, .int (((256 : Int32) * x4) + x5), .ref (E.2.2.2.1 76)]) rfl ?_
        refine g_if_eq C dX6_met_106 rfl h (fun h => ?_) (fun h => ?_)
        · exact wk_met_b113 C M hk40 ih x1 x2 x3 x4 x5 (((256 : Int32) * x4) + x5) z4 h
        · refine g_iconst C dX6_met_109 gk_iconst_1 ?_
          refine g_goto C dX6_met_110 rfl ?_
          exact wk_met_b114 C M hk40 ih x1 x2 x3 x4 x5 (((256 : Int32) * x4) + x5) (1 : Int32) z4 h
def mo_met_b40 : Nat → Int32 → Int32 → Int32 → Int32 → mm_S → Option (Int32 × mm_S)
  | 0, _, _, _, _, _ => none
  | n + 1, x1, x2, x3, x4, z => if (48 : Int32) ≤ x4 then (g_call (mo_lays_2 x2 z) (fun _ z1 => mo_met_b144 g_fu x2 x3 (0 : Int32) (-1 : Int32) (0 : Int32) (0 : Int32) z1)) else (g_call (mo_changes x1 x4 (0 : Int32) z) (fun v4 z3 => mm_sZ 77 x4 v4 z3 (fun z5 => mo_met_b65 (mo_met_b40 n) g_fu x1 x2 x3 x4 (0 : Int32) z5)))
theorem wk_met_b40 {X : gX} {E : mm_E} {r : Int32 × mm_S} (C : gC X cX6_met 10 (some .int) RX6 8 190) (M : mm_C X E) : ∀ (n : Nat) (x1 : Int32) (x2 : Int32) (x3 : Int32) (x4 : Int32) (z : mm_S), mo_met_b40 n x1 x2 x3 x4 z = some r → gW X (mm_G E) (.returned (some (.int r.1)), r.2) z 40 [(0, .ref E.2.2.1), (1, .int x1), (2, .int x2), (3, .int x3), (4, .int x4)] [] := by
  intro n
  induction n with
  | zero =>
    intro x1 x2 x3 x4 z h
    have h : (none : Option (Int32 × mm_S)) = some r := h
    cases h
  | succ n ih =>
    intro x1 x2 x3 x4 z h
    rw [mo_met_b40] at h
    refine g_iload C dX6_met_40 4 rfl ?_
    refine g_bipush C dX6_met_42 gk_bipush_48 ?_
    refine g_icmp_ge C dX6_met_44 rfl h (fun h => ?_) (fun h => ?_)
    · refine g_aload_n C dX6_met_127 rfl 0 rfl ?_
      refine g_iload_n C dX6_met_128 rfl 2 rfl ?_
      obtain ⟨u2, z1, e, h⟩ := g_callE h
      refine mm_callV C M 1 [.int x2] (st := []) (v := none) (z' := z1) (fun l => ct_lays_2 l x2 z u2 z1 e) (lw_V q2609 q2611 qs142 q178 q2612) rfl rfl rfl (Nat.le_of_ble_eq_true rfl) (Nat.le_of_ble_eq_true rfl) (Nat.le_of_ble_eq_true rfl) dX6_met_129 ?_
      refine gW_st (st' := []) rfl ?_
      refine g_iconst C dX6_met_132 gk_iconst_0 ?_
      refine g_istore [(4, .int (0 : Int32)), (0, .ref E.2.2.1), (1, .int x1), (2, .int x2), (3, .int x3)] C dX6_met_133 (Nat.le_of_ble_eq_true rfl) rfl ?_
      refine g_iconst C dX6_met_135 gk_iconst_m1 ?_
      refine g_istore [(5, .int (-1 : Int32)), (4, .int (0 : Int32)), (0, .ref E.2.2.1), (1, .int x1), (2, .int x2), (3, .int x3)] C dX6_met_136 (Nat.le_of_ble_eq_true rfl) rfl ?_
      refine g_iconst C dX6_met_138 gk_iconst_0 ?_
      refine g_istore [(6, .int (0 : Int32)), (5, .int (-1 : Int32)), (4, .int (0 : Int32)), (0, .ref E.2.2.1), (1, .int x1), (2, .int x2), (3, .int x3)] C dX6_met_139 (Nat.le_of_ble_eq_true rfl) rfl ?_
      refine g_iconst C dX6_met_141 gk_iconst_0 ?_
      refine g_istore [(7, .int (0 : Int32)), (6, .int (0 : Int32)), (5, .int (-1 : Int32)), (4, .int (0 : Int32)), (0, .ref E.2.2.1), (1, .int x1), (2, .int x2), (3, .int x3)] C dX6_met_142 (Nat.le_of_ble_eq_true rfl) rfl ?_
      exact g_sub [(0, .ref E.2.2.1), (2, .int x2), (3, .int x3), (4, .int (0 : Int32)), (5, .int (-1 : Int32)), (6, .int (0 : Int32)), (7, .int (0 : Int32))] [4, 6, 7, 3, 2, 1, 0] rfl (wk_met_b144 C M g_fu x2 x3 (0 : Int32) (-1 : Int32) (0 : Int32) (0 : Int32) z1 h)
    · refine g_aload_n C dX6_met_47 rfl 0 rfl ?_
      refine mm_getA C M 77 (Nat.le_of_ble_eq_true rfl) (Nat.le_of_ble_eq_true rfl) q2080 rfl dX6_met_48 ?_
      refine g_iload C dX6_met_51 4 rfl ?_
      refine g_aload_n C dX6_met_53 rfl 0 rfl ?_
      refine g_iload_n C dX6_met_54 rfl 1 rfl ?_
      refine g_iload C dX6_met_55 4 rfl ?_
      refine g_iconst C dX6_met_57 gk_iconst_0 ?_
      obtain ⟨v4, z3, e, h⟩ := g_callE h
      refine mm_callV C M 3 [.int x1, .int x4, .int (0 : Int32)] (st := [.int x4, .ref (E.2.2.2.1 77)]) (v := some (.int v4)) (z' := z3) (fun l => ct_changes l x1 x4 (0 : Int32) z v4 z3 e) (lw_V q2713 q2715 qs158 q178 q2716) rfl rfl rfl (Nat.le_of_ble_eq_true rfl) (Nat.le_of_ble_eq_true rfl) (Nat.le_of_ble_eq_true rfl) dX6_met_58 ?_
      refine gW_st (st' := [.int v4, .int x4, .ref (E.2.2.2.1 77)]) rfl ?_
      refine mm_stZ C M 77 (Nat.le_of_ble_eq_true rfl) rfl dX6_met_61 h (fun z5 h => ?_)
      refine g_iconst C dX6_met_62 gk_iconst_0 ?_
      refine g_istore [(5, .int (0 : Int32)), (0, .ref E.2.2.1), (1, .int x1), (2, .int x2), (3, .int x3), (4, .int x4)] C dX6_met_63 (Nat.le_of_ble_eq_true rfl) rfl ?_
      exact g_sub [(0, .ref E.2.2.1), (1, .int x1), (2, .int x2), (3, .int x3), (4, .int x4), (5, .int (0 : Int32))] [1, 2, 3, 4, 5, 0] rfl (wk_met_b65 C M ih g_fu x1 x2 x3 x4 (0 : Int32) z5 h)
def mo_met (x1 : Int32) (x2 : Int32) (x3 : Int32) (z : mm_S) : Option (Int32 × mm_S) := g_call (mo_isShip x1 z) (fun v2 z1 => if v2 = 0 then (some ((-1 : Int32), z1)) else (g_call (mo_isShip x2 z1) (fun v4 z3 => if v4 = 0 then (some ((-1 : Int32), z3)) else (if x1 = x2 then (some ((-1 : Int32), z3)) else (g_call (mo_is x3 (0 : Int32) (2 : Int32) z3) (fun v6 z5 => if v6 = 0 then (some ((-1 : Int32), z5)) else (g_call (mo_lays_2 x1 z5) (fun _ z7 => mo_met_b40 g_fu x1 x2 x3 (0 : Int32) z7))))))))
theorem wk_met {X : gX} {E : mm_E} {r : Int32 × mm_S} (C : gC X cX6_met 10 (some .int) RX6 8 190) (M : mm_C X E) (x1 : Int32) (x2 : Int32) (x3 : Int32) (z : mm_S) (h : mo_met x1 x2 x3 z = some r) : gW X (mm_G E) (.returned (some (.int r.1)), r.2) z 0 [(0, .ref E.2.2.1), (1, .int x1), (2, .int x2), (3, .int x3)] [] := by
  unfold mo_met at h
  refine g_aload_n C dX6_met_0 rfl 0 rfl ?_
  refine g_iload_n C dX6_met_1 rfl 1 rfl ?_
  obtain ⟨v2, z1, e, h⟩ := g_callE h
  refine mm_callV C M 1 [.int x1] (st := []) (v := some (.int v2)) (z' := z1) (fun l => ct_isShip l x1 z v2 z1 e) (lw_V q2521 q2523 qs126 q178 q2524) rfl rfl rfl (Nat.le_of_ble_eq_true rfl) (Nat.le_of_ble_eq_true rfl) (Nat.le_of_ble_eq_true rfl) dX6_met_2 ?_
  refine gW_st (st' := [.int v2]) rfl ?_
  refine g_if_eq C dX6_met_5 rfl h (fun h => ?_) (fun h => ?_)
  · refine g_iconst C dX6_met_30 gk_iconst_m1 ?_
    exact g_iret C (fun _ => trivial) dX6_met_31 h
  · refine g_aload_n C dX6_met_8 rfl 0 rfl ?_
    refine g_iload_n C dX6_met_9 rfl 2 rfl ?_
    obtain ⟨v4, z3, e, h⟩ := g_callE h
    refine mm_callV C M 1 [.int x2] (st := []) (v := some (.int v4)) (z' := z3) (fun l => ct_isShip l x2 z1 v4 z3 e) (lw_V q2521 q2523 qs126 q178 q2524) rfl rfl rfl (Nat.le_of_ble_eq_true rfl) (Nat.le_of_ble_eq_true rfl) (Nat.le_of_ble_eq_true rfl) dX6_met_10 ?_
    refine gW_st (st' := [.int v4]) rfl ?_
    refine g_if_eq C dX6_met_13 rfl h (fun h => ?_) (fun h => ?_)
    · refine g_iconst C dX6_met_30 gk_iconst_m1 ?_
      exact g_iret C (fun _ => trivial) dX6_met_31 h
    · refine g_iload_n C dX6_met_16 rfl 1 rfl ?_
      refine g_iload_n C dX6_met_17 rfl 2 rfl ?_
      refine g_icmp_eq C dX6_met_18 rfl h (fun h => ?_) (fun h => ?_)
      · refine g_iconst C dX6_met_30 gk_iconst_m1 ?_
        exact g_iret C (fun _ => trivial) dX6_met_31 h
      · refine g_iload_n C dX6_met_21 rfl 3 rfl ?_
        refine g_iconst C dX6_met_22 gk_iconst_0 ?_
        refine g_iconst C dX6_met_23 gk_iconst_2 ?_
        obtain ⟨v6, z5, e, h⟩ := g_callE h
        refine mm_callS C M 3 [.int x3, .int (0 : Int32), .int (2 : Int32)] (st := []) (v := some (.int v6)) (z' := z5) (fun l => ct_is l x3 (0 : Int32) (2 : Int32) z3 v6 z5 e) (lw_S q2301 q2302 q178 q2303) rfl rfl rfl (Nat.le_of_ble_eq_true rfl) (Nat.le_of_ble_eq_true rfl) (Nat.le_of_ble_eq_true rfl) dX6_met_24 ?_
        refine gW_st (st' := [.int v6]) rfl ?_
        refine g_if_ne C dX6_met_27 rfl h (fun h => ?_) (fun h => ?_)
        · refine g_aload_n C dX6_met_32 rfl 0 rfl ?_
          refine g_iload_n C dX6_met_33 rfl 1 rfl ?_
          obtain ⟨u8, z7, e, h⟩ := g_callE h
          refine mm_callV C M 1 [.int x1] (st := []) (v := none) (z' := z7) (fun l => ct_lays_2 l x1 z5 u8 z7 e) (lw_V q2609 q2611 qs142 q178 q2612) rfl rfl rfl (Nat.le_of_ble_eq_true rfl) (Nat.le_of_ble_eq_true rfl) (Nat.le_of_ble_eq_true rfl) dX6_met_34 ?_
          refine gW_st (st' := []) rfl ?_
          refine g_iconst C dX6_met_37 gk_iconst_0 ?_
          refine g_istore [(4, .int (0 : Int32)), (0, .ref E.2.2.1), (1, .int x1), (2, .int x2), (3, .int x3)] C dX6_met_38 (Nat.le_of_ble_eq_true rfl) rfl ?_
          exact g_sub [(0, .ref E.2.2.1), (1, .int x1), (2, .int x2), (3, .int x3), (4, .int (0 : Int32))] [1, 2, 3, 4, 0] rfl (wk_met_b40 C M g_fu x1 x2 x3 (0 : Int32) z7 h)
        · refine g_iconst C dX6_met_30 gk_iconst_m1 ?_
          exact g_iret C (fun _ => trivial) dX6_met_31 h
theorem ct_met (l : Launch) (x1 : Int32) (x2 : Int32) (x3 : Int32) (z : mm_S) (r : Int32) (z' : mm_S) (h : mo_met x1 x2 x3 z = some (r, z')) : mm_MetV l yX6_met cX6_met 10 (some .int) 8 190 [.int x1, .int x2, .int x3] z (.returned (some (.int r)), z') := by
  intro E hD
  exact mm_enter E hD rfl ⟨_, rfl⟩ (.ref E.2.2.1 :: [.int x1, .int x2, .int x3]) (Nat.le_of_ble_eq_true rfl) (fun X C M => wk_met C M x1 x2 x3 z h)
