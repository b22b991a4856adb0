set_option maxRecDepth 100000
def mo_keeps_b268 (k207 : Int32 → Int32 → Int32 → mm_S → Option (Unit × mm_S)) (x2 : Int32) (x3 : Int32) (x4 : Int32) (z : mm_S) : Option (Unit × mm_S) := k207 x2 x3 (x4 + (1 : Int32)) z
theorem wk_keeps_b268 {X : gX} {E : mm_E} {r : Unit × mm_S} (C : gC X cX6_keeps 5 none RX6 6 143) (M : mm_C X E) {k207 : Int32 → Int32 → Int32 → mm_S → Option (Unit × mm_S)} (hk207 : ∀ (x2 : Int32) (x3 : Int32) (x4 : Int32) (z : mm_S), k207 x2 x3 x4 z = some r → gW X (mm_G E) (.returned none, r.2) z 207 [(0, .ref E.2.2.1), (2, .int x2), (3, .int x3), (4, .int x4)] []) (x2 : Int32) (x3 : Int32) (x4 : Int32) (z : mm_S) (h : mo_keeps_b268 k207 x2 x3 x4 z = some r) : gW X (mm_G E) (.returned none, r.2) z 268 [(0, .ref E.2.2.1), (2, .int x2), (3, .int x3), (4, .int x4)] [] := by
  unfold mo_keeps_b268 at h
  refine g_iinc [(4, .int (x4 + (1 : Int32))), (0, .ref E.2.2.1), (2, .int x2), (3, .int x3)] C dX6_keeps_268 (j := 3) rfl (gk_inc_1 _) (Nat.le_of_ble_eq_true rfl) rfl ?_
  refine g_goto C dX6_keeps_271 rfl ?_
  exact g_sub [(0, .ref E.2.2.1), (2, .int x2), (3, .int x3), (4, .int (x4 + (1 : Int32)))] [1, 2, 3, 0] rfl (hk207 x2 x3 (x4 + (1 : Int32)) z h)
def mo_keeps_b254 (k207 : Int32 → Int32 → Int32 → mm_S → Option (Unit × mm_S)) (x2 : Int32) (x4 : Int32) (z : mm_S) : Option (Unit × mm_S) := mm_sZ 69 x4 (1 : Int32) z (fun z1 => mo_keeps_b268 k207 (x2 + (-1 : Int32)) x4 x4 z1)
theorem wk_keeps_b254 {X : gX} {E : mm_E} {r : Unit × mm_S} (C : gC X cX6_keeps 5 none RX6 6 143) (M : mm_C X E) {k207 : Int32 → Int32 → Int32 → mm_S → Option (Unit × mm_S)} (hk207 : ∀ (x2 : Int32) (x3 : Int32) (x4 : Int32) (z : mm_S), k207 x2 x3 x4 z = some r → gW X (mm_G E) (.returned none, r.2) z 207 [(0, .ref E.2.2.1), (2, .int x2), (3, .int x3), (4, .int x4)] []) (x2 : Int32) (x4 : Int32) (z : mm_S) (h : mo_keeps_b254 k207 x2 x4 z = some r) : gW X (mm_G E) (.returned none, r.2) z 254 [(0, .ref E.2.2.1), (2, .int x2), (4, .int x4)] [] := by
  unfold mo_keeps_b254 at h
  refine g_aload_n C dX6_keeps_254 rfl 0 rfl ?_
  refine mm_getA C M 69 (Nat.le_of_ble_eq_true rfl) (Nat.le_of_ble_eq_true rfl) q2072 rfl dX6_keeps_255 ?_
  refine g_iload C dX6_keeps_258 2 rfl ?_
  refine g_iconst C dX6_keeps_260 gk_iconst_1 ?_
  refine mm_stZ C M 69 (Nat.le_of_ble_eq_true rfl) rfl dX6_keeps_261 h (fun z1 h => ?_)
  refine g_iload C dX6_keeps_262 2 rfl ?_
  refine g_istore_n [(3, .int x4), (0, .ref E.2.2.1), (2, .int x2), (4, .int x4)] C dX6_keeps_264 rfl (Nat.le_of_ble_eq_true rfl) rfl ?_
  refine g_iinc [(2, .int (x2 + (-1 : Int32))), (3, .int x4), (0, .ref E.2.2.1), (4, .int x4)] C dX6_keeps_265 (j := 2) rfl (gk_inc_m1 _) (Nat.le_of_ble_eq_true rfl) rfl ?_
  exact g_sub [(0, .ref E.2.2.1), (2, .int (x2 + (-1 : Int32))), (3, .int x4), (4, .int x4)] [2, 0, 1, 3] rfl (wk_keeps_b268 C M hk207 (x2 + (-1 : Int32)) x4 x4 z1 h)
def mo_keeps_b207 : Nat → Int32 → Int32 → Int32 → mm_S → Option (Unit × mm_S)
  | 0, _, _, _, _ => none
  | n + 1, x2, x3, x4, z => mm_gI 65 z (fun v1 => if v1 ≤ x4 then (some ((), z)) else (if x2 ≤ 0 then (some ((), z)) else (mm_lI 71 x4 z (fun v2 => if v2 = x2 then (if x3 = (-1 : Int32) then (mo_keeps_b254 (mo_keeps_b207 n) x2 x4 z) else (mm_lI 70 (((48 : Int32) * x3) + x4) z (fun v3 => if v3 = 0 then (mo_keeps_b268 (mo_keeps_b207 n) x2 x3 x4 z) else (mo_keeps_b254 (mo_keeps_b207 n) x2 x4 z)))) else (mo_keeps_b268 (mo_keeps_b207 n) x2 x3 x4 z)))))
theorem wk_keeps_b207 {X : gX} {E : mm_E} {r : Unit × mm_S} (C : gC X cX6_keeps 5 none RX6 6 143) (M : mm_C X E) : ∀ (n : Nat) (x2 : Int32) (x3 : Int32) (x4 : Int32) (z : mm_S), mo_keeps_b207 n x2 x3 x4 z = some r → gW X (mm_G E) (.returned none, r.2) z 207 [(0, .ref E.2.2.1), (2, .int x2), (3, .int x3), (4, .int x4)] [] := by
  intro n
  induction n with
  | zero =>
    intro x2 x3 x4 z h
    have h : (none : Option (Unit × mm_S)) = some r := h
    cases h
  | succ n ih =>
    intro x2 x3 x4 z h
    rw [mo_keeps_b207] at h
    refine g_iload C dX6_keeps_207 3 rfl ?_
    refine g_aload_n C dX6_keeps_209 rfl 0 rfl ?_
    refine mm_getI C M 65 (Nat.le_of_ble_eq_true rfl) (Nat.le_of_ble_eq_true rfl) q2068 rfl dX6_keeps_210 h (fun v1 h => ?_)
    refine g_icmp_ge C dX6_keeps_213 rfl h (fun h => ?_) (fun h => ?_)
    · exact g_vret C (fun _ => trivial) dX6_keeps_274 h
    · refine g_iload_n C dX6_keeps_216 rfl 1 rfl ?_
      refine g_if_le C dX6_keeps_217 rfl h (fun h => ?_) (fun h => ?_)
      · exact g_vret C (fun _ => trivial) dX6_keeps_274 h
      · refine g_aload_n C dX6_keeps_220 rfl 0 rfl ?_
        refine mm_getA C M 71 (Nat.le_of_ble_eq_true rfl) (Nat.le_of_ble_eq_true rfl) q2074 rfl dX6_keeps_221 ?_
        refine g_iload C dX6_keeps_224 3 rfl ?_
        refine mm_ldI C M 71 (Nat.le_of_ble_eq_true rfl) rfl dX6_keeps_226 h (fun v2 h => ?_)
        refine g_iload_n C dX6_keeps_227 rfl 1 rfl ?_
        refine g_icmp_ne C dX6_keeps_228 rfl h (fun h => ?_) (fun h => ?_)
        · exact wk_keeps_b268 C M ih x2 x3 x4 z h
        · refine g_iload_n C dX6_keeps_231 rfl 2 rfl ?_
          refine g_iconst C dX6_keeps_232 gk_iconst_m1 ?_
          refine g_icmp_eq C dX6_keeps_233 rfl h (fun h => ?_) (fun h => ?_)
          · exact g_sub [(0, .ref E.2.2.1), (2, .int x2), (4, .int x4)] [0, 1, 3] rfl (wk_keeps_b254 C M ih x2 x4 z h)
          · refine g_aload_n C dX6_keeps_236 rfl 0 rfl ?_
            refine mm_getA C M 70 (Nat.le_of_ble_eq_true rfl) (Nat.le_of_ble_eq_true rfl) q2073 rfl dX6_keeps_237 ?_
            refine g_bipush C dX6_keeps_240 gk_bipush_48 ?_
            refine g_iload_n C dX6_keeps_242 rfl 2 rfl ?_
            refine g_imul C dX6_keeps_243 ?_
            refine g_iload C dX6_keeps_244 3 rfl ?_
            refine g_iadd C dX6_keeps_246 ?_
            refine mm_ldZ C M 70 (Nat.le_of_ble_eq_true rfl) rfl dX6_keeps_247 h (fun v3 h => ?_)
            refine g_if_ne C dX6_keeps_248 rfl h (fun h => ?_) (fun h => ?_)
            · exact g_sub [(0, .ref E.2.2.1), (2, .int x2), (4, .int x4)] [0, 1, 3] rfl (wk_keeps_b254 C M ih x2 x4 z h)
            · refine g_goto C dX6_keeps_251 rfl ?_
              exact wk_keeps_b268 C M ih x2 x3 x4 z h
def mo_keeps_b190 (k59 : Int32 → Int32 → mm_S → Option (Unit × mm_S)) (x3 : Int32) (s0 : Int32) (z : mm_S) : Option (Unit × mm_S) := k59 s0 (x3 + (-1 : Int32)) z
theorem wk_keeps_b190 {X : gX} {E : mm_E} {r : Unit × mm_S} (C : gC X cX6_keeps 5 none RX6 6 143) (M : mm_C X E) {k59 : Int32 → Int32 → mm_S → Option (Unit × mm_S)} (hk59 : ∀ (x2 : Int32) (x3 : Int32) (z : mm_S), k59 x2 x3 z = some r → gW X (mm_G E) (.returned none, r.2) z 59 [(0, .ref E.2.2.1), (2, .int x2), (3, .int x3)] []) (x3 : Int32) (s0 : Int32) (z : mm_S) (h : mo_keeps_b190 k59 x3 s0 z = some r) : gW X (mm_G E) (.returned none, r.2) z 190 [(0, .ref E.2.2.1), (3, .int x3)] [.int s0] := by
  unfold mo_keeps_b190 at h
  refine g_istore_n [(2, .int s0), (0, .ref E.2.2.1), (3, .int x3)] C dX6_keeps_190 rfl (Nat.le_of_ble_eq_true rfl) rfl ?_
  refine g_iinc [(3, .int (x3 + (-1 : Int32))), (2, .int s0), (0, .ref E.2.2.1)] C dX6_keeps_191 (j := 2) rfl (gk_inc_m1 _) (Nat.le_of_ble_eq_true rfl) rfl ?_
  refine g_goto C dX6_keeps_194 rfl ?_
  exact g_sub [(0, .ref E.2.2.1), (2, .int s0), (3, .int (x3 + (-1 : Int32)))] [2, 1, 0] rfl (hk59 s0 (x3 + (-1 : Int32)) z h)
def mo_keeps_b170 (k59 : Int32 → Int32 → mm_S → Option (Unit × mm_S)) (x2 : Int32) (x3 : Int32) (z : mm_S) : Option (Unit × mm_S) := mm_lI 71 x3 z (fun v1 => if v1 ≤ x2 then (mo_keeps_b190 k59 x3 x2 z) else (mm_lI 71 x3 z (fun v2 => mo_keeps_b190 k59 x3 v2 z)))
theorem wk_keeps_b170 {X : gX} {E : mm_E} {r : Unit × mm_S} (C : gC X cX6_keeps 5 none RX6 6 143) (M : mm_C X E) {k59 : Int32 → Int32 → mm_S → Option (Unit × mm_S)} (hk59 : ∀ (x2 : Int32) (x3 : Int32) (z : mm_S), k59 x2 x3 z = some r → gW X (mm_G E) (.returned none, r.2) z 59 [(0, .ref E.2.2.1), (2, .int x2), (3, .int x3)] []) (x2 : Int32) (x3 : Int32) (z : mm_S) (h : mo_keeps_b170 k59 x2 x3 z = some r) : gW X (mm_G E) (.returned none, r.2) z 170 [(0, .ref E.2.2.1), (2, .int x2), (3, .int x3)] [] := by
  unfold mo_keeps_b170 at h
  refine g_aload_n C dX6_keeps_170 rfl 0 rfl ?_
  refine mm_getA C M 71 (Nat.le_of_ble_eq_true rfl) (Nat.le_of_ble_eq_true rfl) q2074 rfl dX6_keeps_171 ?_
  refine g_iload_n C dX6_keeps_174 rfl 2 rfl ?_
  refine mm_ldI C M 71 (Nat.le_of_ble_eq_true rfl) rfl dX6_keeps_175 h (fun v1 h => ?_)
  refine g_iload_n C dX6_keeps_176 rfl 1 rfl ?_
  refine g_icmp_le C dX6_keeps_177 rfl h (fun h => ?_) (fun h => ?_)
  · refine g_iload_n C dX6_keeps_189 rfl 1 rfl ?_
    exact g_sub [(0, .ref E.2.2.1), (3, .int x3)] [0, 2] rfl (wk_keeps_b190 C M hk59 x3 x2 z h)
  · refine g_aload_n C dX6_keeps_180 rfl 0 rfl ?_
    refine mm_getA C M 71 (Nat.le_of_ble_eq_true rfl) (Nat.le_of_ble_eq_true rfl) q2074 rfl dX6_keeps_181 ?_
    refine g_iload_n C dX6_keeps_184 rfl 2 rfl ?_
    refine mm_ldI C M 71 (Nat.le_of_ble_eq_true rfl) rfl dX6_keeps_185 h (fun v2 h => ?_)
    refine g_goto C dX6_keeps_186 rfl ?_
    exact g_sub [(0, .ref E.2.2.1), (3, .int x3)] [0, 2] rfl (wk_keeps_b190 C M hk59 x3 v2 z h)
def mo_keeps_b164 (k59 : Int32 → Int32 → mm_S → Option (Unit × mm_S)) (k88 : Int32 → Int32 → Int32 → mm_S → Option (Unit × mm_S)) (x2 : Int32) (x3 : Int32) (x4 : Int32) (z : mm_S) : Option (Unit × mm_S) := k88 x2 x3 (x4 + (1 : Int32)) z
theorem wk_keeps_b164 {X : gX} {E : mm_E} {r : Unit × mm_S} (C : gC X cX6_keeps 5 none RX6 6 143) (M : mm_C X E) {k59 : Int32 → Int32 → mm_S → Option (Unit × mm_S)} (hk59 : ∀ (x2 : Int32) (x3 : Int32) (z : mm_S), k59 x2 x3 z = some r → gW X (mm_G E) (.returned none, r.2) z 59 [(0, .ref E.2.2.1), (2, .int x2), (3, .int x3)] []) {k88 : Int32 → Int32 → Int32 → mm_S → Option (Unit × mm_S)} (hk88 : ∀ (x2 : Int32) (x3 : Int32) (x4 : Int32) (z : mm_S), k88 x2 x3 x4 z = some r → gW X (mm_G E) (.returned none, r.2) z 88 [(0, .ref E.2.2.1), (2, .int x2), (3, .int x3), (4, .int x4)] []) (x2 : Int32) (x3 : Int32) (x4 : Int32) (z : mm_S) (h : mo_keeps_b164 k59 k88 x2 x3 x4 z = some r) : gW X (mm_G E) (.returned none, r.2) z 164 [(0, .ref E.2.2.1), (2, .int x2), (3, .int x3), (4, .int x4)] [] := by
  unfold mo_keeps_b164 at h
  refine g_iinc [(4, .int (x4 + (1 : Int32))), (0, .ref E.2.2.1), (2, .int x2), (3, .int x3)] C dX6_keeps_164 (j := 3) rfl (gk_inc_1 _) (Nat.le_of_ble_eq_true rfl) rfl ?_
  refine g_goto C dX6_keeps_167 rfl ?_
  exact g_sub [(0, .ref E.2.2.1), (2, .int x2), (3, .int x3), (4, .int (x4 + (1 : Int32)))] [1, 2, 3, 0] rfl (hk88 x2 x3 (x4 + (1 : Int32)) z h)
def mo_keeps_b88 (k59 : Int32 → Int32 → mm_S → Option (Unit × mm_S)) : Nat → Int32 → Int32 → Int32 → mm_S → Option (Unit × mm_S)
  | 0, _, _, _, _ => none
  | n + 1, x2, x3, x4, z => mm_gI 65 z (fun v1 => if v1 ≤ x4 then (mo_keeps_b170 k59 x2 x3 z) else (mm_lI 68 x3 z (fun v2 => if v2 = 0 then (mo_keeps_b170 k59 x2 x3 z) else (mm_lI 70 (((48 : Int32) * x3) + x4) z (fun v3 => if v3 = 0 then (mo_keeps_b164 k59 (mo_keeps_b88 k59 n) x2 x3 x4 z) else (mm_lI 68 x4 z (fun v4 => if v4 = 0 then (mo_keeps_b164 k59 (mo_keeps_b88 k59 n) x2 x3 x4 z) else (mm_lI 71 x4 z (fun v5 => mm_lI 71 x3 z (fun v6 => if (v5 + (1 : Int32)) ≤ v6 then (mo_keeps_b164 k59 (mo_keeps_b88 k59 n) x2 x3 x4 z) else (mm_lI 71 x4 z (fun v7 => mm_sI 71 x3 (v7 + (1 : Int32)) z (fun z8 => mo_keeps_b164 k59 (mo_keeps_b88 k59 n) x2 x3 x4 z8)))))))))))))
theorem wk_keeps_b88 {X : gX} {E : mm_E} {r : Unit × mm_S} (C : gC X cX6_keeps 5 none RX6 6 143) (M : mm_C X E) {k59 : Int32 → Int32 → mm_S → Option (Unit × mm_S)} (hk59 : ∀ (x2 : Int32) (x3 : Int32) (z : mm_S), k59 x2 x3 z = some r → gW X (mm_G E) (.returned none, r.2) z 59 [(0, .ref E.2.2.1), (2, .int x2), (3, .int x3)] []) : ∀ (n : Nat) (x2 : Int32) (x3 : Int32) (x4 : Int32) (z : mm_S), mo_keeps_b88 k59 n x2 x3 x4 z = some r → gW X (mm_G E) (.returned none, r.2) z 88 [(0, .ref E.2.2.1), (2, .int x2), (3, .int x3), (4, .int x4)] [] := by
  intro n
  induction n with
  | zero =>
    intro x2 x3 x4 z h
    have h : (none : Option (Unit × mm_S)) = some r := h
    cases h
  | succ n ih =>
    intro x2 x3 x4 z h
    rw [mo_keeps_b88] at h
    refine g_iload C dX6_keeps_88 3 rfl ?_
    refine g_aload_n C dX6_keeps_90 rfl 0 rfl ?_
    refine mm_getI C M 65 (Nat.le_of_ble_eq_true rfl) (Nat.le_of_ble_eq_true rfl) q2068 rfl dX6_keeps_91 h (fun v1 h => ?_)
    refine g_icmp_ge C dX6_keeps_94 rfl h (fun h => ?_) (fun h => ?_)
    · exact g_sub [(0, .ref E.2.2.1), (2, .int x2), (3, .int x3)] [0, 1, 2] rfl (wk_keeps_b170 C M hk59 x2 x3 z h)
    · refine g_aload_n C dX6_keeps_97 rfl 0 rfl ?_
      refine mm_getA C M 68 (Nat.le_of_ble_eq_true rfl) (Nat.le_of_ble_eq_true rfl) q2071 rfl dX6_keeps_98 ?_
      refine g_iload_n C dX6_keeps_101 rfl 2 rfl ?_
      refine mm_ldZ C M 68 (Nat.le_of_ble_eq_true rfl) rfl dX6_keeps_102 h (fun v2 h => ?_)
      refine g_if_eq C dX6_keeps_103 rfl h (fun h => ?_) (fun h => ?_)
      · exact g_sub [(0, .ref E.2.2.1), (2, .int x2), (3, .int x3)] [0, 1, 2] rfl (wk_keeps_b170 C M hk59 x2 x3 z h)
      · refine g_aload_n C dX6_keeps_106 rfl 0 rfl ?_
        refine mm_getA C M 70 (Nat.le_of_ble_eq_true rfl) (Nat.le_of_ble_eq_true rfl) q2073 rfl dX6_keeps_107 ?_
        refine g_bipush C dX6_keeps_110 gk_bipush_48 ?_
        refine g_iload_n C dX6_keeps_112 rfl 2 rfl ?_
        refine g_imul C dX6_keeps_113 ?_
        refine g_iload C dX6_keeps_114 3 rfl ?_
        refine g_iadd C dX6_keeps_116 ?_
        refine mm_ldZ C M 70 (Nat.le_of_ble_eq_true rfl) rfl dX6_keeps_117 h (fun v3 h => ?_)
        refine g_if_eq C dX6_keeps_118 rfl h (fun h => ?_) (fun h => ?_)
        · exact wk_keeps_b164 C M hk59 ih x2 x3 x4 z h
        · refine g_aload_n C dX6_keeps_121 rfl 0 rfl ?_
          refine mm_getA C M 68 (Nat.le_of_ble_eq_true rfl) (Nat.le_of_ble_eq_true rfl) q2071 rfl dX6_keeps_122 ?_
          refine g_iload C dX6_keeps_125 3 rfl ?_
          refine mm_ldZ C M 68 (Nat.le_of_ble_eq_true rfl) rfl dX6_keeps_127 h (fun v4 h => ?_)
          refine g_if_eq C dX6_keeps_128 rfl h (fun h => ?_) (fun h => ?_)
          · exact wk_keeps_b164 C M hk59 ih x2 x3 x4 z h
          · refine g_aload_n C dX6_keeps_131 rfl 0 rfl ?_
            refine mm_getA C M 71 (Nat.le_of_ble_eq_true rfl) (Nat.le_of_ble_eq_true rfl) q2074 rfl dX6_keeps_132 ?_
            refine g_iload C dX6_keeps_135 3 rfl ?_
            refine mm_ldI C M 71 (Nat.le_of_ble_eq_true rfl) rfl dX6_keeps_137 h (fun v5 h => ?_)
            refine g_iconst C dX6_keeps_138 gk_iconst_1 ?_
            refine g_iadd C dX6_keeps_139 ?_
            refine g_aload_n C dX6_keeps_140 rfl 0 rfl ?_
            refine mm_getA C M 71 (Nat.le_of_ble_eq_true rfl) (Nat.le_of_ble_eq_true rfl) q2074 rfl dX6_keeps_141 ?_
            refine g_iload_n C dX6_keeps_144 rfl 2 rfl ?_
            refine mm_ldI C M 71 (Nat.le_of_ble_eq_true rfl) rfl dX6_keeps_145 h (fun v6 h => ?_)
            refine g_icmp_le C dX6_keeps_146 rfl h (fun h => ?_) (fun h => ?_)
            · exact wk_keeps_b164 C M hk59 ih x2 x3 x4 z h
            · refine g_aload_n C dX6_keeps_149 rfl 0 rfl ?_
              refine mm_getA C M 71 (Nat.le_of_ble_eq_true rfl) (Nat.le_of_ble_eq_true rfl) q2074 rfl dX6_keeps_150 ?_
              refine g_iload_n C dX6_keeps_153 rfl 2 rfl ?_
              refine g_aload_n C dX6_keeps_154 rfl 0 rfl ?_
              refine mm_getA C M 71 (Nat.le_of_ble_eq_true rfl) (Nat.le_of_ble_eq_true rfl) q2074 rfl dX6_keeps_155 ?_
              refine g_iload C dX6_keeps_158 3 rfl ?_
              refine mm_ldI C M 71 (Nat.le_of_ble_eq_true rfl) rfl dX6_keeps_160 h (fun v7 h => ?_)
              refine g_iconst C dX6_keeps_161 gk_iconst_1 ?_
              refine g_iadd C dX6_keeps_162 ?_
              refine mm_stI C M 71 (Nat.le_of_ble_eq_true rfl) rfl dX6_keeps_163 h (fun z8 h => ?_)
              exact wk_keeps_b164 C M hk59 ih x2 x3 x4 z8 h
def mo_keeps_b82 (k59 : Int32 → Int32 → mm_S → Option (Unit × mm_S)) (x2 : Int32) (x3 : Int32) (s1 : Int32) (s2 : Int32) (z : mm_S) : Option (Unit × mm_S) := mm_sI 71 s1 s2 z (fun z1 => mo_keeps_b88 k59 g_fu x2 x3 (x3 + (1 : Int32)) z1)
theorem wk_keeps_b82 {X : gX} {E : mm_E} {r : Unit × mm_S} (C : gC X cX6_keeps 5 none RX6 6 143) (M : mm_C X E) {k59 : Int32 → Int32 → mm_S → Option (Unit × mm_S)} (hk59 : ∀ (x2 : Int32) (x3 : Int32) (z : mm_S), k59 x2 x3 z = some r → gW X (mm_G E) (.returned none, r.2) z 59 [(0, .ref E.2.2.1), (2, .int x2), (3, .int x3)] []) (x2 : Int32) (x3 : Int32) (s1 : Int32) (s2 : Int32) (z : mm_S) (h : mo_keeps_b82 k59 x2 x3 s1 s2 z = some r) : gW X (mm_G E) (.returned none, r.2) z 82 [(0, .ref E.2.2.1), (2, .int x2), (3, .int x3)] [.int s2, .int s1, .ref (E.2.2.2.1 71)] := by
  unfold mo_keeps_b82 at h
  refine mm_stI C M 71 (Nat.le_of_ble_eq_true rfl) rfl dX6_keeps_82 h (fun z1 h => ?_)
  refine g_iload_n C dX6_keeps_83 rfl 2 rfl ?_
  refine g_iconst C dX6_keeps_84 gk_iconst_1 ?_
  refine g_iadd C dX6_keeps_85 ?_
  refine g_istore [(4, .int (x3 + (1 : Int32))), (0, .ref E.2.2.1), (2, .int x2), (3, .int x3)] C dX6_keeps_86 (Nat.le_of_ble_eq_true rfl) rfl ?_
  exact g_sub [(0, .ref E.2.2.1), (2, .int x2), (3, .int x3), (4, .int (x3 + (1 : Int32)))] [1, 2, 3, 0] rfl (wk_keeps_b88 C M hk59 g_fu x2 x3 (x3 + (1 : Int32)) z1 h)
def mo_keeps_b59 : Nat → Int32 → Int32 → mm_S → Option (Unit × mm_S)
  | 0, _, _, _ => none
  | n + 1, x2, x3, z => if x3 < 0 then (mm_pI 66 x2 z (fun z1 => mo_keeps_b207 g_fu x2 (-1 : Int32) (0 : Int32) z1)) else (mm_lI 68 x3 z (fun v2 => if v2 = 0 then (mo_keeps_b82 (mo_keeps_b59 n) x2 x3 x3 (0 : Int32) z) else (mo_keeps_b82 (mo_keeps_b59 n) x2 x3 x3 (1 : Int32) z)))
theorem wk_keeps_b59 {X : gX} {E : mm_E} {r : Unit × mm_S} (C : gC X cX6_keeps 5 none RX6 6 143) (M : mm_C X E) : ∀ (n : Nat) (x2 : Int32) (x3 : Int32) (z : mm_S), mo_keeps_b59 n x2 x3 z = some r → gW X (mm_G E) (.returned none, r.2) z 59 [(0, .ref E.2.2.1), (2, .int x2), (3, .int x3)] [] := by
  intro n
  induction n with
  | zero =>
    intro x2 x3 z h
    have h : (none : Option (Unit × mm_S)) = some r := h
    cases h
  | succ n ih =>
    intro x2 x3 z h
    rw [mo_keeps_b59] at h
    refine g_iload_n C dX6_keeps_59 rfl 2 rfl ?_
    refine g_if_lt C dX6_keeps_60 rfl h (fun h => ?_) (fun h => ?_)
    · refine g_aload_n C dX6_keeps_197 rfl 0 rfl ?_
      refine g_iload_n C dX6_keeps_198 rfl 1 rfl ?_
      refine mm_putI C M 66 (Nat.le_of_ble_eq_true rfl) (Nat.le_of_ble_eq_true rfl) q2069 rfl rfl rfl dX6_keeps_199 h (fun z1 h => ?_)
      refine g_iconst C dX6_keeps_202 gk_iconst_m1 ?_
      refine g_istore_n [(3, .int (-1 : Int32)), (0, .ref E.2.2.1), (2, .int x2)] C dX6_keeps_203 rfl (Nat.le_of_ble_eq_true rfl) rfl ?_
      refine g_iconst C dX6_keeps_204 gk_iconst_0 ?_
      refine g_istore [(4, .int (0 : Int32)), (3, .int (-1 : Int32)), (0, .ref E.2.2.1), (2, .int x2)] C dX6_keeps_205 (Nat.le_of_ble_eq_true rfl) rfl ?_
      exact g_sub [(0, .ref E.2.2.1), (2, .int x2), (3, .int (-1 : Int32)), (4, .int (0 : Int32))] [2, 3, 1, 0] rfl (wk_keeps_b207 C M g_fu x2 (-1 : Int32) (0 : Int32) z1 h)
    · refine g_aload_n C dX6_keeps_63 rfl 0 rfl ?_
      refine mm_getA C M 71 (Nat.le_of_ble_eq_true rfl) (Nat.le_of_ble_eq_true rfl) q2074 rfl dX6_keeps_64 ?_
      refine g_iload_n C dX6_keeps_67 rfl 2 rfl ?_
      refine g_aload_n C dX6_keeps_68 rfl 0 rfl ?_
      refine mm_getA C M 68 (Nat.le_of_ble_eq_true rfl) (Nat.le_of_ble_eq_true rfl) q2071 rfl dX6_keeps_69 ?_
      refine g_iload_n C dX6_keeps_72 rfl 2 rfl ?_
      refine mm_ldZ C M 68 (Nat.le_of_ble_eq_true rfl) rfl dX6_keeps_73 h (fun v2 h => ?_)
      refine g_if_eq C dX6_keeps_74 rfl h (fun h => ?_) (fun h => ?_)
      · refine g_iconst C dX6_keeps_81 gk_iconst_0 ?_
        exact wk_keeps_b82 C M ih x2 x3 x3 (0 : Int32) z h
      · refine g_iconst C dX6_keeps_77 gk_iconst_1 ?_
        refine g_goto C dX6_keeps_78 rfl ?_
        exact wk_keeps_b82 C M ih x2 x3 x3 (1 : Int32) z h
def mo_keeps_b21 : Nat → Int32 → mm_S → Option (Unit × mm_S)
  | 0, _, _ => none
  | n + 1, x2, z => mm_gI 65 z (fun v1 => if v1 ≤ x2 then (mm_gI 64 z (fun v2 => if v2 = 0 then (some ((), z)) else (mm_gI 65 z (fun v3 => mo_keeps_b59 g_fu (0 : Int32) (v3 - (1 : Int32)) z)))) else (mm_sZ 69 x2 (0 : Int32) z (fun z4 => (mo_keeps_b21 n) (x2 + (1 : Int32)) z4)))
theorem wk_keeps_b21 {X : gX} {E : mm_E} {r : Unit × mm_S} (C : gC X cX6_keeps 5 none RX6 6 143) (M : mm_C X E) : ∀ (n : Nat) (x2 : Int32) (z : mm_S), mo_keeps_b21 n x2 z = some r → gW X (mm_G E) (.returned none, r.2) z 21 [(0, .ref E.2.2.1), (2, .int x2)] [] := by
  intro n
  induction n with
  | zero =>
    intro x2 z h
    have h : (none : Option (Unit × mm_S)) = some r := h
    cases h
  | succ n ih =>
    intro x2 z h
    rw [mo_keeps_b21] at h
    refine g_iload_n C dX6_keeps_21 rfl 1 rfl ?_
    refine g_aload_n C dX6_keeps_22 rfl 0 rfl ?_
    refine mm_getI C M 65 (Nat.le_of_ble_eq_true rfl) (Nat.le_of_ble_eq_true rfl) q2068 rfl dX6_keeps_23 h (fun v1 h => ?_)
    refine g_icmp_ge C dX6_keeps_26 rfl h (fun h => ?_) (fun h => ?_)
    · refine g_aload_n C dX6_keeps_42 rfl 0 rfl ?_
      refine mm_getI C M 64 (Nat.le_of_ble_eq_true rfl) (Nat.le_of_ble_eq_true rfl) q2067 rfl dX6_keeps_43 h (fun v2 h => ?_)
      refine g_if_ne C dX6_keeps_46 rfl h (fun h => ?_) (fun h => ?_)
      · refine g_iconst C dX6_keeps_50 gk_iconst_0 ?_
        refine g_istore_n [(2, .int (0 : Int32)), (0, .ref E.2.2.1)] C dX6_keeps_51 rfl (Nat.le_of_ble_eq_true rfl) rfl ?_
        refine g_aload_n C dX6_keeps_52 rfl 1 rfl ?_
        refine mm_getI C M 65 (Nat.le_of_ble_eq_true rfl) (Nat.le_of_ble_eq_true rfl) q2068 rfl dX6_keeps_53 h (fun v3 h => ?_)
        refine g_iconst C dX6_keeps_56 gk_iconst_1 ?_
        refine g_isub C dX6_keeps_57 ?_
        refine g_istore_n [(3, .int (v3 - (1 : Int32))), (2, .int (0 : Int32)), (0, .ref E.2.2.1)] C dX6_keeps_58 rfl (Nat.le_of_ble_eq_true rfl) rfl ?_
        exact g_sub [(0, .ref E.2.2.1), (2, .int (0 : Int32)), (3, .int (v3 - (1 : Int32)))] [2, 1, 0] rfl (wk_keeps_b59 C M g_fu (0 : Int32) (v3 - (1 : Int32)) z h)
      · exact g_vret C (fun _ => trivial) dX6_keeps_49 h
    · refine g_aload_n C dX6_keeps_29 rfl 0 rfl ?_
      refine mm_getA C M 69 (Nat.le_of_ble_eq_true rfl) (Nat.le_of_ble_eq_true rfl) q2072 rfl dX6_keeps_30 ?_
      refine g_iload_n C dX6_keeps_33 rfl 1 rfl ?_
      refine g_iconst C dX6_keeps_34 gk_iconst_0 ?_
      refine mm_stZ C M 69 (Nat.le_of_ble_eq_true rfl) rfl dX6_keeps_35 h (fun z4 h => ?_)
      refine g_iinc [(2, .int (x2 + (1 : Int32))), (0, .ref E.2.2.1)] C dX6_keeps_36 (j := 1) rfl (gk_inc_1 _) (Nat.le_of_ble_eq_true rfl) rfl ?_
      refine g_goto C dX6_keeps_39 rfl ?_
      exact g_sub [(0, .ref E.2.2.1), (2, .int (x2 + (1 : Int32)))] [1, 0] rfl (ih (x2 + (1 : Int32)) z4 h)
def mo_keeps (x1 : Int32) (z : mm_S) : Option (Unit × mm_S) := g_call (mo_booksFit x1 z) (fun v2 z1 => mm_pZ 64 v2 z1 (fun z3 => g_call (mo_pairs x1 z3) (fun _ z4 => mm_pI 66 (0 : Int32) z4 (fun z6 => mo_keeps_b21 g_fu (0 : Int32) z6))))
theorem wk_keeps {X : gX} {E : mm_E} {r : Unit × mm_S} (C : gC X cX6_keeps 5 none RX6 6 143) (M : mm_C X E) (x1 : Int32) (z : mm_S) (h : mo_keeps x1 z = some r) : gW X (mm_G E) (.returned none, r.2) z 0 [(0, .ref E.2.2.1), (1, .int x1)] [] := by
  unfold mo_keeps at h
  refine g_aload_n C dX6_keeps_0 rfl 0 rfl ?_
  refine g_aload_n C dX6_keeps_1 rfl 0 rfl ?_
  refine g_iload_n C dX6_keeps_2 rfl 1 rfl ?_
  obtain ⟨v2, z1, e, h⟩ := g_callE h
  refine mm_callV C M 1 [.int x1] (st := [.ref E.2.2.1]) (v := some (.int v2)) (z' := z1) (fun l => ct_booksFit l x1 z v2 z1 e) (lw_V q2554 q2556 qs132 q178 q2557) rfl rfl rfl (Nat.le_of_ble_eq_true rfl) (Nat.le_of_ble_eq_true rfl) (Nat.le_of_ble_eq_true rfl) dX6_keeps_3 ?_
  refine gW_st (st' := [.int v2, .ref E.2.2.1]) rfl ?_
  refine mm_putZ C M 64 (Nat.le_of_ble_eq_true rfl) (Nat.le_of_ble_eq_true rfl) q2067 rfl rfl rfl dX6_keeps_6 h (fun z3 h => ?_)
  refine g_aload_n C dX6_keeps_9 rfl 0 rfl ?_
  refine g_iload_n C dX6_keeps_10 rfl 1 rfl ?_
  obtain ⟨u5, z4, e, h⟩ := g_callE h
  refine mm_callV C M 1 [.int x1] (st := []) (v := none) (z' := z4) (fun l => ct_pairs l x1 z3 u5 z4 e) (lw_V q2577 q2579 qs137 q178 q2580) rfl rfl rfl (Nat.le_of_ble_eq_true rfl) (Nat.le_of_ble_eq_true rfl) (Nat.le_of_ble_eq_true rfl) dX6_keeps_11 ?_
  refine gW_st (st' := []) rfl ?_
  refine g_aload_n C dX6_keeps_14 rfl 0 rfl ?_
  refine g_iconst C dX6_keeps_15 gk_iconst_0 ?_
  refine mm_putI C M 66 (Nat.le_of_ble_eq_true rfl) (Nat.le_of_ble_eq_true rfl) q2069 rfl rfl rfl dX6_keeps_16 h (fun z6 h => ?_)
  refine g_iconst C dX6_keeps_19 gk_iconst_0 ?_
  refine g_istore_n [(2, .int (0 : Int32)), (0, .ref E.2.2.1), (1, .int x1)] C dX6_keeps_20 rfl (Nat.le_of_ble_eq_true rfl) rfl ?_
  exact g_sub [(0, .ref E.2.2.1), (2, .int (0 : Int32))] [1, 0] rfl (wk_keeps_b21 C M g_fu (0 : Int32) z6 h)
theorem ct_keeps (l : Launch) (x1 : Int32) (z : mm_S) (r : Unit) (z' : mm_S) (h : mo_keeps x1 z = some (r, z')) : mm_MetV l yX6_keeps cX6_keeps 5 none 6 143 [.int x1] z (.returned none, z') := by
  intro E hD
  exact mm_enter E hD rfl ⟨_, rfl⟩ (.ref E.2.2.1 :: [.int x1]) (Nat.le_of_ble_eq_true rfl) (fun X C M => wk_keeps C M x1 z h)
def mo_booksOf_b41 (k4 : Int32 → Int32 → Int32 → mm_S → Option (Int32 × mm_S)) (x1 : Int32) (x3 : Int32) (s0 : Int32) (s1 : Int32) (z : mm_S) : Option (Int32 × mm_S) := k4 x1 (s0 + s1) (x3 + (1 : Int32)) z
theorem wk_booksOf_b41 {X : gX} {E : mm_E} {r : Int32 × mm_S} (C : gC X cX6_booksOf 4 (some .int) RX6 0 0) (M : mm_C X E) {k4 : Int32 → Int32 → Int32 → mm_S → Option (Int32 × mm_S)} (hk4 : ∀ (x1 : Int32) (x2 : Int32) (x3 : Int32) (z : mm_S), k4 x1 x2 x3 z = some r → gW X (mm_G E) (.returned (some (.int r.1)), r.2) z 4 [(0, .ref E.2.2.1), (1, .int x1), (2, .int x2), (3, .int x3)] []) (x1 : Int32) (x3 : Int32) (s0 : Int32) (s1 : Int32) (z : mm_S) (h : mo_booksOf_b41 k4 x1 x3 s0 s1 z = some r) : gW X (mm_G E) (.returned (some (.int r.1)), r.2) z 41 [(0, .ref E.2.2.1), (1, .int x1), (3, .int x3)] [.int s1, .int s0] := by
  unfold mo_booksOf_b41 at h
  refine g_iadd C dX6_booksOf_41 ?_
  refine g_istore_n [(2, .int (s0 + s1)), (0, .ref E.2.2.1), (1, .int x1), (3, .int x3)] C dX6_booksOf_42 rfl (Nat.le_of_ble_eq_true rfl) rfl ?_
  refine g_iinc [(3, .int (x3 + (1 : Int32))), (2, .int (s0 + s1)), (0, .ref E.2.2.1), (1, .int x1)] C dX6_booksOf_43 (j := 3) rfl (gk_inc_1 _) (Nat.le_of_ble_eq_true rfl) rfl ?_
  refine g_goto C dX6_booksOf_46 rfl ?_
  exact g_sub [(0, .ref E.2.2.1), (1, .int x1), (2, .int (s0 + s1)), (3, .int (x3 + (1 : Int32)))] [2, 3, 1, 0] rfl (hk4 x1 (s0 + s1) (x3 + (1 : Int32)) z h)
def mo_booksOf_b4 : Nat → Int32 → Int32 → Int32 → mm_S → Option (Int32 × mm_S)
  | 0, _, _, _, _ => none
  | n + 1, x1, x2, x3, z => mm_gI 12 z (fun v1 => mm_lI 28 v1 z (fun v2 => if v2 ≤ x3 then (some (x2, z)) else (mm_gI 12 z (fun v3 => mm_lI 29 (((12 : Int32) * v3) + x3) z (fun v4 => if v4 = x1 then (mo_booksOf_b41 (mo_booksOf_b4 n) x1 x3 x2 (1 : Int32) z) else (mo_booksOf_b41 (mo_booksOf_b4 n) x1 x3 x2 (0 : Int32) z))))))
theorem wk_booksOf_b4 {X : gX} {E : mm_E} {r : Int32 × mm_S} (C : gC X cX6_booksOf 4 (some .int) RX6 0 0) (M : mm_C X E) : ∀ (n : Nat) (x1 : Int32) (x2 : Int32) (x3 : Int32) (z : mm_S), mo_booksOf_b4 n x1 x2 x3 z = some r → gW X (mm_G E) (.returned (some (.int r.1)), r.2) z 4 [(0, .ref E.2.2.1), (1, .int x1), (2, .int x2), (3, .int x3)] [] := by
  intro n
  induction n with
  | zero =>
    intro x1 x2 x3 z h
    have h : (none : Option (Int32 × mm_S)) = some r := h
    cases h
  | succ n ih =>
    intro x1 x2 x3 z h
    rw [mo_booksOf_b4] at h
    refine g_iload_n C dX6_booksOf_4 rfl 3 rfl ?_
    refine g_aload_n C dX6_booksOf_5 rfl 0 rfl ?_
    refine mm_getA C M 28 (Nat.le_of_ble_eq_true rfl) (Nat.le_of_ble_eq_true rfl) q2031 rfl dX6_booksOf_6 ?_
    refine g_aload_n C dX6_booksOf_9 rfl 0 rfl ?_
    refine mm_getI C M 12 (Nat.le_of_ble_eq_true rfl) (Nat.le_of_ble_eq_true rfl) q2015 rfl dX6_booksOf_10 h (fun v1 h => ?_)
    refine mm_ldI C M 28 (Nat.le_of_ble_eq_true rfl) rfl dX6_booksOf_13 h (fun v2 h => ?_)
    refine g_icmp_ge C dX6_booksOf_14 rfl h (fun h => ?_) (fun h => ?_)
    · refine g_iload_n C dX6_booksOf_49 rfl 2 rfl ?_
      exact g_iret C (fun _ => trivial) dX6_booksOf_50 h
    · refine g_iload_n C dX6_booksOf_17 rfl 2 rfl ?_
      refine g_aload_n C dX6_booksOf_18 rfl 0 rfl ?_
      refine mm_getA C M 29 (Nat.le_of_ble_eq_true rfl) (Nat.le_of_ble_eq_true rfl) q2032 rfl dX6_booksOf_19 ?_
      refine g_bipush C dX6_booksOf_22 gk_bipush_12 ?_
      refine g_aload_n C dX6_booksOf_24 rfl 0 rfl ?_
      refine mm_getI C M 12 (Nat.le_of_ble_eq_true rfl) (Nat.le_of_ble_eq_true rfl) q2015 rfl dX6_booksOf_25 h (fun v3 h => ?_)
      refine g_imul C dX6_booksOf_28 ?_
      refine g_iload_n C dX6_booksOf_29 rfl 3 rfl ?_
      refine g_iadd C dX6_booksOf_30 ?_
      refine mm_ldI C M 29 (Nat.le_of_ble_eq_true rfl) rfl dX6_booksOf_31 h (fun v4 h => ?_)
      refine g_iload_n C dX6_booksOf_32 rfl 1 rfl ?_
      refine g_icmp_ne C dX6_booksOf_33 rfl h (fun h => ?_) (fun h => ?_)
      · refine g_iconst C dX6_booksOf_40 gk_iconst_0 ?_
        exact g_sub [(0, .ref E.2.2.1), (1, .int x1), (3, .int x3)] [0, 1, 3] rfl (wk_booksOf_b41 C M ih x1 x3 x2 (0 : Int32) z h)
      · refine g_iconst C dX6_booksOf_36 gk_iconst_1 ?_
        refine g_goto C dX6_booksOf_37 rfl ?_
        exact g_sub [(0, .ref E.2.2.1), (1, .int x1), (3, .int x3)] [0, 1, 3] rfl (wk_booksOf_b41 C M ih x1 x3 x2 (1 : Int32) z h)
def mo_booksOf (x1 : Int32) (z : mm_S) : Option (Int32 × mm_S) := mo_booksOf_b4 g_fu x1 (0 : Int32) (0 : Int32) z
theorem wk_booksOf {X : gX} {E : mm_E} {r : Int32 × mm_S} (C : gC X cX6_booksOf 4 (some .int) RX6 0 0) (M : mm_C X E) (x1 : Int32) (z : mm_S) (h : mo_booksOf x1 z = some r) : gW X (mm_G E) (.returned (some (.int r.1)), r.2) z 0 [(0, .ref E.2.2.1), (1, .int x1)] [] := by
  unfold mo_booksOf at h
  refine g_iconst C dX6_booksOf_0 gk_iconst_0 ?_
  refine g_istore_n [(2, .int (0 : Int32)), (0, .ref E.2.2.1), (1, .int x1)] C dX6_booksOf_1 rfl (Nat.le_of_ble_eq_true rfl) rfl ?_
  refine g_iconst C dX6_booksOf_2 gk_iconst_0 ?_
  refine g_istore_n [(3, .int (0 : Int32)), (2, .int (0 : Int32)), (0, .ref E.2.2.1), (1, .int x1)] C dX6_booksOf_3 rfl (Nat.le_of_ble_eq_true rfl) rfl ?_
  exact g_sub [(0, .ref E.2.2.1), (1, .int x1), (2, .int (0 : Int32)), (3, .int (0 : Int32))] [2, 3, 1, 0] rfl (wk_booksOf_b4 C M g_fu x1 (0 : Int32) (0 : Int32) z h)
theorem ct_booksOf (l : Launch) (x1 : Int32) (z : mm_S) (r : Int32) (z' : mm_S) (h : mo_booksOf x1 z = some (r, z')) : mm_MetV l yX6_booksOf cX6_booksOf 4 (some .int) 0 0 [.int x1] z (.returned (some (.int r)), z') := by
  intro E hD
  exact mm_enter E hD rfl ⟨_, rfl⟩ (.ref E.2.2.1 :: [.int x1]) (Nat.le_of_ble_eq_true rfl) (fun X C M => wk_booksOf C M x1 z h)
def mo_ship_2_b134 (x1 : Int32) (x2 : Int32) (z : mm_S) : Option (Int32 × mm_S) := g_call (mo_keeps x1 z) (fun _ z1 => if x2 = (5 : Int32) then (mm_gI 66 z1 (fun v5 => some (v5, z1))) else (mm_gI 65 z1 (fun v3 => mm_gI 66 z1 (fun v4 => some ((v3 - v4), z1)))))
theorem wk_ship_2_b134 {X : gX} {E : mm_E} {r : Int32 × mm_S} (C : gC X cX6_ship_2 4 (some .int) RX6 7 167) (M : mm_C X E) (x1 : Int32) (x2 : Int32) (z : mm_S) (h : mo_ship_2_b134 x1 x2 z = some r) : gW X (mm_G E) (.returned (some (.int r.1)), r.2) z 134 [(0, .ref E.2.2.1), (1, .int x1), (2, .int x2)] [] := by
  unfold mo_ship_2_b134 at h
  refine g_aload_n C dX6_ship_2_134 rfl 0 rfl ?_
  refine g_iload_n C dX6_ship_2_135 rfl 1 rfl ?_
  obtain ⟨u2, z1, e, h⟩ := g_callE h
  refine mm_callV C M 1 [.int x1] (st := []) (v := none) (z' := z1) (fun l => ct_keeps l x1 z u2 z1 e) (lw_V q2573 q2575 qs136 q178 q2576) rfl rfl rfl (Nat.le_of_ble_eq_true rfl) (Nat.le_of_ble_eq_true rfl) (Nat.le_of_ble_eq_true rfl) dX6_ship_2_136 ?_
  refine gW_st (st' := []) rfl ?_
  refine g_iload_n C dX6_ship_2_139 rfl 2 rfl ?_
  refine g_iconst C dX6_ship_2_140 gk_iconst_5 ?_
  refine g_icmp_ne C dX6_ship_2_141 rfl h (fun h => ?_) (fun h => ?_)
  · refine g_aload_n C dX6_ship_2_151 rfl 0 rfl ?_
    refine mm_getI C M 65 (Nat.le_of_ble_eq_true rfl) (Nat.le_of_ble_eq_true rfl) q2068 rfl dX6_ship_2_152 h (fun v3 h => ?_)
    refine g_aload_n C dX6_ship_2_155 rfl 0 rfl ?_
    refine mm_getI C M 66 (Nat.le_of_ble_eq_true rfl) (Nat.le_of_ble_eq_true rfl) q2069 rfl dX6_ship_2_156 h (fun v4 h => ?_)
    refine g_isub C dX6_ship_2_159 ?_
    exact g_iret C (fun _ => trivial) dX6_ship_2_160 h
  · refine g_aload_n C dX6_ship_2_144 rfl 0 rfl ?_
    refine mm_getI C M 66 (Nat.le_of_ble_eq_true rfl) (Nat.le_of_ble_eq_true rfl) q2069 rfl dX6_ship_2_145 h (fun v5 h => ?_)
    refine g_goto C dX6_ship_2_148 rfl ?_
    exact g_iret C (fun _ => trivial) dX6_ship_2_160 h
def mo_ship_2 (x1 : Int32) (x2 : Int32) (z : mm_S) : Option (Int32 × mm_S) := g_call (mo_isShip x1 z) (fun v2 z1 => if v2 = 0 then (some ((-1 : Int32), z1)) else (g_call (mo_is x2 (0 : Int32) (8 : Int32) z1) (fun v4 z3 => if v4 = 0 then (some ((-1 : Int32), z3)) else (mm_gI 12 z3 (fun v5 => if x2 = (0 : Int32) then (mm_lI 21 (((8 : Int32) * v5) + x1) z3 (fun v6 => some (v6, z3))) else if x2 = (1 : Int32) then (mm_lI 22 (((8 : Int32) * v5) + x1) z3 (fun v7 => some (v7, z3))) else if x2 = (2 : Int32) then (mm_lI 23 (((8 : Int32) * v5) + x1) z3 (fun v8 => some (v8, z3))) else if x2 = (3 : Int32) then (mm_lI 24 (((8 : Int32) * v5) + x1) z3 (fun v9 => some (v9, z3))) else if x2 = (4 : Int32) then (g_call (mo_sayingsOf x1 z3) (fun v11 z10 => some (v11, z10))) else if x2 = (5 : Int32) then (mo_ship_2_b134 x1 x2 z3) else if x2 = (6 : Int32) then (mo_ship_2_b134 x1 x2 z3) else if x2 = (7 : Int32) then (g_call (mo_booksOf x1 z3) (fun v13 z12 => some (v13, z12))) else if x2 = (8 : Int32) then (g_call (mo_booksFit x1 z3) (fun v15 z14 => if v15 = 0 then (some ((0 : Int32), z14)) else (some ((1 : Int32), z14)))) else (mo_ship_2_b134 x1 x2 z3))))))
theorem wk_ship_2 {X : gX} {E : mm_E} {r : Int32 × mm_S} (C : gC X cX6_ship_2 4 (some .int) RX6 7 167) (M : mm_C X E) (x1 : Int32) (x2 : Int32) (z : mm_S) (h : mo_ship_2 x1 x2 z = some r) : gW X (mm_G E) (.returned (some (.int r.1)), r.2) z 0 [(0, .ref E.2.2.1), (1, .int x1), (2, .int x2)] [] := by
  unfold mo_ship_2 at h
  refine g_aload_n C dX6_ship_2_0 rfl 0 rfl ?_
  refine g_iload_n C dX6_ship_2_1 rfl 1 rfl ?_
  obtain ⟨v2, z1, e, h⟩ := g_callE h
  refine mm_callV C M 1 [.int x1] (st := []) (v := some (.int v2)) (z' := z1) (fun l => ct_isShip l x1 z v2 z1 e) (lw_V q2521 q2523 qs126 q178 q2524) rfl rfl rfl (Nat.le_of_ble_eq_true rfl) (Nat.le_of_ble_eq_true rfl) (Nat.le_of_ble_eq_true rfl) dX6_ship_2_2 ?_
  refine gW_st (st' := [.int v2]) rfl ?_
  refine g_if_eq C dX6_ship_2_5 rfl h (fun h => ?_) (fun h => ?_)
  · refine g_iconst C dX6_ship_2_18 gk_iconst_m1 ?_
    exact g_iret C (fun _ => trivial) dX6_ship_2_19 h
  · refine g_iload_n C dX6_ship_2_8 rfl 2 rfl ?_
    refine g_iconst C dX6_ship_2_9 gk_iconst_0 ?_
    refine g_bipush C dX6_ship_2_10 gk_bipush_8 ?_
    obtain ⟨v4, z3, e, h⟩ := g_callE h
    refine mm_callS C M 3 [.int x2, .int (0 : Int32), .int (8 : Int32)] (st := []) (v := some (.int v4)) (z' := z3) (fun l => ct_is l x2 (0 : Int32) (8 : Int32) z1 v4 z3 e) (lw_S q2301 q2302 q178 q2303) rfl rfl rfl (Nat.le_of_ble_eq_true rfl) (Nat.le_of_ble_eq_true rfl) (Nat.le_of_ble_eq_true rfl) dX6_ship_2_12 ?_
    refine gW_st (st' := [.int v4]) rfl ?_
    refine g_if_ne C dX6_ship_2_15 rfl h (fun h => ?_) (fun h => ?_)
    · refine g_bipush C dX6_ship_2_20 gk_bipush_8 ?_
      refine g_aload_n C dX6_ship_2_22 rfl 0 rfl ?_
      refine mm_getI C M 12 (Nat.le_of_ble_eq_true rfl) (Nat.le_of_ble_eq_true rfl) q2015 rfl dX6_ship_2_23 h (fun v5 h => ?_)
      refine g_imul C dX6_ship_2_26 ?_
      refine g_iload_n C dX6_ship_2_27 rfl 1 rfl ?_
      refine g_iadd C dX6_ship_2_28 ?_
      refine g_istore_n [(3, .int (((8 : Int32) * v5) + x1)), (0, .ref E.2.2.1), (1, .int x1), (2, .int x2)] C dX6_ship_2_29 rfl (Nat.le_of_ble_eq_true rfl) rfl ?_
      refine g_iload_n C dX6_ship_2_30 rfl 3 rfl ?_
      by_cases c0 : x2 = (0 : Int32)
      · rw [if_pos c0] at h
        refine g_swIn C dX6_ship_2_31 (by rw [c0]; decide) (by rw [c0]; decide) (by rw [c0]; rfl) rfl ?_
        refine g_aload_n C dX6_ship_2_80 rfl 1 rfl ?_
        refine mm_getA C M 21 (Nat.le_of_ble_eq_true rfl) (Nat.le_of_ble_eq_true rfl) q2024 rfl dX6_ship_2_81 ?_
        refine g_iload_n C dX6_ship_2_84 rfl 0 rfl ?_
        refine mm_ldI C M 21 (Nat.le_of_ble_eq_true rfl) rfl dX6_ship_2_85 h (fun v6 h => ?_)
        exact g_iret C (fun _ => trivial) dX6_ship_2_86 h
      rw [if_neg c0] at h
      by_cases c1 : x2 = (1 : Int32)
      · rw [if_pos c1] at h
        refine g_swIn C dX6_ship_2_31 (by rw [c1]; decide) (by rw [c1]; decide) (by rw [c1]; rfl) rfl ?_
        refine g_aload_n C dX6_ship_2_87 rfl 1 rfl ?_
        refine mm_getA C M 22 (Nat.le_of_ble_eq_true rfl) (Nat.le_of_ble_eq_true rfl) q2025 rfl dX6_ship_2_88 ?_
        refine g_iload_n C dX6_ship_2_91 rfl 0 rfl ?_
        refine mm_ldI C M 22 (Nat.le_of_ble_eq_true rfl) rfl dX6_ship_2_92 h (fun v7 h => ?_)
        exact g_iret C (fun _ => trivial) dX6_ship_2_93 h
      rw [if_neg c1] at h
      by_cases c2 : x2 = (2 : Int32)
      · rw [if_pos c2] at h
        refine g_swIn C dX6_ship_2_31 (by rw [c2]; decide) (by rw [c2]; decide) (by rw [c2]; rfl) rfl ?_
        refine g_aload_n C dX6_ship_2_94 rfl 1 rfl ?_
        refine mm_getA C M 23 (Nat.le_of_ble_eq_true rfl) (Nat.le_of_ble_eq_true rfl) q2026 rfl dX6_ship_2_95 ?_
        refine g_iload_n C dX6_ship_2_98 rfl 0 rfl ?_
        refine mm_ldI C M 23 (Nat.le_of_ble_eq_true rfl) rfl dX6_ship_2_99 h (fun v8 h => ?_)
        exact g_iret C (fun _ => trivial) dX6_ship_2_100 h
      rw [if_neg c2] at h
      by_cases c3 : x2 = (3 : Int32)
      · rw [if_pos c3] at h
        refine g_swIn C dX6_ship_2_31 (by rw [c3]; decide) (by rw [c3]; decide) (by rw [c3]; rfl) rfl ?_
        refine g_aload_n C dX6_ship_2_101 rfl 1 rfl ?_
        refine mm_getA C M 24 (Nat.le_of_ble_eq_true rfl) (Nat.le_of_ble_eq_true rfl) q2027 rfl dX6_ship_2_102 ?_
        refine g_iload_n C dX6_ship_2_105 rfl 0 rfl ?_
        refine mm_ldI C M 24 (Nat.le_of_ble_eq_true rfl) rfl dX6_ship_2_106 h (fun v9 h => ?_)
        exact g_iret C (fun _ => trivial) dX6_ship_2_107 h
      rw [if_neg c3] at h
      by_cases c4 : x2 = (4 : Int32)
      · rw [if_pos c4] at h
        refine g_swIn C dX6_ship_2_31 (by rw [c4]; decide) (by rw [c4]; decide) (by rw [c4]; rfl) rfl ?_
        refine g_aload_n C dX6_ship_2_108 rfl 1 rfl ?_
        refine g_iload_n C dX6_ship_2_109 rfl 2 rfl ?_
        obtain ⟨v11, z10, e, h⟩ := g_callE h
        refine mm_callV C M 1 [.int x1] (st := []) (v := some (.int v11)) (z' := z10) (fun l => ct_sayingsOf l x1 z3 v11 z10 e) (lw_V q2509 q2511 qs124 q178 q2512) rfl rfl rfl (Nat.le_of_ble_eq_true rfl) (Nat.le_of_ble_eq_true rfl) (Nat.le_of_ble_eq_true rfl) dX6_ship_2_110 ?_
        refine gW_st (st' := [.int v11]) rfl ?_
        exact g_iret C (fun _ => trivial) dX6_ship_2_113 h
      rw [if_neg c4] at h
      by_cases c5 : x2 = (5 : Int32)
      · rw [if_pos c5] at h
        refine g_swIn C dX6_ship_2_31 (by rw [c5]; decide) (by rw [c5]; decide) (by rw [c5]; rfl) rfl ?_
        exact g_sub [(0, .ref E.2.2.1), (1, .int x1), (2, .int x2)] [1, 2, 3] rfl (wk_ship_2_b134 C M x1 x2 z3 h)
      rw [if_neg c5] at h
      by_cases c6 : x2 = (6 : Int32)
      · rw [if_pos c6] at h
        refine g_swIn C dX6_ship_2_31 (by rw [c6]; decide) (by rw [c6]; decide) (by rw [c6]; rfl) rfl ?_
        exact g_sub [(0, .ref E.2.2.1), (1, .int x1), (2, .int x2)] [1, 2, 3] rfl (wk_ship_2_b134 C M x1 x2 z3 h)
      rw [if_neg c6] at h
      by_cases c7 : x2 = (7 : Int32)
      · rw [if_pos c7] at h
        refine g_swIn C dX6_ship_2_31 (by rw [c7]; decide) (by rw [c7]; decide) (by rw [c7]; rfl) rfl ?_
        refine g_aload_n C dX6_ship_2_114 rfl 1 rfl ?_
        refine g_iload_n C dX6_ship_2_115 rfl 2 rfl ?_
        obtain ⟨v13, z12, e, h⟩ := g_callE h
        refine mm_callV C M 1 [.int x1] (st := []) (v := some (.int v13)) (z' := z12) (fun l => ct_booksOf l x1 z3 v13 z12 e) (lw_V q2550 q2552 qs131 q178 q2553) rfl rfl rfl (Nat.le_of_ble_eq_true rfl) (Nat.le_of_ble_eq_true rfl) (Nat.le_of_ble_eq_true rfl) dX6_ship_2_116 ?_
        refine gW_st (st' := [.int v13]) rfl ?_
        exact g_iret C (fun _ => trivial) dX6_ship_2_119 h
      rw [if_neg c7] at h
      by_cases c8 : x2 = (8 : Int32)
      · rw [if_pos c8] at h
        refine g_swIn C dX6_ship_2_31 (by rw [c8]; decide) (by rw [c8]; decide) (by rw [c8]; rfl) rfl ?_
        refine g_aload_n C dX6_ship_2_120 rfl 1 rfl ?_
        refine g_iload_n C dX6_ship_2_121 rfl 2 rfl ?_
        obtain ⟨v15, z14, e, h⟩ := g_callE h
        refine mm_callV C M 1 [.int x1] (st := []) (v := some (.int v15)) (z' := z14) (fun l => ct_booksFit l x1 z3 v15 z14 e) (lw_V q2554 q2556 qs132 q178 q2557) rfl rfl rfl (Nat.le_of_ble_eq_true rfl) (Nat.le_of_ble_eq_true rfl) (Nat.le_of_ble_eq_true rfl) dX6_ship_2_122 ?_
        refine gW_st (st' := [.int v15]) rfl ?_
        refine g_if_eq C dX6_ship_2_125 rfl h (fun h => ?_) (fun h => ?_)
        · refine g_iconst C dX6_ship_2_132 gk_iconst_0 ?_
          exact g_iret C (fun _ => trivial) dX6_ship_2_133 h
        · refine g_iconst C dX6_ship_2_128 gk_iconst_1 ?_
          refine g_goto C dX6_ship_2_129 rfl ?_
          exact g_iret C (fun _ => trivial) dX6_ship_2_133 h
      rw [if_neg c8] at h
      have e0 := g_ne c0 (0) (by decide)
      have e1 := g_ne c1 (1) (by decide)
      have e2 := g_ne c2 (2) (by decide)
      have e3 := g_ne c3 (3) (by decide)
      have e4 := g_ne c4 (4) (by decide)
      have e5 := g_ne c5 (5) (by decide)
      have e6 := g_ne c6 (6) (by decide)
      have e7 := g_ne c7 (7) (by decide)
      have e8 := g_ne c8 (8) (by decide)
      refine g_swOut C dX6_ship_2_31 (by omega) rfl ?_
      exact g_sub [(0, .ref E.2.2.1), (1, .int x1), (2, .int x2)] [1, 2, 3] rfl (wk_ship_2_b134 C M x1 x2 z3 h)
    · refine g_iconst C dX6_ship_2_18 gk_iconst_m1 ?_
      exact g_iret C (fun _ => trivial) dX6_ship_2_19 h
theorem ct_ship_2 (l : Launch) (x1 : Int32) (x2 : Int32) (z : mm_S) (r : Int32) (z' : mm_S) (h : mo_ship_2 x1 x2 z = some (r, z')) : mm_MetV l yX6_ship_2 cX6_ship_2 4 (some .int) 7 167 [.int x1, .int x2] z (.returned (some (.int r)), z') := by
  intro E hD
  exact mm_enter E hD rfl ⟨_, rfl⟩ (.ref E.2.2.1 :: [.int x1, .int x2]) (Nat.le_of_ble_eq_true rfl) (fun X C M => wk_ship_2 C M x1 x2 z h)
def mo_hourOf_b40 (k5 : Int32 → Int32 → Int32 → mm_S → Option (Int32 × mm_S)) (x1 : Int32) (x3 : Int32) (x4 : Int32) (z : mm_S) : Option (Int32 × mm_S) := k5 x1 x3 (x4 + (1 : Int32)) z
theorem wk_hourOf_b40 {X : gX} {E : mm_E} {r : Int32 × mm_S} (C : gC X cX6_hourOf 5 (some .int) RX6 1 22) (M : mm_C X E) {k5 : Int32 → Int32 → Int32 → mm_S → Option (Int32 × mm_S)} (hk5 : ∀ (x1 : Int32) (x3 : Int32) (x4 : Int32) (z : mm_S), k5 x1 x3 x4 z = some r → gW X (mm_G E) (.returned (some (.int r.1)), r.2) z 5 [(0, .ref E.2.2.1), (1, .int x1), (3, .int x3), (4, .int x4)] []) (x1 : Int32) (x3 : Int32) (x4 : Int32) (z : mm_S) (h : mo_hourOf_b40 k5 x1 x3 x4 z = some r) : gW X (mm_G E) (.returned (some (.int r.1)), r.2) z 40 [(0, .ref E.2.2.1), (1, .int x1), (3, .int x3), (4, .int x4)] [] := by
  unfold mo_hourOf_b40 at h
  refine g_iinc [(4, .int (x4 + (1 : Int32))), (0, .ref E.2.2.1), (1, .int x1), (3, .int x3)] C dX6_hourOf_40 (j := 3) rfl (gk_inc_1 _) (Nat.le_of_ble_eq_true rfl) rfl ?_
  refine g_goto C dX6_hourOf_43 rfl ?_
  exact g_sub [(0, .ref E.2.2.1), (1, .int x1), (3, .int x3), (4, .int (x4 + (1 : Int32)))] [1, 2, 3, 0] rfl (hk5 x1 x3 (x4 + (1 : Int32)) z h)
def mo_hourOf_b5 : Nat → Int32 → Int32 → Int32 → mm_S → Option (Int32 × mm_S)
  | 0, _, _, _, _ => none
  | n + 1, x1, x3, x4, z => if (48 : Int32) ≤ x4 then (some ((-1 : Int32), z)) else (if x3 < 0 then (some ((-1 : Int32), z)) else (g_call (mo_said x1 x4 z) (fun v2 z1 => if v2 = (-1 : Int32) then (mo_hourOf_b40 (mo_hourOf_b5 n) x1 x3 x4 z1) else (if x3 = 0 then (some (x4, z1)) else (mo_hourOf_b40 (mo_hourOf_b5 n) x1 (x3 + (-1 : Int32)) x4 z1)))))
theorem wk_hourOf_b5 {X : gX} {E : mm_E} {r : Int32 × mm_S} (C : gC X cX6_hourOf 5 (some .int) RX6 1 22) (M : mm_C X E) : ∀ (n : Nat) (x1 : Int32) (x3 : Int32) (x4 : Int32) (z : mm_S), mo_hourOf_b5 n x1 x3 x4 z = some r → gW X (mm_G E) (.returned (some (.int r.1)), r.2) z 5 [(0, .ref E.2.2.1), (1, .int x1), (3, .int x3), (4, .int x4)] [] := by
  intro n
  induction n with
  | zero =>
    intro x1 x3 x4 z h
    have h : (none : Option (Int32 × mm_S)) = some r := h
    cases h
  | succ n ih =>
    intro x1 x3 x4 z h
    rw [mo_hourOf_b5] at h
    refine g_iload C dX6_hourOf_5 3 rfl ?_
    refine g_bipush C dX6_hourOf_7 gk_bipush_48 ?_
    refine g_icmp_ge C dX6_hourOf_9 rfl h (fun h => ?_) (fun h => ?_)
    · refine g_iconst C dX6_hourOf_46 gk_iconst_m1 ?_
      exact g_iret C (fun _ => trivial) dX6_hourOf_47 h
    · refine g_iload_n C dX6_hourOf_12 rfl 2 rfl ?_
      refine g_if_lt C dX6_hourOf_13 rfl h (fun h => ?_) (fun h => ?_)
      · refine g_iconst C dX6_hourOf_46 gk_iconst_m1 ?_
        exact g_iret C (fun _ => trivial) dX6_hourOf_47 h
      · refine g_aload_n C dX6_hourOf_16 rfl 0 rfl ?_
        refine g_iload_n C dX6_hourOf_17 rfl 1 rfl ?_
        refine g_iload C dX6_hourOf_18 3 rfl ?_
        obtain ⟨v2, z1, e, h⟩ := g_callE h
        refine mm_callV C M 2 [.int x1, .int x4] (st := []) (v := some (.int v2)) (z' := z1) (fun l => ct_said l x1 x4 z v2 z1 e) (lw_V q2513 q2515 qs125 q178 q2516) rfl rfl rfl (Nat.le_of_ble_eq_true rfl) (Nat.le_of_ble_eq_true rfl) (Nat.le_of_ble_eq_true rfl) dX6_hourOf_20 ?_
        refine gW_st (st' := [.int v2]) rfl ?_
        refine g_iconst C dX6_hourOf_23 gk_iconst_m1 ?_
        refine g_icmp_ne C dX6_hourOf_24 rfl h (fun h => ?_) (fun h => ?_)
        · refine g_iload_n C dX6_hourOf_30 rfl 2 rfl ?_
          refine g_if_ne C dX6_hourOf_31 rfl h (fun h => ?_) (fun h => ?_)
          · refine g_iinc [(3, .int (x3 + (-1 : Int32))), (0, .ref E.2.2.1), (1, .int x1), (4, .int x4)] C dX6_hourOf_37 (j := 2) rfl (gk_inc_m1 _) (Nat.le_of_ble_eq_true rfl) rfl ?_
            exact g_sub [(0, .ref E.2.2.1), (1, .int x1), (3, .int (x3 + (-1 : Int32))), (4, .int x4)] [1, 2, 0, 3] rfl (wk_hourOf_b40 C M ih x1 (x3 + (-1 : Int32)) x4 z1 h)
          · refine g_iload C dX6_hourOf_34 3 rfl ?_
            exact g_iret C (fun _ => trivial) dX6_hourOf_36 h
        · refine g_goto C dX6_hourOf_27 rfl ?_
          exact wk_hourOf_b40 C M ih x1 x3 x4 z1 h
def mo_hourOf (x1 : Int32) (x2 : Int32) (z : mm_S) : Option (Int32 × mm_S) := mo_hourOf_b5 g_fu x1 x2 (0 : Int32) z
theorem wk_hourOf {X : gX} {E : mm_E} {r : Int32 × mm_S} (C : gC X cX6_hourOf 5 (some .int) RX6 1 22) (M : mm_C X E) (x1 : Int32) (x2 : Int32) (z : mm_S) (h : mo_hourOf x1 x2 z = some r) : gW X (mm_G E) (.returned (some (.int r.1)), r.2) z 0 [(0, .ref E.2.2.1), (1, .int x1), (2, .int x2)] [] := by
  unfold mo_hourOf at h
  refine g_iload_n C dX6_hourOf_0 rfl 2 rfl ?_
  refine g_istore_n [(3, .int x2), (0, .ref E.2.2.1), (1, .int x1), (2, .int x2)] C dX6_hourOf_1 rfl (Nat.le_of_ble_eq_true rfl) rfl ?_
  refine g_iconst C dX6_hourOf_2 gk_iconst_0 ?_
  refine g_istore [(4, .int (0 : Int32)), (3, .int x2), (0, .ref E.2.2.1), (1, .int x1), (2, .int x2)] C dX6_hourOf_3 (Nat.le_of_ble_eq_true rfl) rfl ?_
  exact g_sub [(0, .ref E.2.2.1), (1, .int x1), (3, .int x2), (4, .int (0 : Int32))] [2, 3, 1, 0] rfl (wk_hourOf_b5 C M g_fu x1 x2 (0 : Int32) z h)
theorem ct_hourOf (l : Launch) (x1 : Int32) (x2 : Int32) (z : mm_S) (r : Int32) (z' : mm_S) (h : mo_hourOf x1 x2 z = some (r, z')) : mm_MetV l yX6_hourOf cX6_hourOf 5 (some .int) 1 22 [.int x1, .int x2] z (.returned (some (.int r)), z') := by
  intro E hD
  exact mm_enter E hD rfl ⟨_, rfl⟩ (.ref E.2.2.1 :: [.int x1, .int x2]) (Nat.le_of_ble_eq_true rfl) (fun X C M => wk_hourOf C M x1 x2 z h)
def mo_saying_b18 (x1 : Int32) (x2 : Int32) (x3 : Int32) (s0 : Int32) (z : mm_S) : Option (Int32 × mm_S) := if s0 = (-1 : Int32) then (some ((-1 : Int32), z)) else (if x3 = (0 : Int32) then (some (s0, z)) else if x3 = (1 : Int32) then (g_call (mo_said x1 s0 z) (fun v2 z1 => some (v2, z1))) else if x3 = (2 : Int32) then (g_call (mo_laden x1 s0 z) (fun v4 z3 => if v4 = 0 then (some ((0 : Int32), z3)) else (some ((1 : Int32), z3)))) else if x3 = (3 : Int32) then (g_call (mo_said x1 s0 z) (fun v6 z5 => g_call (mo_laden x1 s0 z5) (fun v8 z7 => g_call (mo_isSound x1 v6 v8 z7) (fun v10 z9 => if v10 = 0 then (some ((0 : Int32), z9)) else (some ((1 : Int32), z9)))))) else if x3 = (4 : Int32) then (g_call (mo_keeps x1 z) (fun _ z11 => mm_lI 69 x2 z11 (fun v13 => if v13 = 0 then (some ((0 : Int32), z11)) else (some ((1 : Int32), z11))))) else (some ((-1 : Int32), z)))
theorem wk_saying_b18 {X : gX} {E : mm_E} {r : Int32 × mm_S} (C : gC X cX6_saying 5 (some .int) RX6 7 167) (M : mm_C X E) (x1 : Int32) (x2 : Int32) (x3 : Int32) (s0 : Int32) (z : mm_S) (h : mo_saying_b18 x1 x2 x3 s0 z = some r) : gW X (mm_G E) (.returned (some (.int r.1)), r.2) z 18 [(0, .ref E.2.2.1), (1, .int x1), (2, .int x2), (3, .int x3)] [.int s0] := by
  unfold mo_saying_b18 at h
  refine g_istore [(4, .int s0), (0, .ref E.2.2.1), (1, .int x1), (2, .int x2), (3, .int x3)] C dX6_saying_18 (Nat.le_of_ble_eq_true rfl) rfl ?_
  refine g_iload C dX6_saying_20 0 rfl ?_
  refine g_iconst C dX6_saying_22 gk_iconst_m1 ?_
  refine g_icmp_ne C dX6_saying_23 rfl h (fun h => ?_) (fun h => ?_)
  · refine g_iload_n C dX6_saying_28 rfl 4 rfl ?_
    by_cases c0 : x3 = (0 : Int32)
    · rw [if_pos c0] at h
      refine g_swIn C dX6_saying_29 (by rw [c0]; decide) (by rw [c0]; decide) (by rw [c0]; rfl) rfl ?_
      refine g_iload C dX6_saying_64 0 rfl ?_
      exact g_iret C (fun _ => trivial) dX6_saying_66 h
    rw [if_neg c0] at h
    by_cases c1 : x3 = (1 : Int32)
    · rw [if_pos c1] at h
      refine g_swIn C dX6_saying_29 (by rw [c1]; decide) (by rw [c1]; decide) (by rw [c1]; rfl) rfl ?_
      refine g_aload_n C dX6_saying_67 rfl 1 rfl ?_
      refine g_iload_n C dX6_saying_68 rfl 2 rfl ?_
      refine g_iload C dX6_saying_69 0 rfl ?_
      obtain ⟨v2, z1, e, h⟩ := g_callE h
      refine mm_callV C M 2 [.int x1, .int s0] (st := []) (v := some (.int v2)) (z' := z1) (fun l => ct_said l x1 s0 z v2 z1 e) (lw_V q2513 q2515 qs125 q178 q2516) rfl rfl rfl (Nat.le_of_ble_eq_true rfl) (Nat.le_of_ble_eq_true rfl) (Nat.le_of_ble_eq_true rfl) dX6_saying_71 ?_
      refine gW_st (st' := [.int v2]) rfl ?_
      exact g_iret C (fun _ => trivial) dX6_saying_74 h
    rw [if_neg c1] at h
    by_cases c2 : x3 = (2 : Int32)
    · rw [if_pos c2] at h
      refine g_swIn C dX6_saying_29 (by rw [c2]; decide) (by rw [c2]; decide) (by rw [c2]; rfl) rfl ?_
      refine g_aload_n C dX6_saying_75 rfl 1 rfl ?_
      refine g_iload_n C dX6_saying_76 rfl 2 rfl ?_
      refine g_iload C dX6_saying_77 0 rfl ?_
      obtain ⟨v4, z3, e, h⟩ := g_callE h
      refine mm_callV C M 2 [.int x1, .int s0] (st := []) (v := some (.int v4)) (z' := z3) (fun l => ct_laden l x1 s0 z v4 z3 e) (lw_V q2581 q2583 qs138 q178 q2584) rfl rfl rfl (Nat.le_of_ble_eq_true rfl) (Nat.le_of_ble_eq_true rfl) (Nat.le_of_ble_eq_true rfl) dX6_saying_79 ?_
      refine gW_st (st' := [.int v4]) rfl ?_
      refine g_if_eq C dX6_saying_82 rfl h (fun h => ?_) (fun h => ?_)
      · refine g_iconst C dX6_saying_89 gk_iconst_0 ?_
        exact g_iret C (fun _ => trivial) dX6_saying_90 h
      · refine g_iconst C dX6_saying_85 gk_iconst_1 ?_
        refine g_goto C dX6_saying_86 rfl ?_
        exact g_iret C (fun _ => trivial) dX6_saying_90 h
    rw [if_neg c2] at h
    by_cases c3 : x3 = (3 : Int32)
    · rw [if_pos c3] at h
      refine g_swIn C dX6_saying_29 (by rw [c3]; decide) (by rw [c3]; decide) (by rw [c3]; rfl) rfl ?_
      refine g_aload_n C dX6_saying_91 rfl 1 rfl ?_
      refine g_iload_n C dX6_saying_92 rfl 2 rfl ?_
      refine g_aload_n C dX6_saying_93 rfl 1 rfl ?_
      refine g_iload_n C dX6_saying_94 rfl 2 rfl ?_
      refine g_iload C dX6_saying_95 0 rfl ?_
      obtain ⟨v6, z5, e, h⟩ := g_callE h
      refine mm_callV C M 2 [.int x1, .int s0] (st := [.int x1, .ref E.2.2.1]) (v := some (.int v6)) (z' := z5) (fun l => ct_said l x1 s0 z v6 z5 e) (lw_V q2513 q2515 qs125 q178 q2516) rfl rfl rfl (Nat.le_of_ble_eq_true rfl) (Nat.le_of_ble_eq_true rfl) (Nat.le_of_ble_eq_true rfl) dX6_saying_97 ?_
      refine gW_st (st' := [.int v6, .int x1, .ref E.2.2.1]) rfl ?_
      refine g_aload_n C dX6_saying_100 rfl 1 rfl ?_
      refine g_iload_n C dX6_saying_101 rfl 2 rfl ?_
      refine g_iload C dX6_saying_102 0 rfl ?_
      obtain ⟨v8, z7, e, h⟩ := g_callE h
      refine mm_callV C M 2 [.int x1, .int s0] (st := [.int v6, .int x1, .ref E.2.2.1]) (v := some (.int v8)) (z' := z7) (fun l => ct_laden l x1 s0 z5 v8 z7 e) (lw_V q2581 q2583 qs138 q178 q2584) rfl rfl rfl (Nat.le_of_ble_eq_true rfl) (Nat.le_of_ble_eq_true rfl) (Nat.le_of_ble_eq_true rfl) dX6_saying_104 ?_
      refine gW_st (st' := [.int v8, .int v6, .int x1, .ref E.2.2.1]) rfl ?_
      obtain ⟨v10, z9, e, h⟩ := g_callE h
      refine mm_callV C M 3 [.int x1, .int v6, .int v8] (st := []) (v := some (.int v10)) (z' := z9) (fun l => ct_isSound l x1 v6 v8 z7 v10 z9 e) (lw_V q2585 q2587 qs139 q178 q2588) rfl rfl rfl (Nat.le_of_ble_eq_true rfl) (Nat.le_of_ble_eq_true rfl) (Nat.le_of_ble_eq_true rfl) dX6_saying_107 ?_
      refine gW_st (st' := [.int v10]) rfl ?_
      refine g_if_eq C dX6_saying_110 rfl h (fun h => ?_) (fun h => ?_)
      · refine g_iconst C dX6_saying_117 gk_iconst_0 ?_
        exact g_iret C (fun _ => trivial) dX6_saying_118 h
      · refine g_iconst C dX6_saying_113 gk_iconst_1 ?_
        refine g_goto C dX6_saying_114 rfl ?_
        exact g_iret C (fun _ => trivial) dX6_saying_118 h
    rw [if_neg c3] at h
    by_cases c4 : x3 = (4 : Int32)
    · rw [if_pos c4] at h
      refine g_swIn C dX6_saying_29 (by rw [c4]; decide) (by rw [c4]; decide) (by rw [c4]; rfl) rfl ?_
      refine g_aload_n C dX6_saying_119 rfl 1 rfl ?_
      refine g_iload_n C dX6_saying_120 rfl 2 rfl ?_
      obtain ⟨u12, z11, e, h⟩ := g_callE h
      refine mm_callV C M 1 [.int x1] (st := []) (v := none) (z' := z11) (fun l => ct_keeps l x1 z u12 z11 e) (lw_V q2573 q2575 qs136 q178 q2576) rfl rfl rfl (Nat.le_of_ble_eq_true rfl) (Nat.le_of_ble_eq_true rfl) (Nat.le_of_ble_eq_true rfl) dX6_saying_121 ?_
      refine gW_st (st' := []) rfl ?_
      refine g_aload_n C dX6_saying_124 rfl 1 rfl ?_
      refine mm_getA C M 69 (Nat.le_of_ble_eq_true rfl) (Nat.le_of_ble_eq_true rfl) q2072 rfl dX6_saying_125 ?_
      refine g_iload_n C dX6_saying_128 rfl 3 rfl ?_
      refine mm_ldZ C M 69 (Nat.le_of_ble_eq_true rfl) rfl dX6_saying_129 h (fun v13 h => ?_)
      refine g_if_eq C dX6_saying_130 rfl h (fun h => ?_) (fun h => ?_)
      · refine g_iconst C dX6_saying_137 gk_iconst_0 ?_
        exact g_iret C (fun _ => trivial) dX6_saying_138 h
      · refine g_iconst C dX6_saying_133 gk_iconst_1 ?_
        refine g_goto C dX6_saying_134 rfl ?_
        exact g_iret C (fun _ => trivial) dX6_saying_138 h
    rw [if_neg c4] at h
    have e0 := g_ne c0 (0) (by decide)
    have e1 := g_ne c1 (1) (by decide)
    have e2 := g_ne c2 (2) (by decide)
    have e3 := g_ne c3 (3) (by decide)
    have e4 := g_ne c4 (4) (by decide)
    refine g_swOut C dX6_saying_29 (by omega) rfl ?_
    refine g_iconst C dX6_saying_139 gk_iconst_m1 ?_
    exact g_iret C (fun _ => trivial) dX6_saying_140 h
  · refine g_iconst C dX6_saying_26 gk_iconst_m1 ?_
    exact g_iret C (fun _ => trivial) dX6_saying_27 h
def mo_saying (x1 : Int32) (x2 : Int32) (x3 : Int32) (z : mm_S) : Option (Int32 × mm_S) := g_call (mo_isShip x1 z) (fun v2 z1 => if v2 = 0 then (mo_saying_b18 x1 x2 x3 (-1 : Int32) z1) else (g_call (mo_hourOf x1 x2 z1) (fun v4 z3 => mo_saying_b18 x1 x2 x3 v4 z3)))
theorem wk_saying {X : gX} {E : mm_E} {r : Int32 × mm_S} (C : gC X cX6_saying 5 (some .int) RX6 7 167) (M : mm_C X E) (x1 : Int32) (x2 : Int32) (x3 : Int32) (z : mm_S) (h : mo_saying x1 x2 x3 z = some r) : gW X (mm_G E) (.returned (some (.int r.1)), r.2) z 0 [(0, .ref E.2.2.1), (1, .int x1), (2, .int x2), (3, .int x3)] [] := by
  unfold mo_saying at h
  refine g_aload_n C dX6_saying_0 rfl 0 rfl ?_
  refine g_iload_n C dX6_saying_1 rfl 1 rfl ?_
  obtain ⟨v2, z1, e, h⟩ := g_callE h
  refine mm_callV C M 1 [.int x1] (st := []) (v := some (.int v2)) (z' := z1) (fun l => ct_isShip l x1 z v2 z1 e) (lw_V q2521 q2523 qs126 q178 q2524) rfl rfl rfl (Nat.le_of_ble_eq_true rfl) (Nat.le_of_ble_eq_true rfl) (Nat.le_of_ble_eq_true rfl) dX6_saying_2 ?_
  refine gW_st (st' := [.int v2]) rfl ?_
  refine g_if_eq C dX6_saying_5 rfl h (fun h => ?_) (fun h => ?_)
  · refine g_iconst C dX6_saying_17 gk_iconst_m1 ?_
    exact wk_saying_b18 C M x1 x2 x3 (-1 : Int32) z1 h
  · refine g_aload_n C dX6_saying_8 rfl 0 rfl ?_
    refine g_iload_n C dX6_saying_9 rfl 1 rfl ?_
    refine g_iload_n C dX6_saying_10 rfl 2 rfl ?_
    obtain ⟨v4, z3, e, h⟩ := g_callE h
    refine mm_callV C M 2 [.int x1, .int x2] (st := []) (v := some (.int v4)) (z' := z3) (fun l => ct_hourOf l x1 x2 z1 v4 z3 e) (lw_V q2597 q2599 qs141 q178 q2600) rfl rfl rfl (Nat.le_of_ble_eq_true rfl) (Nat.le_of_ble_eq_true rfl) (Nat.le_of_ble_eq_true rfl) dX6_saying_11 ?_
    refine gW_st (st' := [.int v4]) rfl ?_
    refine g_goto C dX6_saying_14 rfl ?_
    exact wk_saying_b18 C M x1 x2 x3 v4 z3 h
theorem ct_saying (l : Launch) (x1 : Int32) (x2 : Int32) (x3 : Int32) (z : mm_S) (r : Int32) (z' : mm_S) (h : mo_saying x1 x2 x3 z = some (r, z')) : mm_MetV l yX6_saying cX6_saying 5 (some .int) 7 167 [.int x1, .int x2, .int x3] z (.returned (some (.int r)), z') := by
  intro E hD
  exact mm_enter E hD rfl ⟨_, rfl⟩ (.ref E.2.2.1 :: [.int x1, .int x2, .int x3]) (Nat.le_of_ble_eq_true rfl) (fun X C M => wk_saying C M x1 x2 x3 z h)
def mo_can (x1 : Int32) (x2 : Int32) (x3 : Int32) (z : mm_S) : Option (Int32 × mm_S) := g_call (mo_isShip x1 z) (fun v2 z1 => if v2 = 0 then (some ((-1 : Int32), z1)) else (if x2 = x3 then (some ((-1 : Int32), z1)) else (g_call (mo_hourOf x1 x2 z1) (fun v4 z3 => if v4 = (-1 : Int32) then (some ((-1 : Int32), z3)) else (g_call (mo_hourOf x1 x3 z3) (fun v6 z5 => if v6 = (-1 : Int32) then (some ((-1 : Int32), z5)) else (g_call (mo_pairs x1 z5) (fun _ z7 => mm_lI 70 (((48 : Int32) * x2) + x3) z7 (fun v9 => if v9 = 0 then (some ((0 : Int32), z7)) else (some ((1 : Int32), z7)))))))))))
theorem wk_can {X : gX} {E : mm_E} {r : Int32 × mm_S} (C : gC X cX6_can 4 (some .int) RX6 6 143) (M : mm_C X E) (x1 : Int32) (x2 : Int32) (x3 : Int32) (z : mm_S) (h : mo_can x1 x2 x3 z = some r) : gW X (mm_G E) (.returned (some (.int r.1)), r.2) z 0 [(0, .ref E.2.2.1), (1, .int x1), (2, .int x2), (3, .int x3)] [] := by
  unfold mo_can at h
  refine g_aload_n C dX6_can_0 rfl 0 rfl ?_
  refine g_iload_n C dX6_can_1 rfl 1 rfl ?_
  obtain ⟨v2, z1, e, h⟩ := g_callE h
  refine mm_callV C M 1 [.int x1] (st := []) (v := some (.int v2)) (z' := z1) (fun l => ct_isShip l x1 z v2 z1 e) (lw_V q2521 q2523 qs126 q178 q2524) rfl rfl rfl (Nat.le_of_ble_eq_true rfl) (Nat.le_of_ble_eq_true rfl) (Nat.le_of_ble_eq_true rfl) dX6_can_2 ?_
  refine gW_st (st' := [.int v2]) rfl ?_
  refine g_if_eq C dX6_can_5 rfl h (fun h => ?_) (fun h => ?_)
  · refine g_iconst C dX6_can_33 gk_iconst_m1 ?_
    exact g_iret C (fun _ => trivial) dX6_can_34 h
  · refine g_iload_n C dX6_can_8 rfl 2 rfl ?_
    refine g_iload_n C dX6_can_9 rfl 3 rfl ?_
    refine g_icmp_eq C dX6_can_10 rfl h (fun h => ?_) (fun h => ?_)
    · refine g_iconst C dX6_can_33 gk_iconst_m1 ?_
      exact g_iret C (fun _ => trivial) dX6_can_34 h
    · refine g_aload_n C dX6_can_13 rfl 0 rfl ?_
      refine g_iload_n C dX6_can_14 rfl 1 rfl ?_
      refine g_iload_n C dX6_can_15 rfl 2 rfl ?_
      obtain ⟨v4, z3, e, h⟩ := g_callE h
      refine mm_callV C M 2 [.int x1, .int x2] (st := []) (v := some (.int v4)) (z' := z3) (fun l => ct_hourOf l x1 x2 z1 v4 z3 e) (lw_V q2597 q2599 qs141 q178 q2600) rfl rfl rfl (Nat.le_of_ble_eq_true rfl) (Nat.le_of_ble_eq_true rfl) (Nat.le_of_ble_eq_true rfl) dX6_can_16 ?_
      refine gW_st (st' := [.int v4]) rfl ?_
      refine g_iconst C dX6_can_19 gk_iconst_m1 ?_
      refine g_icmp_eq C dX6_can_20 rfl h (fun h => ?_) (fun h => ?_)
      · refine g_iconst C dX6_can_33 gk_iconst_m1 ?_
        exact g_iret C (fun _ => trivial) dX6_can_34 h
      · refine g_aload_n C dX6_can_23 rfl 0 rfl ?_
        refine g_iload_n C dX6_can_24 rfl 1 rfl ?_
        refine g_iload_n C dX6_can_25 rfl 3 rfl ?_
        obtain ⟨v6, z5, e, h⟩ := g_callE h
        refine mm_callV C M 2 [.int x1, .int x3] (st := []) (v := some (.int v6)) (z' := z5) (fun l => ct_hourOf l x1 x3 z3 v6 z5 e) (lw_V q2597 q2599 qs141 q178 q2600) rfl rfl rfl (Nat.le_of_ble_eq_true rfl) (Nat.le_of_ble_eq_true rfl) (Nat.le_of_ble_eq_true rfl) dX6_can_26 ?_
        refine gW_st (st' := [.int v6]) rfl ?_
        refine g_iconst C dX6_can_29 gk_iconst_m1 ?_
        refine g_icmp_ne C dX6_can_30 rfl h (fun h => ?_) (fun h => ?_)
        · refine g_aload_n C dX6_can_35 rfl 0 rfl ?_
          refine g_iload_n C dX6_can_36 rfl 1 rfl ?_
          obtain ⟨u8, z7, e, h⟩ := g_callE h
          refine mm_callV C M 1 [.int x1] (st := []) (v := none) (z' := z7) (fun l => ct_pairs l x1 z5 u8 z7 e) (lw_V q2577 q2579 qs137 q178 q2580) rfl rfl rfl (Nat.le_of_ble_eq_true rfl) (Nat.le_of_ble_eq_true rfl) (Nat.le_of_ble_eq_true rfl) dX6_can_37 ?_
          refine gW_st (st' := []) rfl ?_
          refine g_aload_n C dX6_can_40 rfl 0 rfl ?_
          refine mm_getA C M 70 (Nat.le_of_ble_eq_true rfl) (Nat.le_of_ble_eq_true rfl) q2073 rfl dX6_can_41 ?_
          refine g_bipush C dX6_can_44 gk_bipush_48 ?_
          refine g_iload_n C dX6_can_46 rfl 2 rfl ?_
          refine g_imul C dX6_can_47 ?_
          refine g_iload_n C dX6_can_48 rfl 3 rfl ?_
          refine g_iadd C dX6_can_49 ?_
          refine mm_ldZ C M 70 (Nat.le_of_ble_eq_true rfl) rfl dX6_can_50 h (fun v9 h => ?_)
          refine g_if_eq C dX6_can_51 rfl h (fun h => ?_) (fun h => ?_)
          · refine g_iconst C dX6_can_58 gk_iconst_0 ?_
            exact g_iret C (fun _ => trivial) dX6_can_59 h
          · refine g_iconst C dX6_can_54 gk_iconst_1 ?_
            refine g_goto C dX6_can_55 rfl ?_
            exact g_iret C (fun _ => trivial) dX6_can_59 h
        · refine g_iconst C dX6_can_33 gk_iconst_m1 ?_
          exact g_iret C (fun _ => trivial) dX6_can_34 h
theorem ct_can (l : Launch) (x1 : Int32) (x2 : Int32) (x3 : Int32) (z : mm_S) (r : Int32) (z' : mm_S) (h : mo_can x1 x2 x3 z = some (r, z')) : mm_MetV l yX6_can cX6_can 4 (some .int) 6 143 [.int x1, .int x2, .int x3] z (.returned (some (.int r)), z') := by
  intro E hD
  exact mm_enter E hD rfl ⟨_, rfl⟩ (.ref E.2.2.1 :: [.int x1, .int x2, .int x3]) (Nat.le_of_ble_eq_true rfl) (fun X C M => wk_can C M x1 x2 x3 z h)
def mo_lays_2_b90 (k69 : Int32 → Int32 → mm_S → Option (Unit × mm_S)) : Nat → Int32 → Int32 → Int32 → mm_S → Option (Unit × mm_S)
  | 0, _, _, _, _ => none
  | n + 1, x1, x2, x3, z => g_call (mo_cells z) (fun v2 z1 => if v2 ≤ x3 then (k69 x1 (x2 + (1 : Int32)) z1) else (g_call (mo_hoursTo x1 x3 z1) (fun v4 z3 => mm_sI 72 (((256 : Int32) * x2) + x3) v4 z3 (fun z5 => (mo_lays_2_b90 k69 n) x1 x2 (x3 + (1 : Int32)) z5))))
theorem wk_lays_2_b90 {X : gX} {E : mm_E} {r : Unit × mm_S} (C : gC X cX6_lays_2 4 none RX6 7 167) (M : mm_C X E) {k69 : Int32 → Int32 → mm_S → Option (Unit × mm_S)} (hk69 : ∀ (x1 : Int32) (x2 : Int32) (z : mm_S), k69 x1 x2 z = some r → gW X (mm_G E) (.returned none, r.2) z 69 [(0, .ref E.2.2.1), (1, .int x1), (2, .int x2)] []) : ∀ (n : Nat) (x1 : Int32) (x2 : Int32) (x3 : Int32) (z : mm_S), mo_lays_2_b90 k69 n x1 x2 x3 z = some r → gW X (mm_G E) (.returned none, r.2) z 90 [(0, .ref E.2.2.1), (1, .int x1), (2, .int x2), (3, .int x3)] [] := by
  intro n
  induction n with
  | zero =>
    intro x1 x2 x3 z h
    have h : (none : Option (Unit × mm_S)) = some r := h
    cases h
  | succ n ih =>
    intro x1 x2 x3 z h
    rw [mo_lays_2_b90] at h
    refine g_iload_n C dX6_lays_2_90 rfl 3 rfl ?_
    refine g_aload_n C dX6_lays_2_91 rfl 0 rfl ?_
    obtain ⟨v2, z1, e, h⟩ := g_callE h
    refine mm_callV C M 0 [] (st := [.int x3]) (v := some (.int v2)) (z' := z1) (fun l => ct_cells l z v2 z1 e) (lw_V q2442 q2444 qs115 q178 q2445) rfl rfl rfl (Nat.le_of_ble_eq_true rfl) (Nat.le_of_ble_eq_true rfl) (Nat.le_of_ble_eq_true rfl) dX6_lays_2_92 ?_
    refine gW_st (st' := [.int v2, .int x3]) rfl ?_
    refine g_icmp_ge C dX6_lays_2_95 rfl h (fun h => ?_) (fun h => ?_)
    · refine g_iinc [(2, .int (x2 + (1 : Int32))), (0, .ref E.2.2.1), (1, .int x1), (3, .int x3)] C dX6_lays_2_122 (j := 2) rfl (gk_inc_1 _) (Nat.le_of_ble_eq_true rfl) rfl ?_
      refine g_goto C dX6_lays_2_125 rfl ?_
      exact g_sub [(0, .ref E.2.2.1), (1, .int x1), (2, .int (x2 + (1 : Int32)))] [1, 2, 0] rfl (hk69 x1 (x2 + (1 : Int32)) z1 h)
    · refine g_aload_n C dX6_lays_2_98 rfl 0 rfl ?_
      refine mm_getA C M 72 (Nat.le_of_ble_eq_true rfl) (Nat.le_of_ble_eq_true rfl) q2075 rfl dX6_lays_2_99 ?_
      refine g_sipush C dX6_lays_2_102 gk_sipush_256 ?_
      refine g_iload_n C dX6_lays_2_105 rfl 2 rfl ?_
      refine g_imul C dX6_lays_2_106 ?_
      refine g_iload_n C dX6_lays_2_107 rfl 3 rfl ?_
      refine g_iadd C dX6_lays_2_108 ?_
      refine g_aload_n C dX6_lays_2_109 rfl 0 rfl ?_
      refine g_iload_n C dX6_lays_2_110 rfl 1 rfl ?_
      refine g_iload_n C dX6_lays_2_111 rfl 3 rfl ?_
      obtain ⟨v4, z3, e, h⟩ := g_callE h
      refine mm_callV C M 2 [.int x1, .int x3] (st := [.int (((256 : Int32) * x2) + x3), .ref (E.2.2.2.1 72)]) (v := some (.int v4)) (z' := z3) (fun l => ct_hoursTo l x1 x3 z1 v4 z3 e) (lw_V q2542 q2544 qs130 q178 q2545) rfl rfl rfl (Nat.le_of_ble_eq_true rfl) (Nat.le_of_ble_eq_true rfl) (Nat.le_of_ble_eq_true rfl) dX6_lays_2_112 ?_
      refine gW_st (st' := [.int v4, .int (((256 : Int32) * x2) + x3), .ref (E.2.2.2.1 72)]) rfl ?_
      refine mm_stI C M 72 (Nat.le_of_ble_eq_true rfl) rfl dX6_lays_2_115 h (fun z5 h => ?_)
      refine g_iinc [(3, .int (x3 + (1 : Int32))), (0, .ref E.2.2.1), (1, .int x1), (2, .int x2)] C dX6_lays_2_116 (j := 3) rfl (gk_inc_1 _) (Nat.le_of_ble_eq_true rfl) rfl ?_
      refine g_goto C dX6_lays_2_119 rfl ?_
      exact g_sub [(0, .ref E.2.2.1), (1, .int x1), (2, .int x2), (3, .int (x3 + (1 : Int32)))] [1, 2, 3, 0] rfl (ih x1 x2 (x3 + (1 : Int32)) z5 h)
def mo_lays_2_b69 : Nat → Int32 → Int32 → mm_S → Option (Unit × mm_S)
  | 0, _, _, _ => none
  | n + 1, x1, x2, z => mm_gI 60 z (fun v1 => if v1 ≤ x2 then (some ((), z)) else (mm_lI 61 x2 z (fun v2 => g_call (mo_goes x1 v2 z) (fun _ z3 => mo_lays_2_b90 (mo_lays_2_b69 n) g_fu x1 x2 (0 : Int32) z3))))
theorem wk_lays_2_b69 {X : gX} {E : mm_E} {r : Unit × mm_S} (C : gC X cX6_lays_2 4 none RX6 7 167) (M : mm_C X E) : ∀ (n : Nat) (x1 : Int32) (x2 : Int32) (z : mm_S), mo_lays_2_b69 n x1 x2 z = some r → gW X (mm_G E) (.returned none, r.2) z 69 [(0, .ref E.2.2.1), (1, .int x1), (2, .int x2)] [] := by
  intro n
  induction n with
  | zero =>
    intro x1 x2 z h
    have h : (none : Option (Unit × mm_S)) = some r := h
    cases h
  | succ n ih =>
    intro x1 x2 z h
    rw [mo_lays_2_b69] at h
    refine g_iload_n C dX6_lays_2_69 rfl 2 rfl ?_
    refine g_aload_n C dX6_lays_2_70 rfl 0 rfl ?_
    refine mm_getI C M 60 (Nat.le_of_ble_eq_true rfl) (Nat.le_of_ble_eq_true rfl) q2063 rfl dX6_lays_2_71 h (fun v1 h => ?_)
    refine g_icmp_ge C dX6_lays_2_74 rfl h (fun h => ?_) (fun h => ?_)
    · exact g_vret C (fun _ => trivial) dX6_lays_2_128 h
    · refine g_aload_n C dX6_lays_2_77 rfl 0 rfl ?_
      refine g_iload_n C dX6_lays_2_78 rfl 1 rfl ?_
      refine g_aload_n C dX6_lays_2_79 rfl 0 rfl ?_
      refine mm_getA C M 61 (Nat.le_of_ble_eq_true rfl) (Nat.le_of_ble_eq_true rfl) q2064 rfl dX6_lays_2_80 ?_
      refine g_iload_n C dX6_lays_2_83 rfl 2 rfl ?_
      refine mm_ldI C M 61 (Nat.le_of_ble_eq_true rfl) rfl dX6_lays_2_84 h (fun v2 h => ?_)
      obtain ⟨u4, z3, e, h⟩ := g_callE h
      refine mm_callV C M 2 [.int x1, .int v2] (st := []) (v := none) (z' := z3) (fun l => ct_goes l x1 v2 z u4 z3 e) (lw_V q2530 q2532 qs127 q178 q2533) rfl rfl rfl (Nat.le_of_ble_eq_true rfl) (Nat.le_of_ble_eq_true rfl) (Nat.le_of_ble_eq_true rfl) dX6_lays_2_85 ?_
      refine gW_st (st' := []) rfl ?_
      refine g_iconst C dX6_lays_2_88 gk_iconst_0 ?_
      refine g_istore_n [(3, .int (0 : Int32)), (0, .ref E.2.2.1), (1, .int x1), (2, .int x2)] C dX6_lays_2_89 rfl (Nat.le_of_ble_eq_true rfl) rfl ?_
      exact g_sub [(0, .ref E.2.2.1), (1, .int x1), (2, .int x2), (3, .int (0 : Int32))] [1, 2, 3, 0] rfl (wk_lays_2_b90 C M ih g_fu x1 x2 (0 : Int32) z3 h)
def mo_lays_2_b61 (k17 : Int32 → Int32 → mm_S → Option (Unit × mm_S)) (x1 : Int32) (x2 : Int32) (z : mm_S) : Option (Unit × mm_S) := k17 x1 (x2 + (1 : Int32)) z
theorem wk_lays_2_b61 {X : gX} {E : mm_E} {r : Unit × mm_S} (C : gC X cX6_lays_2 4 none RX6 7 167) (M : mm_C X E) {k17 : Int32 → Int32 → mm_S → Option (Unit × mm_S)} (hk17 : ∀ (x1 : Int32) (x2 : Int32) (z : mm_S), k17 x1 x2 z = some r → gW X (mm_G E) (.returned none, r.2) z 17 [(0, .ref E.2.2.1), (1, .int x1), (2, .int x2)] []) (x1 : Int32) (x2 : Int32) (z : mm_S) (h : mo_lays_2_b61 k17 x1 x2 z = some r) : gW X (mm_G E) (.returned none, r.2) z 61 [(0, .ref E.2.2.1), (1, .int x1), (2, .int x2)] [] := by
  unfold mo_lays_2_b61 at h
  refine g_iinc [(2, .int (x2 + (1 : Int32))), (0, .ref E.2.2.1), (1, .int x1)] C dX6_lays_2_61 (j := 2) rfl (gk_inc_1 _) (Nat.le_of_ble_eq_true rfl) rfl ?_
  refine g_goto C dX6_lays_2_64 rfl ?_
  exact g_sub [(0, .ref E.2.2.1), (1, .int x1), (2, .int (x2 + (1 : Int32)))] [1, 2, 0] rfl (hk17 x1 (x2 + (1 : Int32)) z h)
def mo_lays_2_b17 : Nat → Int32 → Int32 → mm_S → Option (Unit × mm_S)
  | 0, _, _, _ => none
  | n + 1, x1, x2, z => mm_gI 65 z (fun v1 => if v1 ≤ x2 then (mo_lays_2_b69 g_fu x1 (0 : Int32) z) else (mm_lI 69 x2 z (fun v2 => if v2 = 0 then (mo_lays_2_b61 (mo_lays_2_b17 n) x1 x2 z) else (mm_lI 67 x2 z (fun v3 => g_call (mo_said x1 v3 z) (fun v5 z4 => mm_lI 67 x2 z4 (fun v6 => mm_lI 67 x2 z4 (fun v7 => g_call (mo_fact v5 v6 v7 z4) (fun _ z8 => mo_lays_2_b61 (mo_lays_2_b17 n) x1 x2 z8)))))))))
theorem wk_lays_2_b17 {X : gX} {E : mm_E} {r : Unit × mm_S} (C : gC X cX6_lays_2 4 none RX6 7 167) (M : mm_C X E) : ∀ (n : Nat) (x1 : Int32) (x2 : Int32) (z : mm_S), mo_lays_2_b17 n x1 x2 z = some r → gW X (mm_G E) (.returned none, r.2) z 17 [(0, .ref E.2.2.1), (1, .int x1), (2, .int x2)] [] := by
  intro n
  induction n with
  | zero =>
    intro x1 x2 z h
    have h : (none : Option (Unit × mm_S)) = some r := h
    cases h
  | succ n ih =>
    intro x1 x2 z h
    rw [mo_lays_2_b17] at h
    refine g_iload_n C dX6_lays_2_17 rfl 2 rfl ?_
    refine g_aload_n C dX6_lays_2_18 rfl 0 rfl ?_
    refine mm_getI C M 65 (Nat.le_of_ble_eq_true rfl) (Nat.le_of_ble_eq_true rfl) q2068 rfl dX6_lays_2_19 h (fun v1 h => ?_)
    refine g_icmp_ge C dX6_lays_2_22 rfl h (fun h => ?_) (fun h => ?_)
    · refine g_iconst C dX6_lays_2_67 gk_iconst_0 ?_
      refine g_istore_n [(2, .int (0 : Int32)), (0, .ref E.2.2.1), (1, .int x1)] C dX6_lays_2_68 rfl (Nat.le_of_ble_eq_true rfl) rfl ?_
      exact g_sub [(0, .ref E.2.2.1), (1, .int x1), (2, .int (0 : Int32))] [1, 2, 0] rfl (wk_lays_2_b69 C M g_fu x1 (0 : Int32) z h)
    · refine g_aload_n C dX6_lays_2_25 rfl 0 rfl ?_
      refine mm_getA C M 69 (Nat.le_of_ble_eq_true rfl) (Nat.le_of_ble_eq_true rfl) q2072 rfl dX6_lays_2_26 ?_
      refine g_iload_n C dX6_lays_2_29 rfl 2 rfl ?_
      refine mm_ldZ C M 69 (Nat.le_of_ble_eq_true rfl) rfl dX6_lays_2_30 h (fun v2 h => ?_)
      refine g_if_eq C dX6_lays_2_31 rfl h (fun h => ?_) (fun h => ?_)
      · exact wk_lays_2_b61 C M ih x1 x2 z h
      · refine g_aload_n C dX6_lays_2_34 rfl 0 rfl ?_
        refine g_aload_n C dX6_lays_2_35 rfl 0 rfl ?_
        refine g_iload_n C dX6_lays_2_36 rfl 1 rfl ?_
        refine g_aload_n C dX6_lays_2_37 rfl 0 rfl ?_
        refine mm_getA C M 67 (Nat.le_of_ble_eq_true rfl) (Nat.le_of_ble_eq_true rfl) q2070 rfl dX6_lays_2_38 ?_
        refine g_iload_n C dX6_lays_2_41 rfl 2 rfl ?_
        refine mm_ldI C M 67 (Nat.le_of_ble_eq_true rfl) rfl dX6_lays_2_42 h (fun v3 h => ?_)
        obtain ⟨v5, z4, e, h⟩ := g_callE h
        refine mm_callV C M 2 [.int x1, .int v3] (st := [.ref E.2.2.1]) (v := some (.int v5)) (z' := z4) (fun l => ct_said l x1 v3 z v5 z4 e) (lw_V q2513 q2515 qs125 q178 q2516) rfl rfl rfl (Nat.le_of_ble_eq_true rfl) (Nat.le_of_ble_eq_true rfl) (Nat.le_of_ble_eq_true rfl) dX6_lays_2_43 ?_
        refine gW_st (st' := [.int v5, .ref E.2.2.1]) rfl ?_
        refine g_aload_n C dX6_lays_2_46 rfl 0 rfl ?_
        refine mm_getA C M 67 (Nat.le_of_ble_eq_true rfl) (Nat.le_of_ble_eq_true rfl) q2070 rfl dX6_lays_2_47 ?_
        refine g_iload_n C dX6_lays_2_50 rfl 2 rfl ?_
        refine mm_ldI C M 67 (Nat.le_of_ble_eq_true rfl) rfl dX6_lays_2_51 h (fun v6 h => ?_)
        refine g_aload_n C dX6_lays_2_52 rfl 0 rfl ?_
        refine mm_getA C M 67 (Nat.le_of_ble_eq_true rfl) (Nat.le_of_ble_eq_true rfl) q2070 rfl dX6_lays_2_53 ?_
        refine g_iload_n C dX6_lays_2_56 rfl 2 rfl ?_
        refine mm_ldI C M 67 (Nat.le_of_ble_eq_true rfl) rfl dX6_lays_2_57 h (fun v7 h => ?_)
        obtain ⟨u9, z8, e, h⟩ := g_callE h
        refine mm_callV C M 3 [.int v5, .int v6, .int v7] (st := []) (v := none) (z' := z8) (fun l => ct_fact l v5 v6 v7 z4 u9 z8 e) (lw_V q2562 q2564 qs134 q178 q2565) rfl rfl rfl (Nat.le_of_ble_eq_true rfl) (Nat.le_of_ble_eq_true rfl) (Nat.le_of_ble_eq_true rfl) dX6_lays_2_58 ?_
        refine gW_st (st' := []) rfl ?_
        exact wk_lays_2_b61 C M ih x1 x2 z8 h
def mo_lays_2 (x1 : Int32) (z : mm_S) : Option (Unit × mm_S) := g_call (mo_keeps x1 z) (fun _ z1 => mm_pI 60 (0 : Int32) z1 (fun z3 => g_call (mo_addBooks x1 z3) (fun _ z4 => mo_lays_2_b17 g_fu x1 (0 : Int32) z4)))
theorem wk_lays_2 {X : gX} {E : mm_E} {r : Unit × mm_S} (C : gC X cX6_lays_2 4 none RX6 7 167) (M : mm_C X E) (x1 : Int32) (z : mm_S) (h : mo_lays_2 x1 z = some r) : gW X (mm_G E) (.returned none, r.2) z 0 [(0, .ref E.2.2.1), (1, .int x1)] [] := by
  unfold mo_lays_2 at h
  refine g_aload_n C dX6_lays_2_0 rfl 0 rfl ?_
  refine g_iload_n C dX6_lays_2_1 rfl 1 rfl ?_
  obtain ⟨u2, z1, e, h⟩ := g_callE h
  refine mm_callV C M 1 [.int x1] (st := []) (v := none) (z' := z1) (fun l => ct_keeps l x1 z u2 z1 e) (lw_V q2573 q2575 qs136 q178 q2576) rfl rfl rfl (Nat.le_of_ble_eq_true rfl) (Nat.le_of_ble_eq_true rfl) (Nat.le_of_ble_eq_true rfl) dX6_lays_2_2 ?_
  refine gW_st (st' := []) rfl ?_
  refine g_aload_n C dX6_lays_2_5 rfl 0 rfl ?_
  refine g_iconst C dX6_lays_2_6 gk_iconst_0 ?_
  refine mm_putI C M 60 (Nat.le_of_ble_eq_true rfl) (Nat.le_of_ble_eq_true rfl) q2063 rfl rfl rfl dX6_lays_2_7 h (fun z3 h => ?_)
  refine g_aload_n C dX6_lays_2_10 rfl 0 rfl ?_
  refine g_iload_n C dX6_lays_2_11 rfl 1 rfl ?_
  obtain ⟨u5, z4, e, h⟩ := g_callE h
  refine mm_callV C M 1 [.int x1] (st := []) (v := none) (z' := z4) (fun l => ct_addBooks l x1 z3 u5 z4 e) (lw_V q2558 q2560 qs133 q178 q2561) rfl rfl rfl (Nat.le_of_ble_eq_true rfl) (Nat.le_of_ble_eq_true rfl) (Nat.le_of_ble_eq_true rfl) dX6_lays_2_12 ?_
  refine gW_st (st' := []) rfl ?_
  refine g_iconst C dX6_lays_2_15 gk_iconst_0 ?_
  refine g_istore_n [(2, .int (0 : Int32)), (0, .ref E.2.2.1), (1, .int x1)] C dX6_lays_2_16 rfl (Nat.le_of_ble_eq_true rfl) rfl ?_
  exact g_sub [(0, .ref E.2.2.1), (1, .int x1), (2, .int (0 : Int32))] [1, 2, 0] rfl (wk_lays_2_b17 C M g_fu x1 (0 : Int32) z4 h)
theorem ct_lays_2 (l : Launch) (x1 : Int32) (z : mm_S) (r : Unit) (z' : mm_S) (h : mo_lays_2 x1 z = some (r, z')) : mm_MetV l yX6_lays_2 cX6_lays_2 4 none 7 167 [.int x1] z (.returned none, z') := by
  intro E hD
  exact mm_enter E hD rfl ⟨_, rfl⟩ (.ref E.2.2.1 :: [.int x1]) (Nat.le_of_ble_eq_true rfl) (fun X C M => wk_lays_2 C M x1 z h)
def mo_mayBe_b21 : Nat → Int32 → Int32 → Int32 → mm_S → Option (Int32 × mm_S)
  | 0, _, _, _, _ => none
  | n + 1, x2, x3, x4, z => mm_gI 60 z (fun v1 => if v1 ≤ x4 then (some ((1 : Int32), z)) else (mm_lI 72 (((256 : Int32) * x4) + x2) z (fun v2 => mm_lI 62 x4 z (fun v3 => mm_lI 63 x4 z (fun v4 => g_call (mo_between x3 x3 v3 v4 z) (fun v6 z5 => if v2 ≤ v6 then ((mo_mayBe_b21 n) x2 x3 (x4 + (1 : Int32)) z5) else (some ((0 : Int32), z5))))))))
theorem wk_mayBe_b21 {X : gX} {E : mm_E} {r : Int32 × mm_S} (C : gC X cX6_mayBe 5 (some .boolean) RX6 1 23) (M : mm_C X E) : ∀ (n : Nat) (x2 : Int32) (x3 : Int32) (x4 : Int32) (z : mm_S), mo_mayBe_b21 n x2 x3 x4 z = some r → gW X (mm_G E) (.returned (some (.int r.1)), r.2) z 21 [(0, .ref E.2.2.1), (2, .int x2), (3, .int x3), (4, .int x4)] [] := by
  intro n
  induction n with
  | zero =>
    intro x2 x3 x4 z h
    have h : (none : Option (Int32 × mm_S)) = some r := h
    cases h
  | succ n ih =>
    intro x2 x3 x4 z h
    rw [mo_mayBe_b21] at h
    refine g_iload C dX6_mayBe_21 3 rfl ?_
    refine g_aload_n C dX6_mayBe_23 rfl 0 rfl ?_
    refine mm_getI C M 60 (Nat.le_of_ble_eq_true rfl) (Nat.le_of_ble_eq_true rfl) q2063 rfl dX6_mayBe_24 h (fun v1 h => ?_)
    refine g_icmp_ge C dX6_mayBe_27 rfl h (fun h => ?_) (fun h => ?_)
    · refine g_iconst C dX6_mayBe_73 gk_iconst_1 ?_
      exact g_zretc C (fun _ => trivial) dX6_mayBe_74 (Or.inr rfl) h
    · refine g_aload_n C dX6_mayBe_30 rfl 0 rfl ?_
      refine mm_getA C M 72 (Nat.le_of_ble_eq_true rfl) (Nat.le_of_ble_eq_true rfl) q2075 rfl dX6_mayBe_31 ?_
      refine g_sipush C dX6_mayBe_34 gk_sipush_256 ?_
      refine g_iload C dX6_mayBe_37 3 rfl ?_
      refine g_imul C dX6_mayBe_39 ?_
      refine g_iload_n C dX6_mayBe_40 rfl 1 rfl ?_
      refine g_iadd C dX6_mayBe_41 ?_
      refine mm_ldI C M 72 (Nat.le_of_ble_eq_true rfl) rfl dX6_mayBe_42 h (fun v2 h => ?_)
      refine g_iload_n C dX6_mayBe_43 rfl 2 rfl ?_
      refine g_iload_n C dX6_mayBe_44 rfl 2 rfl ?_
      refine g_aload_n C dX6_mayBe_45 rfl 0 rfl ?_
      refine mm_getA C M 62 (Nat.le_of_ble_eq_true rfl) (Nat.le_of_ble_eq_true rfl) q2065 rfl dX6_mayBe_46 ?_
      refine g_iload C dX6_mayBe_49 3 rfl ?_
      refine mm_ldI C M 62 (Nat.le_of_ble_eq_true rfl) rfl dX6_mayBe_51 h (fun v3 h => ?_)
      refine g_aload_n C dX6_mayBe_52 rfl 0 rfl ?_
      refine mm_getA C M 63 (Nat.le_of_ble_eq_true rfl) (Nat.le_of_ble_eq_true rfl) q2066 rfl dX6_mayBe_53 ?_
      refine g_iload C dX6_mayBe_56 3 rfl ?_
      refine mm_ldI C M 63 (Nat.le_of_ble_eq_true rfl) rfl dX6_mayBe_58 h (fun v4 h => ?_)
      obtain ⟨v6, z5, e, h⟩ := g_callE h
      refine mm_callS C M 4 [.int x3, .int x3, .int v3, .int v4] (st := [.int v2]) (v := some (.int v6)) (z' := z5) (fun l => ct_between l x3 x3 v3 v4 z v6 z5 e) (lw_S q2570 q2571 q178 q2572) rfl rfl rfl (Nat.le_of_ble_eq_true rfl) (Nat.le_of_ble_eq_true rfl) (Nat.le_of_ble_eq_true rfl) dX6_mayBe_59 ?_
      refine gW_st (st' := [.int v6, .int v2]) rfl ?_
      refine g_icmp_le C dX6_mayBe_62 rfl h (fun h => ?_) (fun h => ?_)
      · refine g_iinc [(4, .int (x4 + (1 : Int32))), (0, .ref E.2.2.1), (2, .int x2), (3, .int x3)] C dX6_mayBe_67 (j := 3) rfl (gk_inc_1 _) (Nat.le_of_ble_eq_true rfl) rfl ?_
        refine g_goto C dX6_mayBe_70 rfl ?_
        exact g_sub [(0, .ref E.2.2.1), (2, .int x2), (3, .int x3), (4, .int (x4 + (1 : Int32)))] [1, 2, 3, 0] rfl (ih x2 x3 (x4 + (1 : Int32)) z5 h)
      · refine g_iconst C dX6_mayBe_65 gk_iconst_0 ?_
        exact g_zretc C (fun _ => trivial) dX6_mayBe_66 (Or.inl rfl) h
def mo_mayBe (x1 : Int32) (x2 : Int32) (x3 : Int32) (z : mm_S) : Option (Int32 × mm_S) := mm_gI 64 z (fun v1 => if v1 = 0 then (some ((0 : Int32), z)) else (g_call (mo_isWater x1 x2 z) (fun v3 z2 => if v3 = 0 then (some ((0 : Int32), z2)) else (mo_mayBe_b21 g_fu x2 x3 (0 : Int32) z2))))
theorem wk_mayBe {X : gX} {E : mm_E} {r : Int32 × mm_S} (C : gC X cX6_mayBe 5 (some .boolean) RX6 1 23) (M : mm_C X E) (x1 : Int32) (x2 : Int32) (x3 : Int32) (z : mm_S) (h : mo_mayBe x1 x2 x3 z = some r) : gW X (mm_G E) (.returned (some (.int r.1)), r.2) z 0 [(0, .ref E.2.2.1), (1, .int x1), (2, .int x2), (3, .int x3)] [] := by
  unfold mo_mayBe at h
  refine g_aload_n C dX6_mayBe_0 rfl 0 rfl ?_
  refine mm_getI C M 64 (Nat.le_of_ble_eq_true rfl) (Nat.le_of_ble_eq_true rfl) q2067 rfl dX6_mayBe_1 h (fun v1 h => ?_)
  refine g_if_eq C dX6_mayBe_4 rfl h (fun h => ?_) (fun h => ?_)
  · refine g_iconst C dX6_mayBe_16 gk_iconst_0 ?_
    exact g_zretc C (fun _ => trivial) dX6_mayBe_17 (Or.inl rfl) h
  · refine g_aload_n C dX6_mayBe_7 rfl 0 rfl ?_
    refine g_iload_n C dX6_mayBe_8 rfl 1 rfl ?_
    refine g_iload_n C dX6_mayBe_9 rfl 2 rfl ?_
    obtain ⟨v3, z2, e, h⟩ := g_callE h
    refine mm_callV C M 2 [.int x1, .int x2] (st := []) (v := some (.int v3)) (z' := z2) (fun l => ct_isWater l x1 x2 z v3 z2 e) (lw_V q2538 q2540 qs129 q178 q2541) rfl rfl rfl (Nat.le_of_ble_eq_true rfl) (Nat.le_of_ble_eq_true rfl) (Nat.le_of_ble_eq_true rfl) dX6_mayBe_10 ?_
    refine gW_st (st' := [.int v3]) rfl ?_
    refine g_if_ne C dX6_mayBe_13 rfl h (fun h => ?_) (fun h => ?_)
    · refine g_iconst C dX6_mayBe_18 gk_iconst_0 ?_
      refine g_istore [(4, .int (0 : Int32)), (0, .ref E.2.2.1), (1, .int x1), (2, .int x2), (3, .int x3)] C dX6_mayBe_19 (Nat.le_of_ble_eq_true rfl) rfl ?_
      exact g_sub [(0, .ref E.2.2.1), (2, .int x2), (3, .int x3), (4, .int (0 : Int32))] [1, 3, 4, 0] rfl (wk_mayBe_b21 C M g_fu x2 x3 (0 : Int32) z2 h)
    · refine g_iconst C dX6_mayBe_16 gk_iconst_0 ?_
      exact g_zretc C (fun _ => trivial) dX6_mayBe_17 (Or.inl rfl) h
theorem ct_mayBe (l : Launch) (x1 : Int32) (x2 : Int32) (x3 : Int32) (z : mm_S) (r : Int32) (z' : mm_S) (h : mo_mayBe x1 x2 x3 z = some (r, z')) : mm_MetV l yX6_mayBe cX6_mayBe 5 (some .boolean) 1 23 [.int x1, .int x2, .int x3] z (.returned (some (.int r)), z') := by
  intro E hD
  exact mm_enter E hD rfl ⟨_, rfl⟩ (.ref E.2.2.1 :: [.int x1, .int x2, .int x3]) (Nat.le_of_ble_eq_true rfl) (fun X C M => wk_mayBe C M x1 x2 x3 z h)
def mo_cellsOf_b31 (k5 : Int32 → Int32 → Int32 → Int32 → mm_S → Option (Int32 × mm_S)) (x1 : Int32) (x2 : Int32) (x4 : Int32) (s0 : Int32) (s1 : Int32) (z : mm_S) : Option (Int32 × mm_S) := k5 x1 x2 (s0 + s1) (x4 + (1 : Int32)) z
theorem wk_cellsOf_b31 {X : gX} {E : mm_E} {r : Int32 × mm_S} (C : gC X cX6_cellsOf 5 (some .int) RX6 2 47) (M : mm_C X E) {k5 : Int32 → Int32 → Int32 → Int32 → mm_S → Option (Int32 × mm_S)} (hk5 : ∀ (x1 : Int32) (x2 : Int32) (x3 : Int32) (x4 : Int32) (z : mm_S), k5 x1 x2 x3 x4 z = some r → gW X (mm_G E) (.returned (some (.int r.1)), r.2) z 5 [(0, .ref E.2.2.1), (1, .int x1), (2, .int x2), (3, .int x3), (4, .int x4)] []) (x1 : Int32) (x2 : Int32) (x4 : Int32) (s0 : Int32) (s1 : Int32) (z : mm_S) (h : mo_cellsOf_b31 k5 x1 x2 x4 s0 s1 z = some r) : gW X (mm_G E) (.returned (some (.int r.1)), r.2) z 31 [(0, .ref E.2.2.1), (1, .int x1), (2, .int x2), (4, .int x4)] [.int s1, .int s0] := by
  unfold mo_cellsOf_b31 at h
  refine g_iadd C dX6_cellsOf_31 ?_
  refine g_istore_n [(3, .int (s0 + s1)), (0, .ref E.2.2.1), (1, .int x1), (2, .int x2), (4, .int x4)] C dX6_cellsOf_32 rfl (Nat.le_of_ble_eq_true rfl) rfl ?_
  refine g_iinc [(4, .int (x4 + (1 : Int32))), (3, .int (s0 + s1)), (0, .ref E.2.2.1), (1, .int x1), (2, .int x2)] C dX6_cellsOf_33 (j := 4) rfl (gk_inc_1 _) (Nat.le_of_ble_eq_true rfl) rfl ?_
  refine g_goto C dX6_cellsOf_36 rfl ?_
  exact g_sub [(0, .ref E.2.2.1), (1, .int x1), (2, .int x2), (3, .int (s0 + s1)), (4, .int (x4 + (1 : Int32)))] [2, 3, 4, 1, 0] rfl (hk5 x1 x2 (s0 + s1) (x4 + (1 : Int32)) z h)
def mo_cellsOf_b5 : Nat → Int32 → Int32 → Int32 → Int32 → mm_S → Option (Int32 × mm_S)
  | 0, _, _, _, _, _ => none
  | n + 1, x1, x2, x3, x4, z => g_call (mo_cells z) (fun v2 z1 => if v2 ≤ x4 then (some (x3, z1)) else (g_call (mo_mayBe x1 x4 x2 z1) (fun v4 z3 => if v4 = 0 then (mo_cellsOf_b31 (mo_cellsOf_b5 n) x1 x2 x4 x3 (0 : Int32) z3) else (mo_cellsOf_b31 (mo_cellsOf_b5 n) x1 x2 x4 x3 (1 : Int32) z3))))
theorem wk_cellsOf_b5 {X : gX} {E : mm_E} {r : Int32 × mm_S} (C : gC X cX6_cellsOf 5 (some .int) RX6 2 47) (M : mm_C X E) : ∀ (n : Nat) (x1 : Int32) (x2 : Int32) (x3 : Int32) (x4 : Int32) (z : mm_S), mo_cellsOf_b5 n x1 x2 x3 x4 z = some r → gW X (mm_G E) (.returned (some (.int r.1)), r.2) z 5 [(0, .ref E.2.2.1), (1, .int x1), (2, .int x2), (3, .int x3), (4, .int x4)] [] := by
  intro n
  induction n with
  | zero =>
    intro x1 x2 x3 x4 z h
    have h : (none : Option (Int32 × mm_S)) = some r := h
    cases h
  | succ n ih =>
    intro x1 x2 x3 x4 z h
    rw [mo_cellsOf_b5] at h
    refine g_iload C dX6_cellsOf_5 4 rfl ?_
    refine g_aload_n C dX6_cellsOf_7 rfl 0 rfl ?_
    obtain ⟨v2, z1, e, h⟩ := g_callE h
    refine mm_callV C M 0 [] (st := [.int x4]) (v := some (.int v2)) (z' := z1) (fun l => ct_cells l z v2 z1 e) (lw_V q2442 q2444 qs115 q178 q2445) rfl rfl rfl (Nat.le_of_ble_eq_true rfl) (Nat.le_of_ble_eq_true rfl) (Nat.le_of_ble_eq_true rfl) dX6_cellsOf_8 ?_
    refine gW_st (st' := [.int v2, .int x4]) rfl ?_
    refine g_icmp_ge C dX6_cellsOf_11 rfl h (fun h => ?_) (fun h => ?_)
    · refine g_iload_n C dX6_cellsOf_39 rfl 3 rfl ?_
      exact g_iret C (fun _ => trivial) dX6_cellsOf_40 h
    · refine g_iload_n C dX6_cellsOf_14 rfl 3 rfl ?_
      refine g_aload_n C dX6_cellsOf_15 rfl 0 rfl ?_
      refine g_iload_n C dX6_cellsOf_16 rfl 1 rfl ?_
      refine g_iload C dX6_cellsOf_17 4 rfl ?_
      refine g_iload_n C dX6_cellsOf_19 rfl 2 rfl ?_
      obtain ⟨v4, z3, e, h⟩ := g_callE h
      refine mm_callV C M 3 [.int x1, .int x4, .int x2] (st := [.int x3]) (v := some (.int v4)) (z' := z3) (fun l => ct_mayBe l x1 x4 x2 z1 v4 z3 e) (lw_V q2617 q2619 qs144 q178 q2620) rfl rfl rfl (Nat.le_of_ble_eq_true rfl) (Nat.le_of_ble_eq_true rfl) (Nat.le_of_ble_eq_true rfl) dX6_cellsOf_20 ?_
      refine gW_st (st' := [.int v4, .int x3]) rfl ?_
      refine g_if_eq C dX6_cellsOf_23 rfl h (fun h => ?_) (fun h => ?_)
      · refine g_iconst C dX6_cellsOf_30 gk_iconst_0 ?_
        exact g_sub [(0, .ref E.2.2.1), (1, .int x1), (2, .int x2), (4, .int x4)] [0, 1, 2, 4] rfl (wk_cellsOf_b31 C M ih x1 x2 x4 x3 (0 : Int32) z3 h)
      · refine g_iconst C dX6_cellsOf_26 gk_iconst_1 ?_
        refine g_goto C dX6_cellsOf_27 rfl ?_
        exact g_sub [(0, .ref E.2.2.1), (1, .int x1), (2, .int x2), (4, .int x4)] [0, 1, 2, 4] rfl (wk_cellsOf_b31 C M ih x1 x2 x4 x3 (1 : Int32) z3 h)
def mo_cellsOf (x1 : Int32) (x2 : Int32) (z : mm_S) : Option (Int32 × mm_S) := mo_cellsOf_b5 g_fu x1 x2 (0 : Int32) (0 : Int32) z
theorem wk_cellsOf {X : gX} {E : mm_E} {r : Int32 × mm_S} (C : gC X cX6_cellsOf 5 (some .int) RX6 2 47) (M : mm_C X E) (x1 : Int32) (x2 : Int32) (z : mm_S) (h : mo_cellsOf x1 x2 z = some r) : gW X (mm_G E) (.returned (some (.int r.1)), r.2) z 0 [(0, .ref E.2.2.1), (1, .int x1), (2, .int x2)] [] := by
  unfold mo_cellsOf at h
  refine g_iconst C dX6_cellsOf_0 gk_iconst_0 ?_
  refine g_istore_n [(3, .int (0 : Int32)), (0, .ref E.2.2.1), (1, .int x1), (2, .int x2)] C dX6_cellsOf_1 rfl (Nat.le_of_ble_eq_true rfl) rfl ?_
  refine g_iconst C dX6_cellsOf_2 gk_iconst_0 ?_
  refine g_istore [(4, .int (0 : Int32)), (3, .int (0 : Int32)), (0, .ref E.2.2.1), (1, .int x1), (2, .int x2)] C dX6_cellsOf_3 (Nat.le_of_ble_eq_true rfl) rfl ?_
  exact g_sub [(0, .ref E.2.2.1), (1, .int x1), (2, .int x2), (3, .int (0 : Int32)), (4, .int (0 : Int32))] [2, 3, 4, 1, 0] rfl (wk_cellsOf_b5 C M g_fu x1 x2 (0 : Int32) (0 : Int32) z h)
theorem ct_cellsOf (l : Launch) (x1 : Int32) (x2 : Int32) (z : mm_S) (r : Int32) (z' : mm_S) (h : mo_cellsOf x1 x2 z = some (r, z')) : mm_MetV l yX6_cellsOf cX6_cellsOf 5 (some .int) 2 47 [.int x1, .int x2] z (.returned (some (.int r)), z') := by
  intro E hD
  exact mm_enter E hD rfl ⟨_, rfl⟩ (.ref E.2.2.1 :: [.int x1, .int x2]) (Nat.le_of_ble_eq_true rfl) (fun X C M => wk_cellsOf C M x1 x2 z h)
def mo_reach_b79 (k40 : Int32 → Int32 → Int32 → Int32 → mm_S → Option (Int32 × mm_S)) (x1 : Int32) (x2 : Int32) (x4 : Int32) (x5 : Int32) (z : mm_S) : Option (Int32 × mm_S) := k40 x1 x2 x4 (x5 + (1 : Int32)) z
theorem wk_reach_b79 {X : gX} {E : mm_E} {r : Int32 × mm_S} (C : gC X cX6_reach 6 (some .int) RX6 8 190) (M : mm_C X E) {k40 : Int32 → Int32 → Int32 → Int32 → mm_S → Option (Int32 × mm_S)} (hk40 : ∀ (x1 : Int32) (x2 : Int32) (x4 : Int32) (x5 : Int32) (z : mm_S), k40 x1 x2 x4 x5 z = some r → gW X (mm_G E) (.returned (some (.int r.1)), r.2) z 40 [(0, .ref E.2.2.1), (1, .int x1), (2, .int x2), (4, .int x4), (5, .int x5)] []) (x1 : Int32) (x2 : Int32) (x4 : Int32) (x5 : Int32) (z : mm_S) (h : mo_reach_b79 k40 x1 x2 x4 x5 z = some r) : gW X (mm_G E) (.returned (some (.int r.1)), r.2) z 79 [(0, .ref E.2.2.1), (1, .int x1), (2, .int x2), (4, .int x4), (5, .int x5)] [] := by
  unfold mo_reach_b79 at h
  refine g_iinc [(5, .int (x5 + (1 : Int32))), (0, .ref E.2.2.1), (1, .int x1), (2, .int x2), (4, .int x4)] C dX6_reach_79 (j := 4) rfl (gk_inc_1 _) (Nat.le_of_ble_eq_true rfl) rfl ?_
  refine g_goto C dX6_reach_82 rfl ?_
  exact g_sub [(0, .ref E.2.2.1), (1, .int x1), (2, .int x2), (4, .int x4), (5, .int (x5 + (1 : Int32)))] [1, 2, 3, 4, 0] rfl (hk40 x1 x2 x4 (x5 + (1 : Int32)) z h)
def mo_reach_b40 : Nat → Int32 → Int32 → Int32 → Int32 → mm_S → Option (Int32 × mm_S)
  | 0, _, _, _, _, _ => none
  | n + 1, x1, x2, x4, x5, z => g_call (mo_cells z) (fun v2 z1 => if v2 ≤ x5 then (some ((-1 : Int32), z1)) else (if x4 < 0 then (some ((-1 : Int32), z1)) else (g_call (mo_mayBe x1 x5 x2 z1) (fun v4 z3 => if v4 = 0 then (mo_reach_b79 (mo_reach_b40 n) x1 x2 x4 x5 z3) else (if x4 = 0 then (some (x5, z3)) else (mo_reach_b79 (mo_reach_b40 n) x1 x2 (x4 + (-1 : Int32)) x5 z3))))))
theorem wk_reach_b40 {X : gX} {E : mm_E} {r : Int32 × mm_S} (C : gC X cX6_reach 6 (some .int) RX6 8 190) (M : mm_C X E) : ∀ (n : Nat) (x1 : Int32) (x2 : Int32) (x4 : Int32) (x5 : Int32) (z : mm_S), mo_reach_b40 n x1 x2 x4 x5 z = some r → gW X (mm_G E) (.returned (some (.int r.1)), r.2) z 40 [(0, .ref E.2.2.1), (1, .int x1), (2, .int x2), (4, .int x4), (5, .int x5)] [] := by
  intro n
  induction n with
  | zero =>
    intro x1 x2 x4 x5 z h
    have h : (none : Option (Int32 × mm_S)) = some r := h
    cases h
  | succ n ih =>
    intro x1 x2 x4 x5 z h
    rw [mo_reach_b40] at h
    refine g_iload C dX6_reach_40 4 rfl ?_
    refine g_aload_n C dX6_reach_42 rfl 0 rfl ?_
    obtain ⟨v2, z1, e, h⟩ := g_callE h
    refine mm_callV C M 0 [] (st := [.int x5]) (v := some (.int v2)) (z' := z1) (fun l => ct_cells l z v2 z1 e) (lw_V q2442 q2444 qs115 q178 q2445) rfl rfl rfl (Nat.le_of_ble_eq_true rfl) (Nat.le_of_ble_eq_true rfl) (Nat.le_of_ble_eq_true rfl) dX6_reach_43 ?_
    refine gW_st (st' := [.int v2, .int x5]) rfl ?_
    refine g_icmp_ge C dX6_reach_46 rfl h (fun h => ?_) (fun h => ?_)
    · refine g_iconst C dX6_reach_85 gk_iconst_m1 ?_
      exact g_iret C (fun _ => trivial) dX6_reach_86 h
    · refine g_iload C dX6_reach_49 3 rfl ?_
      refine g_if_lt C dX6_reach_51 rfl h (fun h => ?_) (fun h => ?_)
      · refine g_iconst C dX6_reach_85 gk_iconst_m1 ?_
        exact g_iret C (fun _ => trivial) dX6_reach_86 h
      · refine g_aload_n C dX6_reach_54 rfl 0 rfl ?_
        refine g_iload_n C dX6_reach_55 rfl 1 rfl ?_
        refine g_iload C dX6_reach_56 4 rfl ?_
        refine g_iload_n C dX6_reach_58 rfl 2 rfl ?_
        obtain ⟨v4, z3, e, h⟩ := g_callE h
        refine mm_callV C M 3 [.int x1, .int x5, .int x2] (st := []) (v := some (.int v4)) (z' := z3) (fun l => ct_mayBe l x1 x5 x2 z1 v4 z3 e) (lw_V q2617 q2619 qs144 q178 q2620) rfl rfl rfl (Nat.le_of_ble_eq_true rfl) (Nat.le_of_ble_eq_true rfl) (Nat.le_of_ble_eq_true rfl) dX6_reach_59 ?_
        refine gW_st (st' := [.int v4]) rfl ?_
        refine g_if_ne C dX6_reach_62 rfl h (fun h => ?_) (fun h => ?_)
        · refine g_iload C dX6_reach_68 3 rfl ?_
          refine g_if_ne C dX6_reach_70 rfl h (fun h => ?_) (fun h => ?_)
          · refine g_iinc [(4, .int (x4 + (-1 : Int32))), (0, .ref E.2.2.1), (1, .int x1), (2, .int x2), (5, .int x5)] C dX6_reach_76 (j := 3) rfl (gk_inc_m1 _) (Nat.le_of_ble_eq_true rfl) rfl ?_
            exact g_sub [(0, .ref E.2.2.1), (1, .int x1), (2, .int x2), (4, .int (x4 + (-1 : Int32))), (5, .int x5)] [1, 2, 3, 0, 4] rfl (wk_reach_b79 C M ih x1 x2 (x4 + (-1 : Int32)) x5 z3 h)
          · refine g_iload C dX6_reach_73 4 rfl ?_
            exact g_iret C (fun _ => trivial) dX6_reach_75 h
        · refine g_goto C dX6_reach_65 rfl ?_
          exact wk_reach_b79 C M ih x1 x2 x4 x5 z3 h
def mo_reach (x1 : Int32) (x2 : Int32) (x3 : Int32) (z : mm_S) : Option (Int32 × mm_S) := g_call (mo_isShip x1 z) (fun v2 z1 => if v2 = 0 then (some ((-1 : Int32), z1)) else (g_call (mo_isHour x2 z1) (fun v4 z3 => if v4 = 0 then (some ((-1 : Int32), z3)) else (g_call (mo_lays_2 x1 z3) (fun _ z5 => if x3 = (-1 : Int32) then (g_call (mo_cellsOf x1 x2 z5) (fun v8 z7 => some (v8, z7))) else (mo_reach_b40 g_fu x1 x2 x3 (0 : Int32) z5))))))
theorem wk_reach {X : gX} {E : mm_E} {r : Int32 × mm_S} (C : gC X cX6_reach 6 (some .int) RX6 8 190) (M : mm_C X E) (x1 : Int32) (x2 : Int32) (x3 : Int32) (z : mm_S) (h : mo_reach x1 x2 x3 z = some r) : gW X (mm_G E) (.returned (some (.int r.1)), r.2) z 0 [(0, .ref E.2.2.1), (1, .int x1), (2, .int x2), (3, .int x3)] [] := by
  unfold mo_reach at h
  refine g_aload_n C dX6_reach_0 rfl 0 rfl ?_
  refine g_iload_n C dX6_reach_1 rfl 1 rfl ?_
  obtain ⟨v2, z1, e, h⟩ := g_callE h
  refine mm_callV C M 1 [.int x1] (st := []) (v := some (.int v2)) (z' := z1) (fun l => ct_isShip l x1 z v2 z1 e) (lw_V q2521 q2523 qs126 q178 q2524) rfl rfl rfl (Nat.le_of_ble_eq_true rfl) (Nat.le_of_ble_eq_true rfl) (Nat.le_of_ble_eq_true rfl) dX6_reach_2 ?_
  refine gW_st (st' := [.int v2]) rfl ?_
  refine g_if_eq C dX6_reach_5 rfl h (fun h => ?_) (fun h => ?_)
  · refine g_iconst C dX6_reach_15 gk_iconst_m1 ?_
    exact g_iret C (fun _ => trivial) dX6_reach_16 h
  · refine g_iload_n C dX6_reach_8 rfl 2 rfl ?_
    obtain ⟨v4, z3, e, h⟩ := g_callE h
    refine mm_callS C M 1 [.int x2] (st := []) (v := some (.int v4)) (z' := z3) (fun l => ct_isHour l x2 z1 v4 z3 e) (lw_S q2494 q2495 q178 q2496) rfl rfl rfl (Nat.le_of_ble_eq_true rfl) (Nat.le_of_ble_eq_true rfl) (Nat.le_of_ble_eq_true rfl) dX6_reach_9 ?_
    refine gW_st (st' := [.int v4]) rfl ?_
    refine g_if_ne C dX6_reach_12 rfl h (fun h => ?_) (fun h => ?_)
    · refine g_aload_n C dX6_reach_17 rfl 0 rfl ?_
      refine g_iload_n C dX6_reach_18 rfl 1 rfl ?_
      obtain ⟨u6, z5, e, h⟩ := g_callE h
      refine mm_callV C M 1 [.int x1] (st := []) (v := none) (z' := z5) (fun l => ct_lays_2 l x1 z3 u6 z5 e) (lw_V q2609 q2611 qs142 q178 q2612) rfl rfl rfl (Nat.le_of_ble_eq_true rfl) (Nat.le_of_ble_eq_true rfl) (Nat.le_of_ble_eq_true rfl) dX6_reach_19 ?_
      refine gW_st (st' := []) rfl ?_
      refine g_iload_n C dX6_reach_22 rfl 3 rfl ?_
      refine g_iconst C dX6_reach_23 gk_iconst_m1 ?_
      refine g_icmp_ne C dX6_reach_24 rfl h (fun h => ?_) (fun h => ?_)
      · refine g_iload_n C dX6_reach_34 rfl 3 rfl ?_
        refine g_istore [(4, .int x3), (0, .ref E.2.2.1), (1, .int x1), (2, .int x2), (3, .int x3)] C dX6_reach_35 (Nat.le_of_ble_eq_true rfl) rfl ?_
        refine g_iconst C dX6_reach_37 gk_iconst_0 ?_
        refine g_istore [(5, .int (0 : Int32)), (4, .int x3), (0, .ref E.2.2.1), (1, .int x1), (2, .int x2), (3, .int x3)] C dX6_reach_38 (Nat.le_of_ble_eq_true rfl) rfl ?_
        exact g_sub [(0, .ref E.2.2.1), (1, .int x1), (2, .int x2), (4, .int x3), (5, .int (0 : Int32))] [2, 3, 4, 1, 0] rfl (wk_reach_b40 C M g_fu x1 x2 x3 (0 : Int32) z5 h)
      · refine g_aload_n C dX6_reach_27 rfl 0 rfl ?_
        refine g_iload_n C dX6_reach_28 rfl 1 rfl ?_
        refine g_iload_n C dX6_reach_29 rfl 2 rfl ?_
        obtain ⟨v8, z7, e, h⟩ := g_callE h
        refine mm_callV C M 2 [.int x1, .int x2] (st := []) (v := some (.int v8)) (z' := z7) (fun l => ct_cellsOf l x1 x2 z5 v8 z7 e) (lw_V q2613 q2615 qs143 q178 q2616) rfl rfl rfl (Nat.le_of_ble_eq_true rfl) (Nat.le_of_ble_eq_true rfl) (Nat.le_of_ble_eq_true rfl) dX6_reach_30 ?_
        refine gW_st (st' := [.int v8]) rfl ?_
        exact g_iret C (fun _ => trivial) dX6_reach_33 h
    · refine g_iconst C dX6_reach_15 gk_iconst_m1 ?_
      exact g_iret C (fun _ => trivial) dX6_reach_16 h
theorem ct_reach (l : Launch) (x1 : Int32) (x2 : Int32) (x3 : Int32) (z : mm_S) (r : Int32) (z' : mm_S) (h : mo_reach x1 x2 x3 z = some (r, z')) : mm_MetV l yX6_reach cX6_reach 6 (some .int) 8 190 [.int x1, .int x2, .int x3] z (.returned (some (.int r)), z') := by
  intro E hD
  exact mm_enter E hD rfl ⟨_, rfl⟩ (.ref E.2.2.1 :: [.int x1, .int x2, .int x3]) (Nat.le_of_ble_eq_true rfl) (fun X C M => wk_reach C M x1 x2 x3 z h)
def mo_may (x1 : Int32) (x2 : Int32) (x3 : Int32) (x4 : Int32) (z : mm_S) : Option (Int32 × mm_S) := g_call (mo_isShip x1 z) (fun v2 z1 => if v2 = 0 then (some ((-1 : Int32), z1)) else (g_call (mo_isHour x2 z1) (fun v4 z3 => if v4 = 0 then (some ((-1 : Int32), z3)) else (g_call (mo_isCell x3 x4 z3) (fun v6 z5 => if v6 = 0 then (some ((-1 : Int32), z5)) else (g_call (mo_lays_2 x1 z5) (fun _ z7 => g_call (mo_at x3 x4 z7) (fun v10 z9 => g_call (mo_mayBe x1 v10 x2 z9) (fun v12 z11 => if v12 = 0 then (some ((0 : Int32), z11)) else (some ((1 : Int32), z11)))))))))))
theorem wk_may {X : gX} {E : mm_E} {r : Int32 × mm_S} (C : gC X cX6_may 5 (some .int) RX6 8 190) (M : mm_C X E) (x1 : Int32) (x2 : Int32) (x3 : Int32) (x4 : Int32) (z : mm_S) (h : mo_may x1 x2 x3 x4 z = some r) : gW X (mm_G E) (.returned (some (.int r.1)), r.2) z 0 [(0, .ref E.2.2.1), (1, .int x1), (2, .int x2), (3, .int x3), (4, .int x4)] [] := by
  unfold mo_may at h
  refine g_aload_n C dX6_may_0 rfl 0 rfl ?_
  refine g_iload_n C dX6_may_1 rfl 1 rfl ?_
  obtain ⟨v2, z1, e, h⟩ := g_callE h
  refine mm_callV C M 1 [.int x1] (st := []) (v := some (.int v2)) (z' := z1) (fun l => ct_isShip l x1 z v2 z1 e) (lw_V q2521 q2523 qs126 q178 q2524) rfl rfl rfl (Nat.le_of_ble_eq_true rfl) (Nat.le_of_ble_eq_true rfl) (Nat.le_of_ble_eq_true rfl) dX6_may_2 ?_
  refine gW_st (st' := [.int v2]) rfl ?_
  refine g_if_eq C dX6_may_5 rfl h (fun h => ?_) (fun h => ?_)
  · refine g_iconst C dX6_may_25 gk_iconst_m1 ?_
    exact g_iret C (fun _ => trivial) dX6_may_26 h
  · refine g_iload_n C dX6_may_8 rfl 2 rfl ?_
    obtain ⟨v4, z3, e, h⟩ := g_callE h
    refine mm_callS C M 1 [.int x2] (st := []) (v := some (.int v4)) (z' := z3) (fun l => ct_isHour l x2 z1 v4 z3 e) (lw_S q2494 q2495 q178 q2496) rfl rfl rfl (Nat.le_of_ble_eq_true rfl) (Nat.le_of_ble_eq_true rfl) (Nat.le_of_ble_eq_true rfl) dX6_may_9 ?_
    refine gW_st (st' := [.int v4]) rfl ?_
    refine g_if_eq C dX6_may_12 rfl h (fun h => ?_) (fun h => ?_)
    · refine g_iconst C dX6_may_25 gk_iconst_m1 ?_
      exact g_iret C (fun _ => trivial) dX6_may_26 h
    · refine g_aload_n C dX6_may_15 rfl 0 rfl ?_
      refine g_iload_n C dX6_may_16 rfl 3 rfl ?_
      refine g_iload C dX6_may_17 4 rfl ?_
      obtain ⟨v6, z5, e, h⟩ := g_callE h
      refine mm_callV C M 2 [.int x3, .int x4] (st := []) (v := some (.int v6)) (z' := z5) (fun l => ct_isCell l x3 x4 z3 v6 z5 e) (lw_V q2490 q2492 qs121 q178 q2493) rfl rfl rfl (Nat.le_of_ble_eq_true rfl) (Nat.le_of_ble_eq_true rfl) (Nat.le_of_ble_eq_true rfl) dX6_may_19 ?_
      refine gW_st (st' := [.int v6]) rfl ?_
      refine g_if_ne C dX6_may_22 rfl h (fun h => ?_) (fun h => ?_)
      · refine g_aload_n C dX6_may_27 rfl 0 rfl ?_
        refine g_iload_n C dX6_may_28 rfl 1 rfl ?_
        obtain ⟨u8, z7, e, h⟩ := g_callE h
        refine mm_callV C M 1 [.int x1] (st := []) (v := none) (z' := z7) (fun l => ct_lays_2 l x1 z5 u8 z7 e) (lw_V q2609 q2611 qs142 q178 q2612) rfl rfl rfl (Nat.le_of_ble_eq_true rfl) (Nat.le_of_ble_eq_true rfl) (Nat.le_of_ble_eq_true rfl) dX6_may_29 ?_
        refine gW_st (st' := []) rfl ?_
        refine g_aload_n C dX6_may_32 rfl 0 rfl ?_
        refine g_iload_n C dX6_may_33 rfl 1 rfl ?_
        refine g_aload_n C dX6_may_34 rfl 0 rfl ?_
        refine g_iload_n C dX6_may_35 rfl 3 rfl ?_
        refine g_iload C dX6_may_36 4 rfl ?_
        obtain ⟨v10, z9, e, h⟩ := g_callE h
        refine mm_callV C M 2 [.int x3, .int x4] (st := [.int x1, .ref E.2.2.1]) (v := some (.int v10)) (z' := z9) (fun l => ct_at l x3 x4 z7 v10 z9 e) (lw_V q2497 q2499 qs122 q178 q2500) rfl rfl rfl (Nat.le_of_ble_eq_true rfl) (Nat.le_of_ble_eq_true rfl) (Nat.le_of_ble_eq_true rfl) dX6_may_38 ?_
        refine gW_st (st' := [.int v10, .int x1, .ref E.2.2.1]) rfl ?_
        refine g_iload_n C dX6_may_41 rfl 2 rfl ?_
        obtain ⟨v12, z11, e, h⟩ := g_callE h
        refine mm_callV C M 3 [.int x1, .int v10, .int x2] (st := []) (v := some (.int v12)) (z' := z11) (fun l => ct_mayBe l x1 v10 x2 z9 v12 z11 e) (lw_V q2617 q2619 qs144 q178 q2620) rfl rfl rfl (Nat.le_of_ble_eq_true rfl) (Nat.le_of_ble_eq_true rfl) (Nat.le_of_ble_eq_true rfl) dX6_may_42 ?_
        refine gW_st (st' := [.int v12]) rfl ?_
        refine g_if_eq C dX6_may_45 rfl h (fun h => ?_) (fun h => ?_)
        · refine g_iconst C dX6_may_52 gk_iconst_0 ?_
          exact g_iret C (fun _ => trivial) dX6_may_53 h
        · refine g_iconst C dX6_may_48 gk_iconst_1 ?_
          refine g_goto C dX6_may_49 rfl ?_
          exact g_iret C (fun _ => trivial) dX6_may_53 h
      · refine g_iconst C dX6_may_25 gk_iconst_m1 ?_
        exact g_iret C (fun _ => trivial) dX6_may_26 h
theorem ct_may (l : Launch) (x1 : Int32) (x2 : Int32) (x3 : Int32) (x4 : Int32) (z : mm_S) (r : Int32) (z' : mm_S) (h : mo_may x1 x2 x3 x4 z = some (r, z')) : mm_MetV l yX6_may cX6_may 5 (some .int) 8 190 [.int x1, .int x2, .int x3, .int x4] z (.returned (some (.int r)), z') := by
  intro E hD
  exact mm_enter E hD rfl ⟨_, rfl⟩ (.ref E.2.2.1 :: [.int x1, .int x2, .int x3, .int x4]) (Nat.le_of_ble_eq_true rfl) (fun X C M => wk_may C M x1 x2 x3 x4 z h)
def mo_addSayings_b90 (k6 : Int32 → Int32 → Int32 → Int32 → Int32 → mm_S → Option (Int32 × mm_S)) (x1 : Int32) (x2 : Int32) (x3 : Int32) (x4 : Int32) (x5 : Int32) (z : mm_S) : Option (Int32 × mm_S) := k6 x1 x2 x3 x4 (x5 + (1 : Int32)) z
theorem wk_addSayings_b90 {X : gX} {E : mm_E} {r : Int32 × mm_S} (C : gC X cX6_addSayings 6 (some .boolean) RX6 2 42) (M : mm_C X E) {k6 : Int32 → Int32 → Int32 → Int32 → Int32 → mm_S → Option (Int32 × mm_S)} (hk6 : ∀ (x1 : Int32) (x2 : Int32) (x3 : Int32) (x4 : Int32) (x5 : Int32) (z : mm_S), k6 x1 x2 x3 x4 x5 z = some r → gW X (mm_G E) (.returned (some (.int r.1)), r.2) z 6 [(0, .ref E.2.2.1), (1, .int x1), (2, .int x2), (3, .int x3), (4, .int x4), (5, .int x5)] []) (x1 : Int32) (x2 : Int32) (x3 : Int32) (x4 : Int32) (x5 : Int32) (z : mm_S) (h : mo_addSayings_b90 k6 x1 x2 x3 x4 x5 z = some r) : gW X (mm_G E) (.returned (some (.int r.1)), r.2) z 90 [(0, .ref E.2.2.1), (1, .int x1), (2, .int x2), (3, .int x3), (4, .int x4), (5, .int x5)] [] := by
  unfold mo_addSayings_b90 at h
  refine g_iinc [(5, .int (x5 + (1 : Int32))), (0, .ref E.2.2.1), (1, .int x1), (2, .int x2), (3, .int x3), (4, .int x4)] C dX6_addSayings_90 (j := 5) rfl (gk_inc_1 _) (Nat.le_of_ble_eq_true rfl) rfl ?_
  refine g_goto C dX6_addSayings_93 rfl ?_
  exact g_sub [(0, .ref E.2.2.1), (1, .int x1), (2, .int x2), (3, .int x3), (4, .int x4), (5, .int (x5 + (1 : Int32)))] [1, 2, 3, 4, 5, 0] rfl (hk6 x1 x2 x3 x4 (x5 + (1 : Int32)) z h)
def mo_addSayings_b88 (k6 : Int32 → Int32 → Int32 → Int32 → Int32 → mm_S → Option (Int32 × mm_S)) (x1 : Int32) (x2 : Int32) (x3 : Int32) (x5 : Int32) (s0 : Int32) (z : mm_S) : Option (Int32 × mm_S) := mo_addSayings_b90 k6 x1 x2 x3 s0 x5 z
theorem wk_addSayings_b88 {X : gX} {E : mm_E} {r : Int32 × mm_S} (C : gC X cX6_addSayings 6 (some .boolean) RX6 2 42) (M : mm_C X E) {k6 : Int32 → Int32 → Int32 → Int32 → Int32 → mm_S → Option (Int32 × mm_S)} (hk6 : ∀ (x1 : Int32) (x2 : Int32) (x3 : Int32) (x4 : Int32) (x5 : Int32) (z : mm_S), k6 x1 x2 x3 x4 x5 z = some r → gW X (mm_G E) (.returned (some (.int r.1)), r.2) z 6 [(0, .ref E.2.2.1), (1, .int x1), (2, .int x2), (3, .int x3), (4, .int x4), (5, .int x5)] []) (x1 : Int32) (x2 : Int32) (x3 : Int32) (x5 : Int32) (s0 : Int32) (z : mm_S) (h : mo_addSayings_b88 k6 x1 x2 x3 x5 s0 z = some r) : gW X (mm_G E) (.returned (some (.int r.1)), r.2) z 88 [(0, .ref E.2.2.1), (1, .int x1), (2, .int x2), (3, .int x3), (5, .int x5)] [.int s0] := by
  unfold mo_addSayings_b88 at h
  refine g_istore [(4, .int s0), (0, .ref E.2.2.1), (1, .int x1), (2, .int x2), (3, .int x3), (5, .int x5)] C dX6_addSayings_88 (Nat.le_of_ble_eq_true rfl) rfl ?_
  exact g_sub [(0, .ref E.2.2.1), (1, .int x1), (2, .int x2), (3, .int x3), (4, .int s0), (5, .int x5)] [1, 2, 3, 4, 0, 5] rfl (wk_addSayings_b90 C M hk6 x1 x2 x3 s0 x5 z h)
def mo_addSayings_b87 (k6 : Int32 → Int32 → Int32 → Int32 → Int32 → mm_S → Option (Int32 × mm_S)) (x1 : Int32) (x2 : Int32) (x3 : Int32) (x5 : Int32) (z : mm_S) : Option (Int32 × mm_S) := mo_addSayings_b88 k6 x1 x2 x3 x5 (0 : Int32) z
theorem wk_addSayings_b87 {X : gX} {E : mm_E} {r : Int32 × mm_S} (C : gC X cX6_addSayings 6 (some .boolean) RX6 2 42) (M : mm_C X E) {k6 : Int32 → Int32 → Int32 → Int32 → Int32 → mm_S → Option (Int32 × mm_S)} (hk6 : ∀ (x1 : Int32) (x2 : Int32) (x3 : Int32) (x4 : Int32) (x5 : Int32) (z : mm_S), k6 x1 x2 x3 x4 x5 z = some r → gW X (mm_G E) (.returned (some (.int r.1)), r.2) z 6 [(0, .ref E.2.2.1), (1, .int x1), (2, .int x2), (3, .int x3), (4, .int x4), (5, .int x5)] []) (x1 : Int32) (x2 : Int32) (x3 : Int32) (x5 : Int32) (z : mm_S) (h : mo_addSayings_b87 k6 x1 x2 x3 x5 z = some r) : gW X (mm_G E) (.returned (some (.int r.1)), r.2) z 87 [(0, .ref E.2.2.1), (1, .int x1), (2, .int x2), (3, .int x3), (5, .int x5)] [] := by
  unfold mo_addSayings_b87 at h
  refine g_iconst C dX6_addSayings_87 gk_iconst_0 ?_
  exact wk_addSayings_b88 C M hk6 x1 x2 x3 x5 (0 : Int32) z h
def mo_addSayings_b6 : Nat → Int32 → Int32 → Int32 → Int32 → Int32 → mm_S → Option (Int32 × mm_S)
  | 0, _, _, _, _, _, _ => none
  | n + 1, x1, x2, x3, x4, x5, z => if (48 : Int32) ≤ x5 then ((if x4 = 0 ∨ x4 = 1 then some (x4, z) else none)) else (g_call (mo_said x1 x5 z) (fun v2 z1 => if v2 = (-1 : Int32) then (mo_addSayings_b90 (mo_addSayings_b6 n) x1 x2 x3 x4 x5 z1) else (g_call (mo_isHour (x5 + x3) z1) (fun v4 z3 => if v4 = 0 then (mo_addSayings_b90 (mo_addSayings_b6 n) x1 x2 x3 x4 x5 z3) else (g_call (mo_said x1 x5 z3) (fun v6 z5 => g_call (mo_fact v6 (x5 + x3) (x5 + x3) z5) (fun _ z7 => if x4 = 0 then (mo_addSayings_b87 (mo_addSayings_b6 n) x1 x2 x3 x5 z7) else (g_call (mo_said x1 x5 z7) (fun v10 z9 => g_call (mo_laden x1 x5 z9) (fun v12 z11 => g_call (mo_isSound x2 v10 v12 z11) (fun v14 z13 => if v14 = 0 then (mo_addSayings_b87 (mo_addSayings_b6 n) x1 x2 x3 x5 z13) else (mo_addSayings_b88 (mo_addSayings_b6 n) x1 x2 x3 x5 (1 : Int32) z13))))))))))))
theorem wk_addSayings_b6 {X : gX} {E : mm_E} {r : Int32 × mm_S} (C : gC X cX6_addSayings 6 (some .boolean) RX6 2 42) (M : mm_C X E) : ∀ (n : Nat) (x1 : Int32) (x2 : Int32) (x3 : Int32) (x4 : Int32) (x5 : Int32) (z : mm_S), mo_addSayings_b6 n x1 x2 x3 x4 x5 z = some r → gW X (mm_G E) (.returned (some (.int r.1)), r.2) z 6 [(0, .ref E.2.2.1), (1, .int x1), (2, .int x2), (3, .int x3), (4, .int x4), (5, .int x5)] [] := by
  intro n
  induction n with
  | zero =>
    intro x1 x2 x3 x4 x5 z h
    have h : (none : Option (Int32 × mm_S)) = some r := h
    cases h
  | succ n ih =>
    intro x1 x2 x3 x4 x5 z h
    rw [mo_addSayings_b6] at h
    refine g_iload C dX6_addSayings_6 5 rfl ?_
    refine g_bipush C dX6_addSayings_8 gk_bipush_48 ?_
    refine g_icmp_ge C dX6_addSayings_10 rfl h (fun h => ?_) (fun h => ?_)
    · refine g_iload C dX6_addSayings_96 4 rfl ?_
      exact g_zret C (fun _ => trivial) dX6_addSayings_98 h
    · refine g_aload_n C dX6_addSayings_13 rfl 0 rfl ?_
      refine g_iload_n C dX6_addSayings_14 rfl 1 rfl ?_
      refine g_iload C dX6_addSayings_15 5 rfl ?_
      obtain ⟨v2, z1, e, h⟩ := g_callE h
      refine mm_callV C M 2 [.int x1, .int x5] (st := []) (v := some (.int v2)) (z' := z1) (fun l => ct_said l x1 x5 z v2 z1 e) (lw_V q2513 q2515 qs125 q178 q2516) rfl rfl rfl (Nat.le_of_ble_eq_true rfl) (Nat.le_of_ble_eq_true rfl) (Nat.le_of_ble_eq_true rfl) dX6_addSayings_17 ?_
      refine gW_st (st' := [.int v2]) rfl ?_
      refine g_iconst C dX6_addSayings_20 gk_iconst_m1 ?_
      refine g_icmp_eq C dX6_addSayings_21 rfl h (fun h => ?_) (fun h => ?_)
      · exact wk_addSayings_b90 C M ih x1 x2 x3 x4 x5 z1 h
      · refine g_iload C dX6_addSayings_24 5 rfl ?_
        refine g_iload_n C dX6_addSayings_26 rfl 3 rfl ?_
        refine g_iadd C dX6_addSayings_27 ?_
        obtain ⟨v4, z3, e, h⟩ := g_callE h
        refine mm_callS C M 1 [.int (x5 + x3)] (st := []) (v := some (.int v4)) (z' := z3) (fun l => ct_isHour l (x5 + x3) z1 v4 z3 e) (lw_S q2494 q2495 q178 q2496) rfl rfl rfl (Nat.le_of_ble_eq_true rfl) (Nat.le_of_ble_eq_true rfl) (Nat.le_of_ble_eq_true rfl) dX6_addSayings_28 ?_
        refine gW_st (st' := [.int v4]) rfl ?_
        refine g_if_ne C dX6_addSayings_31 rfl h (fun h => ?_) (fun h => ?_)
        · refine g_aload_n C dX6_addSayings_37 rfl 0 rfl ?_
          refine g_aload_n C dX6_addSayings_38 rfl 0 rfl ?_
          refine g_iload_n C dX6_addSayings_39 rfl 1 rfl ?_
          refine g_iload C dX6_addSayings_40 5 rfl ?_
          obtain ⟨v6, z5, e, h⟩ := g_callE h
          refine mm_callV C M 2 [.int x1, .int x5] (st := [.ref E.2.2.1]) (v := some (.int v6)) (z' := z5) (fun l => ct_said l x1 x5 z3 v6 z5 e) (lw_V q2513 q2515 qs125 q178 q2516) rfl rfl rfl (Nat.le_of_ble_eq_true rfl) (Nat.le_of_ble_eq_true rfl) (Nat.le_of_ble_eq_true rfl) dX6_addSayings_42 ?_
          refine gW_st (st' := [.int v6, .ref E.2.2.1]) rfl ?_
          refine g_iload C dX6_addSayings_45 5 rfl ?_
          refine g_iload_n C dX6_addSayings_47 rfl 3 rfl ?_
          refine g_iadd C dX6_addSayings_48 ?_
          refine g_iload C dX6_addSayings_49 5 rfl ?_
          refine g_iload_n C dX6_addSayings_51 rfl 3 rfl ?_
          refine g_iadd C dX6_addSayings_52 ?_
          obtain ⟨u8, z7, e, h⟩ := g_callE h
          refine mm_callV C M 3 [.int v6, .int (x5 + x3), .int (x5 + x3)] (st := []) (v := none) (z' := z7) (fun l => ct_fact l v6 (x5 + x3) (x5 + x3) z5 u8 z7 e) (lw_V q2562 q2564 qs134 q178 q2565) rfl rfl rfl (Nat.le_of_ble_eq_true rfl) (Nat.le_of_ble_eq_true rfl) (Nat.le_of_ble_eq_true rfl) dX6_addSayings_53 ?_
          refine gW_st (st' := []) rfl ?_
          refine g_iload C dX6_addSayings_56 4 rfl ?_
          refine g_if_eq C dX6_addSayings_58 rfl h (fun h => ?_) (fun h => ?_)
          · exact g_sub [(0, .ref E.2.2.1), (1, .int x1), (2, .int x2), (3, .int x3), (5, .int x5)] [0, 1, 2, 3, 5] rfl (wk_addSayings_b87 C M ih x1 x2 x3 x5 z7 h)
          · refine g_aload_n C dX6_addSayings_61 rfl 0 rfl ?_
            refine g_iload_n C dX6_addSayings_62 rfl 2 rfl ?_
            refine g_aload_n C dX6_addSayings_63 rfl 0 rfl ?_
            refine g_iload_n C dX6_addSayings_64 rfl 1 rfl ?_
            refine g_iload C dX6_addSayings_65 5 rfl ?_
            obtain ⟨v10, z9, e, h⟩ := g_callE h
            refine mm_callV C M 2 [.int x1, .int x5] (st := [.int x2, .ref E.2.2.1]) (v := some (.int v10)) (z' := z9) (fun l => ct_said l x1 x5 z7 v10 z9 e) (lw_V q2513 q2515 qs125 q178 q2516) rfl rfl rfl (Nat.le_of_ble_eq_true rfl) (Nat.le_of_ble_eq_true rfl) (Nat.le_of_ble_eq_true rfl) dX6_addSayings_67 ?_
            refine gW_st (st' := [.int v10, .int x2, .ref E.2.2.1]) rfl ?_
            refine g_aload_n C dX6_addSayings_70 rfl 0 rfl ?_
            refine g_iload_n C dX6_addSayings_71 rfl 1 rfl ?_
            refine g_iload C dX6_addSayings_72 5 rfl ?_
            obtain ⟨v12, z11, e, h⟩ := g_callE h
            refine mm_callV C M 2 [.int x1, .int x5] (st := [.int v10, .int x2, .ref E.2.2.1]) (v := some (.int v12)) (z' := z11) (fun l => ct_laden l x1 x5 z9 v12 z11 e) (lw_V q2581 q2583 qs138 q178 q2584) rfl rfl rfl (Nat.le_of_ble_eq_true rfl) (Nat.le_of_ble_eq_true rfl) (Nat.le_of_ble_eq_true rfl) dX6_addSayings_74 ?_
            refine gW_st (st' := [.int v12, .int v10, .int x2, .ref E.2.2.1]) rfl ?_
            obtain ⟨v14, z13, e, h⟩ := g_callE h
            refine mm_callV C M 3 [.int x2, .int v10, .int v12] (st := []) (v := some (.int v14)) (z' := z13) (fun l => ct_isSound l x2 v10 v12 z11 v14 z13 e) (lw_V q2585 q2587 qs139 q178 q2588) rfl rfl rfl (Nat.le_of_ble_eq_true rfl) (Nat.le_of_ble_eq_true rfl) (Nat.le_of_ble_eq_true rfl) dX6_addSayings_77 ?_
            refine gW_st (st' := [.int v14]) rfl ?_
            refine g_if_eq C dX6_addSayings_80 rfl h (fun h => ?_) (fun h => ?_)
            · exact g_sub [(0, .ref E.2.2.1), (1, .int x1), (2, .int x2), (3, .int x3), (5, .int x5)] [0, 1, 2, 3, 5] rfl (wk_addSayings_b87 C M ih x1 x2 x3 x5 z13 h)
            · refine g_iconst C dX6_addSayings_83 gk_iconst_1 ?_
              refine g_goto C dX6_addSayings_84 rfl ?_
              exact g_sub [(0, .ref E.2.2.1), (1, .int x1), (2, .int x2), (3, .int x3), (5, .int x5)] [0, 1, 2, 3, 5] rfl (wk_addSayings_b88 C M ih x1 x2 x3 x5 (1 : Int32) z13 h)
        · refine g_goto C dX6_addSayings_34 rfl ?_
          exact wk_addSayings_b90 C M ih x1 x2 x3 x4 x5 z3 h
def mo_addSayings (x1 : Int32) (x2 : Int32) (x3 : Int32) (z : mm_S) : Option (Int32 × mm_S) := mo_addSayings_b6 g_fu x1 x2 x3 (1 : Int32) (0 : Int32) z
theorem wk_addSayings {X : gX} {E : mm_E} {r : Int32 × mm_S} (C : gC X cX6_addSayings 6 (some .boolean) RX6 2 42) (M : mm_C X E) (x1 : Int32) (x2 : Int32) (x3 : Int32) (z : mm_S) (h : mo_addSayings x1 x2 x3 z = some r) : gW X (mm_G E) (.returned (some (.int r.1)), r.2) z 0 [(0, .ref E.2.2.1), (1, .int x1), (2, .int x2), (3, .int x3)] [] := by
  unfold mo_addSayings at h
  refine g_iconst C dX6_addSayings_0 gk_iconst_1 ?_
  refine g_istore [(4, .int (1 : Int32)), (0, .ref E.2.2.1), (1, .int x1), (2, .int x2), (3, .int x3)] C dX6_addSayings_1 (Nat.le_of_ble_eq_true rfl) rfl ?_
  refine g_iconst C dX6_addSayings_3 gk_iconst_0 ?_
  refine g_istore [(5, .int (0 : Int32)), (4, .int (1 : Int32)), (0, .ref E.2.2.1), (1, .int x1), (2, .int x2), (3, .int x3)] C dX6_addSayings_4 (Nat.le_of_ble_eq_true rfl) rfl ?_
  exact g_sub [(0, .ref E.2.2.1), (1, .int x1), (2, .int x2), (3, .int x3), (4, .int (1 : Int32)), (5, .int (0 : Int32))] [2, 3, 4, 5, 1, 0] rfl (wk_addSayings_b6 C M g_fu x1 x2 x3 (1 : Int32) (0 : Int32) z h)
theorem ct_addSayings (l : Launch) (x1 : Int32) (x2 : Int32) (x3 : Int32) (z : mm_S) (r : Int32) (z' : mm_S) (h : mo_addSayings x1 x2 x3 z = some (r, z')) : mm_MetV l yX6_addSayings cX6_addSayings 6 (some .boolean) 2 42 [.int x1, .int x2, .int x3] z (.returned (some (.int r)), z') := by
  intro E hD
  exact mm_enter E hD rfl ⟨_, rfl⟩ (.ref E.2.2.1 :: [.int x1, .int x2, .int x3]) (Nat.le_of_ble_eq_true rfl) (fun X C M => wk_addSayings C M x1 x2 x3 z h)
def mo_saidBy_b32 (x2 : Int32) (s0 : Int32) (z : mm_S) : Option (Int32 × mm_S) := g_call (mo_addBooks x2 z) (fun _ z1 => if s0 = 0 then (some ((0 : Int32), z1)) else (g_call (mo_fit x2 z1) (fun v4 z3 => if v4 = 0 then (some ((0 : Int32), z3)) else (some ((1 : Int32), z3)))))
theorem wk_saidBy_b32 {X : gX} {E : mm_E} {r : Int32 × mm_S} (C : gC X cX6_saidBy 4 (some .boolean) RX6 5 118) (M : mm_C X E) (x2 : Int32) (s0 : Int32) (z : mm_S) (h : mo_saidBy_b32 x2 s0 z = some r) : gW X (mm_G E) (.returned (some (.int r.1)), r.2) z 32 [(0, .ref E.2.2.1), (2, .int x2)] [.int s0] := by
  unfold mo_saidBy_b32 at h
  refine g_istore_n [(3, .int s0), (0, .ref E.2.2.1), (2, .int x2)] C dX6_saidBy_32 rfl (Nat.le_of_ble_eq_true rfl) rfl ?_
  refine g_aload_n C dX6_saidBy_33 rfl 1 rfl ?_
  refine g_iload_n C dX6_saidBy_34 rfl 2 rfl ?_
  obtain ⟨u2, z1, e, h⟩ := g_callE h
  refine mm_callV C M 1 [.int x2] (st := []) (v := none) (z' := z1) (fun l => ct_addBooks l x2 z u2 z1 e) (lw_V q2558 q2560 qs133 q178 q2561) rfl rfl rfl (Nat.le_of_ble_eq_true rfl) (Nat.le_of_ble_eq_true rfl) (Nat.le_of_ble_eq_true rfl) dX6_saidBy_35 ?_
  refine gW_st (st' := []) rfl ?_
  refine g_iload_n C dX6_saidBy_38 rfl 0 rfl ?_
  refine g_if_eq C dX6_saidBy_39 rfl h (fun h => ?_) (fun h => ?_)
  · refine g_iconst C dX6_saidBy_54 gk_iconst_0 ?_
    exact g_zretc C (fun _ => trivial) dX6_saidBy_55 (Or.inl rfl) h
  · refine g_aload_n C dX6_saidBy_42 rfl 1 rfl ?_
    refine g_iload_n C dX6_saidBy_43 rfl 2 rfl ?_
    obtain ⟨v4, z3, e, h⟩ := g_callE h
    refine mm_callV C M 1 [.int x2] (st := []) (v := some (.int v4)) (z' := z3) (fun l => ct_fit l x2 z1 v4 z3 e) (lw_V q2566 q2568 qs135 q178 q2569) rfl rfl rfl (Nat.le_of_ble_eq_true rfl) (Nat.le_of_ble_eq_true rfl) (Nat.le_of_ble_eq_true rfl) dX6_saidBy_44 ?_
    refine gW_st (st' := [.int v4]) rfl ?_
    refine g_if_eq C dX6_saidBy_47 rfl h (fun h => ?_) (fun h => ?_)
    · refine g_iconst C dX6_saidBy_54 gk_iconst_0 ?_
      exact g_zretc C (fun _ => trivial) dX6_saidBy_55 (Or.inl rfl) h
    · refine g_iconst C dX6_saidBy_50 gk_iconst_1 ?_
      refine g_goto C dX6_saidBy_51 rfl ?_
      exact g_zretc C (fun _ => trivial) dX6_saidBy_55 (Or.inr rfl) h
def mo_saidBy_b31 (x2 : Int32) (z : mm_S) : Option (Int32 × mm_S) := mo_saidBy_b32 x2 (0 : Int32) z
theorem wk_saidBy_b31 {X : gX} {E : mm_E} {r : Int32 × mm_S} (C : gC X cX6_saidBy 4 (some .boolean) RX6 5 118) (M : mm_C X E) (x2 : Int32) (z : mm_S) (h : mo_saidBy_b31 x2 z = some r) : gW X (mm_G E) (.returned (some (.int r.1)), r.2) z 31 [(0, .ref E.2.2.1), (2, .int x2)] [] := by
  unfold mo_saidBy_b31 at h
  refine g_iconst C dX6_saidBy_31 gk_iconst_0 ?_
  exact wk_saidBy_b32 C M x2 (0 : Int32) z h
def mo_saidBy (x1 : Int32) (x2 : Int32) (z : mm_S) : Option (Int32 × mm_S) := mm_pI 60 (0 : Int32) z (fun z1 => g_call (mo_addSayings x1 x2 (0 : Int32) z1) (fun v3 z2 => g_call (mo_addSayings x2 x2 (0 : Int32) z2) (fun v5 z4 => if v5 = 0 then (mo_saidBy_b31 x2 z4) else (if v3 = 0 then (mo_saidBy_b31 x2 z4) else (mo_saidBy_b32 x2 (1 : Int32) z4)))))
theorem wk_saidBy {X : gX} {E : mm_E} {r : Int32 × mm_S} (C : gC X cX6_saidBy 4 (some .boolean) RX6 5 118) (M : mm_C X E) (x1 : Int32) (x2 : Int32) (z : mm_S) (h : mo_saidBy x1 x2 z = some r) : gW X (mm_G E) (.returned (some (.int r.1)), r.2) z 0 [(0, .ref E.2.2.1), (1, .int x1), (2, .int x2)] [] := by
  unfold mo_saidBy at h
  refine g_aload_n C dX6_saidBy_0 rfl 0 rfl ?_
  refine g_iconst C dX6_saidBy_1 gk_iconst_0 ?_
  refine mm_putI C M 60 (Nat.le_of_ble_eq_true rfl) (Nat.le_of_ble_eq_true rfl) q2063 rfl rfl rfl dX6_saidBy_2 h (fun z1 h => ?_)
  refine g_aload_n C dX6_saidBy_5 rfl 0 rfl ?_
  refine g_iload_n C dX6_saidBy_6 rfl 1 rfl ?_
  refine g_iload_n C dX6_saidBy_7 rfl 2 rfl ?_
  refine g_iconst C dX6_saidBy_8 gk_iconst_0 ?_
  obtain ⟨v3, z2, e, h⟩ := g_callE h
  refine mm_callV C M 3 [.int x1, .int x2, .int (0 : Int32)] (st := []) (v := some (.int v3)) (z' := z2) (fun l => ct_addSayings l x1 x2 (0 : Int32) z1 v3 z2 e) (lw_V q2641 q2643 qs148 q178 q2644) rfl rfl rfl (Nat.le_of_ble_eq_true rfl) (Nat.le_of_ble_eq_true rfl) (Nat.le_of_ble_eq_true rfl) dX6_saidBy_9 ?_
  refine gW_st (st' := [.int v3]) rfl ?_
  refine g_istore_n [(3, .int v3), (0, .ref E.2.2.1), (1, .int x1), (2, .int x2)] C dX6_saidBy_12 rfl (Nat.le_of_ble_eq_true rfl) rfl ?_
  refine g_aload_n C dX6_saidBy_13 rfl 1 rfl ?_
  refine g_iload_n C dX6_saidBy_14 rfl 3 rfl ?_
  refine g_iload_n C dX6_saidBy_15 rfl 3 rfl ?_
  refine g_iconst C dX6_saidBy_16 gk_iconst_0 ?_
  obtain ⟨v5, z4, e, h⟩ := g_callE h
  refine mm_callV C M 3 [.int x2, .int x2, .int (0 : Int32)] (st := []) (v := some (.int v5)) (z' := z4) (fun l => ct_addSayings l x2 x2 (0 : Int32) z2 v5 z4 e) (lw_V q2641 q2643 qs148 q178 q2644) rfl rfl rfl (Nat.le_of_ble_eq_true rfl) (Nat.le_of_ble_eq_true rfl) (Nat.le_of_ble_eq_true rfl) dX6_saidBy_17 ?_
  refine gW_st (st' := [.int v5]) rfl ?_
  refine g_if_eq C dX6_saidBy_20 rfl h (fun h => ?_) (fun h => ?_)
  · exact g_sub [(0, .ref E.2.2.1), (2, .int x2)] [1, 3] rfl (wk_saidBy_b31 C M x2 z4 h)
  · refine g_iload_n C dX6_saidBy_23 rfl 0 rfl ?_
    refine g_if_eq C dX6_saidBy_24 rfl h (fun h => ?_) (fun h => ?_)
    · exact g_sub [(0, .ref E.2.2.1), (2, .int x2)] [1, 3] rfl (wk_saidBy_b31 C M x2 z4 h)
    · refine g_iconst C dX6_saidBy_27 gk_iconst_1 ?_
      refine g_goto C dX6_saidBy_28 rfl ?_
      exact g_sub [(0, .ref E.2.2.1), (2, .int x2)] [1, 3] rfl (wk_saidBy_b32 C M x2 (1 : Int32) z4 h)
theorem ct_saidBy (l : Launch) (x1 : Int32) (x2 : Int32) (z : mm_S) (r : Int32) (z' : mm_S) (h : mo_saidBy x1 x2 z = some (r, z')) : mm_MetV l yX6_saidBy cX6_saidBy 4 (some .boolean) 5 118 [.int x1, .int x2] z (.returned (some (.int r)), z') := by
  intro E hD
  exact mm_enter E hD rfl ⟨_, rfl⟩ (.ref E.2.2.1 :: [.int x1, .int x2]) (Nat.le_of_ble_eq_true rfl) (fun X C M => wk_saidBy C M x1 x2 z h)
def mo_whoOf_b47 (k4 : Int32 → Int32 → Int32 → mm_S → Option (Int32 × mm_S)) (x1 : Int32) (x3 : Int32) (s0 : Int32) (s1 : Int32) (z : mm_S) : Option (Int32 × mm_S) := k4 x1 (s0 ||| s1) (x3 + (1 : Int32)) z
theorem wk_whoOf_b47 {X : gX} {E : mm_E} {r : Int32 × mm_S} (C : gC X cX6_whoOf 4 (some .int) RX6 6 141) (M : mm_C X E) {k4 : Int32 → Int32 → Int32 → mm_S → Option (Int32 × mm_S)} (hk4 : ∀ (x1 : Int32) (x2 : Int32) (x3 : Int32) (z : mm_S), k4 x1 x2 x3 z = some r → gW X (mm_G E) (.returned (some (.int r.1)), r.2) z 4 [(0, .ref E.2.2.1), (1, .int x1), (2, .int x2), (3, .int x3)] []) (x1 : Int32) (x3 : Int32) (s0 : Int32) (s1 : Int32) (z : mm_S) (h : mo_whoOf_b47 k4 x1 x3 s0 s1 z = some r) : gW X (mm_G E) (.returned (some (.int r.1)), r.2) z 47 [(0, .ref E.2.2.1), (1, .int x1), (3, .int x3)] [.int s1, .int s0] := by
  unfold mo_whoOf_b47 at h
  refine g_ior C dX6_whoOf_47 ?_
  refine g_istore_n [(2, .int (s0 ||| s1)), (0, .ref E.2.2.1), (1, .int x1), (3, .int x3)] C dX6_whoOf_48 rfl (Nat.le_of_ble_eq_true rfl) rfl ?_
  refine g_iinc [(3, .int (x3 + (1 : Int32))), (2, .int (s0 ||| s1)), (0, .ref E.2.2.1), (1, .int x1)] C dX6_whoOf_49 (j := 3) rfl (gk_inc_1 _) (Nat.le_of_ble_eq_true rfl) rfl ?_
  refine g_goto C dX6_whoOf_52 rfl ?_
  exact g_sub [(0, .ref E.2.2.1), (1, .int x1), (2, .int (s0 ||| s1)), (3, .int (x3 + (1 : Int32)))] [2, 3, 1, 0] rfl (hk4 x1 (s0 ||| s1) (x3 + (1 : Int32)) z h)
def mo_whoOf_b46 (k4 : Int32 → Int32 → Int32 → mm_S → Option (Int32 × mm_S)) (x1 : Int32) (x3 : Int32) (s0 : Int32) (z : mm_S) : Option (Int32 × mm_S) := mo_whoOf_b47 k4 x1 x3 s0 (0 : Int32) z
theorem wk_whoOf_b46 {X : gX} {E : mm_E} {r : Int32 × mm_S} (C : gC X cX6_whoOf 4 (some .int) RX6 6 141) (M : mm_C X E) {k4 : Int32 → Int32 → Int32 → mm_S → Option (Int32 × mm_S)} (hk4 : ∀ (x1 : Int32) (x2 : Int32) (x3 : Int32) (z : mm_S), k4 x1 x2 x3 z = some r → gW X (mm_G E) (.returned (some (.int r.1)), r.2) z 4 [(0, .ref E.2.2.1), (1, .int x1), (2, .int x2), (3, .int x3)] []) (x1 : Int32) (x3 : Int32) (s0 : Int32) (z : mm_S) (h : mo_whoOf_b46 k4 x1 x3 s0 z = some r) : gW X (mm_G E) (.returned (some (.int r.1)), r.2) z 46 [(0, .ref E.2.2.1), (1, .int x1), (3, .int x3)] [.int s0] := by
  unfold mo_whoOf_b46 at h
  refine g_iconst C dX6_whoOf_46 gk_iconst_0 ?_
  exact wk_whoOf_b47 C M hk4 x1 x3 s0 (0 : Int32) z h
def mo_whoOf_b4 : Nat → Int32 → Int32 → Int32 → mm_S → Option (Int32 × mm_S)
  | 0, _, _, _, _ => none
  | n + 1, x1, x2, x3, z => mm_gI 12 z (fun v1 => mm_lI 19 v1 z (fun v2 => if v2 ≤ x3 then (some (x2, z)) else (if x3 = x1 then (mo_whoOf_b46 (mo_whoOf_b4 n) x1 x3 x2 z) else (g_call (mo_sayingsOf x1 z) (fun v4 z3 => if v4 ≤ 0 then (mo_whoOf_b46 (mo_whoOf_b4 n) x1 x3 x2 z3) else (g_call (mo_saidBy x1 x3 z3) (fun v6 z5 => if v6 = 0 then (mo_whoOf_b46 (mo_whoOf_b4 n) x1 x3 x2 z5) else (mo_whoOf_b47 (mo_whoOf_b4 n) x1 x3 x2 ((1 : Int32) <<< (x3 &&& 31)) z5))))))))
theorem wk_whoOf_b4 {X : gX} {E : mm_E} {r : Int32 × mm_S} (C : gC X cX6_whoOf 4 (some .int) RX6 6 141) (M : mm_C X E) : ∀ (n : Nat) (x1 : Int32) (x2 : Int32) (x3 : Int32) (z : mm_S), mo_whoOf_b4 n x1 x2 x3 z = some r → gW X (mm_G E) (.returned (some (.int r.1)), r.2) z 4 [(0, .ref E.2.2.1), (1, .int x1), (2, .int x2), (3, .int x3)] [] := by
  intro n
  induction n with
  | zero =>
    intro x1 x2 x3 z h
    have h : (none : Option (Int32 × mm_S)) = some r := h
    cases h
  | succ n ih =>
    intro x1 x2 x3 z h
    rw [mo_whoOf_b4] at h
    refine g_iload_n C dX6_whoOf_4 rfl 3 rfl ?_
    refine g_aload_n C dX6_whoOf_5 rfl 0 rfl ?_
    refine mm_getA C M 19 (Nat.le_of_ble_eq_true rfl) (Nat.le_of_ble_eq_true rfl) q2022 rfl dX6_whoOf_6 ?_
    refine g_aload_n C dX6_whoOf_9 rfl 0 rfl ?_
    refine mm_getI C M 12 (Nat.le_of_ble_eq_true rfl) (Nat.le_of_ble_eq_true rfl) q2015 rfl dX6_whoOf_10 h (fun v1 h => ?_)
    refine mm_ldI C M 19 (Nat.le_of_ble_eq_true rfl) rfl dX6_whoOf_13 h (fun v2 h => ?_)
    refine g_icmp_ge C dX6_whoOf_14 rfl h (fun h => ?_) (fun h => ?_)
    · refine g_iload_n C dX6_whoOf_55 rfl 2 rfl ?_
      exact g_iret C (fun _ => trivial) dX6_whoOf_56 h
    · refine g_iload_n C dX6_whoOf_17 rfl 2 rfl ?_
      refine g_iload_n C dX6_whoOf_18 rfl 3 rfl ?_
      refine g_iload_n C dX6_whoOf_19 rfl 1 rfl ?_
      refine g_icmp_eq C dX6_whoOf_20 rfl h (fun h => ?_) (fun h => ?_)
      · exact g_sub [(0, .ref E.2.2.1), (1, .int x1), (3, .int x3)] [0, 1, 3] rfl (wk_whoOf_b46 C M ih x1 x3 x2 z h)
      · refine g_aload_n C dX6_whoOf_23 rfl 0 rfl ?_
        refine g_iload_n C dX6_whoOf_24 rfl 1 rfl ?_
        obtain ⟨v4, z3, e, h⟩ := g_callE h
        refine mm_callV C M 1 [.int x1] (st := [.int x2]) (v := some (.int v4)) (z' := z3) (fun l => ct_sayingsOf l x1 z v4 z3 e) (lw_V q2509 q2511 qs124 q178 q2512) rfl rfl rfl (Nat.le_of_ble_eq_true rfl) (Nat.le_of_ble_eq_true rfl) (Nat.le_of_ble_eq_true rfl) dX6_whoOf_25 ?_
        refine gW_st (st' := [.int v4, .int x2]) rfl ?_
        refine g_if_le C dX6_whoOf_28 rfl h (fun h => ?_) (fun h => ?_)
        · exact g_sub [(0, .ref E.2.2.1), (1, .int x1), (3, .int x3)] [0, 1, 3] rfl (wk_whoOf_b46 C M ih x1 x3 x2 z3 h)
        · refine g_aload_n C dX6_whoOf_31 rfl 0 rfl ?_
          refine g_iload_n C dX6_whoOf_32 rfl 1 rfl ?_
          refine g_iload_n C dX6_whoOf_33 rfl 3 rfl ?_
          obtain ⟨v6, z5, e, h⟩ := g_callE h
          refine mm_callV C M 2 [.int x1, .int x3] (st := [.int x2]) (v := some (.int v6)) (z' := z5) (fun l => ct_saidBy l x1 x3 z3 v6 z5 e) (lw_V q2637 q2639 qs147 q178 q2640) rfl rfl rfl (Nat.le_of_ble_eq_true rfl) (Nat.le_of_ble_eq_true rfl) (Nat.le_of_ble_eq_true rfl) dX6_whoOf_34 ?_
          refine gW_st (st' := [.int v6, .int x2]) rfl ?_
          refine g_if_eq C dX6_whoOf_37 rfl h (fun h => ?_) (fun h => ?_)
          · exact g_sub [(0, .ref E.2.2.1), (1, .int x1), (3, .int x3)] [0, 1, 3] rfl (wk_whoOf_b46 C M ih x1 x3 x2 z5 h)
          · refine g_iconst C dX6_whoOf_40 gk_iconst_1 ?_
            refine g_iload_n C dX6_whoOf_41 rfl 3 rfl ?_
            refine g_ishl C dX6_whoOf_42 ?_
            refine g_goto C dX6_whoOf_43 rfl ?_
            exact g_sub [(0, .ref E.2.2.1), (1, .int x1), (3, .int x3)] [0, 1, 3] rfl (wk_whoOf_b47 C M ih x1 x3 x2 ((1 : Int32) <<< (x3 &&& 31)) z5 h)
def mo_whoOf (x1 : Int32) (z : mm_S) : Option (Int32 × mm_S) := mo_whoOf_b4 g_fu x1 (0 : Int32) (0 : Int32) z
theorem wk_whoOf {X : gX} {E : mm_E} {r : Int32 × mm_S} (C : gC X cX6_whoOf 4 (some .int) RX6 6 141) (M : mm_C X E) (x1 : Int32) (z : mm_S) (h : mo_whoOf x1 z = some r) : gW X (mm_G E) (.returned (some (.int r.1)), r.2) z 0 [(0, .ref E.2.2.1), (1, .int x1)] [] := by
  unfold mo_whoOf at h
  refine g_iconst C dX6_whoOf_0 gk_iconst_0 ?_
  refine g_istore_n [(2, .int (0 : Int32)), (0, .ref E.2.2.1), (1, .int x1)] C dX6_whoOf_1 rfl (Nat.le_of_ble_eq_true rfl) rfl ?_
  refine g_iconst C dX6_whoOf_2 gk_iconst_0 ?_
  refine g_istore_n [(3, .int (0 : Int32)), (2, .int (0 : Int32)), (0, .ref E.2.2.1), (1, .int x1)] C dX6_whoOf_3 rfl (Nat.le_of_ble_eq_true rfl) rfl ?_
  exact g_sub [(0, .ref E.2.2.1), (1, .int x1), (2, .int (0 : Int32)), (3, .int (0 : Int32))] [2, 3, 1, 0] rfl (wk_whoOf_b4 C M g_fu x1 (0 : Int32) (0 : Int32) z h)
theorem ct_whoOf (l : Launch) (x1 : Int32) (z : mm_S) (r : Int32) (z' : mm_S) (h : mo_whoOf x1 z = some (r, z')) : mm_MetV l yX6_whoOf cX6_whoOf 4 (some .int) 6 141 [.int x1] z (.returned (some (.int r)), z') := by
  intro E hD
  exact mm_enter E hD rfl ⟨_, rfl⟩ (.ref E.2.2.1 :: [.int x1]) (Nat.le_of_ble_eq_true rfl) (fun X C M => wk_whoOf C M x1 z h)
def mo_keepsSets_b2 : Nat → Int32 → mm_S → Option (Unit × mm_S)
  | 0, _, _ => none
  | n + 1, x1, z => if (48 : Int32) ≤ x1 then (some ((), z)) else (mm_lI 74 x1 z (fun v1 => mm_sI 75 x1 v1 z (fun z2 => (mo_keepsSets_b2 n) (x1 + (1 : Int32)) z2)))
theorem wk_keepsSets_b2 {X : gX} {E : mm_E} {r : Unit × mm_S} (C : gC X cX6_keepsSets 2 none RX6 0 0) (M : mm_C X E) : ∀ (n : Nat) (x1 : Int32) (z : mm_S), mo_keepsSets_b2 n x1 z = some r → gW X (mm_G E) (.returned none, r.2) z 2 [(0, .ref E.2.2.1), (1, .int x1)] [] := by
  intro n
  induction n with
  | zero =>
    intro x1 z h
    have h : (none : Option (Unit × mm_S)) = some r := h
    cases h
  | succ n ih =>
    intro x1 z h
    rw [mo_keepsSets_b2] at h
    refine g_iload_n C dX6_keepsSets_2 rfl 1 rfl ?_
    refine g_bipush C dX6_keepsSets_3 gk_bipush_48 ?_
    refine g_icmp_ge C dX6_keepsSets_5 rfl h (fun h => ?_) (fun h => ?_)
    · exact g_vret C (fun _ => trivial) dX6_keepsSets_26 h
    · refine g_aload_n C dX6_keepsSets_8 rfl 0 rfl ?_
      refine mm_getA C M 75 (Nat.le_of_ble_eq_true rfl) (Nat.le_of_ble_eq_true rfl) q2078 rfl dX6_keepsSets_9 ?_
      refine g_iload_n C dX6_keepsSets_12 rfl 1 rfl ?_
      refine g_aload_n C dX6_keepsSets_13 rfl 0 rfl ?_
      refine mm_getA C M 74 (Nat.le_of_ble_eq_true rfl) (Nat.le_of_ble_eq_true rfl) q2077 rfl dX6_keepsSets_14 ?_
      refine g_iload_n C dX6_keepsSets_17 rfl 1 rfl ?_
      refine mm_ldI C M 74 (Nat.le_of_ble_eq_true rfl) rfl dX6_keepsSets_18 h (fun v1 h => ?_)
      refine mm_stI C M 75 (Nat.le_of_ble_eq_true rfl) rfl dX6_keepsSets_19 h (fun z2 h => ?_)
      refine g_iinc [(1, .int (x1 + (1 : Int32))), (0, .ref E.2.2.1)] C dX6_keepsSets_20 (j := 1) rfl (gk_inc_1 _) (Nat.le_of_ble_eq_true rfl) rfl ?_
      refine g_goto C dX6_keepsSets_23 rfl ?_
      exact g_sub [(0, .ref E.2.2.1), (1, .int (x1 + (1 : Int32)))] [1, 0] rfl (ih (x1 + (1 : Int32)) z2 h)
def mo_keepsSets (z : mm_S) : Option (Unit × mm_S) := mo_keepsSets_b2 g_fu (0 : Int32) z
theorem wk_keepsSets {X : gX} {E : mm_E} {r : Unit × mm_S} (C : gC X cX6_keepsSets 2 none RX6 0 0) (M : mm_C X E) (z : mm_S) (h : mo_keepsSets z = some r) : gW X (mm_G E) (.returned none, r.2) z 0 [(0, .ref E.2.2.1)] [] := by
  unfold mo_keepsSets at h
  refine g_iconst C dX6_keepsSets_0 gk_iconst_0 ?_
  refine g_istore_n [(1, .int (0 : Int32)), (0, .ref E.2.2.1)] C dX6_keepsSets_1 rfl (Nat.le_of_ble_eq_true rfl) rfl ?_
  exact g_sub [(0, .ref E.2.2.1), (1, .int (0 : Int32))] [1, 0] rfl (wk_keepsSets_b2 C M g_fu (0 : Int32) z h)
theorem ct_keepsSets (l : Launch) (z : mm_S) (r : Unit) (z' : mm_S) (h : mo_keepsSets z = some (r, z')) : mm_MetV l yX6_keepsSets cX6_keepsSets 2 none 0 0 [] z (.returned none, z') := by
  intro E hD
  exact mm_enter E hD rfl ⟨_, rfl⟩ (.ref E.2.2.1 :: []) (Nat.le_of_ble_eq_true rfl) (fun X C M => wk_keepsSets C M z h)
def mo_parts_b174 (k143 : Int32 → mm_S → Option (Int32 × mm_S)) (x4 : Int32) (z : mm_S) : Option (Int32 × mm_S) := k143 (x4 + (1 : Int32)) z
theorem wk_parts_b174 {X : gX} {E : mm_E} {r : Int32 × mm_S} (C : gC X cX6_parts 6 (some .boolean) RX6 0 0) (M : mm_C X E) {k143 : Int32 → mm_S → Option (Int32 × mm_S)} (hk143 : ∀ (x4 : Int32) (z : mm_S), k143 x4 z = some r → gW X (mm_G E) (.returned (some (.int r.1)), r.2) z 143 [(0, .ref E.2.2.1), (4, .int x4)] []) (x4 : Int32) (z : mm_S) (h : mo_parts_b174 k143 x4 z = some r) : gW X (mm_G E) (.returned (some (.int r.1)), r.2) z 174 [(0, .ref E.2.2.1), (4, .int x4)] [] := by
  unfold mo_parts_b174 at h
  refine g_iinc [(4, .int (x4 + (1 : Int32))), (0, .ref E.2.2.1)] C dX6_parts_174 (j := 1) rfl (gk_inc_1 _) (Nat.le_of_ble_eq_true rfl) rfl ?_
  refine g_goto C dX6_parts_177 rfl ?_
  exact g_sub [(0, .ref E.2.2.1), (4, .int (x4 + (1 : Int32)))] [1, 0] rfl (hk143 (x4 + (1 : Int32)) z h)
def mo_parts_b143 : Nat → Int32 → mm_S → Option (Int32 × mm_S)
  | 0, _, _ => none
  | n + 1, x4, z => mm_gI 65 z (fun v1 => if v1 ≤ x4 then (some ((1 : Int32), z)) else (mm_lI 74 x4 z (fun v2 => if v2 = 0 then (mm_lI 68 x4 z (fun v3 => if v3 = 0 then (some ((0 : Int32), z)) else (mo_parts_b174 (mo_parts_b143 n) x4 z))) else (mo_parts_b174 (mo_parts_b143 n) x4 z))))
theorem wk_parts_b143 {X : gX} {E : mm_E} {r : Int32 × mm_S} (C : gC X cX6_parts 6 (some .boolean) RX6 0 0) (M : mm_C X E) : ∀ (n : Nat) (x4 : Int32) (z : mm_S), mo_parts_b143 n x4 z = some r → gW X (mm_G E) (.returned (some (.int r.1)), r.2) z 143 [(0, .ref E.2.2.1), (4, .int x4)] [] := by
  intro n
  induction n with
  | zero =>
    intro x4 z h
    have h : (none : Option (Int32 × mm_S)) = some r := h
    cases h
  | succ n ih =>
    intro x4 z h
    rw [mo_parts_b143] at h
    refine g_iload C dX6_parts_143 1 rfl ?_
    refine g_aload_n C dX6_parts_145 rfl 0 rfl ?_
    refine mm_getI C M 65 (Nat.le_of_ble_eq_true rfl) (Nat.le_of_ble_eq_true rfl) q2068 rfl dX6_parts_146 h (fun v1 h => ?_)
    refine g_icmp_ge C dX6_parts_149 rfl h (fun h => ?_) (fun h => ?_)
    · refine g_iconst C dX6_parts_180 gk_iconst_1 ?_
      exact g_zretc C (fun _ => trivial) dX6_parts_181 (Or.inr rfl) h
    · refine g_aload_n C dX6_parts_152 rfl 0 rfl ?_
      refine mm_getA C M 74 (Nat.le_of_ble_eq_true rfl) (Nat.le_of_ble_eq_true rfl) q2077 rfl dX6_parts_153 ?_
      refine g_iload C dX6_parts_156 1 rfl ?_
      refine mm_ldI C M 74 (Nat.le_of_ble_eq_true rfl) rfl dX6_parts_158 h (fun v2 h => ?_)
      refine g_if_ne C dX6_parts_159 rfl h (fun h => ?_) (fun h => ?_)
      · exact wk_parts_b174 C M ih x4 z h
      · refine g_aload_n C dX6_parts_162 rfl 0 rfl ?_
        refine mm_getA C M 68 (Nat.le_of_ble_eq_true rfl) (Nat.le_of_ble_eq_true rfl) q2071 rfl dX6_parts_163 ?_
        refine g_iload C dX6_parts_166 1 rfl ?_
        refine mm_ldZ C M 68 (Nat.le_of_ble_eq_true rfl) rfl dX6_parts_168 h (fun v3 h => ?_)
        refine g_if_ne C dX6_parts_169 rfl h (fun h => ?_) (fun h => ?_)
        · exact wk_parts_b174 C M ih x4 z h
        · refine g_iconst C dX6_parts_172 gk_iconst_0 ?_
          exact g_zretc C (fun _ => trivial) dX6_parts_173 (Or.inl rfl) h
def mo_parts_b131 (k9 : Int32 → mm_S → Option (Int32 × mm_S)) (k18 : Int32 → Int32 → mm_S → Option (Int32 × mm_S)) (x3 : Int32) (x4 : Int32) (z : mm_S) : Option (Int32 × mm_S) := k18 x3 (x4 + (1 : Int32)) z
theorem wk_parts_b131 {X : gX} {E : mm_E} {r : Int32 × mm_S} (C : gC X cX6_parts 6 (some .boolean) RX6 0 0) (M : mm_C X E) {k9 : Int32 → mm_S → Option (Int32 × mm_S)} (hk9 : ∀ (x3 : Int32) (z : mm_S), k9 x3 z = some r → gW X (mm_G E) (.returned (some (.int r.1)), r.2) z 9 [(0, .ref E.2.2.1), (3, .int x3)] []) {k18 : Int32 → Int32 → mm_S → Option (Int32 × mm_S)} (hk18 : ∀ (x3 : Int32) (x4 : Int32) (z : mm_S), k18 x3 x4 z = some r → gW X (mm_G E) (.returned (some (.int r.1)), r.2) z 18 [(0, .ref E.2.2.1), (3, .int x3), (4, .int x4)] []) (x3 : Int32) (x4 : Int32) (z : mm_S) (h : mo_parts_b131 k9 k18 x3 x4 z = some r) : gW X (mm_G E) (.returned (some (.int r.1)), r.2) z 131 [(0, .ref E.2.2.1), (3, .int x3), (4, .int x4)] [] := by
  unfold mo_parts_b131 at h
  refine g_iinc [(4, .int (x4 + (1 : Int32))), (0, .ref E.2.2.1), (3, .int x3)] C dX6_parts_131 (j := 2) rfl (gk_inc_1 _) (Nat.le_of_ble_eq_true rfl) rfl ?_
  refine g_goto C dX6_parts_134 rfl ?_
  exact g_sub [(0, .ref E.2.2.1), (3, .int x3), (4, .int (x4 + (1 : Int32)))] [1, 2, 0] rfl (hk18 x3 (x4 + (1 : Int32)) z h)
def mo_parts_b125 (k9 : Int32 → mm_S → Option (Int32 × mm_S)) (k18 : Int32 → Int32 → mm_S → Option (Int32 × mm_S)) (k30 : Int32 → Int32 → Int32 → mm_S → Option (Int32 × mm_S)) (x3 : Int32) (x4 : Int32) (x5 : Int32) (z : mm_S) : Option (Int32 × mm_S) := k30 x3 x4 (x5 + (1 : Int32)) z
theorem wk_parts_b125 {X : gX} {E : mm_E} {r : Int32 × mm_S} (C : gC X cX6_parts 6 (some .boolean) RX6 0 0) (M : mm_C X E) {k9 : Int32 → mm_S → Option (Int32 × mm_S)} (hk9 : ∀ (x3 : Int32) (z : mm_S), k9 x3 z = some r → gW X (mm_G E) (.returned (some (.int r.1)), r.2) z 9 [(0, .ref E.2.2.1), (3, .int x3)] []) {k18 : Int32 → Int32 → mm_S → Option (Int32 × mm_S)} (hk18 : ∀ (x3 : Int32) (x4 : Int32) (z : mm_S), k18 x3 x4 z = some r → gW X (mm_G E) (.returned (some (.int r.1)), r.2) z 18 [(0, .ref E.2.2.1), (3, .int x3), (4, .int x4)] []) {k30 : Int32 → Int32 → Int32 → mm_S → Option (Int32 × mm_S)} (hk30 : ∀ (x3 : Int32) (x4 : Int32) (x5 : Int32) (z : mm_S), k30 x3 x4 x5 z = some r → gW X (mm_G E) (.returned (some (.int r.1)), r.2) z 30 [(0, .ref E.2.2.1), (3, .int x3), (4, .int x4), (5, .int x5)] []) (x3 : Int32) (x4 : Int32) (x5 : Int32) (z : mm_S) (h : mo_parts_b125 k9 k18 k30 x3 x4 x5 z = some r) : gW X (mm_G E) (.returned (some (.int r.1)), r.2) z 125 [(0, .ref E.2.2.1), (3, .int x3), (4, .int x4), (5, .int x5)] [] := by
  unfold mo_parts_b125 at h
  refine g_iinc [(5, .int (x5 + (1 : Int32))), (0, .ref E.2.2.1), (3, .int x3), (4, .int x4)] C dX6_parts_125 (j := 3) rfl (gk_inc_1 _) (Nat.le_of_ble_eq_true rfl) rfl ?_
  refine g_goto C dX6_parts_128 rfl ?_
  exact g_sub [(0, .ref E.2.2.1), (3, .int x3), (4, .int x4), (5, .int (x5 + (1 : Int32)))] [1, 2, 3, 0] rfl (hk30 x3 x4 (x5 + (1 : Int32)) z h)
def mo_parts_b108 (k9 : Int32 → mm_S → Option (Int32 × mm_S)) (k18 : Int32 → Int32 → mm_S → Option (Int32 × mm_S)) (k30 : Int32 → Int32 → Int32 → mm_S → Option (Int32 × mm_S)) (x4 : Int32) (x5 : Int32) (s0 : Int32) (z : mm_S) : Option (Int32 × mm_S) := mm_lI 74 x4 z (fun v1 => mm_sI 74 x5 ((1 : Int32) - v1) z (fun z2 => mo_parts_b125 k9 k18 k30 s0 x4 x5 z2))
theorem wk_parts_b108 {X : gX} {E : mm_E} {r : Int32 × mm_S} (C : gC X cX6_parts 6 (some .boolean) RX6 0 0) (M : mm_C X E) {k9 : Int32 → mm_S → Option (Int32 × mm_S)} (hk9 : ∀ (x3 : Int32) (z : mm_S), k9 x3 z = some r → gW X (mm_G E) (.returned (some (.int r.1)), r.2) z 9 [(0, .ref E.2.2.1), (3, .int x3)] []) {k18 : Int32 → Int32 → mm_S → Option (Int32 × mm_S)} (hk18 : ∀ (x3 : Int32) (x4 : Int32) (z : mm_S), k18 x3 x4 z = some r → gW X (mm_G E) (.returned (some (.int r.1)), r.2) z 18 [(0, .ref E.2.2.1), (3, .int x3), (4, .int x4)] []) {k30 : Int32 → Int32 → Int32 → mm_S → Option (Int32 × mm_S)} (hk30 : ∀ (x3 : Int32) (x4 : Int32) (x5 : Int32) (z : mm_S), k30 x3 x4 x5 z = some r → gW X (mm_G E) (.returned (some (.int r.1)), r.2) z 30 [(0, .ref E.2.2.1), (3, .int x3), (4, .int x4), (5, .int x5)] []) (x4 : Int32) (x5 : Int32) (s0 : Int32) (z : mm_S) (h : mo_parts_b108 k9 k18 k30 x4 x5 s0 z = some r) : gW X (mm_G E) (.returned (some (.int r.1)), r.2) z 108 [(0, .ref E.2.2.1), (4, .int x4), (5, .int x5)] [.int s0] := by
  unfold mo_parts_b108 at h
  refine g_istore_n [(3, .int s0), (0, .ref E.2.2.1), (4, .int x4), (5, .int x5)] C dX6_parts_108 rfl (Nat.le_of_ble_eq_true rfl) rfl ?_
  refine g_aload_n C dX6_parts_109 rfl 1 rfl ?_
  refine mm_getA C M 74 (Nat.le_of_ble_eq_true rfl) (Nat.le_of_ble_eq_true rfl) q2077 rfl dX6_parts_110 ?_
  refine g_iload C dX6_parts_113 3 rfl ?_
  refine g_iconst C dX6_parts_115 gk_iconst_1 ?_
  refine g_aload_n C dX6_parts_116 rfl 1 rfl ?_
  refine mm_getA C M 74 (Nat.le_of_ble_eq_true rfl) (Nat.le_of_ble_eq_true rfl) q2077 rfl dX6_parts_117 ?_
  refine g_iload C dX6_parts_120 2 rfl ?_
  refine mm_ldI C M 74 (Nat.le_of_ble_eq_true rfl) rfl dX6_parts_122 h (fun v1 h => ?_)
  refine g_isub C dX6_parts_123 ?_
  refine mm_stI C M 74 (Nat.le_of_ble_eq_true rfl) rfl dX6_parts_124 h (fun z2 h => ?_)
  exact g_sub [(0, .ref E.2.2.1), (3, .int s0), (4, .int x4), (5, .int x5)] [1, 0, 2, 3] rfl (wk_parts_b125 C M hk9 hk18 hk30 s0 x4 x5 z2 h)
def mo_parts_b103 (k9 : Int32 → mm_S → Option (Int32 × mm_S)) (k18 : Int32 → Int32 → mm_S → Option (Int32 × mm_S)) (k30 : Int32 → Int32 → Int32 → mm_S → Option (Int32 × mm_S)) (x4 : Int32) (x5 : Int32) (z : mm_S) : Option (Int32 × mm_S) := mo_parts_b108 k9 k18 k30 x4 x5 (1 : Int32) z
theorem wk_parts_b103 {X : gX} {E : mm_E} {r : Int32 × mm_S} (C : gC X cX6_parts 6 (some .boolean) RX6 0 0) (M : mm_C X E) {k9 : Int32 → mm_S → Option (Int32 × mm_S)} (hk9 : ∀ (x3 : Int32) (z : mm_S), k9 x3 z = some r → gW X (mm_G E) (.returned (some (.int r.1)), r.2) z 9 [(0, .ref E.2.2.1), (3, .int x3)] []) {k18 : Int32 → Int32 → mm_S → Option (Int32 × mm_S)} (hk18 : ∀ (x3 : Int32) (x4 : Int32) (z : mm_S), k18 x3 x4 z = some r → gW X (mm_G E) (.returned (some (.int r.1)), r.2) z 18 [(0, .ref E.2.2.1), (3, .int x3), (4, .int x4)] []) {k30 : Int32 → Int32 → Int32 → mm_S → Option (Int32 × mm_S)} (hk30 : ∀ (x3 : Int32) (x4 : Int32) (x5 : Int32) (z : mm_S), k30 x3 x4 x5 z = some r → gW X (mm_G E) (.returned (some (.int r.1)), r.2) z 30 [(0, .ref E.2.2.1), (3, .int x3), (4, .int x4), (5, .int x5)] []) (x4 : Int32) (x5 : Int32) (z : mm_S) (h : mo_parts_b103 k9 k18 k30 x4 x5 z = some r) : gW X (mm_G E) (.returned (some (.int r.1)), r.2) z 103 [(0, .ref E.2.2.1), (4, .int x4), (5, .int x5)] [] := by
  unfold mo_parts_b103 at h
  refine g_iconst C dX6_parts_103 gk_iconst_1 ?_
  refine g_goto C dX6_parts_104 rfl ?_
  exact wk_parts_b108 C M hk9 hk18 hk30 x4 x5 (1 : Int32) z h
def mo_parts_b30 (k9 : Int32 → mm_S → Option (Int32 × mm_S)) (k18 : Int32 → Int32 → mm_S → Option (Int32 × mm_S)) : Nat → Int32 → Int32 → Int32 → mm_S → Option (Int32 × mm_S)
  | 0, _, _, _, _ => none
  | n + 1, x3, x4, x5, z => mm_gI 65 z (fun v1 => if v1 ≤ x5 then (mo_parts_b131 k9 k18 x3 x4 z) else (mm_lI 74 x4 z (fun v2 => if v2 = (-1 : Int32) then (mo_parts_b131 k9 k18 x3 x4 z) else (mm_lI 70 (((48 : Int32) * x4) + x5) z (fun v3 => if v3 = 0 then (mm_lI 74 x5 z (fun v4 => mm_lI 74 x4 z (fun v5 => if v4 = v5 then (some ((0 : Int32), z)) else (if x3 = 0 then (mm_lI 74 x5 z (fun v6 => if v6 = (-1 : Int32) then (mo_parts_b103 k9 k18 (mo_parts_b30 k9 k18 n) x4 x5 z) else (mo_parts_b108 k9 k18 (mo_parts_b30 k9 k18 n) x4 x5 (0 : Int32) z))) else (mo_parts_b103 k9 k18 (mo_parts_b30 k9 k18 n) x4 x5 z))))) else (mo_parts_b125 k9 k18 (mo_parts_b30 k9 k18 n) x3 x4 x5 z))))))
theorem wk_parts_b30 {X : gX} {E : mm_E} {r : Int32 × mm_S} (C : gC X cX6_parts 6 (some .boolean) RX6 0 0) (M : mm_C X E) {k9 : Int32 → mm_S → Option (Int32 × mm_S)} (hk9 : ∀ (x3 : Int32) (z : mm_S), k9 x3 z = some r → gW X (mm_G E) (.returned (some (.int r.1)), r.2) z 9 [(0, .ref E.2.2.1), (3, .int x3)] []) {k18 : Int32 → Int32 → mm_S → Option (Int32 × mm_S)} (hk18 : ∀ (x3 : Int32) (x4 : Int32) (z : mm_S), k18 x3 x4 z = some r → gW X (mm_G E) (.returned (some (.int r.1)), r.2) z 18 [(0, .ref E.2.2.1), (3, .int x3), (4, .int x4)] []) : ∀ (n : Nat) (x3 : Int32) (x4 : Int32) (x5 : Int32) (z : mm_S), mo_parts_b30 k9 k18 n x3 x4 x5 z = some r → gW X (mm_G E) (.returned (some (.int r.1)), r.2) z 30 [(0, .ref E.2.2.1), (3, .int x3), (4, .int x4), (5, .int x5)] [] := by
  intro n
  induction n with
  | zero =>
    intro x3 x4 x5 z h
    have h : (none : Option (Int32 × mm_S)) = some r := h
    cases h
  | succ n ih =>
    intro x3 x4 x5 z h
    rw [mo_parts_b30] at h
    refine g_iload C dX6_parts_30 3 rfl ?_
    refine g_aload_n C dX6_parts_32 rfl 0 rfl ?_
    refine mm_getI C M 65 (Nat.le_of_ble_eq_true rfl) (Nat.le_of_ble_eq_true rfl) q2068 rfl dX6_parts_33 h (fun v1 h => ?_)
    refine g_icmp_ge C dX6_parts_36 rfl h (fun h => ?_) (fun h => ?_)
    · exact g_sub [(0, .ref E.2.2.1), (3, .int x3), (4, .int x4)] [0, 1, 2] rfl (wk_parts_b131 C M hk9 hk18 x3 x4 z h)
    · refine g_aload_n C dX6_parts_39 rfl 0 rfl ?_
      refine mm_getA C M 74 (Nat.le_of_ble_eq_true rfl) (Nat.le_of_ble_eq_true rfl) q2077 rfl dX6_parts_40 ?_
      refine g_iload C dX6_parts_43 2 rfl ?_
      refine mm_ldI C M 74 (Nat.le_of_ble_eq_true rfl) rfl dX6_parts_45 h (fun v2 h => ?_)
      refine g_iconst C dX6_parts_46 gk_iconst_m1 ?_
      refine g_icmp_eq C dX6_parts_47 rfl h (fun h => ?_) (fun h => ?_)
      · exact g_sub [(0, .ref E.2.2.1), (3, .int x3), (4, .int x4)] [0, 1, 2] rfl (wk_parts_b131 C M hk9 hk18 x3 x4 z h)
      · refine g_aload_n C dX6_parts_50 rfl 0 rfl ?_
        refine mm_getA C M 70 (Nat.le_of_ble_eq_true rfl) (Nat.le_of_ble_eq_true rfl) q2073 rfl dX6_parts_51 ?_
        refine g_bipush C dX6_parts_54 gk_bipush_48 ?_
        refine g_iload C dX6_parts_56 2 rfl ?_
        refine g_imul C dX6_parts_58 ?_
        refine g_iload C dX6_parts_59 3 rfl ?_
        refine g_iadd C dX6_parts_61 ?_
        refine mm_ldZ C M 70 (Nat.le_of_ble_eq_true rfl) rfl dX6_parts_62 h (fun v3 h => ?_)
        refine g_if_eq C dX6_parts_63 rfl h (fun h => ?_) (fun h => ?_)
        · refine g_aload_n C dX6_parts_69 rfl 0 rfl ?_
          refine mm_getA C M 74 (Nat.le_of_ble_eq_true rfl) (Nat.le_of_ble_eq_true rfl) q2077 rfl dX6_parts_70 ?_
          refine g_iload C dX6_parts_73 3 rfl ?_
          refine mm_ldI C M 74 (Nat.le_of_ble_eq_true rfl) rfl dX6_parts_75 h (fun v4 h => ?_)
          refine g_aload_n C dX6_parts_76 rfl 0 rfl ?_
          refine mm_getA C M 74 (Nat.le_of_ble_eq_true rfl) (Nat.le_of_ble_eq_true rfl) q2077 rfl dX6_parts_77 ?_
          refine g_iload C dX6_parts_80 2 rfl ?_
          refine mm_ldI C M 74 (Nat.le_of_ble_eq_true rfl) rfl dX6_parts_82 h (fun v5 h => ?_)
          refine g_icmp_ne C dX6_parts_83 rfl h (fun h => ?_) (fun h => ?_)
          · refine g_iload_n C dX6_parts_88 rfl 1 rfl ?_
            refine g_if_ne C dX6_parts_89 rfl h (fun h => ?_) (fun h => ?_)
            · exact g_sub [(0, .ref E.2.2.1), (4, .int x4), (5, .int x5)] [0, 2, 3] rfl (wk_parts_b103 C M hk9 hk18 ih x4 x5 z h)
            · refine g_aload_n C dX6_parts_92 rfl 0 rfl ?_
              refine mm_getA C M 74 (Nat.le_of_ble_eq_true rfl) (Nat.le_of_ble_eq_true rfl) q2077 rfl dX6_parts_93 ?_
              refine g_iload C dX6_parts_96 3 rfl ?_
              refine mm_ldI C M 74 (Nat.le_of_ble_eq_true rfl) rfl dX6_parts_98 h (fun v6 h => ?_)
              refine g_iconst C dX6_parts_99 gk_iconst_m1 ?_
              refine g_icmp_ne C dX6_parts_100 rfl h (fun h => ?_) (fun h => ?_)
              · refine g_iconst C dX6_parts_107 gk_iconst_0 ?_
                exact g_sub [(0, .ref E.2.2.1), (4, .int x4), (5, .int x5)] [0, 2, 3] rfl (wk_parts_b108 C M hk9 hk18 ih x4 x5 (0 : Int32) z h)
              · exact g_sub [(0, .ref E.2.2.1), (4, .int x4), (5, .int x5)] [0, 2, 3] rfl (wk_parts_b103 C M hk9 hk18 ih x4 x5 z h)
          · refine g_iconst C dX6_parts_86 gk_iconst_0 ?_
            exact g_zretc C (fun _ => trivial) dX6_parts_87 (Or.inl rfl) h
        · refine g_goto C dX6_parts_66 rfl ?_
          exact wk_parts_b125 C M hk9 hk18 ih x3 x4 x5 z h
def mo_parts_b18 (k9 : Int32 → mm_S → Option (Int32 × mm_S)) : Nat → Int32 → Int32 → mm_S → Option (Int32 × mm_S)
  | 0, _, _, _ => none
  | n + 1, x3, x4, z => mm_gI 65 z (fun v1 => if v1 ≤ x4 then (k9 x3 z) else (mo_parts_b30 k9 (mo_parts_b18 k9 n) g_fu x3 x4 (0 : Int32) z))
theorem wk_parts_b18 {X : gX} {E : mm_E} {r : Int32 × mm_S} (C : gC X cX6_parts 6 (some .boolean) RX6 0 0) (M : mm_C X E) {k9 : Int32 → mm_S → Option (Int32 × mm_S)} (hk9 : ∀ (x3 : Int32) (z : mm_S), k9 x3 z = some r → gW X (mm_G E) (.returned (some (.int r.1)), r.2) z 9 [(0, .ref E.2.2.1), (3, .int x3)] []) : ∀ (n : Nat) (x3 : Int32) (x4 : Int32) (z : mm_S), mo_parts_b18 k9 n x3 x4 z = some r → gW X (mm_G E) (.returned (some (.int r.1)), r.2) z 18 [(0, .ref E.2.2.1), (3, .int x3), (4, .int x4)] [] := by
  intro n
  induction n with
  | zero =>
    intro x3 x4 z h
    have h : (none : Option (Int32 × mm_S)) = some r := h
    cases h
  | succ n ih =>
    intro x3 x4 z h
    rw [mo_parts_b18] at h
    refine g_iload C dX6_parts_18 2 rfl ?_
    refine g_aload_n C dX6_parts_20 rfl 0 rfl ?_
    refine mm_getI C M 65 (Nat.le_of_ble_eq_true rfl) (Nat.le_of_ble_eq_true rfl) q2068 rfl dX6_parts_21 h (fun v1 h => ?_)
    refine g_icmp_ge C dX6_parts_24 rfl h (fun h => ?_) (fun h => ?_)
    · refine g_goto C dX6_parts_137 rfl ?_
      exact g_sub [(0, .ref E.2.2.1), (3, .int x3)] [0, 1] rfl (hk9 x3 z h)
    · refine g_iconst C dX6_parts_27 gk_iconst_0 ?_
      refine g_istore [(5, .int (0 : Int32)), (0, .ref E.2.2.1), (3, .int x3), (4, .int x4)] C dX6_parts_28 (Nat.le_of_ble_eq_true rfl) rfl ?_
      exact g_sub [(0, .ref E.2.2.1), (3, .int x3), (4, .int x4), (5, .int (0 : Int32))] [1, 2, 3, 0] rfl (wk_parts_b30 C M hk9 ih g_fu x3 x4 (0 : Int32) z h)
def mo_parts_b9 : Nat → Int32 → mm_S → Option (Int32 × mm_S)
  | 0, _, _ => none
  | n + 1, x3, z => if x3 = 0 then (mo_parts_b143 g_fu (0 : Int32) z) else (mo_parts_b18 (mo_parts_b9 n) g_fu (0 : Int32) (0 : Int32) z)
theorem wk_parts_b9 {X : gX} {E : mm_E} {r : Int32 × mm_S} (C : gC X cX6_parts 6 (some .boolean) RX6 0 0) (M : mm_C X E) : ∀ (n : Nat) (x3 : Int32) (z : mm_S), mo_parts_b9 n x3 z = some r → gW X (mm_G E) (.returned (some (.int r.1)), r.2) z 9 [(0, .ref E.2.2.1), (3, .int x3)] [] := by
  intro n
  induction n with
  | zero =>
    intro x3 z h
    have h : (none : Option (Int32 × mm_S)) = some r := h
    cases h
  | succ n ih =>
    intro x3 z h
    rw [mo_parts_b9] at h
    refine g_iload_n C dX6_parts_9 rfl 1 rfl ?_
    refine g_if_eq C dX6_parts_10 rfl h (fun h => ?_) (fun h => ?_)
    · refine g_iconst C dX6_parts_140 gk_iconst_0 ?_
      refine g_istore [(4, .int (0 : Int32)), (0, .ref E.2.2.1), (3, .int x3)] C dX6_parts_141 (Nat.le_of_ble_eq_true rfl) rfl ?_
      exact g_sub [(0, .ref E.2.2.1), (4, .int (0 : Int32))] [1, 0] rfl (wk_parts_b143 C M g_fu (0 : Int32) z h)
    · refine g_iconst C dX6_parts_13 gk_iconst_0 ?_
      refine g_istore_n [(3, .int (0 : Int32)), (0, .ref E.2.2.1)] C dX6_parts_14 rfl (Nat.le_of_ble_eq_true rfl) rfl ?_
      refine g_iconst C dX6_parts_15 gk_iconst_0 ?_
      refine g_istore [(4, .int (0 : Int32)), (3, .int (0 : Int32)), (0, .ref E.2.2.1)] C dX6_parts_16 (Nat.le_of_ble_eq_true rfl) rfl ?_
      exact g_sub [(0, .ref E.2.2.1), (3, .int (0 : Int32)), (4, .int (0 : Int32))] [2, 1, 0] rfl (wk_parts_b18 C M ih g_fu (0 : Int32) (0 : Int32) z h)
def mo_parts (x1 : Int32) (x2 : Int32) (z : mm_S) : Option (Int32 × mm_S) := mm_sI 74 x1 x2 z (fun z1 => mo_parts_b9 g_fu (1 : Int32) z1)
theorem wk_parts {X : gX} {E : mm_E} {r : Int32 × mm_S} (C : gC X cX6_parts 6 (some .boolean) RX6 0 0) (M : mm_C X E) (x1 : Int32) (x2 : Int32) (z : mm_S) (h : mo_parts x1 x2 z = some r) : gW X (mm_G E) (.returned (some (.int r.1)), r.2) z 0 [(0, .ref E.2.2.1), (1, .int x1), (2, .int x2)] [] := by
  unfold mo_parts at h
  refine g_aload_n C dX6_parts_0 rfl 0 rfl ?_
  refine mm_getA C M 74 (Nat.le_of_ble_eq_true rfl) (Nat.le_of_ble_eq_true rfl) q2077 rfl dX6_parts_1 ?_
  refine g_iload_n C dX6_parts_4 rfl 1 rfl ?_
  refine g_iload_n C dX6_parts_5 rfl 2 rfl ?_
  refine mm_stI C M 74 (Nat.le_of_ble_eq_true rfl) rfl dX6_parts_6 h (fun z1 h => ?_)
  refine g_iconst C dX6_parts_7 gk_iconst_1 ?_
  refine g_istore_n [(3, .int (1 : Int32)), (0, .ref E.2.2.1), (1, .int x1), (2, .int x2)] C dX6_parts_8 rfl (Nat.le_of_ble_eq_true rfl) rfl ?_
  exact g_sub [(0, .ref E.2.2.1), (3, .int (1 : Int32))] [1, 0] rfl (wk_parts_b9 C M g_fu (1 : Int32) z1 h)
theorem ct_parts (l : Launch) (x1 : Int32) (x2 : Int32) (z : mm_S) (r : Int32) (z' : mm_S) (h : mo_parts x1 x2 z = some (r, z')) : mm_MetV l yX6_parts cX6_parts 6 (some .boolean) 0 0 [.int x1, .int x2] z (.returned (some (.int r)), z') := by
  intro E hD
  exact mm_enter E hD rfl ⟨_, rfl⟩ (.ref E.2.2.1 :: [.int x1, .int x2]) (Nat.le_of_ble_eq_true rfl) (fun X C M => wk_parts C M x1 x2 z h)
