/-! LONGS BY WHAT THEY COUNT (plain), and well made codes -/
def jI (v : Int) : Int64 := Int64.ofInt v
section JJ
variable {a b : Int}
/-- small enough -/
def jR (a : Int) : Prop := -4000000000000000000 ≤ a ∧ a ≤ 4000000000000000000
theorem jI_toInt (h1 : -4000000000000000000 ≤ a) (h2 : a ≤ 4000000000000000000) : (jI a).toInt = a := Int64.toInt_ofInt_of_le (by omega) (by omega)
theorem jI_add : jI a + jI b = jI (a + b) := (Int64.ofInt_add a b).symm
theorem jI_sub : jI a - jI b = jI (a - b) := (Int64.ofInt_sub a b).symm
theorem jI_mul : jI a * jI b = jI (a * b) := (Int64.ofInt_mul a b).symm
theorem jI_cle (h1 : -4000000000000000000 ≤ a) (h2 : a ≤ 4000000000000000000) (h3 : -4000000000000000000 ≤ b) (h4 : b ≤ 4000000000000000000) : (lg_cmp (jI a) (jI b) ≤ nI 0) = (a ≤ b) := by
  apply propext
  show lg_cmp (jI a) (jI b) ≤ 0 ↔ _
  rw [lg_cmp_le, Int64.le_iff_toInt_le, jI_toInt h1 h2, jI_toInt h3 h4]
theorem jI_cge (h1 : -4000000000000000000 ≤ a) (h2 : a ≤ 4000000000000000000) (h3 : -4000000000000000000 ≤ b) (h4 : b ≤ 4000000000000000000) : (nI 0 ≤ lg_cmp (jI a) (jI b)) = (b ≤ a) := by
  apply propext
  show 0 ≤ lg_cmp (jI a) (jI b) ↔ _
  rw [lg_cmp_ge, Int64.le_iff_toInt_le, jI_toInt h1 h2, jI_toInt h3 h4]
theorem jI_clt (h1 : -4000000000000000000 ≤ a) (h2 : a ≤ 4000000000000000000) (h3 : -4000000000000000000 ≤ b) (h4 : b ≤ 4000000000000000000) : (lg_cmp (jI a) (jI b) < nI 0) = (a < b) := by
  apply propext
  show lg_cmp (jI a) (jI b) < 0 ↔ _
  rw [lg_cmp_lt, Int64.lt_iff_toInt_lt, jI_toInt h1 h2, jI_toInt h3 h4]
theorem jI_cgt (h1 : -4000000000000000000 ≤ a) (h2 : a ≤ 4000000000000000000) (h3 : -4000000000000000000 ≤ b) (h4 : b ≤ 4000000000000000000) : (nI 0 < lg_cmp (jI a) (jI b)) = (b < a) := by
  apply propext
  show 0 < lg_cmp (jI a) (jI b) ↔ _
  rw [lg_cmp_gt, Int64.lt_iff_toInt_lt, jI_toInt h1 h2, jI_toInt h3 h4]
theorem jI_inj (h1 : -4000000000000000000 ≤ a) (h2 : a ≤ 4000000000000000000) (h3 : -4000000000000000000 ≤ b) (h4 : b ≤ 4000000000000000000) : (jI a = jI b) = (a = b) := by
  apply propext
  rw [← Int64.toInt_inj, jI_toInt h1 h2, jI_toInt h3 h4]
theorem jI_ceq (h1 : -4000000000000000000 ≤ a) (h2 : a ≤ 4000000000000000000) (h3 : -4000000000000000000 ≤ b) (h4 : b ≤ 4000000000000000000) : (lg_cmp (jI a) (jI b) = nI 0) = (a = b) := by
  apply propext
  show lg_cmp (jI a) (jI b) = 0 ↔ _
  rw [lg_cmp_eq, jI_inj h1 h2 h3 h4]
theorem jI_div (h1 : -4000000000000000000 ≤ a) (h2 : a ≤ 4000000000000000000) (h3 : -4000000000000000000 ≤ b) (h4 : b ≤ 4000000000000000000) (h5 : jR (a.tdiv b)) : jI a / jI b = jI (a.tdiv b) := by
  rw [← Int64.toInt_inj, Int64.toInt_div_of_ne_left, jI_toInt h1 h2, jI_toInt h3 h4, jI_toInt h5.1 h5.2]
  intro q
  have := congrArg Int64.toInt q
  rw [jI_toInt h1 h2] at this
  have e : Int64.minValue.toInt = -9223372036854775808 := by decide
  rw [e] at this
  omega
theorem jI_lit {n : Nat} : (OfNat.ofNat n : Int64) = jI n := by
  rw [← Int64.toInt_inj]
  show (Int64.ofNat n).toInt = (Int64.ofInt n).toInt
  rw [Int64.ofInt_eq_ofNat]
theorem jI_neg {a : Int} : -jI a = jI (-a) := (Int64.ofInt_neg a).symm
theorem jc0 : ((0 : Nat) : Int) = 0 := rfl
theorem jc1 : ((1 : Nat) : Int) = 1 := rfl
theorem jc99 : ((99 : Nat) : Int) = 99 := rfl
theorem jcM : ((1000000 : Nat) : Int) = 1000000 := rfl
theorem jI_0 : (0 : Int64) = jI 0 := rfl
theorem jI_1 : (1 : Int64) = jI 1 := rfl
theorem jI_99 : (99 : Int64) = jI 99 := rfl
theorem jI_M : (1000000 : Int64) = jI 1000000 := rfl
theorem jI_m : (-1000000 : Int64) = jI (-1000000) := rfl
theorem jI_nI {n : Nat} (h : n < 2147483648) : (nI n).toInt64 = jI n := by
  rw [← Int64.toInt_inj, Int32.toInt_toInt64, nI_toInt h, jI_toInt (by omega) (by omega)]
theorem jI_toI {n : Nat} (h : n < 2147483648) : (jI n).toInt32 = nI n := by
  rw [← Int32.toInt_inj, Int64.toInt_toInt32, jI_toInt (by omega) (by omega), nI_toInt h]
  exact Int.bmod_eq_of_le (by omega) (by omega)
end JJ
/-! how large quotients and rests are -/
theorem fdiv_pos_le {a b : Int} (hb : 0 < b) : -(a.natAbs : Int) ≤ a.fdiv b ∧ a.fdiv b ≤ a.natAbs := by
  rw [Int.fdiv_eq_ediv_of_nonneg _ (by omega)]
  by_cases ha : 0 ≤ a
  · have h1 := Int.ediv_nonneg ha (show 0 ≤ b by omega)
    have h2 := Int.ediv_le_self b ha
    omega
  · have h1 : a ≤ a / b := by
      rw [Int.le_ediv_iff_mul_le hb]
      have : a * b ≤ a * 1 := Int.mul_le_mul_of_nonpos_left (by omega) (by omega)
      omega
    have h2 : a / b ≤ 0 := by
      have := Int.ediv_neg_of_neg_of_pos (a := a) (b := b) (by omega) hb
      omega
    omega
theorem fdiv_abs {a b : Int} (hb : b ≠ 0) : -(a.natAbs : Int) ≤ a.fdiv b ∧ a.fdiv b ≤ a.natAbs := by
  by_cases h : 0 < b
  · exact fdiv_pos_le h
  · have := fdiv_pos_le (a := -a) (b := -b) (by omega)
    rw [Int.neg_fdiv_neg] at this
    omega
theorem fmod_abs {a b : Int} (hb : b ≠ 0) : -(b.natAbs : Int) ≤ a.fmod b ∧ a.fmod b ≤ b.natAbs := by
  by_cases h : 0 < b
  · have h1 := Int.fmod_nonneg_of_pos a h
    have h2 := Int.fmod_lt_of_pos a h
    omega
  · have h1 := Int.fmod_nonneg_of_pos (-a) (b := -b) (by omega)
    have h2 := Int.fmod_lt_of_pos (-a) (b := -b) (by omega)
    rw [Int.neg_fmod_neg] at h1 h2
    omega
/-! well made codes: what kinds of value stand behind them (true: a test's) -/
def cTy1 (ts : List Bool) (q : Nat × Nat) : Option (List Bool) :=
  if q.1 ≤ 4 then (if q.2 < 10000 then some (false :: ts) else none)
  else if q.1 = 9 then some (true :: ts)
  else if 10 ≤ q.1 ∧ q.1 ≤ 16 then (match ts with
    | false :: false :: r => some (false :: r)
    | _ => none)
  else if 17 ≤ q.1 ∧ q.1 ≤ 19 then (match ts with
    | false :: false :: r => some (true :: r)
    | _ => none)
  else if q.1 = 20 ∨ q.1 = 21 then (match ts with
    | true :: true :: r => some (true :: r)
    | _ => none)
  else if q.1 = 22 then (match ts with
    | true :: r => some (true :: r)
    | _ => none)
  else none
def cTy : List Bool → cds → Option (List Bool)
  | ts, [] => some ts
  | ts, q :: r => match cTy1 ts q with
    | none => none
    | some t => cTy t r
theorem cTy_app {ts : List Bool} : ∀ {c c' : cds} {ts : List Bool}, cTy ts (c ++ c') = match cTy ts c with
    | none => none
    | some t => cTy t c'
  | [], c', ts => rfl
  | q :: r, c', ts => by
    rw [List.cons_append, cTy, cTy]
    cases cTy1 ts q with
    | none => rfl
    | some t => exact cTy_app (ts := t)
def vOk1 (t : Bool) (v : Int) : Prop := if t = true then v = 0 ∨ v = 1 else -1000000 ≤ v ∧ v ≤ 1000000
def vOk : List Bool → List Int → Prop
  | [], [] => True
  | t :: ts, v :: vs => vOk1 t v ∧ vOk ts vs
  | _, _ => False
theorem vOk.len : ∀ {ts : List Bool} {vs : List Int}, vOk ts vs → vs.length = ts.length
  | [], [], _ => rfl
  | _ :: _, _ :: _, h => by simp [vOk.len h.2]
  | [], _ :: _, h => h.elim
  | _ :: _, [], h => h.elim
theorem evB_ok {v : Int} : -1000000 ≤ evB v ∧ evB v ≤ 1000000 := by
  unfold evB
  split
  · omega
  · split <;> omega
theorem ev2_sum {op : Nat} {a b : Int} (h : 10 ≤ op ∧ op ≤ 16) (ha : vOk1 false a) (hb : vOk1 false b) : vOk1 false (ev2 op a b) := by
  have ha : -1000000 ≤ a ∧ a ≤ 1000000 := ha
  have hb : -1000000 ≤ b ∧ b ≤ 1000000 := hb
  show -1000000 ≤ ev2 op a b ∧ ev2 op a b ≤ 1000000
  unfold ev2
  split
  · exact evB_ok
  split
  · exact evB_ok
  split
  · exact evB_ok
  split
  · split
    · omega
    · next q => have := fdiv_abs (a := a) q; omega
  split
  · split
    · omega
    · next q => have := fmod_abs (a := a) q; omega
  split
  · split <;> omega
  split
  · split <;> omega
  · omega
theorem ev2_cmp {op : Nat} {a b : Int} (h : 17 ≤ op ∧ op ≤ 19) : vOk1 true (ev2 op a b) := by
  show ev2 op a b = 0 ∨ ev2 op a b = 1
  unfold ev2
  rw [if_neg (by omega), if_neg (by omega), if_neg (by omega), if_neg (by omega), if_neg (by omega), if_neg (by omega), if_neg (by omega)]
  split
  · split
    · exact Or.inr rfl
    · exact Or.inl rfl
  split
  · split
    · exact Or.inr rfl
    · exact Or.inl rfl
  split
  · split
    · exact Or.inr rfl
    · exact Or.inl rfl
  · omega
theorem ev2_bool {op : Nat} {a b : Int} (h : op = 20 ∨ op = 21) (ha : vOk1 true a) (hb : vOk1 true b) : vOk1 true (ev2 op a b) := by
  have ha : a = 0 ∨ a = 1 := ha
  have hb : b = 0 ∨ b = 1 := hb
  show ev2 op a b = 0 ∨ ev2 op a b = 1
  rcases h with rfl | rfl <;> rcases ha with rfl | rfl <;> rcases hb with rfl | rfl <;> decide
/-- one code keeps to its kinds -/
theorem ev1_ok {m : Nat → Nat} (hm : ∀ i, m i < 10000) {ts ts' : List Bool} {st : List Int} {q : Nat × Nat} (h : cTy1 ts q = some ts') (hv : vOk ts st) : vOk ts' (ev1 m st q) := by
  unfold cTy1 at h
  unfold ev1
  split at h
  · next c1 =>
    split at h
    · next c2 =>
      cases h
      rw [if_pos (by omega)]
      refine ⟨?_, hv⟩
      show -1000000 ≤ _ ∧ _ ≤ 1000000
      have := hm q.1
      split
      · omega
      · split <;> omega
    · cases h
  split at h
  · next c1 c2 =>
    cases h
    rw [if_pos (by omega), if_neg (by omega), if_pos c2]
    exact ⟨Or.inr rfl, hv⟩
  split at h
  · next c1 c2 c3 =>
    rw [if_neg (by omega), if_neg (by omega)]
    match ts, st, h, hv with
    | false :: false :: r, b :: a :: st, h, hv =>
      cases h
      exact ⟨ev2_sum c3 hv.2.1 hv.1, hv.2.2⟩
  split at h
  · next c1 c2 c3 c4 =>
    rw [if_neg (by omega), if_neg (by omega)]
    match ts, st, h, hv with
    | false :: false :: r, b :: a :: st, h, hv =>
      cases h
      exact ⟨ev2_cmp c4, hv.2.2⟩
  split at h
  · next c1 c2 c3 c4 c5 =>
    rw [if_neg (by omega), if_neg (by omega)]
    match ts, st, h, hv with
    | true :: true :: r, b :: a :: st, h, hv =>
      cases h
      exact ⟨ev2_bool c5 hv.2.1 hv.1, hv.2.2⟩
  split at h
  · next c1 c2 c3 c4 c5 c6 =>
    rw [if_neg (by omega), if_pos c6]
    match ts, st, h, hv with
    | true :: r, a :: st, h, hv =>
      cases h
      refine ⟨?_, hv.2⟩
      have : a = 0 ∨ a = 1 := hv.1
      show 1 - a = 0 ∨ 1 - a = 1
      omega
  · cases h
theorem evs_ok {m : Nat → Nat} (hm : ∀ i, m i < 10000) : ∀ {c : cds} {ts ts' : List Bool} {st : List Int}, cTy ts c = some ts' → vOk ts st → vOk ts' (evs m st c)
  | [], ts, ts', st, h, hv => by cases h; exact hv
  | q :: r, ts, ts', st, h, hv => by
    rw [cTy] at h
    cases e : cTy1 ts q with
    | none => rw [e] at h; cases h
    | some t =>
      rw [e] at h
      exact evs_ok hm (c := r) h (ev1_ok hm e hv)
/-- how high the heap grows: never above the codes -/
theorem cTy1_len {ts ts' : List Bool} {q : Nat × Nat} (h : cTy1 ts q = some ts') : ts'.length ≤ ts.length + 1 := by
  unfold cTy1 at h
  split at h
  · split at h
    · cases h; simp
    · cases h
  split at h
  · cases h; simp
  split at h
  · split at h
    · cases h; simp
    · cases h
  split at h
  · split at h
    · cases h; simp
    · cases h
  split at h
  · split at h
    · cases h; simp
    · cases h
  split at h
  · split at h
    · cases h; simp
    · cases h
  · cases h
