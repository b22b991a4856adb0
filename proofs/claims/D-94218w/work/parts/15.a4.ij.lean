/-! NATURALS AS INTS (plain), and the reference's steps on them -/
def m1 : Int32 := -1
def bI (b : Bool) : Int32 := if b = true then nI 1 else nI 0
def oI (o : Option Nat) : Int32 := match o with
  | none => m1
  | some n => nI n
section NN
variable {a b n : Nat}
theorem n_lit : (OfNat.ofNat n : Int32) = nI n := by cases n <;> rfl
theorem n_neg1 : -nI 1 = m1 := by decide +kernel
theorem n_m1 : (-1 : Int32) = m1 := rfl
theorem n_le (ha : a < 2147483648) (hb : b < 2147483648) : (nI a ≤ nI b) = (a ≤ b) := propext (nI_leI ha hb)
theorem n_lt (ha : a < 2147483648) (hb : b < 2147483648) : (nI a < nI b) = (a < b) := propext (nI_ltI ha hb)
theorem n_eq (ha : a < 2147483648) (hb : b < 2147483648) : (nI a = nI b) = (a = b) := propext (nI_eq ha hb)
theorem n_add : nI a + nI b = nI (a + b) := nI_add a b
theorem n_mul : nI a * nI b = nI (a * b) := pk_mul a b
theorem n_sub (h : b ≤ a) : nI a - nI b = nI (a - b) := pk_sub h
theorem n_addneg (h : b ≤ a) : nI a + -nI b = nI (a - b) := by rw [← Int32.sub_eq_add_neg]; exact pk_sub h
theorem n_addm1 (h : 1 ≤ a) : nI a + m1 = nI (a - 1) := by rw [← n_neg1]; exact n_addneg h
theorem n_cl (h : a < 2147483648) : (nI a).toNatClampNeg = a := nI_clamp h
theorem n_in (h : a < n) (hn : n < 2147483648) : mm_in (nI a) n = true := mm_in_iff.mpr (nI_in h hn)
theorem m1_toInt : m1.toInt = -1 := by decide +kernel
theorem n_eqm (h : a < 2147483648) : (nI a = m1) = False := by
  apply eq_false
  intro q
  have := congrArg Int32.toInt q
  rw [nI_toInt h, m1_toInt] at this
  omega
theorem n_meq (h : a < 2147483648) : (m1 = nI a) = False := by
  apply eq_false
  intro q
  exact (n_eqm h).mp q.symm
theorem n_mlt (h : a < 2147483648) : (m1 < nI a) = True := by
  apply eq_true
  rw [Int32.lt_iff_toInt_lt, nI_toInt h, m1_toInt]
  omega
theorem n_mle (h : a < 2147483648) : (m1 ≤ nI a) = True := by
  apply eq_true
  rw [Int32.le_iff_toInt_le, nI_toInt h, m1_toInt]
  omega
theorem n_ltm (h : a < 2147483648) : (nI a < m1) = False := by
  apply eq_false
  rw [Int32.lt_iff_toInt_lt, nI_toInt h, m1_toInt]
  omega
theorem n_lem (h : a < 2147483648) : (nI a ≤ m1) = False := by
  apply eq_false
  rw [Int32.le_iff_toInt_le, nI_toInt h, m1_toInt]
  omega
theorem n_div (ha : a < 2147483648) (h0 : 0 < b) (hb : b < 2147483648) : nI a / nI b = nI (a / b) := pk_div ha h0 hb
theorem n_rem (ha : a < 2147483648) (h0 : 0 < b) (hb : b < 2147483648) : nI a - nI a / nI b * nI b = nI (a % b) := pk_rem ha h0 hb
theorem n_m1add : m1 + nI 1 = nI 0 := by decide +kernel
theorem bI_t : bI true = nI 1 := rfl
theorem bI_f : bI false = nI 0 := rfl
theorem bI_0 {b : Bool} : (bI b = nI 0) = (b = false) := by cases b <;> decide +kernel
theorem bI_1 {b : Bool} : (bI b = nI 1) = (b = true) := by cases b <;> decide +kernel
theorem bI_le0 {b : Bool} : (bI b ≤ nI 0) = (b = false) := by cases b <;> decide +kernel
theorem bI_01 {b : Bool} : (bI b = nI 0 ∨ bI b = nI 1) = True := by cases b <;> decide +kernel
theorem b_01 {b : Bool} : (b = false ∨ b = true) = True := by cases b <;> decide
theorem n_01 : (nI 0 = nI 0 ∨ nI 0 = nI 1) = True := by decide +kernel
theorem n_11 : (nI 1 = nI 0 ∨ nI 1 = nI 1) = True := by decide +kernel
theorem oI_none : oI none = m1 := rfl
theorem oI_some {n : Nat} : oI (some n) = nI n := rfl
theorem nar_b {b : Bool} : vp_nar .boolean (bI b) = bI b := by cases b <;> decide +kernel
theorem nar_0 : vp_nar .boolean (nI 0) = nI 0 := by decide +kernel
theorem nar_1 : vp_nar .boolean (nI 1) = nI 1 := by decide +kernel
theorem g_call_some {ρ α ζ : Type} {x : α} {z : ζ} {K : α → ζ → Option ρ} : g_call (some (x, z)) K = K x z := by
  generalize h : (some (x, z) : Option (α × ζ)) = w
  subst h
  rfl
/-! the reference's steps, as equations that are no mere unfolding (the kernel is not to unfold loops) -/
section QQ
variable {ρ : Type} {k : Nat} {z : mm_S}
theorem q_gI {K : Int32 → Option ρ} : mm_gI k z K = K (z.1 k) := by cases z; rfl
theorem q_gJ {K : Int64 → Option ρ} : mm_gJ z K = K z.2.1 := by cases z; rfl
theorem q_pI {v : Int32} {K : mm_S → Option ρ} : mm_pI k v z K = K (va_up z.1 k v, z.2) := by cases z; rfl
theorem q_pJ {v : Int64} {K : mm_S → Option ρ} : mm_pJ v z K = K (z.1, v, z.2.2) := by cases z; rfl
theorem q_pZ {v : Int32} {K : mm_S → Option ρ} : mm_pZ k v z K = if v = nI 0 ∨ v = nI 1 then K (va_up z.1 k v, z.2) else none := by cases z; rfl
theorem q_lI {i : Int32} {K : Int32 → Option ρ} : mm_lI k i z K = if mm_in i (mm_n k) = true then K (z.2.2.1 k i.toNatClampNeg) else none := by cases z; rfl
theorem q_lL {i : Int32} {K : Int64 → Option ρ} : mm_lL k i z K = if mm_in i (mm_n k) = true then K (z.2.2.2 k i.toNatClampNeg) else none := by cases z; rfl
theorem q_sI {i v : Int32} {K : mm_S → Option ρ} : mm_sI k i v z K = if mm_in i (mm_n k) = true then K (z.1, z.2.1, va_up z.2.2.1 k (upd (z.2.2.1 k) i.toNatClampNeg v), z.2.2.2) else none := by cases z; rfl
theorem q_sZ {i v : Int32} {K : mm_S → Option ρ} : mm_sZ k i v z K = if mm_in i (mm_n k) = true then K (z.1, z.2.1, va_up z.2.2.1 k (upd (z.2.2.1 k) i.toNatClampNeg (vp_nar .boolean v)), z.2.2.2) else none := by cases z; rfl
theorem q_sL {i : Int32} {v : Int64} {K : mm_S → Option ρ} : mm_sL k i v z K = if mm_in i (mm_n k) = true then K (z.1, z.2.1, z.2.2.1, va_up z.2.2.2 k (vp_updL (z.2.2.2 k) i.toNatClampNeg v)) else none := by cases z; rfl
end QQ
theorem g_dv_ok {ρ : Type} {K : Option ρ} (h : a ≠ 0) (ha : a < 2147483648) : g_dv (nI a) K = K := by
  unfold g_dv
  rw [if_neg]
  intro q
  rw [show (0 : Int32) = nI 0 from rfl, n_eq ha (by decide)] at q
  exact h q
/-- an int of a kind of n: its number, or none -/
theorem mm_inE {x : Int32} {n : Nat} (hn : n < 2147483648) (h : mm_in x n = true) : ∃ j : Nat, j < n ∧ x = nI j := vp_in_of (mm_in_iff.mp h) hn
theorem mm_in_of {x : Int32} {n : Nat} (hn : n < 2147483648) (h : mm_in x n = true) : x = nI x.toNatClampNeg ∧ x.toNatClampNeg < n := by
  obtain ⟨j, hj, rfl⟩ := mm_inE hn h
  rw [n_cl (by omega)]
  exact ⟨rfl, hj⟩
theorem mm_in_nI (ha : a < 2147483648) (hn : n < 2147483648) : mm_in (nI a) n = decide (a < n) := by
  by_cases h : a < n
  · rw [n_in h hn, decide_eq_true h]
  · rw [decide_eq_false h]
    cases q : mm_in (nI a) n with
    | false => rfl
    | true =>
      obtain ⟨h1, h2⟩ := mm_in_of hn q
      rw [n_cl ha] at h2
      exact absurd h2 h
theorem mm_in_m1 : mm_in m1 n = false := by
  cases q : mm_in m1 n with
  | false => rfl
  | true =>
    have := of_decide_eq_true q
    exact absurd (Or.inl (by decide +kernel)) this
end NN
section UU
variable {α : Type}
theorem up_same {f : Nat → α} {k : Nat} {v : α} : va_up f k v k = v := by unfold va_up; rw [if_pos rfl]
theorem up_ne {f : Nat → α} {k j : Nat} {v : α} (h : j ≠ k) : va_up f k v j = f j := by unfold va_up; rw [if_neg h]
theorem ud_same {f : Nat → Int32} {k : Nat} {v : Int32} : upd f k v k = v := by unfold upd; rw [if_pos rfl]
theorem ud_ne {f : Nat → Int32} {k j : Nat} {v : Int32} (h : j ≠ k) : upd f k v j = f j := by unfold upd; rw [if_neg h]
end UU
theorem wp.and {ρ : Type} {e : Option ρ} {Q : ρ → Prop} {P : ρ → Prop} (h : wp e Q) (g : ∀ r, e = some r → P r) : wp e (fun r => Q r ∧ P r) := by
  obtain ⟨r, h1, h2⟩ := h
  exact ⟨r, h1, h2, g r h1⟩
theorem wp_eq {ρ : Type} {e : Option ρ} {Q : ρ → Prop} {r : ρ} (h : e = some r) (q : Q r) : wp e Q := ⟨r, h, q⟩
theorem mn0 : mm_n 0 = 1800 := rfl
theorem mn13 : mm_n 13 = 2 := rfl
theorem mn14 : mm_n 14 = 2 := rfl
theorem mn15 : mm_n 15 = 6 := rfl
theorem mn16 : mm_n 16 = 60 := rfl
theorem mn17 : mm_n 17 = 60 := rfl
theorem mn18 : mm_n 18 = 60 := rfl
theorem mn19 : mm_n 19 = 2 := rfl
theorem mn20 : mm_n 20 = 16 := rfl
theorem mn21 : mm_n 21 = 16 := rfl
theorem mn22 : mm_n 22 = 16 := rfl
theorem mn23 : mm_n 23 = 16 := rfl
theorem mn24 : mm_n 24 = 16 := rfl
theorem mn25 : mm_n 25 = 2 := rfl
theorem mn26 : mm_n 26 = 768 := rfl
theorem mn27 : mm_n 27 = 768 := rfl
theorem mn28 : mm_n 28 = 2 := rfl
theorem mn29 : mm_n 29 = 24 := rfl
theorem mn30 : mm_n 30 = 24 := rfl
theorem mn31 : mm_n 31 = 24 := rfl
theorem mn32 : mm_n 32 = 24 := rfl
theorem mn33 : mm_n 33 = 2 := rfl
theorem mn34 : mm_n 34 = 80 := rfl
theorem mn35 : mm_n 35 = 80 := rfl
theorem mn36 : mm_n 36 = 80 := rfl
theorem mn37 : mm_n 37 = 2 := rfl
theorem mn38 : mm_n 38 = 3600 := rfl
theorem mn39 : mm_n 39 = 3600 := rfl
theorem mn42 : mm_n 42 = 20 := rfl
theorem mn43 : mm_n 43 = 20 := rfl
theorem mn44 : mm_n 44 = 20 := rfl
theorem mn45 : mm_n 45 = 20 := rfl
theorem mn46 : mm_n 46 = 20 := rfl
theorem mn49 : mm_n 49 = 500 := rfl
theorem mn52 : mm_n 52 = 5 := rfl
theorem mn53 : mm_n 53 = 1850 := rfl
theorem mn54 : mm_n 54 = 10 := rfl
theorem mn55 : mm_n 55 = 256 := rfl
theorem mn56 : mm_n 56 = 256 := rfl
theorem mn57 : mm_n 57 = 256 := rfl
theorem mn58 : mm_n 58 = 256 := rfl
theorem mn61 : mm_n 61 = 120 := rfl
theorem mn62 : mm_n 62 = 120 := rfl
theorem mn63 : mm_n 63 = 120 := rfl
theorem mn67 : mm_n 67 = 48 := rfl
theorem mn68 : mm_n 68 = 48 := rfl
theorem mn69 : mm_n 69 = 48 := rfl
theorem mn70 : mm_n 70 = 2304 := rfl
theorem mn71 : mm_n 71 = 48 := rfl
theorem mn72 : mm_n 72 = 15360 := rfl
theorem mn74 : mm_n 74 = 48 := rfl
theorem mn75 : mm_n 75 = 48 := rfl
theorem mn76 : mm_n 76 = 12288 := rfl
theorem mn77 : mm_n 77 = 48 := rfl
theorem mn78 : mm_n 78 = 40 := rfl
theorem mn79 : mm_n 79 = 50 := rfl
theorem mn80 : mm_n 80 = 12288 := rfl
theorem mn81 : mm_n 81 = 520 := rfl
