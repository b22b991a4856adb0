/-! NUMBERS (plain): ints by what they count; what a step comes to -/
def iI (n : Int) : Int32 := Int32.ofInt n
def ir (n : Int) : Prop := -2147483648 ≤ n ∧ n < 2147483648
section II
variable {a b : Int} {n : Nat}
theorem iI_toInt (h1 : -2147483648 ≤ a) (h2 : a < 2147483648) : (iI a).toInt = a := Int32.toInt_ofInt_of_le h1 h2
theorem iI_add : iI a + iI b = iI (a + b) := (Int32.ofInt_add a b).symm
theorem iI_sub : iI a - iI b = iI (a - b) := (Int32.ofInt_sub a b).symm
theorem iI_mul : iI a * iI b = iI (a * b) := (Int32.ofInt_mul a b).symm
theorem iI_neg : -iI a = iI (-a) := (Int32.ofInt_neg a).symm
theorem iI_lit : (OfNat.ofNat n : Int32) = iI (n : Int) := by
  show Int32.ofNat n = Int32.ofInt n
  exact Int32.ofInt_eq_ofNat.symm
theorem iI_nI : nI n = iI (n : Int) := Int32.ofInt_eq_ofNat.symm
theorem iI_ofNat : Int32.ofNat n = iI (n : Int) := Int32.ofInt_eq_ofNat.symm
theorem iI_eq (h1 : -2147483648 ≤ a) (h2 : a < 2147483648) (h3 : -2147483648 ≤ b) (h4 : b < 2147483648) : (iI a = iI b) = (a = b) := by
  apply propext
  constructor
  · intro h
    have := congrArg Int32.toInt h
    rwa [iI_toInt h1 h2, iI_toInt h3 h4] at this
  · intro h; rw [h]
theorem iI_lt (h1 : -2147483648 ≤ a) (h2 : a < 2147483648) (h3 : -2147483648 ≤ b) (h4 : b < 2147483648) : (iI a < iI b) = (a < b) := by
  apply propext
  rw [Int32.lt_iff_toInt_lt, iI_toInt h1 h2, iI_toInt h3 h4]
theorem iI_le (h1 : -2147483648 ≤ a) (h2 : a < 2147483648) (h3 : -2147483648 ≤ b) (h4 : b < 2147483648) : (iI a ≤ iI b) = (a ≤ b) := by
  apply propext
  rw [Int32.le_iff_toInt_le, iI_toInt h1 h2, iI_toInt h3 h4]
theorem iI_nat (h1 : -2147483648 ≤ a) (h2 : a < 2147483648) : (iI a).toNatClampNeg = a.toNat := by
  rw [← Int32.toNat_toInt, iI_toInt h1 h2]
theorem iI_in (h1 : 0 ≤ a) (h2 : a < (n : Int)) (h3 : (n : Int) < 2147483648) : mm_in (iI a) n = true := by
  unfold mm_in
  apply decide_eq_true
  rw [iI_nat (by omega) (by omega)]
  rintro (q | q)
  · have e : (0 : Int32) = iI 0 := rfl
    rw [e, iI_lt (by omega) (by omega) (by omega) (by omega)] at q
    omega
  · omega
theorem iI_of (x : Int32) : iI x.toInt = x := Int32.ofInt_toInt x
theorem iI_div (h1 : 0 ≤ a) (h2 : a < 2147483648) (h3 : 0 < b) (h4 : b < 2147483648) : iI a / iI b = iI (a / b) := by
  rw [← Int32.toInt_inj, Int32.toInt_div_of_ne_right, iI_toInt (by omega) (by omega), iI_toInt (by omega) (by omega), iI_toInt, Int.tdiv_eq_ediv_of_nonneg h1]
  · have := Int.ediv_nonneg h1 (Int.le_of_lt h3); omega
  · have : a / b ≤ a := Int.ediv_le_self b h1
    omega
  · intro q
    have e : (-1 : Int32) = iI (-1) := rfl
    rw [e, iI_eq (by omega) (by omega) (by omega) (by omega)] at q
    omega
theorem iI_mod (h1 : 0 ≤ a) (h2 : a < 2147483648) (h3 : 0 < b) (h4 : b < 2147483648) : iI a % iI b = iI (a % b) := by
  rw [← Int32.toInt_inj, Int32.toInt_mod, iI_toInt (by omega) (by omega), iI_toInt (by omega) (by omega), iI_toInt, Int.tmod_eq_emod_of_nonneg h1]
  · have := Int.emod_nonneg a (b := b) (by omega); omega
  · have := Int.emod_lt_of_pos a h3; omega
end II
/-! what a step comes to -/
def wp {ρ : Type} (e : Option ρ) (Q : ρ → Prop) : Prop := ∃ r, e = some r ∧ Q r
section WP
variable {ρ α ζ : Type} {Q Q' : ρ → Prop}
theorem wp_ret {r : ρ} (h : Q r) : wp (some r) Q := ⟨r, rfl, h⟩
theorem wp_some {r : ρ} : wp (some r) Q = Q r := propext ⟨fun ⟨_, h, q⟩ => by cases h; exact q, fun h => ⟨r, rfl, h⟩⟩
theorem wp.mono {e : Option ρ} (h : wp e Q) (g : ∀ r, Q r → Q' r) : wp e Q' := by obtain ⟨r, h1, h2⟩ := h; exact ⟨r, h1, g r h2⟩
theorem wp_call {g : Option (α × ζ)} {K : α → ζ → Option ρ} {P : α × ζ → Prop} (h : wp g P) (k : ∀ a z, P (a, z) → wp (K a z) Q) : wp (g_call g K) Q := by
  obtain ⟨⟨a, z⟩, h1, h2⟩ := h
  rw [h1]
  exact k a z h2
theorem wp_call_eq {g : Option (α × ζ)} {K : α → ζ → Option ρ} {a : α} {z : ζ} (h : g = some (a, z)) : g_call g K = K a z := by rw [h]; rfl
theorem wp_ite {c : Prop} {d : Decidable c} {a b : Option ρ} (h : c → wp a Q) (g : ¬ c → wp b Q) : wp (if c then a else b) Q := by
  by_cases q : c
  · rw [if_pos q]; exact h q
  · rw [if_neg q]; exact g q
/-- a loop: s its state, what holds all along, a measure that falls -/
theorem wp_loop {σ : Type} {L : Nat → σ → Option ρ} (I : σ → Prop) (μ : σ → Nat) (hs : ∀ n s, I s → (∀ t, I t → μ t < μ s → wp (L n t) Q) → wp (L (n + 1) s) Q) : ∀ n s, I s → μ s < n → wp (L n s) Q := by
  intro n
  induction n with
  | zero => intro s _ h; omega
  | succ n ih => intro s hI hm; exact hs n s hI (fun t ht hlt => ih t ht (by omega))
end WP
