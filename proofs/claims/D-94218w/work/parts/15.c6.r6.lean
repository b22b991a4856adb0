set_option maxRecDepth 100000
/-! THE REFERENCE: codes are worked out -/
section M6
variable {z : mm_S}
theorem mo_bounded_eq {v : Int} (h1 : -4000000000000 ≤ v) (h2 : v ≤ 4000000000000) : mo_bounded (jI v) z = some (jI (evB v), z) := by
  unfold mo_bounded evB
  simp (disch := omega) only [n_lit, n_eq, ↓reduceIte, Nat.reduceEqDiff, jI_lit, jI_neg, jI_add, jI_sub, jI_mul, jI_cle, jI_cge, jI_ceq, jI_clt, jI_cgt, g_call_some, jc0, jc1, jc99, jcM]
  repeat' split
  all_goals first | rfl | omega
theorem tdiv_abs {a b : Int} (hb : b ≠ 0) : -(a.natAbs : Int) - 2 ≤ a.tdiv b ∧ a.tdiv b ≤ a.natAbs + 2 := by
  have h1 := fdiv_abs (a := a) hb
  have h2 := Int.fdiv_eq_tdiv (a := a) (b := b)
  have h3 : b.sign = 1 ∨ b.sign = -1 := by
    rcases Int.lt_trichotomy b 0 with q | q | q
    · exact Or.inr (Int.sign_eq_neg_one_of_neg q)
    · exact absurd q hb
    · exact Or.inl (Int.sign_eq_one_of_pos q)
  split at h2
  · omega
  · split at h2
    · split at h2 <;> omega
    · split at h2 <;> omega
theorem mul_abs2 {a b : Int} (ha : -2000000 ≤ a ∧ a ≤ 2000000) (hb : -2000000 ≤ b ∧ b ≤ 2000000) : -4000000000000 ≤ a * b ∧ a * b ≤ 4000000000000 := by
  have h : (a * b).natAbs ≤ 2000000 * 2000000 := by
    rw [Int.natAbs_mul]
    exact Nat.mul_le_mul (by omega) (by omega)
  omega
theorem mo_over_eq {a b : Int} (ha : -1000000 ≤ a ∧ a ≤ 1000000) (hb : -1000000 ≤ b ∧ b ≤ 1000000) : mo_over (jI a) (jI b) z = some (jI (if b = 0 then 0 else a.fdiv b), z) := by
  unfold mo_over
  have hne : b ≠ 0 → ¬ jI b = 0 := by
    intro h0
    rw [jI_0, jI_inj (by omega) (by omega) (by omega) (by omega)]
    exact h0
  by_cases h0 : b = 0
  · subst h0
    simp (disch := omega) only [n_lit, n_eq, ↓reduceIte, Nat.reduceEqDiff, jI_lit, jI_neg, jI_add, jI_sub, jI_mul, jI_cle, jI_cge, jI_ceq, jI_clt, jI_cgt, g_call_some, jc0, jc1, jc99, jcM]
  · have ht := tdiv_abs (a := a) h0
    have hd : jI a / jI b = jI (a.tdiv b) := jI_div (by omega) (by omega) (by omega) (by omega) ⟨by omega, by omega⟩
    have htm := Int.tmod_def a b
    have hml : a.tdiv b * b = b * a.tdiv b := Int.mul_comm _ _
    have htb := mul_abs2 (a := a.tdiv b) (b := b) (by omega) (by omega)
    have hdv : (a - a.tdiv b * b = 0) ↔ b ∣ a := by
      rw [hml, ← htm]
      exact Int.dvd_iff_tmod_eq_zero.symm
    have hf := Int.fdiv_eq_tdiv (a := a) (b := b)
    have h3 : (0 < b → b.sign = 1) ∧ (b < 0 → b.sign = -1) := ⟨Int.sign_eq_one_of_pos, Int.sign_eq_neg_one_of_neg⟩
    have hg : ∀ {ρ : Type} (B : Option ρ), g_dvL (jI b) B = B := by
      intro ρ B
      unfold g_dvL
      rw [if_neg (hne h0)]
    rw [hg, hg, hd]
    simp (disch := omega) only [mo_over_b32, mo_over_b43, n_lit, n_eq, ↓reduceIte, Nat.reduceEqDiff, jI_lit, jI_neg, jI_add, jI_sub, jI_mul, jI_cle, jI_cge, jI_ceq, jI_clt, jI_cgt, g_call_some, jc0, jc1, jc99, jcM]
    rw [if_neg h0]
    by_cases hv : b ∣ a
    · rw [if_pos hv] at hf
      rw [if_neg h0, if_pos (hdv.mpr hv), hf]
      simp
    · rw [if_neg h0, if_neg (fun q => hv (hdv.mp q))]
      rw [if_neg hv] at hf
      by_cases h1 : 0 ≤ a
      · rw [if_pos h1] at hf ⊢
        by_cases h2 : 0 ≤ b
        · rw [if_pos h2] at hf ⊢
          rw [hf]
          simp
        · rw [if_neg h2] at hf ⊢
          rw [hf]
      · rw [if_neg h1] at hf ⊢
        by_cases h2 : 0 ≤ b
        · rw [if_pos h2] at hf ⊢
          rw [hf, h3.1 (by omega)]
        · rw [if_neg h2] at hf ⊢
          rw [hf, h3.2 (by omega)]
          simp
theorem mul_abs {a b : Int} (ha : -1000000 ≤ a ∧ a ≤ 1000000) (hb : -1000000 ≤ b ∧ b ≤ 1000000) : -1000000000000 ≤ a * b ∧ a * b ≤ 1000000000000 := by
  have h : (a * b).natAbs ≤ 1000000 * 1000000 := by
    rw [Int.natAbs_mul]
    exact Nat.mul_le_mul (by omega) (by omega)
  omega
theorem mo_made_sum {op : Nat} {a b : Int} (h : 10 ≤ op ∧ op ≤ 19) (ha : -1000000 ≤ a ∧ a ≤ 1000000) (hb : -1000000 ≤ b ∧ b ≤ 1000000) : mo_made (nI op) (jI a) (jI b) z = some (jI (ev2 op a b), z) := by
  have hm := mul_abs ha hb
  obtain ⟨h1, h2⟩ := h
  have hc : op = 10 ∨ op = 11 ∨ op = 12 ∨ op = 13 ∨ op = 14 ∨ op = 15 ∨ op = 16 ∨ op = 17 ∨ op = 18 ∨ op = 19 := by omega
  unfold mo_made ev2
  rcases hc with rfl | rfl | rfl | rfl | rfl | rfl | rfl | rfl | rfl | rfl
  · simp (disch := omega) only [mo_bounded_eq, n_lit, n_eq, ↓reduceIte, Nat.reduceEqDiff, jI_lit, jI_neg, jI_add, jI_sub, jI_mul, jI_cle, jI_cge, jI_ceq, jI_clt, jI_cgt, g_call_some, jc0, jc1, jc99, jcM]
  · simp (disch := omega) only [mo_bounded_eq, n_lit, n_eq, ↓reduceIte, Nat.reduceEqDiff, jI_lit, jI_neg, jI_add, jI_sub, jI_mul, jI_cle, jI_cge, jI_ceq, jI_clt, jI_cgt, g_call_some, jc0, jc1, jc99, jcM]
  · simp (disch := omega) only [mo_bounded_eq, n_lit, n_eq, ↓reduceIte, Nat.reduceEqDiff, jI_lit, jI_neg, jI_add, jI_sub, jI_mul, jI_cle, jI_cge, jI_ceq, jI_clt, jI_cgt, g_call_some, jc0, jc1, jc99, jcM]
  · simp (disch := omega) only [mo_over_eq ha hb, n_lit, n_eq, ↓reduceIte, Nat.reduceEqDiff, jI_lit, jI_neg, jI_add, jI_sub, jI_mul, jI_cle, jI_cge, jI_ceq, jI_clt, jI_cgt, g_call_some, jc0, jc1, jc99, jcM]
  · simp (disch := omega) only [mo_over_eq ha hb, n_lit, n_eq, ↓reduceIte, Nat.reduceEqDiff, jI_lit, jI_neg, jI_add, jI_sub, jI_mul, jI_cle, jI_cge, jI_ceq, jI_clt, jI_cgt, g_call_some, jc0, jc1, jc99, jcM]
    by_cases q : b = 0
    · rw [if_pos q, if_pos q]
    · rw [if_neg q, if_neg q, if_neg q, Int.fmod_def]
  · simp (disch := omega) only [n_lit, n_eq, ↓reduceIte, Nat.reduceEqDiff, jI_lit, jI_neg, jI_add, jI_sub, jI_mul, jI_cle, jI_cge, jI_ceq, jI_clt, jI_cgt, g_call_some, jc0, jc1, jc99, jcM]
    by_cases q : b ≤ a
    · rw [if_pos q, if_neg (by omega)]
    · rw [if_neg q, if_pos (by omega)]
  · simp (disch := omega) only [n_lit, n_eq, ↓reduceIte, Nat.reduceEqDiff, jI_lit, jI_neg, jI_add, jI_sub, jI_mul, jI_cle, jI_cge, jI_ceq, jI_clt, jI_cgt, g_call_some, jc0, jc1, jc99, jcM]
    by_cases q : a ≤ b
    · rw [if_pos q, if_neg (by omega)]
    · rw [if_neg q, if_pos (by omega)]
  · simp (disch := omega) only [n_lit, n_eq, ↓reduceIte, Nat.reduceEqDiff, jI_lit, jI_neg, jI_add, jI_sub, jI_mul, jI_cle, jI_cge, jI_ceq, jI_clt, jI_cgt, g_call_some, jc0, jc1, jc99, jcM]
    by_cases q : b ≤ a
    · rw [if_pos q, if_neg (by omega)]
    · rw [if_neg q, if_pos (by omega)]
  · simp (disch := omega) only [n_lit, n_eq, ↓reduceIte, Nat.reduceEqDiff, jI_lit, jI_neg, jI_add, jI_sub, jI_mul, jI_cle, jI_cge, jI_ceq, jI_clt, jI_cgt, g_call_some, jc0, jc1, jc99, jcM]
    by_cases q : a ≤ b
    · rw [if_pos q, if_neg (by omega)]
    · rw [if_neg q, if_pos (by omega)]
  · simp (disch := omega) only [n_lit, n_eq, ↓reduceIte, Nat.reduceEqDiff, jI_lit, jI_neg, jI_add, jI_sub, jI_mul, jI_cle, jI_cge, jI_ceq, jI_clt, jI_cgt, g_call_some, jc0, jc1, jc99, jcM]
    by_cases q : a = b
    · rw [if_pos q, if_pos q]
    · rw [if_neg q, if_neg q]
theorem mo_made_bool {op : Nat} {a b : Int} (h : op = 20 ∨ op = 21) (ha : a = 0 ∨ a = 1) (hb : b = 0 ∨ b = 1) : mo_made (nI op) (jI a) (jI b) z = some (jI (ev2 op a b), z) := by
  rcases h with rfl | rfl <;> rcases ha with rfl | rfl <;> rcases hb with rfl | rfl <;> rfl
end M6
