set_option maxRecDepth 100000
/-! THE REFERENCE AS A PICTURE of the sea and what is told -/
def lI (n : Nat) : Int64 := Int64.ofNat n
/-- a name's letters as one number -/
def nmV (l : List Nat) : Nat := l.foldl (fun a c => 256 * a + c) 0
/-- codes c lie from place f on, in bank b -/
def cSeg (z : mm_S) (b f : Nat) (c : cds) : Prop := ∀ i q, c[i]? = some q → z.2.2.1 38 (1800 * b + f + i) = nI q.1 ∧ z.2.2.1 39 (1800 * b + f + i) = nI q.2
def mR (S : aSea) (D : aTold) (b : Nat) (z : mm_S) : Prop :=
  (b ≤ 1)
  ∧ (z.1 12 = nI b)
  ∧ (z.2.2.1 13 b = nI (sC S))
  ∧ (z.2.2.1 14 b = nI (sR S))
  ∧ (z.2.2.1 19 b = nI (nS S))
  ∧ (∀ k : Nat, k < nS S → z.2.2.1 21 (8 * b + k) = nI (aLk S k))
  ∧ (∀ k : Nat, k < nS S → z.2.2.1 22 (8 * b + k) = nI (aSp S k))
  ∧ (∀ k : Nat, k < nS S → z.2.2.1 23 (8 * b + k) = nI (aDr S k))
  ∧ (∀ k : Nat, k < nS S → z.2.2.1 24 (8 * b + k) = nI (aLd S k))
  ∧ (∀ k : Nat, k < nS S → z.2.2.2 20 (8 * b + k) = lI (nmV (aNm S k)))
  ∧ (z.2.2.1 25 b = nI (dTot D.1))
  ∧ (∀ k h : Nat, k < nS S → h < 48 → z.2.2.1 26 (384 * b + 48 * k + h) = oI ((tl (dSy D k) h).map (fun x => x.1)))
  ∧ (∀ k h : Nat, k < nS S → h < 48 → ∀ x, tl (dSy D k) h = some x → z.2.2.1 27 (384 * b + 48 * k + h) = bI x.2)
  ∧ (z.2.2.1 28 b = nI (sB S).length)
  ∧ (∀ i : Nat, i < (sB S).length → z.2.2.1 29 (12 * b + i) = nI (aBo S i).1)
  ∧ (∀ i : Nat, i < (sB S).length → z.2.2.1 30 (12 * b + i) = nI (aBo S i).2.1)
  ∧ (∀ i : Nat, i < (sB S).length → z.2.2.1 31 (12 * b + i) = nI (aBo S i).2.2.1)
  ∧ (∀ i : Nat, i < (sB S).length → z.2.2.1 32 (12 * b + i) = nI (aBo S i).2.2.2)
  ∧ (z.2.2.1 33 b = nI D.2.length)
  ∧ (∀ i : Nat, i < D.2.length → z.2.2.1 34 (40 * b + i) = nI (dSg D i).1)
  ∧ (∀ i : Nat, i < D.2.length → z.2.2.1 35 (40 * b + i) = nI (dSg D i).2.1)
  ∧ (∀ i : Nat, i < D.2.length → z.2.2.1 36 (40 * b + i) = nI (dSg D i).2.2)
  ∧ (z.2.2.1 37 b = nI (sL S))
  ∧ (∀ c : Nat, c < sN S → z.2.2.1 55 c = nI (sD S c))
  ∧ (∀ c : Nat, c < sN S → z.2.2.1 56 c = nI (sK S c))
  ∧ (z.2.2.1 15 (3 * b + 2) = nI (sQ S).length)
  ∧ (∀ (j : Nat) (t : cds), (sQ S)[j]? = some t → cTy [] t = some [true] ∧ ∃ f : Nat, z.2.2.1 17 (30 * b + 24 + j) = nI f ∧ z.2.2.1 18 (30 * b + 24 + j) = nI (f + t.length) ∧ f + t.length ≤ 1800 ∧ cSeg z b f t)
theorem mR.b1 {S : aSea} {D : aTold} {b : Nat} {z : mm_S} (h : mR S D b z) : b ≤ 1 := h.1
theorem mR.bk {S : aSea} {D : aTold} {b : Nat} {z : mm_S} (h : mR S D b z) : z.1 12 = nI b := h.2.1
theorem mR.cc {S : aSea} {D : aTold} {b : Nat} {z : mm_S} (h : mR S D b z) : z.2.2.1 13 b = nI (sC S) := h.2.2.1
theorem mR.rr {S : aSea} {D : aTold} {b : Nat} {z : mm_S} (h : mR S D b z) : z.2.2.1 14 b = nI (sR S) := h.2.2.2.1
theorem mR.kk {S : aSea} {D : aTold} {b : Nat} {z : mm_S} (h : mR S D b z) : z.2.2.1 19 b = nI (nS S) := h.2.2.2.2.1
theorem mR.lk {S : aSea} {D : aTold} {b : Nat} {z : mm_S} (h : mR S D b z) : ∀ k : Nat, k < nS S → z.2.2.1 21 (8 * b + k) = nI (aLk S k) := h.2.2.2.2.2.1
theorem mR.sp {S : aSea} {D : aTold} {b : Nat} {z : mm_S} (h : mR S D b z) : ∀ k : Nat, k < nS S → z.2.2.1 22 (8 * b + k) = nI (aSp S k) := h.2.2.2.2.2.2.1
theorem mR.dr {S : aSea} {D : aTold} {b : Nat} {z : mm_S} (h : mR S D b z) : ∀ k : Nat, k < nS S → z.2.2.1 23 (8 * b + k) = nI (aDr S k) := h.2.2.2.2.2.2.2.1
theorem mR.ld {S : aSea} {D : aTold} {b : Nat} {z : mm_S} (h : mR S D b z) : ∀ k : Nat, k < nS S → z.2.2.1 24 (8 * b + k) = nI (aLd S k) := h.2.2.2.2.2.2.2.2.1
theorem mR.nm {S : aSea} {D : aTold} {b : Nat} {z : mm_S} (h : mR S D b z) : ∀ k : Nat, k < nS S → z.2.2.2 20 (8 * b + k) = lI (nmV (aNm S k)) := h.2.2.2.2.2.2.2.2.2.1
theorem mR.ty {S : aSea} {D : aTold} {b : Nat} {z : mm_S} (h : mR S D b z) : z.2.2.1 25 b = nI (dTot D.1) := h.2.2.2.2.2.2.2.2.2.2.1
theorem mR.sd {S : aSea} {D : aTold} {b : Nat} {z : mm_S} (h : mR S D b z) : ∀ k h : Nat, k < nS S → h < 48 → z.2.2.1 26 (384 * b + 48 * k + h) = oI ((tl (dSy D k) h).map (fun x => x.1)) := h.2.2.2.2.2.2.2.2.2.2.2.1
theorem mR.sl {S : aSea} {D : aTold} {b : Nat} {z : mm_S} (h : mR S D b z) : ∀ k h : Nat, k < nS S → h < 48 → ∀ x, tl (dSy D k) h = some x → z.2.2.1 27 (384 * b + 48 * k + h) = bI x.2 := h.2.2.2.2.2.2.2.2.2.2.2.2.1
theorem mR.bn {S : aSea} {D : aTold} {b : Nat} {z : mm_S} (h : mR S D b z) : z.2.2.1 28 b = nI (sB S).length := h.2.2.2.2.2.2.2.2.2.2.2.2.2.1
theorem mR.bs {S : aSea} {D : aTold} {b : Nat} {z : mm_S} (h : mR S D b z) : ∀ i : Nat, i < (sB S).length → z.2.2.1 29 (12 * b + i) = nI (aBo S i).1 := h.2.2.2.2.2.2.2.2.2.2.2.2.2.2.1
theorem mR.bc {S : aSea} {D : aTold} {b : Nat} {z : mm_S} (h : mR S D b z) : ∀ i : Nat, i < (sB S).length → z.2.2.1 30 (12 * b + i) = nI (aBo S i).2.1 := h.2.2.2.2.2.2.2.2.2.2.2.2.2.2.2.1
theorem mR.bf {S : aSea} {D : aTold} {b : Nat} {z : mm_S} (h : mR S D b z) : ∀ i : Nat, i < (sB S).length → z.2.2.1 31 (12 * b + i) = nI (aBo S i).2.2.1 := h.2.2.2.2.2.2.2.2.2.2.2.2.2.2.2.2.1
theorem mR.bt {S : aSea} {D : aTold} {b : Nat} {z : mm_S} (h : mR S D b z) : ∀ i : Nat, i < (sB S).length → z.2.2.1 32 (12 * b + i) = nI (aBo S i).2.2.2 := h.2.2.2.2.2.2.2.2.2.2.2.2.2.2.2.2.2.1
theorem mR.gn {S : aSea} {D : aTold} {b : Nat} {z : mm_S} (h : mR S D b z) : z.2.2.1 33 b = nI D.2.length := h.2.2.2.2.2.2.2.2.2.2.2.2.2.2.2.2.2.2.1
theorem mR.gl {S : aSea} {D : aTold} {b : Nat} {z : mm_S} (h : mR S D b z) : ∀ i : Nat, i < D.2.length → z.2.2.1 34 (40 * b + i) = nI (dSg D i).1 := h.2.2.2.2.2.2.2.2.2.2.2.2.2.2.2.2.2.2.2.1
theorem mR.gc {S : aSea} {D : aTold} {b : Nat} {z : mm_S} (h : mR S D b z) : ∀ i : Nat, i < D.2.length → z.2.2.1 35 (40 * b + i) = nI (dSg D i).2.1 := h.2.2.2.2.2.2.2.2.2.2.2.2.2.2.2.2.2.2.2.2.1
theorem mR.gh {S : aSea} {D : aTold} {b : Nat} {z : mm_S} (h : mR S D b z) : ∀ i : Nat, i < D.2.length → z.2.2.1 36 (40 * b + i) = nI (dSg D i).2.2 := h.2.2.2.2.2.2.2.2.2.2.2.2.2.2.2.2.2.2.2.2.2.1
theorem mR.lu {S : aSea} {D : aTold} {b : Nat} {z : mm_S} (h : mR S D b z) : z.2.2.1 37 b = nI (sL S) := h.2.2.2.2.2.2.2.2.2.2.2.2.2.2.2.2.2.2.2.2.2.2.1
theorem mR.dp {S : aSea} {D : aTold} {b : Nat} {z : mm_S} (h : mR S D b z) : ∀ c : Nat, c < sN S → z.2.2.1 55 c = nI (sD S c) := h.2.2.2.2.2.2.2.2.2.2.2.2.2.2.2.2.2.2.2.2.2.2.2.1
theorem mR.co {S : aSea} {D : aTold} {b : Nat} {z : mm_S} (h : mR S D b z) : ∀ c : Nat, c < sN S → z.2.2.1 56 c = nI (sK S c) := h.2.2.2.2.2.2.2.2.2.2.2.2.2.2.2.2.2.2.2.2.2.2.2.2.1
theorem mR.qn {S : aSea} {D : aTold} {b : Nat} {z : mm_S} (h : mR S D b z) : z.2.2.1 15 (3 * b + 2) = nI (sQ S).length := h.2.2.2.2.2.2.2.2.2.2.2.2.2.2.2.2.2.2.2.2.2.2.2.2.2.1
theorem mR.qq {S : aSea} {D : aTold} {b : Nat} {z : mm_S} (h : mR S D b z) : ∀ (j : Nat) (t : cds), (sQ S)[j]? = some t → cTy [] t = some [true] ∧ ∃ f : Nat, z.2.2.1 17 (30 * b + 24 + j) = nI f ∧ z.2.2.1 18 (30 * b + 24 + j) = nI (f + t.length) ∧ f + t.length ≤ 1800 ∧ cSeg z b f t := h.2.2.2.2.2.2.2.2.2.2.2.2.2.2.2.2.2.2.2.2.2.2.2.2.2.2
abbrev W0 : List Nat := [53, 54, 57, 58, 59, 60, 61, 62, 63, 64, 65, 66, 67, 68, 69, 70, 71, 72, 73, 74, 75, 76, 77, 78, 79, 80]
theorem mR.fr {S : aSea} {D : aTold} {b : Nat} {z z' : mm_S} (h : mR S D b z) (f : mf_R W0 z z') : mR S D b z' := by
  have e12 := f.1 12 (by decide)
  have e20 := f.2.2.2 20 (by decide)
  unfold mR cSeg at h ⊢
  rw [e12, f.2.2.1 13 (by decide), f.2.2.1 14 (by decide), f.2.2.1 15 (by decide), f.2.2.1 17 (by decide), f.2.2.1 18 (by decide), f.2.2.1 19 (by decide), e20, f.2.2.1 21 (by decide), f.2.2.1 22 (by decide), f.2.2.1 23 (by decide), f.2.2.1 24 (by decide), f.2.2.1 25 (by decide), f.2.2.1 26 (by decide), f.2.2.1 27 (by decide), f.2.2.1 28 (by decide), f.2.2.1 29 (by decide), f.2.2.1 30 (by decide), f.2.2.1 31 (by decide), f.2.2.1 32 (by decide), f.2.2.1 33 (by decide), f.2.2.1 34 (by decide), f.2.2.1 35 (by decide), f.2.2.1 36 (by decide), f.2.2.1 37 (by decide), f.2.2.1 38 (by decide), f.2.2.1 39 (by decide), f.2.2.1 55 (by decide), f.2.2.1 56 (by decide)]
  exact h
/-! what stands of the sea, by number -/
section SB
variable {S : aSea} {D : aTold} {k i : Nat}
theorem aShp_mem (h : k < nS S) : aShp S k ∈ sS S := by
  unfold aShp
  rw [List.getD_eq_getElem?_getD, List.getElem?_eq_getElem h]
  exact List.getElem_mem h
theorem aBo_mem (h : i < (sB S).length) : aBo S i ∈ sB S := by
  unfold aBo
  rw [List.getD_eq_getElem?_getD, List.getElem?_eq_getElem h]
  exact List.getElem_mem h
theorem dSg_mem (h : i < D.2.length) : dSg D i ∈ D.2 := by
  unfold dSg
  rw [List.getD_eq_getElem?_getD, List.getElem?_eq_getElem h]
  exact List.getElem_mem h
theorem dSy_mem (h : k < D.1.length) : dSy D k ∈ D.1 := by
  unfold dSy
  rw [List.getD_eq_getElem?_getD, List.getElem?_eq_getElem h]
  exact List.getElem_mem h
theorem sW.n (w : sW S) : sN S ≤ 256 := by
  have h : sC S * sR S ≤ 16 * 16 := Nat.mul_le_mul w.1.1 w.1.2
  exact h
theorem sW.c (w : sW S) : sC S ≤ 16 := w.1.1
theorem sW.r (w : sW S) : sR S ≤ 16 := w.1.2
theorem sW.ks (w : sW S) : nS S ≤ 8 := w.2.1.1
theorem sW.lk (w : sW S) (h : k < nS S) : aLk S k ≤ 3 := (w.2.1.2 _ (aShp_mem h)).2.1
theorem sW.sp (w : sW S) (h : k < nS S) : 1 ≤ aSp S k ∧ aSp S k ≤ 4 := (w.2.1.2 _ (aShp_mem h)).2.2.1
theorem sW.dr (w : sW S) (h : k < nS S) : 1 ≤ aDr S k ∧ aDr S k ≤ 40 := (w.2.1.2 _ (aShp_mem h)).2.2.2.1
theorem sW.ld (w : sW S) (h : k < nS S) : aLd S k ≤ 40 := (w.2.1.2 _ (aShp_mem h)).2.2.2.2
theorem sW.bn (w : sW S) : (sB S).length ≤ 12 := w.2.2.1.1
theorem sW.bo (w : sW S) (h : i < (sB S).length) : (aBo S i).1 < nS S ∧ (aBo S i).2.1 < sN S ∧ (aBo S i).2.2.1 ≤ (aBo S i).2.2.2 ∧ (aBo S i).2.2.2 < 48 := w.2.2.1.2 _ (aBo_mem h)
theorem sW.l (w : sW S) : sL S ≤ 100 := w.2.2.2.1
theorem sW.d (w : sW S) (c : Nat) : sD S c ≤ 99 := (w.2.2.2.2.1 c).1
theorem sW.co (w : sW S) (c : Nat) : sK S c ≤ 99 := (w.2.2.2.2.1 c).2
theorem sW.q (w : sW S) : (sQ S).length ≤ 6 := w.2.2.2.2.2
theorem tW.ks (w : tW S D) : D.1.length = nS S := w.1
theorem tW.tl (w : tW S D) (h : k < nS S) : tlW (sN S) (dSy D k) := w.2.1 _ (dSy_mem (by rw [w.1]; exact h))
theorem tW.tot (w : tW S D) : dTot D.1 ≤ 96 := w.2.2.1
theorem tW.g (w : tW S D) : D.2.length ≤ 40 := w.2.2.2.1
theorem tW.sg (w : tW S D) (h : i < D.2.length) : (dSg D i).1 ≤ 3 ∧ (dSg D i).2.1 < sN S ∧ (dSg D i).2.2 < 48 := w.2.2.2.2 _ (dSg_mem h)
theorem tl_cell {N : Nat} {L : List aSy} {h : Nat} {x : Nat × Bool} (w : tlW N L) (q : tl L h = some x) : h < 48 ∧ x.1 < N := w.2 _ (tl_some q)
end SB
/-! the small ones -/
section M0
variable {S : aSea} {D : aTold} {b k : Nat} {z : mm_S}
theorem mm_in_neg {x : Int32} {n : Nat} (h : x < 0) : mm_in x n = false := by
  unfold mm_in
  exact decide_eq_false (fun q => q (Or.inl h))
theorem mm_in_ge {x : Int32} {n : Nat} (hn : n < 2147483648) (h : nI n ≤ x) : mm_in x n = false := by
  cases q : mm_in x n with
  | false => rfl
  | true =>
    obtain ⟨j, hj, rfl⟩ := mm_inE hn q
    rw [n_le hn (by omega)] at h
    omega
theorem mo_is_lit {x : Int32} {n : Nat} (hn : n < 1000000) : mo_is x (nI 0) (nI n) z = some (bI (mm_in x (n + 1)), z) := by
  unfold mo_is
  rcases pk_ix x (n := n + 1) (by omega) with h | h | ⟨j, hj, rfl⟩
  · rw [if_pos (show x < nI 0 from h), mm_in_neg h]; rfl
  · have h0 : ¬ x < nI 0 := by
      intro q
      have h1 := Int32.le_iff_toInt_le.mp h
      have h2 := Int32.lt_iff_toInt_lt.mp q
      rw [nI_toInt (by omega)] at h1
      rw [nI_toInt (by omega)] at h2
      omega
    have h2 : nI n < x := by
      have h1 := Int32.le_iff_toInt_le.mp h
      rw [Int32.lt_iff_toInt_lt, nI_toInt (by omega)]
      rw [nI_toInt (by omega)] at h1
      omega
    rw [if_neg h0, if_pos h2, mm_in_ge (by omega) h]; rfl
  · rw [if_neg (by rw [n_lt (by omega) (by omega)]; omega), if_neg (by rw [n_lt (by omega) (by omega)]; omega), n_in hj (by omega)]; rfl
theorem mo_is_K {x : Int32} {n : Nat} (hn : n < 1000000) : mo_is x 0 (nI n - 1) z = some (bI (mm_in x n), z) := by
  cases n with
  | zero =>
    unfold mo_is
    have e : nI 0 - 1 = m1 := by decide +kernel
    rw [e]
    by_cases h : x < 0
    · rw [if_pos h, mm_in_neg h]; rfl
    · have h2 : m1 < x := by
        rw [Int32.lt_iff_toInt_lt, m1_toInt]
        have : ¬ x.toInt < 0 := fun q => h (Int32.lt_iff_toInt_lt.mpr q)
        omega
      rw [if_neg h, if_pos h2]
      have : mm_in x 0 = false := by
        unfold mm_in
        exact decide_eq_false (fun q => q (Or.inr (Nat.zero_le _)))
      rw [this]; rfl
  | succ n =>
    rw [nI_pred]
    exact mo_is_lit (by omega)
theorem mo_isShip_eq (w : sW S) (h : mR S D b z) {x : Int32} : mo_isShip x z = some (bI (mm_in x (nS S)), z) := by
  have := h.b1; have := w.ks
  unfold mo_isShip
  simp (disch := omega) only [q_gI, q_lI, h.bk, mn19, n_in, n_cl, h.kk, if_true, ↓reduceIte, mo_is_K, g_call_some]
  cases mm_in x (nS S) <;> rfl
theorem mo_isCell_eq (w : sW S) (h : mR S D b z) {x y : Int32} : mo_isCell x y z = some (bI (mm_in x (sC S) && mm_in y (sR S)), z) := by
  have := h.b1; have := w.c; have := w.r
  unfold mo_isCell
  simp (disch := omega) only [q_gI, q_lI, h.bk, mn13, mn14, n_in, n_cl, h.cc, h.rr, if_true, ↓reduceIte, mo_is_K, g_call_some]
  cases mm_in x (sC S) <;> cases mm_in y (sR S) <;> rfl
theorem mo_isHour_eq {x : Int32} : mo_isHour x z = some (bI (mm_in x 48), z) := by
  unfold mo_isHour
  rw [show (0 : Int32) = nI 0 from rfl, show (47 : Int32) = nI 47 from rfl, mo_is_lit (by decide)]
  rw [g_call_some]
  cases mm_in x 48 <;> rfl
theorem mo_cells_eq (w : sW S) (h : mR S D b z) : mo_cells z = some (nI (sN S), z) := by
  have := h.b1
  unfold mo_cells
  simp (disch := omega) only [h.bk, h.cc, h.rr, n_lit, n_neg1, n_add, n_mul, n_sub, n_addneg, n_addm1, n_le, n_lt, n_eq, n_cl, n_in, n_eqm, n_meq, n_mlt, n_mle, n_ltm, n_lem, bI_t, bI_f, bI_0, bI_1, bI_01, b_01, n_01, n_11, oI_none, oI_some, nar_b, nar_0, nar_1, g_call_some, if_true, if_false, eq_self, ↓reduceIte, Nat.reduceEqDiff, Nat.reduceAdd, Nat.reduceMul, Nat.reduceSub, Nat.reduceLeDiff, q_gI, q_gJ, q_pI, q_pJ, q_lI, q_lL, q_sI, q_sL, q_sZ, q_pZ, mn0, mn13, mn14, mn15, mn16, mn17, mn18, mn19, mn20, mn21, mn22, mn23, mn24, mn25, mn26, mn27, mn28, mn29, mn30, mn31, mn32, mn33, mn34, mn35, mn36, mn37, mn38, mn39, mn42, mn43, mn44, mn45, mn46, mn49, mn52, mn53, mn54, mn55, mn56, mn57, mn58, mn61, mn62, mn63, mn67, mn68, mn69, mn70, mn71, mn72, mn74, mn75, mn76, mn77, mn78, mn79, mn80, mn81]
  rfl
theorem mo_at_eq (w : sW S) (h : mR S D b z) {x y : Nat} : mo_at (nI x) (nI y) z = some (nI (sC S * y + x), z) := by
  have := h.b1
  unfold mo_at
  simp (disch := omega) only [h.bk, h.cc, n_lit, n_neg1, n_add, n_mul, n_sub, n_addneg, n_addm1, n_le, n_lt, n_eq, n_cl, n_in, n_eqm, n_meq, n_mlt, n_mle, n_ltm, n_lem, bI_t, bI_f, bI_0, bI_1, bI_01, b_01, n_01, n_11, oI_none, oI_some, nar_b, nar_0, nar_1, g_call_some, if_true, if_false, eq_self, ↓reduceIte, Nat.reduceEqDiff, Nat.reduceAdd, Nat.reduceMul, Nat.reduceSub, Nat.reduceLeDiff, q_gI, q_gJ, q_pI, q_pJ, q_lI, q_lL, q_sI, q_sL, q_sZ, q_pZ, mn0, mn13, mn14, mn15, mn16, mn17, mn18, mn19, mn20, mn21, mn22, mn23, mn24, mn25, mn26, mn27, mn28, mn29, mn30, mn31, mn32, mn33, mn34, mn35, mn36, mn37, mn38, mn39, mn42, mn43, mn44, mn45, mn46, mn49, mn52, mn53, mn54, mn55, mn56, mn57, mn58, mn61, mn62, mn63, mn67, mn68, mn69, mn70, mn71, mn72, mn74, mn75, mn76, mn77, mn78, mn79, mn80, mn81]
theorem mo_columnOf_eq (w : sW S) (h : mR S D b z) {c : Nat} (hc : c < sN S) : mo_columnOf (nI c) z = some (nI (c % sC S), z) := by
  have := h.b1; have := w.n; have := w.c
  have h0 : 0 < sC S := by
    rcases Nat.eq_zero_or_pos (sC S) with q | q
    · unfold sN at hc; rw [q] at hc; omega
    · exact q
  unfold mo_columnOf
  simp (disch := omega) only [h.bk, h.cc, n_lit, n_neg1, n_add, n_mul, n_sub, n_addneg, n_addm1, n_le, n_lt, n_eq, n_cl, n_in, n_eqm, n_meq, n_mlt, n_mle, n_ltm, n_lem, bI_t, bI_f, bI_0, bI_1, bI_01, b_01, n_01, n_11, oI_none, oI_some, nar_b, nar_0, nar_1, g_call_some, if_true, if_false, eq_self, ↓reduceIte, Nat.reduceEqDiff, Nat.reduceAdd, Nat.reduceMul, Nat.reduceSub, Nat.reduceLeDiff, q_gI, q_gJ, q_pI, q_pJ, q_lI, q_lL, q_sI, q_sL, q_sZ, q_pZ, mn0, mn13, mn14, mn15, mn16, mn17, mn18, mn19, mn20, mn21, mn22, mn23, mn24, mn25, mn26, mn27, mn28, mn29, mn30, mn31, mn32, mn33, mn34, mn35, mn36, mn37, mn38, mn39, mn42, mn43, mn44, mn45, mn46, mn49, mn52, mn53, mn54, mn55, mn56, mn57, mn58, mn61, mn62, mn63, mn67, mn68, mn69, mn70, mn71, mn72, mn74, mn75, mn76, mn77, mn78, mn79, mn80, mn81]
  rw [g_dv_ok (by omega) (by omega), n_rem (by omega) h0 (by omega)]
theorem mo_rowOf_eq (w : sW S) (h : mR S D b z) {c : Nat} (hc : c < sN S) : mo_rowOf (nI c) z = some (nI (c / sC S), z) := by
  have := h.b1; have := w.n; have := w.c
  have h0 : 0 < sC S := by
    rcases Nat.eq_zero_or_pos (sC S) with q | q
    · unfold sN at hc; rw [q] at hc; omega
    · exact q
  unfold mo_rowOf
  simp (disch := omega) only [h.bk, h.cc, n_lit, n_neg1, n_add, n_mul, n_sub, n_addneg, n_addm1, n_le, n_lt, n_eq, n_cl, n_in, n_eqm, n_meq, n_mlt, n_mle, n_ltm, n_lem, bI_t, bI_f, bI_0, bI_1, bI_01, b_01, n_01, n_11, oI_none, oI_some, nar_b, nar_0, nar_1, g_call_some, if_true, if_false, eq_self, ↓reduceIte, Nat.reduceEqDiff, Nat.reduceAdd, Nat.reduceMul, Nat.reduceSub, Nat.reduceLeDiff, q_gI, q_gJ, q_pI, q_pJ, q_lI, q_lL, q_sI, q_sL, q_sZ, q_pZ, mn0, mn13, mn14, mn15, mn16, mn17, mn18, mn19, mn20, mn21, mn22, mn23, mn24, mn25, mn26, mn27, mn28, mn29, mn30, mn31, mn32, mn33, mn34, mn35, mn36, mn37, mn38, mn39, mn42, mn43, mn44, mn45, mn46, mn49, mn52, mn53, mn54, mn55, mn56, mn57, mn58, mn61, mn62, mn63, mn67, mn68, mn69, mn70, mn71, mn72, mn74, mn75, mn76, mn77, mn78, mn79, mn80, mn81]
  rw [g_dv_ok (by omega) (by omega), n_div (by omega) h0 (by omega)]
theorem mo_said_eq (w : sW S) (h : mR S D b z) {hr : Nat} (hk : k < nS S) (hh : hr < 48) : mo_said (nI k) (nI hr) z = some (oI ((tl (dSy D k) hr).map (fun x => x.1)), z) := by
  have := h.b1; have := w.ks
  unfold mo_said
  simp (disch := omega) only [h.bk, h.sd k hr hk hh, n_lit, n_neg1, n_add, n_mul, n_sub, n_addneg, n_addm1, n_le, n_lt, n_eq, n_cl, n_in, n_eqm, n_meq, n_mlt, n_mle, n_ltm, n_lem, bI_t, bI_f, bI_0, bI_1, bI_01, b_01, n_01, n_11, oI_none, oI_some, nar_b, nar_0, nar_1, g_call_some, if_true, if_false, eq_self, ↓reduceIte, Nat.reduceEqDiff, Nat.reduceAdd, Nat.reduceMul, Nat.reduceSub, Nat.reduceLeDiff, q_gI, q_gJ, q_pI, q_pJ, q_lI, q_lL, q_sI, q_sL, q_sZ, q_pZ, mn0, mn13, mn14, mn15, mn16, mn17, mn18, mn19, mn20, mn21, mn22, mn23, mn24, mn25, mn26, mn27, mn28, mn29, mn30, mn31, mn32, mn33, mn34, mn35, mn36, mn37, mn38, mn39, mn42, mn43, mn44, mn45, mn46, mn49, mn52, mn53, mn54, mn55, mn56, mn57, mn58, mn61, mn62, mn63, mn67, mn68, mn69, mn70, mn71, mn72, mn74, mn75, mn76, mn77, mn78, mn79, mn80, mn81]
theorem mo_laden_eq (w : sW S) (h : mR S D b z) {hr : Nat} (hk : k < nS S) (hh : hr < 48) {x : Nat × Bool} (q : tl (dSy D k) hr = some x) : mo_laden (nI k) (nI hr) z = some (bI x.2, z) := by
  have := h.b1; have := w.ks
  unfold mo_laden
  simp (disch := omega) only [h.bk, h.sl k hr hk hh x q, n_lit, n_neg1, n_add, n_mul, n_sub, n_addneg, n_addm1, n_le, n_lt, n_eq, n_cl, n_in, n_eqm, n_meq, n_mlt, n_mle, n_ltm, n_lem, bI_t, bI_f, bI_0, bI_1, bI_01, b_01, n_01, n_11, oI_none, oI_some, nar_b, nar_0, nar_1, g_call_some, if_true, if_false, eq_self, ↓reduceIte, Nat.reduceEqDiff, Nat.reduceAdd, Nat.reduceMul, Nat.reduceSub, Nat.reduceLeDiff, q_gI, q_gJ, q_pI, q_pJ, q_lI, q_lL, q_sI, q_sL, q_sZ, q_pZ, mn0, mn13, mn14, mn15, mn16, mn17, mn18, mn19, mn20, mn21, mn22, mn23, mn24, mn25, mn26, mn27, mn28, mn29, mn30, mn31, mn32, mn33, mn34, mn35, mn36, mn37, mn38, mn39, mn42, mn43, mn44, mn45, mn46, mn49, mn52, mn53, mn54, mn55, mn56, mn57, mn58, mn61, mn62, mn63, mn67, mn68, mn69, mn70, mn71, mn72, mn74, mn75, mn76, mn77, mn78, mn79, mn80, mn81]
theorem mo_isWater_eq (w : sW S) (h : mR S D b z) {c : Nat} (hk : k < nS S) (hc : c < sN S) : mo_isWater (nI k) (nI c) z = some (bI (aWet S k c), z) := by
  have := h.b1; have := w.ks; have := w.n; have := w.d c; have := w.dr hk
  unfold mo_isWater
  simp (disch := omega) only [h.bk, h.dp c hc, h.dr k hk, n_lit, n_neg1, n_add, n_mul, n_sub, n_addneg, n_addm1, n_le, n_lt, n_eq, n_cl, n_in, n_eqm, n_meq, n_mlt, n_mle, n_ltm, n_lem, bI_t, bI_f, bI_0, bI_1, bI_01, b_01, n_01, n_11, oI_none, oI_some, nar_b, nar_0, nar_1, g_call_some, if_true, if_false, eq_self, ↓reduceIte, Nat.reduceEqDiff, Nat.reduceAdd, Nat.reduceMul, Nat.reduceSub, Nat.reduceLeDiff, q_gI, q_gJ, q_pI, q_pJ, q_lI, q_lL, q_sI, q_sL, q_sZ, q_pZ, mn0, mn13, mn14, mn15, mn16, mn17, mn18, mn19, mn20, mn21, mn22, mn23, mn24, mn25, mn26, mn27, mn28, mn29, mn30, mn31, mn32, mn33, mn34, mn35, mn36, mn37, mn38, mn39, mn42, mn43, mn44, mn45, mn46, mn49, mn52, mn53, mn54, mn55, mn56, mn57, mn58, mn61, mn62, mn63, mn67, mn68, mn69, mn70, mn71, mn72, mn74, mn75, mn76, mn77, mn78, mn79, mn80, mn81]
  unfold aWet
  by_cases q : sD S c < aDr S k
  · rw [if_pos q, decide_eq_false (by omega)]; rfl
  · rw [if_neg q, decide_eq_true (by omega)]; rfl
theorem mo_isSound_eq (w : sW S) (h : mR S D b z) {c : Nat} {l : Bool} (hk : k < nS S) (hc : c < sN S) : mo_isSound (nI k) (nI c) (bI l) z = some (bI (aSnd S k c l), z) := by
  have := h.b1; have := w.ks; have := w.n; have := w.d c; have := w.dr hk; have := w.ld hk
  unfold mo_isSound mo_isSound_b42
  cases l with
  | false =>
    simp (disch := omega) only [h.bk, h.dp c hc, h.dr k hk, n_lit, n_neg1, n_add, n_mul, n_sub, n_addneg, n_addm1, n_le, n_lt, n_eq, n_cl, n_in, n_eqm, n_meq, n_mlt, n_mle, n_ltm, n_lem, bI_t, bI_f, bI_0, bI_1, bI_01, b_01, n_01, n_11, oI_none, oI_some, nar_b, nar_0, nar_1, g_call_some, if_true, if_false, eq_self, ↓reduceIte, Nat.reduceEqDiff, Nat.reduceAdd, Nat.reduceMul, Nat.reduceSub, Nat.reduceLeDiff, q_gI, q_gJ, q_pI, q_pJ, q_lI, q_lL, q_sI, q_sL, q_sZ, q_pZ, mn0, mn13, mn14, mn15, mn16, mn17, mn18, mn19, mn20, mn21, mn22, mn23, mn24, mn25, mn26, mn27, mn28, mn29, mn30, mn31, mn32, mn33, mn34, mn35, mn36, mn37, mn38, mn39, mn42, mn43, mn44, mn45, mn46, mn49, mn52, mn53, mn54, mn55, mn56, mn57, mn58, mn61, mn62, mn63, mn67, mn68, mn69, mn70, mn71, mn72, mn74, mn75, mn76, mn77, mn78, mn79, mn80, mn81]
    unfold aSnd
    by_cases q : sD S c < aDr S k + 0
    · rw [if_pos q, decide_eq_false (by simp; omega)]; rfl
    · rw [if_neg q, decide_eq_true (by simp; omega)]; rfl
  | true =>
    simp (disch := omega) only [h.bk, h.dp c hc, h.dr k hk, h.ld k hk, n_lit, n_neg1, n_add, n_mul, n_sub, n_addneg, n_addm1, n_le, n_lt, n_eq, n_cl, n_in, n_eqm, n_meq, n_mlt, n_mle, n_ltm, n_lem, bI_t, bI_f, bI_0, bI_1, bI_01, b_01, n_01, n_11, oI_none, oI_some, nar_b, nar_0, nar_1, g_call_some, if_true, if_false, eq_self, ↓reduceIte, Nat.reduceEqDiff, Nat.reduceAdd, Nat.reduceMul, Nat.reduceSub, Nat.reduceLeDiff, q_gI, q_gJ, q_pI, q_pJ, q_lI, q_lL, q_sI, q_sL, q_sZ, q_pZ, mn0, mn13, mn14, mn15, mn16, mn17, mn18, mn19, mn20, mn21, mn22, mn23, mn24, mn25, mn26, mn27, mn28, mn29, mn30, mn31, mn32, mn33, mn34, mn35, mn36, mn37, mn38, mn39, mn42, mn43, mn44, mn45, mn46, mn49, mn52, mn53, mn54, mn55, mn56, mn57, mn58, mn61, mn62, mn63, mn67, mn68, mn69, mn70, mn71, mn72, mn74, mn75, mn76, mn77, mn78, mn79, mn80, mn81]
    unfold aSnd
    by_cases q : sD S c < aDr S k + aLd S k
    · rw [if_pos q, decide_eq_false (by simp; omega)]; rfl
    · rw [if_neg q, decide_eq_true (by simp; omega)]; rfl
theorem mo_between_eq {f t f' t' : Nat} (h1 : f < 1000) (h2 : t < 1000) (h3 : f' < 1000) (h4 : t' < 1000) : mo_between (nI f) (nI t) (nI f') (nI t') z = some (nI (fc_bt f t f' t'), z) := by
  unfold mo_between fc_bt
  by_cases q : f' ≤ t
  · by_cases w : f ≤ t'
    · simp (disch := omega) only [n_lit, n_neg1, n_add, n_mul, n_sub, n_addneg, n_addm1, n_le, n_lt, n_eq, n_cl, n_in, n_eqm, n_meq, n_mlt, n_mle, n_ltm, n_lem, bI_t, bI_f, bI_0, bI_1, bI_01, b_01, n_01, n_11, oI_none, oI_some, nar_b, nar_0, nar_1, g_call_some, if_true, if_false, eq_self, ↓reduceIte, Nat.reduceEqDiff, Nat.reduceAdd, Nat.reduceMul, Nat.reduceSub, Nat.reduceLeDiff]
      rw [if_pos q, if_pos w, if_neg (by omega), if_neg (by omega)]
    · simp (disch := omega) only [n_lit, n_neg1, n_add, n_mul, n_sub, n_addneg, n_addm1, n_le, n_lt, n_eq, n_cl, n_in, n_eqm, n_meq, n_mlt, n_mle, n_ltm, n_lem, bI_t, bI_f, bI_0, bI_1, bI_01, b_01, n_01, n_11, oI_none, oI_some, nar_b, nar_0, nar_1, g_call_some, if_true, if_false, eq_self, ↓reduceIte, Nat.reduceEqDiff, Nat.reduceAdd, Nat.reduceMul, Nat.reduceSub, Nat.reduceLeDiff]
      rw [if_pos q, if_neg w, if_neg (by omega), if_pos (by omega)]
  · simp (disch := omega) only [n_lit, n_neg1, n_add, n_mul, n_sub, n_addneg, n_addm1, n_le, n_lt, n_eq, n_cl, n_in, n_eqm, n_meq, n_mlt, n_mle, n_ltm, n_lem, bI_t, bI_f, bI_0, bI_1, bI_01, b_01, n_01, n_11, oI_none, oI_some, nar_b, nar_0, nar_1, g_call_some, if_true, if_false, eq_self, ↓reduceIte, Nat.reduceEqDiff, Nat.reduceAdd, Nat.reduceMul, Nat.reduceSub, Nat.reduceLeDiff]
    rw [if_neg q, if_pos (by omega)]
end M0
