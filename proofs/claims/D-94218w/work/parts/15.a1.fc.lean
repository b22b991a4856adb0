/-! FACTS (plain): what goes together; rows by hours: neighbours suffice -/
/-- le a b t: from cell a to cell b it takes at most t hours -/
def fc_L (le : Nat → Nat → Nat → Bool) : Prop := (∀ a b t, le a b t = true → le b a t = true) ∧ (∀ a b c s t, le a b s = true → le b c t = true → le a c (s + t) = true) ∧ (∀ a b, le a b 0 = true → a = b) ∧ (∀ a b s t, s ≤ t → le a b s = true → le a b t = true) ∧ (∀ a b t, le a b t = true → le a a 0 = true)
/-- hours between -/
def fc_by (g h : Nat) : Nat := (g - h) + (h - g)
/-- a fact: its hour, its cell; two of them go together -/
def fc_t (le : Nat → Nat → Nat → Bool) (f g : Nat × Nat) : Bool := le f.2 g.2 (fc_by f.1 g.1)
section FC
variable {le : Nat → Nat → Nat → Bool}
theorem fc_sy (L : fc_L le) {f g : Nat × Nat} (h : fc_t le f g = true) : fc_t le g f = true := by
  unfold fc_t at h ⊢
  have := L.1 _ _ _ h
  have e : fc_by f.1 g.1 = fc_by g.1 f.1 := by unfold fc_by; omega
  rwa [e] at this
theorem fc_tr (L : fc_L le) {f g k : Nat × Nat} (h : fc_t le f g = true) (h' : fc_t le g k = true) (o : f.1 ≤ g.1) (o' : g.1 ≤ k.1) : fc_t le f k = true := by
  unfold fc_t at h h' ⊢
  have := L.2.1 _ _ _ _ _ h h'
  have e : fc_by f.1 g.1 + fc_by g.1 k.1 = fc_by f.1 k.1 := by unfold fc_by; omega
  rwa [e] at this
theorem fc_rf (L : fc_L le) {f : Nat × Nat} {c : Nat} {t : Nat} (h : le f.2 c t = true) : fc_t le f f = true := by
  unfold fc_t
  have := L.2.2.2.2 _ _ _ h
  have e : fc_by f.1 f.1 = 0 := by unfold fc_by; omega
  rwa [e]
/-- each goes together with the one behind it -/
def fc_ch (le : Nat → Nat → Nat → Bool) : List (Nat × Nat) → Bool
  | [] => true
  | [_] => true
  | f :: g :: r => fc_t le f g && fc_ch le (g :: r)
def fc_so (l : List (Nat × Nat)) : Prop := l.Pairwise (fun f g => f.1 ≤ g.1)
theorem fc_ch.all (L : fc_L le) : ∀ {l : List (Nat × Nat)}, fc_so l → fc_ch le l = true → l.Pairwise (fun f g => fc_t le f g = true)
  | [], _, _ => List.Pairwise.nil
  | [_], _, _ => by simp
  | f :: g :: r, o, h => by
    unfold fc_ch at h
    rw [Bool.and_eq_true] at h
    unfold fc_so at o
    rw [List.pairwise_cons] at o
    have ih := fc_ch.all L (l := g :: r) o.2 h.2
    rw [List.pairwise_cons]
    refine ⟨?_, ih⟩
    intro k hk
    rw [List.mem_cons] at hk
    rcases hk with rfl | hk
    · exact h.1
    · rw [List.pairwise_cons] at ih
      have o2 := (List.pairwise_cons.mp o.2).1 k hk
      exact fc_tr L h.1 (ih.1 k hk) (o.1 g (by simp)) o2
theorem fc_ch.of : ∀ {l : List (Nat × Nat)}, l.Pairwise (fun f g => fc_t le f g = true) → fc_ch le l = true
  | [], _ => rfl
  | [_], _ => rfl
  | f :: g :: r, h => by
    rw [List.pairwise_cons] at h
    unfold fc_ch
    rw [h.1 g (by simp), fc_ch.of h.2]
    rfl
/-- all go together -/
def fc_all (le : Nat → Nat → Nat → Bool) (F : Nat × Nat → Prop) : Prop := ∀ f g, F f → F g → fc_t le f g = true
theorem fc_ch.iff (L : fc_L le) {l : List (Nat × Nat)} (o : fc_so l) (hw : ∀ f ∈ l, fc_t le f f = true) : fc_ch le l = true ↔ fc_all le (fun f => f ∈ l) := by
  constructor
  · intro h
    have hp := fc_ch.all L o h
    intro f g hf hg
    obtain ⟨i, hi, ei⟩ := List.getElem_of_mem hf
    obtain ⟨j, hj, ej⟩ := List.getElem_of_mem hg
    rcases Nat.lt_trichotomy i j with q | q | q
    · have := List.pairwise_iff_getElem.mp hp i j hi hj q
      rwa [ei, ej] at this
    · subst q
      rw [ei] at ej
      subst ej
      exact hw f hf
    · have := List.pairwise_iff_getElem.mp hp j i hj hi q
      rw [ei, ej] at this
      exact fc_sy L this
  · intro h
    refine fc_ch.of ?_
    rw [List.pairwise_iff_getElem]
    intro i j hi hj _
    exact h _ _ (List.getElem_mem hi) (List.getElem_mem hj)
/-! intervals: (cell, from, to) -/
def fc_bt (f t f' t' : Nat) : Nat := if t < f' then f' - t else if t' < f then f - t' else 0
/-- the facts of an interval -/
def fc_iv (q : Nat × Nat × Nat) (p : Nat × Nat) : Prop := p.2 = q.1 ∧ q.2.1 ≤ p.1 ∧ p.1 ≤ q.2.2
theorem fc_iv.iff (L : fc_L le) {I : Nat × Nat × Nat → Prop} (hI : ∀ q, I q → q.2.1 ≤ q.2.2) : (∀ q r, I q → I r → le q.1 r.1 (fc_bt q.2.1 q.2.2 r.2.1 r.2.2) = true) ↔ fc_all le (fun p => ∃ q, I q ∧ fc_iv q p) := by
  constructor
  · rintro h p p' ⟨q, hq, e1, e2, e3⟩ ⟨r, hr, e4, e5, e6⟩
    unfold fc_t
    rw [e1, e4]
    refine L.2.2.2.1 _ _ _ _ ?_ (h q r hq hr)
    unfold fc_bt fc_by
    split
    · omega
    · split <;> omega
  · intro h q r hq hr
    have hq' := hI q hq
    have hr' := hI r hr
    by_cases c1 : q.2.2 < r.2.1
    · have := h (q.2.2, q.1) (r.2.1, r.1) ⟨q, hq, rfl, hq', Nat.le_refl _⟩ ⟨r, hr, rfl, Nat.le_refl _, hr'⟩
      unfold fc_t fc_by at this
      unfold fc_bt
      rw [if_pos c1]
      have e : q.2.2 - r.2.1 + (r.2.1 - q.2.2) = r.2.1 - q.2.2 := by omega
      simp only at this
      rwa [e] at this
    · by_cases c2 : r.2.2 < q.2.1
      · have := h (q.2.1, q.1) (r.2.2, r.1) ⟨q, hq, rfl, Nat.le_refl _, hq'⟩ ⟨r, hr, rfl, hr', Nat.le_refl _⟩
        unfold fc_t fc_by at this
        unfold fc_bt
        rw [if_neg c1, if_pos c2]
        have e : q.2.1 - r.2.2 + (r.2.2 - q.2.1) = q.2.1 - r.2.2 := by omega
        simp only at this
        rwa [e] at this
      · have := h (max q.2.1 r.2.1, q.1) (max q.2.1 r.2.1, r.1) ⟨q, hq, rfl, by simp only; omega, by simp only; omega⟩ ⟨r, hr, rfl, by simp only; omega, by simp only; omega⟩
        unfold fc_t fc_by at this
        unfold fc_bt
        rw [if_neg c1, if_neg c2]
        simpa using this
/-- a fact beside a row by hours: its neighbours suffice -/
theorem fc_may (L : fc_L le) {l : List (Nat × Nat)} {k : Nat} {x : Nat × Nat} (hk : k ≤ l.length) (o : fc_so l) (hp : l.Pairwise (fun f g => fc_t le f g = true)) (h1 : ∀ i, i < k → ∀ f, l[i]? = some f → f.1 ≤ x.1) (h2 : ∀ i, k ≤ i → ∀ f, l[i]? = some f → x.1 ≤ f.1) (hb : ∀ f, 0 < k → l[k - 1]? = some f → fc_t le f x = true) (hn : ∀ f, l[k]? = some f → fc_t le x f = true) : ∀ f ∈ l, fc_t le f x = true := by
  intro f hf
  obtain ⟨i, hi, ei⟩ := List.getElem_of_mem hf
  have hi' : l[i]? = some f := List.getElem?_eq_some_iff.mpr ⟨hi, ei⟩
  rcases Nat.lt_or_ge i k with q | q
  · have hkl : k - 1 < l.length := by omega
    · have hk' : l[k - 1]? = some l[k - 1] := List.getElem?_eq_some_iff.mpr ⟨hkl, rfl⟩
      have hb' := hb _ (by omega) hk'
      by_cases e : i = k - 1
      · subst e
        rw [← ei]
        exact hb'
      · have hij : i < k - 1 := by omega
        have t1 := List.pairwise_iff_getElem.mp hp i (k - 1) hi hkl hij
        have o1 := List.pairwise_iff_getElem.mp o i (k - 1) hi hkl hij
        rw [ei] at t1 o1
        exact fc_tr L t1 hb' o1 (h1 _ (by omega) _ hk')
  · by_cases hkl : k < l.length
    · have hk' : l[k]? = some l[k] := List.getElem?_eq_some_iff.mpr ⟨hkl, rfl⟩
      have hn' := hn _ hk'
      by_cases e : i = k
      · subst e
        rw [← ei]
        exact fc_sy L hn'
      · have hij : k < i := by omega
        have t1 := List.pairwise_iff_getElem.mp hp k i hkl hi hij
        have o1 := List.pairwise_iff_getElem.mp o k i hkl hi hij
        rw [ei] at t1 o1
        exact fc_sy L (fc_tr L hn' t1 (h2 _ (Nat.le_refl _) _ hk') o1)
    · omega
end FC
