/-! WAYS (plain): a search by a row of cells, whatever the order of the ways out of a cell, tells how far each cell is -/
/-- a way of n steps from a to b over cells that are ok -/
def bf_w (nb : Nat → List Nat) (ok : Nat → Bool) (a : Nat) : Nat → Nat → Prop
  | 0, b => a = b ∧ ok a = true
  | n + 1, b => ∃ c, bf_w nb ok a n c ∧ b ∈ nb c ∧ ok b = true
/-- o tells how far it is from a to b -/
def bf_D (nb : Nat → List Nat) (ok : Nat → Bool) (a b : Nat) (o : Option Nat) : Prop := match o with
  | none => ∀ n, ¬ bf_w nb ok a n b
  | some d => bf_w nb ok a d b ∧ ∀ n, bf_w nb ok a n b → d ≤ n
abbrev bf_S : Type := (Nat → Option Nat) × List Nat
def bf_v (ok : Nat → Bool) (d : Nat) (s : bf_S) (x : Nat) : bf_S := if ok x = true ∧ s.1 x = none then (fun y => if y = x then some d else s.1 y, s.2 ++ [x]) else s
def bf_d (s : bf_S) (x : Nat) : Nat := (s.1 x).getD 0
/-- what holds all along -/
def bf_B (nb : Nat → List Nat) (ok : Nat → Bool) (a : Nat) (s : bf_S) : Prop :=
  (∀ c d, s.1 c = some d → bf_w nb ok a d c) ∧ (∀ c, c ∈ s.2 ↔ ∃ d, s.1 c = some d) ∧ s.2.Nodup ∧ s.2.Pairwise (fun x y => bf_d s x ≤ bf_d s y)
/-- the first k of the row are done -/
def bf_I (nb : Nat → List Nat) (ok : Nat → Bool) (a k : Nat) (s : bf_S) : Prop :=
  bf_B nb ok a s ∧ (∀ (i x : Nat), i < k → s.2[i]? = some x → ∀ y ∈ nb x, ok y = true → ∃ e, s.1 y = some e ∧ e ≤ bf_d s x + 1) ∧ (∀ c : Nat, s.2[k]? = some c → ∀ y ∈ s.2, bf_d s y ≤ bf_d s c + 1)
section BF
variable {nb nb' : Nat → List Nat} {ok : Nat → Bool} {a b c k n m d : Nat} {s : bf_S}
theorem bf_w.wet (h : bf_w nb ok a n b) : ok b = true := by
  cases n with
  | zero => exact h.1 ▸ h.2
  | succ n => obtain ⟨c, -, -, h⟩ := h; exact h
theorem bf_w.wet0 (h : bf_w nb ok a n b) : ok a = true := by
  induction n generalizing b with
  | zero => exact h.2
  | succ n ih => obtain ⟨c, h, -, -⟩ := h; exact ih h
theorem bf_w.app (h : bf_w nb ok a n b) (g : bf_w nb ok b m c) : bf_w nb ok a (n + m) c := by
  induction m generalizing c with
  | zero => exact g.1 ▸ h
  | succ m ih => obtain ⟨e, g1, g2, g3⟩ := g; exact ⟨e, ih g1, g2, g3⟩
theorem bf_w.rev (hs : ∀ c x, x ∈ nb c → c ∈ nb x) (h : bf_w nb ok a n b) : bf_w nb ok b n a := by
  induction n generalizing b with
  | zero => exact ⟨h.1.symm, h.1 ▸ h.2⟩
  | succ n ih =>
    obtain ⟨c, h1, h2, h3⟩ := h
    have hc : bf_w nb ok b 1 c := ⟨b, ⟨rfl, h3⟩, hs c b h2, h1.wet⟩
    have := hc.app (ih h1)
    rwa [Nat.add_comm] at this
theorem bf_w.to (hs : ∀ c x, x ∈ nb c → x ∈ nb' c) (h : bf_w nb ok a n b) : bf_w nb' ok a n b := by
  induction n generalizing b with
  | zero => exact h
  | succ n ih => obtain ⟨c, h1, h2, h3⟩ := h; exact ⟨c, ih h1, hs c b h2, h3⟩
theorem bf_D.uniq {o o' : Option Nat} (hs : ∀ c x, x ∈ nb c ↔ x ∈ nb' c) (h : bf_D nb ok a b o) (g : bf_D nb' ok a b o') : o = o' := by
  cases o with
  | none =>
    cases o' with
    | none => rfl
    | some d => exact absurd (g.1.to (fun c x q => (hs c x).2 q)) (h d)
  | some d =>
    cases o' with
    | none => exact absurd (h.1.to (fun c x q => (hs c x).1 q)) (g d)
    | some d' =>
      have h1 := h.2 _ (g.1.to (fun c x q => (hs c x).2 q))
      have h2 := g.2 _ (h.1.to (fun c x q => (hs c x).1 q))
      exact congrArg some (Nat.le_antisymm h1 h2)
theorem bf_one (hB : bf_B nb ok a s) (hc : s.1 c = some d) (hx : b ∈ nb c) (hm : ∀ y ∈ s.2, bf_d s y ≤ d + 1) :
    bf_B nb ok a (bf_v ok (d + 1) s b) ∧ (∀ y e, s.1 y = some e → (bf_v ok (d + 1) s b).1 y = some e) ∧ (∃ t, (bf_v ok (d + 1) s b).2 = s.2 ++ t) ∧ (∀ y ∈ (bf_v ok (d + 1) s b).2, bf_d (bf_v ok (d + 1) s b) y ≤ d + 1) ∧ (ok b = true → ∃ e, (bf_v ok (d + 1) s b).1 b = some e ∧ e ≤ d + 1) := by
  unfold bf_v
  by_cases q : ok b = true ∧ s.1 b = none
  · rw [if_pos q]
    obtain ⟨h1, h2, h3, h4⟩ := hB
    have hb : b ∉ s.2 := by
      intro hb
      obtain ⟨e, he⟩ := (h2 b).1 hb
      rw [q.2] at he
      cases he
    have hd : ∀ y ∈ s.2, bf_d (fun y => if y = b then some (d + 1) else s.1 y, s.2 ++ [b]) y = bf_d s y := by
      intro y hy
      have : y ≠ b := fun w => hb (w ▸ hy)
      simp [bf_d, this]
    have hdb : bf_d (fun y => if y = b then some (d + 1) else s.1 y, s.2 ++ [b]) b = d + 1 := by simp [bf_d]
    refine ⟨⟨?_, ?_, ?_, ?_⟩, ?_, ⟨[b], rfl⟩, ?_, ?_⟩
    · intro y e hy
      by_cases w : y = b
      · subst w
        simp only [if_true] at hy
        cases hy
        exact ⟨c, h1 c d hc, hx, q.1⟩
      · simp only [if_neg w] at hy
        exact h1 y e hy
    · intro y
      by_cases w : y = b
      · subst w
        simp
      · simp [w, h2 y]
    · rw [List.nodup_append]
      refine ⟨h3, by simp, ?_⟩
      intro x hx' y hy
      simp at hy
      subst hy
      exact fun w => hb (w ▸ hx')
    · rw [List.pairwise_append]
      refine ⟨?_, by simp, ?_⟩
      · refine List.Pairwise.imp_of_mem ?_ h4
        intro x y hx' hy hxy
        rw [hd x hx', hd y hy]
        exact hxy
      · intro x hx' y hy
        simp at hy
        subst hy
        rw [hd x hx', hdb]
        exact hm x hx'
    · intro y e hy
      have : y ≠ b := by
        intro w
        rw [w, q.2] at hy
        cases hy
      simp [this, hy]
    · intro y hy
      rw [List.mem_append] at hy
      rcases hy with hy | hy
      · rw [hd y hy]; exact hm y hy
      · simp at hy
        subst hy
        rw [hdb]
        exact Nat.le_refl _
    · intro _
      exact ⟨d + 1, by simp, Nat.le_refl _⟩
  · rw [if_neg q]
    refine ⟨hB, fun y e h => h, ⟨[], by simp⟩, hm, ?_⟩
    intro ho
    cases hb : s.1 b with
    | none => exact absurd ⟨ho, hb⟩ q
    | some e =>
      refine ⟨e, rfl, ?_⟩
      have := hm b ((hB.2.1 b).2 ⟨e, hb⟩)
      simpa [bf_d, hb] using this
theorem bf_fold : ∀ (l : List Nat) (s : bf_S), bf_B nb ok a s → s.1 c = some d → (∀ x ∈ l, x ∈ nb c) → (∀ y ∈ s.2, bf_d s y ≤ d + 1) →
    bf_B nb ok a (l.foldl (bf_v ok (d + 1)) s) ∧ (∀ y e, s.1 y = some e → (l.foldl (bf_v ok (d + 1)) s).1 y = some e) ∧ (∃ t, (l.foldl (bf_v ok (d + 1)) s).2 = s.2 ++ t) ∧ (∀ y ∈ (l.foldl (bf_v ok (d + 1)) s).2, bf_d (l.foldl (bf_v ok (d + 1)) s) y ≤ d + 1) ∧ ∀ x ∈ l, ok x = true → ∃ e, (l.foldl (bf_v ok (d + 1)) s).1 x = some e ∧ e ≤ d + 1 := by
  intro l
  induction l with
  | nil => intro s hB hc hl hm; exact ⟨hB, fun y e h => h, ⟨[], by simp⟩, hm, by simp⟩
  | cons x l ih =>
    intro s hB hc hl hm
    obtain ⟨g1, g2, ⟨t, g3⟩, g4, g5⟩ := bf_one hB hc (hl x (by simp)) hm
    obtain ⟨i1, i2, ⟨t', i3⟩, i4, i5⟩ := ih (bf_v ok (d + 1) s x) g1 (g2 _ _ hc) (fun y hy => hl y (by simp [hy])) g4
    refine ⟨i1, fun y e h => i2 y e (g2 y e h), ⟨t ++ t', ?_⟩, i4, ?_⟩
    · show ((l.foldl (bf_v ok (d + 1)) (bf_v ok (d + 1) s x)).2) = _
      rw [i3, g3, List.append_assoc]
    · intro y hy ho
      rw [List.mem_cons] at hy
      rcases hy with rfl | hy
      · obtain ⟨e, he, hle⟩ := g5 ho
        exact ⟨e, i2 _ _ he, hle⟩
      · exact i5 y hy ho
theorem bf_step (h : bf_I nb ok a k s) (hc : s.2[k]? = some c) : bf_I nb ok a (k + 1) ((nb c).foldl (bf_v ok (bf_d s c + 1)) s) := by
  obtain ⟨hB, hI, hm⟩ := h
  have hcm : c ∈ s.2 := List.mem_of_getElem? hc
  obtain ⟨d, hd⟩ := (hB.2.1 c).1 hcm
  have hdc : bf_d s c = d := by simp [bf_d, hd]
  rw [hdc]
  have hm' : ∀ y ∈ s.2, bf_d s y ≤ d + 1 := fun y hy => by have := hm c hc y hy; rwa [hdc] at this
  obtain ⟨i1, i2, ⟨t, i3⟩, i4, i5⟩ := bf_fold (nb c) s hB hd (fun x hx => hx) hm'
  have hold : ∀ (i x : Nat), s.2[i]? = some x → ((nb c).foldl (bf_v ok (d + 1)) s).2[i]? = some x := by
    intro i x hx
    rw [i3, List.getElem?_append_left ((List.getElem?_eq_some_iff.mp hx).1)]
    exact hx
  have hdd : ∀ x, x ∈ s.2 → bf_d ((nb c).foldl (bf_v ok (d + 1)) s) x = bf_d s x := by
    intro x hx
    obtain ⟨e, he⟩ := (hB.2.1 x).1 hx
    simp [bf_d, he, i2 x e he]
  have hkl : k < s.2.length := (List.getElem?_eq_some_iff.mp hc).1
  refine ⟨i1, ?_, ?_⟩
  · intro i x hi hx y hy ho
    by_cases e : i = k
    · subst e
      have hxc : x = c := by
        have := hold i c hc
        rw [this] at hx
        exact (Option.some.inj hx).symm
      subst hxc
      obtain ⟨e, he, hle⟩ := i5 y hy ho
      exact ⟨e, he, by rw [hdd x hcm, hdc]; exact hle⟩
    · have hx' : s.2[i]? = some x := by
        rw [i3, List.getElem?_append_left (by omega)] at hx
        exact hx
      obtain ⟨e, he, hle⟩ := hI i x (by omega) hx' y hy ho
      exact ⟨e, i2 _ _ he, by rw [hdd x (List.mem_of_getElem? hx')]; exact hle⟩
  · intro x hx y hy
    have h1 := i4 y hy
    have hp := List.pairwise_iff_getElem.mp i1.2.2.2 k (k + 1) (by have := (List.getElem?_eq_some_iff.mp (hold k c hc)).1; exact this) ((List.getElem?_eq_some_iff.mp hx).1) (Nat.lt_succ_self k)
    have e1 := (List.getElem?_eq_some_iff.mp (hold k c hc)).2
    have e2 := (List.getElem?_eq_some_iff.mp hx).2
    rw [e1, e2, hdd c hcm, hdc] at hp
    omega
theorem bf_end (h : bf_I nb ok a k s) (hk : s.2.length ≤ k) (h0 : s.1 a = some 0) : bf_D nb ok a b (s.1 b) := by
  obtain ⟨hB, hI, -⟩ := h
  have key : ∀ n b, bf_w nb ok a n b → ∃ e, s.1 b = some e ∧ e ≤ n := by
    intro n
    induction n with
    | zero => intro b hb; rw [← hb.1]; exact ⟨0, h0, Nat.le_refl _⟩
    | succ n ih =>
      intro b hb
      obtain ⟨c, h1, h2, h3⟩ := hb
      obtain ⟨e, he, hle⟩ := ih c h1
      obtain ⟨i, hi⟩ := List.getElem?_of_mem ((hB.2.1 c).2 ⟨e, he⟩)
      have hil : i < s.2.length := (List.getElem?_eq_some_iff.mp hi).1
      obtain ⟨e', he', hle'⟩ := hI i c (by omega) hi b h2 h3
      refine ⟨e', he', ?_⟩
      have : bf_d s c = e := by simp [bf_d, he]
      omega
  cases hb : s.1 b with
  | none =>
    intro n hn
    obtain ⟨e, he, -⟩ := key n b hn
    rw [hb] at he
    cases he
  | some d =>
    refine ⟨hB.1 b d hb, fun n hn => ?_⟩
    obtain ⟨e, he, hle⟩ := key n b hn
    rw [hb] at he
    cases he
    exact hle
theorem bf_begin (h : ok a = true) : bf_I nb ok a 0 (fun y => if y = a then some 0 else none, [a]) := by
  refine ⟨⟨?_, ?_, by simp, by simp⟩, ?_, ?_⟩
  · intro c d hc
    by_cases e : c = a
    · subst e
      simp only [if_true] at hc
      cases hc
      exact ⟨rfl, h⟩
    · simp only [if_neg e] at hc
      cases hc
  · intro c
    by_cases e : c = a <;> simp [e]
  · intro i x hi
    omega
  · intro c hc y hy
    simp at hy hc
    subst hy hc
    omega
theorem bf_none (h : ok a = false) : bf_D nb ok a b none := by
  intro n hn
  have := hn.wet0
  rw [h] at this
  cases this
/-- the row is never longer than the cells are many -/
theorem bf_len (h : s.2.Nodup) (hb : ∀ x ∈ s.2, x < n) : s.2.length ≤ n := by
  have := h.length_le_of_subset (l₂ := List.range n) (fun x hx => List.mem_range.2 (hb x hx))
  rwa [List.length_range] at this
end BF
