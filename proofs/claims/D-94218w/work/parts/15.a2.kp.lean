/-! WHAT IS KEPT (plain): a row of facts from its end on, against the longest row of sayings -/
/-- a fact: whether it is said, whether it is sound, its hour and cell -/
abbrev kp_f : Type := Bool × Bool × (Nat × Nat)
def kp_n (le : Nat → Nat → Nat → Bool) (f : Option kp_f) (g : kp_f) : Bool := g.2.1 && (match f with
  | none => true
  | some f => fc_t le f.2.2 g.2.2)
/-- v is the better one, the first of two alike -/
def kp_ge (m : Option Nat) (v : Nat) : Bool := match m with
  | none => true
  | some w => decide (w ≤ v)
/-- how many sayings can be kept behind f, out of a row; none: none of the ways goes through what is written -/
def kp_s (le : Nat → Nat → Nat → Bool) : Option kp_f → List kp_f → Option Nat
  | _, [] => some 0
  | f, g :: r => if g.1 = true then (match (if kp_n le f g = true then kp_s le (some g) r else none) with
      | none => kp_s le f r
      | some v => if kp_ge (kp_s le f r) (v + 1) = true then some (v + 1) else kp_s le f r)
    else if kp_n le f g = true then kp_s le (some g) r else none
/-- which are kept -/
def kp_b (le : Nat → Nat → Nat → Bool) : Option kp_f → List kp_f → List Bool
  | _, [] => []
  | f, g :: r => if g.1 = true then (match (if kp_n le f g = true then kp_s le (some g) r else none) with
      | none => false :: kp_b le f r
      | some v => if kp_ge (kp_s le f r) (v + 1) = true then true :: kp_b le (some g) r else false :: kp_b le f r)
    else if kp_n le f g = true then true :: kp_b le (some g) r else false :: r.map (fun _ => false)
/-- sayings: whether good, hour and cell; the longest row behind b -/
def kp_c (le : Nat → Nat → Nat → Bool) (b : Option (Nat × Nat)) (p : Nat × Nat) : Bool := match b with
  | none => true
  | some q => fc_t le q p
def kp_m (le : Nat → Nat → Nat → Bool) : Option (Nat × Nat) → List (Bool × (Nat × Nat)) → Nat
  | _, [] => 0
  | b, s :: r => max (if s.1 = true ∧ kp_c le b s.2 = true then kp_m le (some s.2) r + 1 else 0) (kp_m le b r)
/-- the longest row that begins with s -/
def kp_l (le : Nat → Nat → Nat → Bool) (s : Bool × (Nat × Nat)) (r : List (Bool × (Nat × Nat))) : Nat := if s.1 = true then kp_m le (some s.2) r + 1 else 0
def kp_g (le : Nat → Nat → Nat → Bool) : Nat → Option (Nat × Nat) → List (Bool × (Nat × Nat)) → List Bool
  | _, _, [] => []
  | m, b, s :: r => if 0 < m ∧ kp_l le s r = m ∧ kp_c le b s.2 = true then true :: kp_g le (m - 1) (some s.2) r else false :: kp_g le m b r
def kp_S (gd : kp_f → Bool) (l : List kp_f) : List (Bool × (Nat × Nat)) := (l.filter (fun x => x.1)).map (fun x => (gd x, x.2.2))
def kp_so (l : List kp_f) : Prop := l.Pairwise (fun f g => f.2.2.1 ≤ g.2.2.1)
/-- the flags of the sayings alone -/
def kp_sd (l : List kp_f) (bs : List Bool) : List Bool := ((l.zip bs).filter (fun x => x.1.1)).map (fun x => x.2)
section KP
variable {le : Nat → Nat → Nat → Bool}
theorem kp_m.same : ∀ {l : List (Bool × (Nat × Nat))} {b b' : Option (Nat × Nat)}, (∀ s ∈ l, s.1 = true → kp_c le b s.2 = kp_c le b' s.2) → kp_m le b l = kp_m le b' l
  | [], _, _, _ => rfl
  | s :: r, b, b', h => by
    unfold kp_m
    rw [kp_m.same (b := b) (b' := b') (fun t ht => h t (by simp [ht]))]
    by_cases e : s.1 = true
    · rw [h s (by simp) e]
    · simp [e]
theorem kp_g.same : ∀ {l : List (Bool × (Nat × Nat))} {m : Nat} {b b' : Option (Nat × Nat)}, (∀ s ∈ l, s.1 = true → kp_c le b s.2 = kp_c le b' s.2) → kp_g le m b l = kp_g le m b' l
  | [], _, _, _, _ => rfl
  | s :: r, m, b, b', h => by
    unfold kp_g
    rw [kp_g.same (m := m) (b := b) (b' := b') (fun t ht => h t (by simp [ht]))]
    by_cases e : s.1 = true
    · rw [h s (by simp) e]
    · have : kp_l le s r = 0 := by simp [kp_l, e]
      by_cases q : 0 < m
      · have q1 : ¬ (0 < m ∧ kp_l le s r = m ∧ kp_c le b s.2 = true) := by rw [this]; omega
        have q2 : ¬ (0 < m ∧ kp_l le s r = m ∧ kp_c le b' s.2 = true) := by rw [this]; omega
        rw [if_neg q1, if_neg q2]
      · simp [q]
theorem kp_g.zero : ∀ {l : List (Bool × (Nat × Nat))} {b : Option (Nat × Nat)}, kp_g le 0 b l = l.map (fun _ => false)
  | [], _ => rfl
  | s :: r, b => by
    unfold kp_g
    rw [if_neg (by omega), kp_g.zero]
    rfl
/-- what goes on goes together with all that is written -/
theorem kp_s.wr (L : fc_L le) : ∀ {l : List kp_f} {x : kp_f}, (∀ y ∈ l, x.2.2.1 ≤ y.2.2.1) → kp_so l → kp_s le (some x) l ≠ none → ∀ w ∈ l, w.1 = false → fc_t le x.2.2 w.2.2 = true
  | [], _, _, _, _ => by simp
  | g :: r, x, hx, ho, hn => by
    have hor : kp_so r := (List.pairwise_cons.mp ho).2
    have hgr : ∀ y ∈ r, g.2.2.1 ≤ y.2.2.1 := (List.pairwise_cons.mp ho).1
    have hxr : ∀ y ∈ r, x.2.2.1 ≤ y.2.2.1 := fun y hy => hx y (by simp [hy])
    have hxg := hx g (by simp)
    intro w hw hw1
    unfold kp_s at hn
    by_cases e : g.1 = true
    · rw [if_pos e] at hn
      have hwr : w ∈ r := by
        rw [List.mem_cons] at hw
        rcases hw with rfl | hw
        · rw [e] at hw1; cases hw1
        · exact hw
      by_cases q : kp_n le (some x) g = true
      · rw [if_pos q] at hn
        have q2 : fc_t le x.2.2 g.2.2 = true := by unfold kp_n at q; rw [Bool.and_eq_true] at q; exact q.2
        cases hv : kp_s le (some g) r with
        | none =>
          rw [hv] at hn
          exact kp_s.wr L hxr hor hn w hwr hw1
        | some v => exact fc_tr L q2 (kp_s.wr L hgr hor (by rw [hv]; simp) w hwr hw1) hxg (hgr w hwr)
      · rw [if_neg q] at hn
        exact kp_s.wr L hxr hor hn w hwr hw1
    · rw [if_neg e] at hn
      by_cases q : kp_n le (some x) g = true
      · rw [if_pos q] at hn
        have q2 : fc_t le x.2.2 g.2.2 = true := by unfold kp_n at q; rw [Bool.and_eq_true] at q; exact q.2
        rw [List.mem_cons] at hw
        rcases hw with rfl | hw
        · exact q2
        · exact fc_tr L q2 (kp_s.wr L hgr hor hn w hw hw1) hxg (hgr w hw)
      · rw [if_neg q] at hn
        exact absurd rfl hn
/-- how things stand at a place of the row F -/
def kp_I (le : Nat → Nat → Nat → Bool) (F1 F2 : List kp_f) (f : Option kp_f) : Prop := match f with
  | none => ∀ w ∈ F1, w.1 = true
  | some g => (∀ w ∈ F1 ++ F2, w.1 = false → fc_t le w.2.2 g.2.2 = true) ∧ (∀ w ∈ F1, w.1 = false → w.2.2.1 ≤ g.2.2.1) ∧ ∀ x ∈ F2, g.2.2.1 ≤ x.2.2.1
theorem kp_main (L : fc_L le) {gd : kp_f → Bool} : ∀ {F2 F1 : List kp_f} {f : Option kp_f}, kp_so (F1 ++ F2) → (∀ x ∈ F1 ++ F2, gd x = true ↔ x.2.1 = true ∧ ∀ w ∈ F1 ++ F2, w.1 = false → fc_t le w.2.2 x.2.2 = true) → (∀ w ∈ F1 ++ F2, w.1 = false → gd w = true) → kp_I le F1 F2 f →
    kp_s le f F2 = some (kp_m le (f.map (fun x => x.2.2)) (kp_S gd F2)) ∧ ∀ b', (∀ s ∈ F2, s.1 = true → gd s = true → kp_c le b' s.2.2 = kp_c le (f.map (fun x => x.2.2)) s.2.2) → kp_sd F2 (kp_b le f F2) = kp_g le (kp_m le (f.map (fun x => x.2.2)) (kp_S gd F2)) b' (kp_S gd F2) ∧ (kp_b le f F2).length = F2.length ∧ ∀ (i : Nat) (x : kp_f), F2[i]? = some x → x.1 = false → (kp_b le f F2)[i]? = some true
  | [], F1, f, ho, hg, hw, hI => by
    refine ⟨rfl, fun b' hb => ⟨rfl, rfl, ?_⟩⟩
    intro i x hx
    simp at hx
  | g :: r, F1, f, ho, hg, hw, hI => by
    have ha : F1 ++ g :: r = (F1 ++ [g]) ++ r := by simp
    have ho2 : kp_so (g :: r) := (List.pairwise_append.mp ho).2.1
    have hgr : ∀ y ∈ r, g.2.2.1 ≤ y.2.2.1 := (List.pairwise_cons.mp ho2).1
    have hor : kp_so r := (List.pairwise_cons.mp ho2).2
    have h1g : ∀ y ∈ F1, y.2.2.1 ≤ g.2.2.1 := fun y hy => (List.pairwise_append.mp ho).2.2 y hy g (by simp)
    have hgm : g ∈ F1 ++ g :: r := by simp
    have ho' : kp_so ((F1 ++ [g]) ++ r) := by rw [← ha]; exact ho
    have hg' : ∀ x ∈ (F1 ++ [g]) ++ r, gd x = true ↔ x.2.1 = true ∧ ∀ w ∈ (F1 ++ [g]) ++ r, w.1 = false → fc_t le w.2.2 x.2.2 = true := by rw [← ha]; exact hg
    have hw' : ∀ w ∈ (F1 ++ [g]) ++ r, w.1 = false → gd w = true := by rw [← ha]; exact hw
    -- g itself as the fact ahead
    have hIg : gd g = true → kp_I le (F1 ++ [g]) r (some g) := by
      intro hgg
      refine ⟨?_, ?_, hgr⟩
      · rw [← ha]
        exact ((hg g hgm).1 hgg).2
      · intro w hwm hw1
        rw [List.mem_append] at hwm
        rcases hwm with q | q
        · exact h1g w q
        · simp at q
          subst q
          exact Nat.le_refl _
    have ihg : gd g = true → _ := fun hgg => kp_main L (F2 := r) (F1 := F1 ++ [g]) (f := some g) ho' hg' hw' (hIg hgg)
    by_cases e : g.1 = true
    · -- a saying
      have hS : kp_S gd (g :: r) = (gd g, g.2.2) :: kp_S gd r := by simp [kp_S, e]
      have hIf : kp_I le (F1 ++ [g]) r f := by
        cases f with
        | none =>
          intro w hwm
          rw [List.mem_append] at hwm
          rcases hwm with q | q
          · exact hI w q
          · simp at q
            subst q
            exact e
        | some x =>
          refine ⟨by rw [← ha]; exact hI.1, ?_, fun y hy => hI.2.2 y (by simp [hy])⟩
          intro w hwm hw1
          rw [List.mem_append] at hwm
          rcases hwm with q | q
          · exact hI.2.1 w q hw1
          · simp at q
            subst q
            rw [e] at hw1
            cases hw1
      have ihf := kp_main L (F2 := r) (F1 := F1 ++ [g]) (f := f) ho' hg' hw' hIf
      -- the way through g
      have hcand : (if kp_n le f g = true then kp_s le (some g) r else none) = if gd g = true ∧ kp_c le (f.map (fun x => x.2.2)) g.2.2 = true then some (kp_m le (some g.2.2) (kp_S gd r)) else none := by
        by_cases q : gd g = true ∧ kp_c le (f.map (fun x => x.2.2)) g.2.2 = true
        · rw [if_pos q]
          have hn : kp_n le f g = true := by
            unfold kp_n
            rw [Bool.and_eq_true]
            refine ⟨((hg g hgm).1 q.1).1, ?_⟩
            cases f with
            | none => rfl
            | some x => exact q.2
          rw [if_pos hn, (ihg q.1).1]
          rfl
        · rw [if_neg q]
          by_cases hn : kp_n le f g = true
          · rw [if_pos hn]
            unfold kp_n at hn
            rw [Bool.and_eq_true] at hn
            have hc : kp_c le (f.map (fun x => x.2.2)) g.2.2 = true := by
              cases f with
              | none => rfl
              | some x => exact hn.2
            have hng : ¬ gd g = true := fun w => q ⟨w, hc⟩
            cases hs : kp_s le (some g) r with
            | none => rfl
            | some v =>
              exfalso
              apply hng
              refine (hg g hgm).2 ⟨hn.1, ?_⟩
              have hafter := kp_s.wr L hgr hor (by rw [hs]; simp)
              intro w hwm hw1
              rw [List.mem_append, List.mem_cons] at hwm
              rcases hwm with q1 | q1 | q1
              · cases f with
                | none => exact absurd (hI w q1) (by rw [hw1]; simp)
                | some x => exact fc_tr L (hI.1 w (by simp [q1]) hw1) hc (hI.2.1 w q1 hw1) (hI.2.2 g (by simp))
              · subst q1
                rw [e] at hw1
                cases hw1
              · exact fc_sy L (hafter w q1 hw1)
          · rw [if_neg hn]
      have hm : kp_m le (f.map (fun x => x.2.2)) (kp_S gd (g :: r)) = max (if gd g = true ∧ kp_c le (f.map (fun x => x.2.2)) g.2.2 = true then kp_m le (some g.2.2) (kp_S gd r) + 1 else 0) (kp_m le (f.map (fun x => x.2.2)) (kp_S gd r)) := by
        rw [hS]
        rfl
      by_cases q : gd g = true ∧ kp_c le (f.map (fun x => x.2.2)) g.2.2 = true
      · rw [if_pos q] at hcand hm
        by_cases hge : kp_m le (f.map (fun x => x.2.2)) (kp_S gd r) ≤ kp_m le (some g.2.2) (kp_S gd r) + 1
        · have hm' : kp_m le (f.map (fun x => x.2.2)) (kp_S gd (g :: r)) = kp_m le (some g.2.2) (kp_S gd r) + 1 := by rw [hm]; omega
          have hge' : kp_ge (kp_s le f r) (kp_m le (some g.2.2) (kp_S gd r) + 1) = true := by rw [ihf.1]; exact decide_eq_true hge
          refine ⟨?_, ?_⟩
          · unfold kp_s
            rw [if_pos e, hcand]
            simp only []
            rw [if_pos hge', hm']
          · intro b' hb
            have hkb : kp_b le f (g :: r) = true :: kp_b le (some g) r := by
              conv => lhs; unfold kp_b
              rw [if_pos e, hcand]
              simp only []
              rw [if_pos hge']
            obtain ⟨j1, j2, j3⟩ := (ihg q.1).2 (some g.2.2) (fun s _ _ _ => rfl)
            rw [hkb, hm', hS]
            refine ⟨?_, by simp [j2], ?_⟩
            · have hkl : kp_l le (gd g, g.2.2) (kp_S gd r) = kp_m le (some g.2.2) (kp_S gd r) + 1 := by simp [kp_l, q.1]
              have hcb : kp_c le b' g.2.2 = true := by rw [hb g (by simp) e q.1]; exact q.2
              conv => rhs; unfold kp_g
              rw [if_pos ⟨by omega, hkl, hcb⟩]
              simp only [kp_sd, List.zip_cons_cons, List.filter_cons, e, if_true, List.map_cons]
              congr 1
            · intro i x hx hx1
              cases i with
              | zero => simp at hx; subst hx; rw [e] at hx1; cases hx1
              | succ i => exact j3 i x (by simpa using hx) hx1
        · have hm' : kp_m le (f.map (fun x => x.2.2)) (kp_S gd (g :: r)) = kp_m le (f.map (fun x => x.2.2)) (kp_S gd r) := by rw [hm]; omega
          have hge' : ¬ kp_ge (kp_s le f r) (kp_m le (some g.2.2) (kp_S gd r) + 1) = true := by rw [ihf.1]; simpa [kp_ge] using Nat.lt_of_not_le hge
          refine ⟨?_, ?_⟩
          · unfold kp_s
            rw [if_pos e, hcand]
            simp only []
            rw [if_neg hge', hm']
            exact ihf.1
          · intro b' hb
            have hkb : kp_b le f (g :: r) = false :: kp_b le f r := by
              conv => lhs; unfold kp_b
              rw [if_pos e, hcand]
              simp only []
              rw [if_neg hge']
            obtain ⟨j1, j2, j3⟩ := ihf.2 b' (fun s hs => hb s (by simp [hs]))
            rw [hkb, hm', hS]
            refine ⟨?_, by simp [j2], ?_⟩
            · have hkl : kp_l le (gd g, g.2.2) (kp_S gd r) = kp_m le (some g.2.2) (kp_S gd r) + 1 := by simp [kp_l, q.1]
              conv => rhs; unfold kp_g
              rw [if_neg (by rw [hkl]; omega)]
              simp only [kp_sd, List.zip_cons_cons, List.filter_cons, e, if_true, List.map_cons]
              congr 1
            · intro i x hx hx1
              cases i with
              | zero => simp at hx; subst hx; rw [e] at hx1; cases hx1
              | succ i => exact j3 i x (by simpa using hx) hx1
      · rw [if_neg q] at hcand hm
        have hm' : kp_m le (f.map (fun x => x.2.2)) (kp_S gd (g :: r)) = kp_m le (f.map (fun x => x.2.2)) (kp_S gd r) := by rw [hm]; omega
        refine ⟨?_, ?_⟩
        · unfold kp_s
          rw [if_pos e, hcand]
          simp only []
          rw [hm']
          exact ihf.1
        · intro b' hb
          have hkb : kp_b le f (g :: r) = false :: kp_b le f r := by
            conv => lhs; unfold kp_b
            rw [if_pos e, hcand]
          obtain ⟨j1, j2, j3⟩ := ihf.2 b' (fun s hs => hb s (by simp [hs]))
          rw [hkb, hm', hS]
          refine ⟨?_, by simp [j2], ?_⟩
          · have hno : ¬ (0 < kp_m le (f.map (fun x => x.2.2)) (kp_S gd r) ∧ kp_l le (gd g, g.2.2) (kp_S gd r) = kp_m le (f.map (fun x => x.2.2)) (kp_S gd r) ∧ kp_c le b' g.2.2 = true) := by
              rintro ⟨w1, w2, w3⟩
              by_cases hgg : gd g = true
              · exact q ⟨hgg, by rw [← hb g (by simp) e hgg]; exact w3⟩
              · have : kp_l le (gd g, g.2.2) (kp_S gd r) = 0 := by simp [kp_l, hgg]
                omega
            conv => rhs; unfold kp_g
            rw [if_neg hno]
            simp only [kp_sd, List.zip_cons_cons, List.filter_cons, e, if_true, List.map_cons]
            congr 1
          · intro i x hx hx1
            cases i with
            | zero => simp at hx; subst hx; rw [e] at hx1; cases hx1
            | succ i => exact j3 i x (by simpa using hx) hx1
    · -- what is written
      have e' : g.1 = false := by simpa using e
      have hgg := hw g hgm e'
      have hS : kp_S gd (g :: r) = kp_S gd r := by simp [kp_S, e']
      obtain ⟨k1, k2⟩ := ihg hgg
      have hn : kp_n le f g = true := by
        unfold kp_n
        rw [Bool.and_eq_true]
        refine ⟨((hg g hgm).1 hgg).1, ?_⟩
        cases f with
        | none => rfl
        | some x => exact fc_sy L (hI.1 g hgm e')
      have hcs : ∀ s ∈ r, s.1 = true → gd s = true → kp_c le (f.map (fun x => x.2.2)) s.2.2 = true ∧ kp_c le (some g.2.2) s.2.2 = true := by
        intro s hs hs1 hsg
        have hsm : s ∈ F1 ++ g :: r := by simp [hs]
        have hgs : fc_t le g.2.2 s.2.2 = true := ((hg s hsm).1 hsg).2 g hgm e'
        refine ⟨?_, hgs⟩
        cases f with
        | none => rfl
        | some x => exact fc_tr L (fc_sy L (hI.1 g hgm e')) hgs (hI.2.2 g (by simp)) (hgr s hs)
      have hmm : kp_m le (f.map (fun x => x.2.2)) (kp_S gd r) = kp_m le (some g.2.2) (kp_S gd r) := by
        apply kp_m.same
        intro s hs hs1
        simp only [kp_S, List.mem_map, List.mem_filter] at hs
        obtain ⟨y, ⟨hy, hy1⟩, rfl⟩ := hs
        obtain ⟨c1, c2⟩ := hcs y hy hy1 hs1
        simp only
        rw [c1, c2]
      rw [hS, hmm]
      refine ⟨?_, ?_⟩
      · unfold kp_s
        rw [if_neg e, if_pos hn]
        exact k1
      · intro b' hb
        have hkb : kp_b le f (g :: r) = true :: kp_b le (some g) r := by
          conv => lhs; unfold kp_b
          rw [if_neg e, if_pos hn]
        obtain ⟨j1, j2, j3⟩ := k2 b' (by
          intro s hs hs1 hsg
          obtain ⟨c1, c2⟩ := hcs s hs hs1 hsg
          rw [hb s (by simp [hs]) hs1 hsg, c1]
          exact c2.symm)
        rw [hkb]
        refine ⟨?_, by simp [j2], ?_⟩
        · have : kp_sd (g :: r) (true :: kp_b le (some g) r) = kp_sd r (kp_b le (some g) r) := by simp [kp_sd, e']
          rw [this]
          exact j1
        · intro i x hx hx1
          cases i with
          | zero => rfl
          | succ i => exact j3 i x (by simpa using hx) hx1
end KP
