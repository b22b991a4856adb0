/-! the search's row is short (plain) -/
def bQ (N : Nat) (s : bf_S) : Prop := s.2.Nodup ∧ (∀ c : Nat, c ∈ s.2 ↔ ∃ d, s.1 c = some d) ∧ (∀ x ∈ s.2, x < N) ∧ ∀ i x e : Nat, s.2[i]? = some x → s.1 x = some e → e ≤ i
section BQ
variable {N x c d e : Nat} {s : bf_S} {ok : Nat → Bool}
theorem bQ.len (h : bQ N s) : s.2.length ≤ N := bf_len h.1 h.2.2.1
theorem bQ.lt (h : bQ N s) (q : s.1 c = some e) : e < N := by
  have hm : c ∈ s.2 := (h.2.1 c).mpr ⟨e, q⟩
  obtain ⟨i, hi, e1⟩ := List.getElem_of_mem hm
  have := h.2.2.2 i c e (by rw [List.getElem?_eq_getElem hi, e1]) q
  have := h.len
  omega
theorem bQ.room (h : bQ N s) (hx : x < N) (q : s.1 x = none) : s.2.length < N := by
  have hn : x ∉ s.2 := by
    intro w
    obtain ⟨d, hd⟩ := (h.2.1 x).mp w
    rw [q] at hd
    cases hd
  have : (x :: s.2).length ≤ N := bf_len (s := (s.1, x :: s.2)) (List.nodup_cons.mpr ⟨hn, h.1⟩) (by
    intro y hy
    rcases List.mem_cons.mp hy with rfl | hy
    · exact hx
    · exact h.2.2.1 y hy)
  simp at this
  omega
theorem bf_v_keep (h : s.1 c = some e) : (bf_v ok d s x).1 c = some e := by
  unfold bf_v
  split
  · next q =>
    show (if c = x then some d else s.1 c) = some e
    rw [if_neg (fun w => by rw [w, q.2] at h; cases h)]
    exact h
  · exact h
theorem bf_v_keeps : ∀ {l : List Nat} {s : bf_S}, s.1 c = some e → (l.foldl (bf_v ok d) s).1 c = some e
  | [], _, h => h
  | _ :: l, _, h => bf_v_keeps (l := l) (bf_v_keep h)
theorem bQ.v (h : bQ N s) (hx : x < N) (hd : d ≤ s.2.length) : bQ N (bf_v ok d s x) := by
  unfold bf_v
  split
  · next q =>
    have hn : x ∉ s.2 := by
      intro w
      obtain ⟨d, hd⟩ := (h.2.1 x).mp w
      rw [q.2] at hd
      cases hd
    refine ⟨?_, ?_, ?_, ?_⟩
    · show (s.2 ++ [x]).Nodup
      rw [List.nodup_append]
      refine ⟨h.1, by simp, ?_⟩
      intro a ha b hb
      simp at hb
      subst hb
      intro w
      exact hn (w ▸ ha)
    · intro c
      show c ∈ s.2 ++ [x] ↔ ∃ e, (if c = x then some d else s.1 c) = some e
      rw [List.mem_append, List.mem_singleton]
      by_cases w : c = x
      · rw [if_pos w]
        exact ⟨fun _ => ⟨d, rfl⟩, fun _ => Or.inr w⟩
      · rw [if_neg w, ← h.2.1 c]
        exact ⟨fun v => v.resolve_right w, Or.inl⟩
    · intro y hy
      rcases List.mem_append.mp hy with hy | hy
      · exact h.2.2.1 y hy
      · simp at hy
        subst hy
        exact hx
    · intro i y e hy he
      have hy : (s.2 ++ [x])[i]? = some y := hy
      have he : (if y = x then some d else s.1 y) = some e := he
      by_cases hi : i < s.2.length
      · rw [List.getElem?_append_left hi] at hy
        have hm : y ∈ s.2 := List.mem_of_getElem? hy
        rw [if_neg (show ¬ y = x from fun w => hn (by rw [← w]; exact hm))] at he
        exact h.2.2.2 i y e hy he
      · rw [List.getElem?_append_right (by omega)] at hy
        have : i - s.2.length = 0 := by
          by_cases w : i - s.2.length = 0
          · exact w
          · rw [List.getElem?_eq_none (by simp; omega)] at hy
            cases hy
        rw [this] at hy
        simp at hy
        rw [if_pos hy.symm] at he
        cases he
        omega
  · exact h
theorem bf_v_len : s.2.length ≤ (bf_v ok d s x).2.length := by
  unfold bf_v
  split
  · show s.2.length ≤ (s.2 ++ [x]).length
    simp
  · exact Nat.le_refl _
theorem bf_vs_len : ∀ {l : List Nat} {s : bf_S}, s.2.length ≤ (l.foldl (bf_v ok d) s).2.length
  | [], _ => Nat.le_refl _
  | _ :: l, _ => Nat.le_trans bf_v_len (bf_vs_len (l := l))
theorem bQ.vs : ∀ {l : List Nat} {s : bf_S}, bQ N s → (∀ x ∈ l, x < N) → d ≤ s.2.length → bQ N (l.foldl (bf_v ok d) s)
  | [], _, h, _, _ => h
  | x :: l, _, h, hl, hd => bQ.vs (l := l) (h.v (hl x (by simp)) hd) (fun y hy => hl y (by simp [hy])) (Nat.le_trans hd bf_v_len)
theorem bQ.nil : bQ N (fun _ => none, []) := ⟨List.nodup_nil, fun c => by simp, by simp, by simp⟩
theorem bf_v_get {i y : Nat} (h : s.2[i]? = some y) : (bf_v ok d s x).2[i]? = some y := by
  unfold bf_v
  split
  · show (s.2 ++ [x])[i]? = some y
    rw [List.getElem?_append_left (List.getElem?_eq_some_iff.mp h).1]
    exact h
  · exact h
theorem bf_vs_get {i y : Nat} : ∀ {l : List Nat} {s : bf_S}, s.2[i]? = some y → (l.foldl (bf_v ok d) s).2[i]? = some y
  | [], _, h => h
  | _ :: l, _, h => bf_vs_get (l := l) (bf_v_get h)
end BQ
theorem bf_run {nb : Nat → List Nat} {ok : Nat → Bool} {a N : Nat} (hnb : ∀ c x, x ∈ nb c → x < N) : ∀ (m k : Nat) (s : bf_S), bf_I nb ok a k s → s.1 a = some 0 → bQ N s → k ≤ s.2.length → N - k ≤ m → ∃ k s, bf_I nb ok a k s ∧ s.1 a = some 0 ∧ bQ N s ∧ s.2.length ≤ k := by
  intro m
  induction m with
  | zero =>
    intro k s h h0 hq hk hm
    exact ⟨k, s, h, h0, hq, by have := hq.len; omega⟩
  | succ m ih =>
    intro k s h h0 hq hk hm
    by_cases q : s.2.length ≤ k
    · exact ⟨k, s, h, h0, hq, q⟩
    · obtain ⟨c, hc⟩ : ∃ c, s.2[k]? = some c := ⟨s.2[k], List.getElem?_eq_getElem (by omega)⟩
      have hcm : c ∈ s.2 := List.mem_of_getElem? hc
      obtain ⟨e, he⟩ := (hq.2.1 c).mp hcm
      have hd : bf_d s c + 1 ≤ s.2.length := by
        have := hq.2.2.2 k c e hc he
        have e1 : bf_d s c = e := by unfold bf_d; rw [he]; rfl
        omega
      have hlen := bf_vs_len (ok := ok) (d := bf_d s c + 1) (l := nb c) (s := s)
      exact ih (k + 1) _ (bf_step h hc) (bf_v_keeps h0) (hq.vs (fun x hx => hnb c x hx) hd) (by omega) (by omega)
theorem bf_ds_lt {nb : Nat → List Nat} {ok : Nat → Bool} {a b n N : Nat} (hnb : ∀ c x, x ∈ nb c → x < N) (hok : ∀ x, ok x = true → x < N) (h : bf_ds nb ok a b = some n) : n < N := by
  cases q : ok a with
  | false => rw [bf_ds_of (bf_none q)] at h; cases h
  | true =>
    have hb : bQ N ((fun y => if y = a then some 0 else none, [a]) : bf_S) := by
      have := (bQ.nil (N := N)).v (ok := ok) (x := a) (d := 0) (hok a q) (Nat.zero_le _)
      have e : bf_v ok 0 ((fun _ => none, []) : bf_S) a = (fun y => if y = a then some 0 else none, [a]) := by
        unfold bf_v
        rw [if_pos ⟨q, rfl⟩]; rfl
      rwa [e] at this
    obtain ⟨k, s, h1, h2, h3, h4⟩ := bf_run (ok := ok) (a := a) hnb N 0 _ (bf_begin q) (by simp) hb (by simp) (by omega)
    rw [bf_ds_of (bf_end h1 h4 h2)] at h
    exact h3.lt h
theorem aNb_to {C R x y : Nat} (h : y ∈ aNb C R x) : y < C * R := aNb_lt (aNb_sy h)
theorem aDs_lt {S : aSea} {d a c n : Nat} (h : aDs S d a c = some n) : n < sN S := bf_ds_lt (fun _ _ q => aNb_to q) (fun x q => (of_decide_eq_true q).1) h
