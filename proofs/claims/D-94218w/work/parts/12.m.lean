set_option maxRecDepth 100000
/-! THE REFERENCE's MEMORY: its int fields (and booleans), its long field, its arrays of ints (and booleans), its arrays of longs -/
abbrev mm_S : Type := (Nat → Int32) × Int64 × (Nat → Nat → Int32) × (Nat → Nat → Int64)
def mm_kinds : List Nat := [3, 0, 0, 0, 0, 0, 0, 2, 0, 0, 0, 0, 0, 3, 3, 3, 3, 3, 3, 3, 5, 3, 3, 3, 3, 3, 3, 4, 3, 3, 3, 3, 3, 3, 3, 3, 3, 3, 3, 3, 0, 0, 3, 3, 4, 3, 3, 0, 0, 3, 0, 1, 3, 5, 3, 3, 3, 3, 3, 0, 0, 3, 3, 3, 1, 0, 0, 3, 4, 4, 4, 3, 3, 0, 3, 3, 4, 4, 3, 5, 3, 3, 0]
def mm_lens : List Nat := [1800, 0, 0, 0, 0, 0, 0, 0, 0, 0, 0, 0, 0, 2, 2, 6, 60, 60, 60, 2, 16, 16, 16, 16, 16, 2, 768, 768, 2, 24, 24, 24, 24, 2, 80, 80, 80, 2, 3600, 3600, 0, 0, 20, 20, 20, 20, 20, 0, 0, 500, 0, 0, 5, 1850, 10, 256, 256, 256, 256, 0, 0, 120, 120, 120, 0, 0, 0, 48, 48, 48, 2304, 48, 15360, 0, 48, 48, 12288, 48, 40, 50, 12288, 520, 0]
def mm_k (k : Nat) : Nat := mm_kinds.getD k 0
def mm_n (k : Nat) : Nat := mm_lens.getD k 0
def mm_v (ad : Nat → Nat) (z : mm_S) (k : Nat) : Value := if mm_k k ≤ 1 then .int (z.1 k) else if mm_k k = 2 then .long z.2.1 else .ref (ad k)
def mm_fs (ad : Nat → Nat) (z : mm_S) : List Value := (List.range 83).map (mm_v ad z)
def mm_arr (z : mm_S) (k : Nat) : vp_A := if mm_k k = 5 then (mm_n k, .inr (.inl (z.2.2.2 k))) else (mm_n k, .inl (z.2.2.1 k))
abbrev mm_cl : List vw_C := [(RX6, TX6, 83)]
def mm_P (D : va_G) (dA : Nat → ClassId) (o : Nat) (ad : Nat → Nat) (z : mm_S) (H : Heap) : Prop := va_at D mm_cl (o, .inr (0, mm_fs ad z)) H ∧ ∀ k : Nat, k < 83 → 3 ≤ mm_k k → va_at D mm_cl (ad k, .inl (dA (mm_k k), mm_arr z k)) H
def mm_A (o : Nat) (ad : Nat → Nat) : Nat → Prop := fun q => q = o ∨ ∃ k : Nat, k < 83 ∧ 3 ≤ mm_k k ∧ q = ad k
def mm_D (o : Nat) (ad : Nat → Nat) : Prop := (∀ k : Nat, k < 83 → 3 ≤ mm_k k → ad k ≠ o) ∧ ∀ j k : Nat, j < 83 → 3 ≤ mm_k j → k < 83 → 3 ≤ mm_k k → ad j = ad k → j = k
abbrev mm_tys (dA : Nat → ClassId) : List (ClassId × FieldType) := [(dA 3, .int), (dA 4, .boolean), (dA 5, .long)]
abbrev mm_E : Type := va_G × (Nat → ClassId) × Nat × (Nat → Nat) × Nat
/-- the memory as a walk takes it: the heap's size sz stays -/
def mm_G (E : mm_E) : gG mm_S := (fun z H => mm_P E.1 E.2.1 E.2.2.1 E.2.2.2.1 z H ∧ H.size = E.2.2.2.2, fun _ => 0, fun _ => 0, fun _ _ => True, mm_A E.2.2.1 E.2.2.2.1)
/-- what a walk in the reference knows beside gC -/
def mm_C (X : gX) (E : mm_E) : Prop := match X with
  | (_, _, _, _, s, _, _, _, _, _) => va_K E.1 mm_cl (mm_tys E.2.1) s ∧ mm_D E.2.2.1 E.2.2.2.1
theorem mm_fs_get {ad : Nat → Nat} {z : mm_S} {k : Nat} (h : k < 83) : (mm_fs ad z)[k]? = some (mm_v ad z k) := by
  unfold mm_fs
  rw [List.getElem?_map, List.getElem?_range h]
  rfl
theorem mm_fs_len {ad : Nat → Nat} {z : mm_S} : (mm_fs ad z).length = 83 := by simp [mm_fs]
theorem mm_fs_set {ad : Nat → Nat} {z z' : mm_S} {k : Nat} {v : Value} (hk : k < 83) (hv : mm_v ad z' k = v) (ho : ∀ j : Nat, j ≠ k → mm_v ad z' j = mm_v ad z j) : (mm_fs ad z).set k v = mm_fs ad z' := by
  apply List.ext_getElem?
  intro j
  rw [List.getElem?_set]
  by_cases e : k = j
  · subst e
    rw [if_pos rfl, mm_fs_get hk, hv, if_pos (by rw [mm_fs_len]; exact hk)]
  · rw [if_neg e]
    unfold mm_fs
    rw [List.getElem?_map, List.getElem?_map]
    cases hj : (List.range 83)[j]? with
    | none => rfl
    | some i =>
      have hi : i = j := by
        have := List.getElem?_eq_some_iff.mp hj
        obtain ⟨h1, h2⟩ := this
        rw [← h2, List.getElem_range]
      subst hi
      simp only [Option.map_some]
      rw [ho i (fun q => e q.symm)]
/-! the pure steps -/
def mm_in (i : Int32) (n : Nat) : Bool := decide (¬ (i < 0 ∨ n ≤ i.toNatClampNeg))
theorem mm_in_iff {i : Int32} {n : Nat} : mm_in i n = true ↔ vp_in i n := by unfold mm_in vp_in; exact decide_eq_true_iff
section MD
variable {ρ α : Type}
def mm_gI (k : Nat) (z : mm_S) (K : Int32 → Option ρ) : Option ρ := K (z.1 k)
def mm_gJ (z : mm_S) (K : Int64 → Option ρ) : Option ρ := K z.2.1
def mm_pI (k : Nat) (v : Int32) (z : mm_S) (K : mm_S → Option ρ) : Option ρ := K (va_up z.1 k v, z.2)
def mm_pZ (k : Nat) (v : Int32) (z : mm_S) (K : mm_S → Option ρ) : Option ρ := if v = 0 ∨ v = 1 then K (va_up z.1 k v, z.2) else none
def mm_pJ (v : Int64) (z : mm_S) (K : mm_S → Option ρ) : Option ρ := K (z.1, v, z.2.2)
def mm_lI (k : Nat) (i : Int32) (z : mm_S) (K : Int32 → Option ρ) : Option ρ := if mm_in i (mm_n k) then K (z.2.2.1 k i.toNatClampNeg) else none
def mm_lL (k : Nat) (i : Int32) (z : mm_S) (K : Int64 → Option ρ) : Option ρ := if mm_in i (mm_n k) then K (z.2.2.2 k i.toNatClampNeg) else none
def mm_sI (k : Nat) (i v : Int32) (z : mm_S) (K : mm_S → Option ρ) : Option ρ := if mm_in i (mm_n k) then K (z.1, z.2.1, va_up z.2.2.1 k (upd (z.2.2.1 k) i.toNatClampNeg v), z.2.2.2) else none
def mm_sZ (k : Nat) (i v : Int32) (z : mm_S) (K : mm_S → Option ρ) : Option ρ := if mm_in i (mm_n k) then K (z.1, z.2.1, va_up z.2.2.1 k (upd (z.2.2.1 k) i.toNatClampNeg (vp_nar .boolean v)), z.2.2.2) else none
def mm_sL (k : Nat) (i : Int32) (v : Int64) (z : mm_S) (K : mm_S → Option ρ) : Option ρ := if mm_in i (mm_n k) then K (z.1, z.2.1, z.2.2.1, va_up z.2.2.2 k (vp_updL (z.2.2.2 k) i.toNatClampNeg v)) else none
def g_call {ζ : Type} (g : Option (α × ζ)) (K : α → ζ → Option ρ) : Option ρ := match g with
  | some q => K q.1 q.2
  | none => none
def g_dv (y : Int32) (K : Option ρ) : Option ρ := if y = 0 then none else K
def g_dvL (y : Int64) (K : Option ρ) : Option ρ := if y = 0 then none else K
def g_fu : Nat := 20000
end MD
section MR
variable {ρ : Type} {X : gX} {E : mm_E} {fin : Outcome × mm_S} {z : mm_S} {cc : ByteArray} {nL fr lo pc : Nat} {ret : Option FieldType} {lv : List (Nat × Value)} {st : List Value} {r : ρ}
theorem mm_kind_int {k : Nat} (h : mm_k k ≤ 1) {ad : Nat → Nat} {z : mm_S} : mm_v ad z k = .int (z.1 k) := by unfold mm_v; rw [if_pos h]
theorem mm_kind_arr {k : Nat} (h : 3 ≤ mm_k k) {ad : Nat → Nat} {z : mm_S} : mm_v ad z k = .ref (ad k) := by unfold mm_v; rw [if_neg (by omega), if_neg (by omega)]
theorem mm_kind_long {k : Nat} (h : mm_k k = 2) {ad : Nat → Nat} {z : mm_S} : mm_v ad z k = .long z.2.1 := by unfold mm_v; rw [if_neg (by omega), if_pos h]
theorem mm_k7 {k : Nat} (h : mm_k k = 2) : k = 7 := by
  by_cases hk : k < 83
  · have : ∀ j : Nat, j < 83 → mm_k j = 2 → j = 7 := by decide
    exact this k hk h
  · exfalso
    have h0 : mm_kinds[k]? = none := List.getElem?_eq_none (by show 83 ≤ k; omega)
    unfold mm_k at h
    rw [List.getD_eq_getElem?_getD, h0] at h
    cases h
theorem mm_arr_i {z : mm_S} {k : Nat} (h : mm_k k ≠ 5) : mm_arr z k = (mm_n k, .inl (z.2.2.1 k)) := by unfold mm_arr; rw [if_neg h]
theorem mm_arr_l {z : mm_S} {k : Nat} (h : mm_k k = 5) : mm_arr z k = (mm_n k, .inr (.inl (z.2.2.2 k))) := by unfold mm_arr; rw [if_pos h]
/-- one field read -/
theorem mm_getv (C : gC X cc nL ret RX6 fr lo) (M : mm_C X E) (k : Nat) {idx : Nat} (hk : k < 83) (hq : Cond.fieldLink RX6 idx RX6 (TX6 k).2.1 (TX6 k).2.2.1 ∈ lw_all) (hc : (TX6 k).1 = RX6) (hd : decode cc pc = .ok (.getfield idx, 3)) (kk : gW X (mm_G E) fin z (pc + 3) lv (mm_v E.2.2.2.1 z k :: st)) : gW X (mm_G E) fin z pc lv (.ref E.2.2.1 :: st) := by
  obtain ⟨p, l, e, R, s, m, args, below, meth, c⟩ := X
  obtain ⟨D, dA, o, ad, sz⟩ := E
  refine ⟨kk.1, fun hc1 hs H locs ls hI hS hl => ?_⟩
  have hP : va_P D mm_cl [(o, .inr (0, mm_fs ad z))] H := by
    intro j q hj
    match j, hj with
    | 0, hj => cases hj; exact hI.1.1
    | j + 1, hj => simp at hj
  exact va_get (D := D) (ci := 0) (C := RX6) (T := TX6) (N := 83) C.1 C.2.1 C.2.2.2.2.1 in_X6 C.2.2.2.1 M.1 hP 0 rfl rfl k hk (C.2.2.2.2.1 _ hq) (fun x h => by rw [hc] at h; exact h) (mm_fs_get hk) hd (kk.2 hc1 hs H locs ls hI hS hl)
theorem mm_getI (C : gC X cc nL ret RX6 fr lo) (M : mm_C X E) (k : Nat) {idx : Nat} {K : Int32 → Option ρ} (hk : k < 83) (hi : mm_k k ≤ 1) (hq : Cond.fieldLink RX6 idx RX6 (TX6 k).2.1 (TX6 k).2.2.1 ∈ lw_all) (hc : (TX6 k).1 = RX6) (hd : decode cc pc = .ok (.getfield idx, 3)) (h : mm_gI k z K = some r) (kk : ∀ x : Int32, K x = some r → gW X (mm_G E) fin z (pc + 3) lv (.int x :: st)) : gW X (mm_G E) fin z pc lv (.ref E.2.2.1 :: st) := by
  refine mm_getv C M k hk hq hc hd ?_
  rw [mm_kind_int hi]
  exact kk _ h
theorem mm_getJ (C : gC X cc nL ret RX6 fr lo) (M : mm_C X E) {idx : Nat} {K : Int64 → Option ρ} (hq : Cond.fieldLink RX6 idx RX6 (TX6 7).2.1 (TX6 7).2.2.1 ∈ lw_all) (hd : decode cc pc = .ok (.getfield idx, 3)) (h : mm_gJ z K = some r) (kk : ∀ x : Int64, K x = some r → gW X (mm_G E) fin z (pc + 3) lv (.long x :: st)) : gW X (mm_G E) fin z pc lv (.ref E.2.2.1 :: st) := by
  refine mm_getv C M 7 (by decide) hq rfl hd ?_
  rw [mm_kind_long rfl]
  exact kk _ h
theorem mm_getA (C : gC X cc nL ret RX6 fr lo) (M : mm_C X E) (k : Nat) {idx : Nat} (hk : k < 83) (hi : 3 ≤ mm_k k) (hq : Cond.fieldLink RX6 idx RX6 (TX6 k).2.1 (TX6 k).2.2.1 ∈ lw_all) (hc : (TX6 k).1 = RX6) (hd : decode cc pc = .ok (.getfield idx, 3)) (kk : gW X (mm_G E) fin z (pc + 3) lv (.ref (E.2.2.2.1 k) :: st)) : gW X (mm_G E) fin z pc lv (.ref E.2.2.1 :: st) := by
  refine mm_getv C M k hk hq hc hd ?_
  rw [mm_kind_arr hi]
  exact kk
theorem mm_at_kept {D : va_G} {cl : List vw_C} {q : Nat × va_E} {H H1 : Heap} (h : va_at D cl q H) (e : H1[q.1]? = H[q.1]?) : va_at D cl q H1 := by
  obtain ⟨a, w⟩ := q
  cases w with
  | inl w => exact e.trans h
  | inr w =>
    obtain ⟨r, h1, h2⟩ := h
    exact ⟨r, h1, h2.kept e⟩
/-- one field written -/
theorem mm_putv (C : gC X cc nL ret RX6 fr lo) (M : mm_C X E) (k : Nat) {idx : Nat} {v : Value} (z' : mm_S) (hk : k < 83) (hq : Cond.fieldLink RX6 idx RX6 (TX6 k).2.1 (TX6 k).2.2.1 ∈ lw_all) (hc : (TX6 k).1 = RX6) (hfin : (TX6 k).2.2.2 = false) {ty : FieldType} (hdt : parseFieldDescriptor (TX6 k).2.2.1 = some ty) (hn : narrow ty v = v) (hfit : fits ty v = true) (hd : decode cc pc = .ok (.putfield idx, 3))
    (hv : ∀ ad, mm_v ad z' k = v) (ho : ∀ ad, ∀ j : Nat, j ≠ k → mm_v ad z' j = mm_v ad z j) (ha : ∀ j, mm_arr z' j = mm_arr z j)
    (kk : gW X (mm_G E) fin z' (pc + 3) lv st) : gW X (mm_G E) fin z pc lv (v :: .ref E.2.2.1 :: st) := by
  obtain ⟨p, l, e, R, s, m, args, below, meth, c⟩ := X
  obtain ⟨D, dA, o, ad, sz⟩ := E
  refine ⟨kk.1, fun hc1 hs H locs ls hI hS hl => ?_⟩
  obtain ⟨⟨hP, hPa⟩, hsz⟩ := hI
  obtain ⟨r0, h1, cell, q1, q2, q3, q4⟩ := hP
  have hr : r0 = (RX6, TX6, 83) := (Option.some.inj h1).symm
  subst hr
  have hap := va_apart (own := RX6) (cl := mm_cl) (ci := 0) C.2.2.2.2.1 in_X6 tyX6 tyX6_ok nmX6 M.1 rfl
  obtain ⟨hSl, hfc, kC, hkC, hkind⟩ := M.1.1 0 _ rfl
  obtain ⟨cf, kf, fi, f, hi, hsl⟩ := hSl k hk
  have hlay := C.2.2.2.2.1 _ (in_X6 _ (u_in_lay hk))
  unfold u_lay at hlay
  rw [if_neg (by rw [hfin]; decide)] at hlay
  have hst := (u_facts hfc hkC (u_lays C.2.2.2.2.1 in_X6 hk) hi).1
  have h6 := u_store hfc hkC hkind hlay hi hdt hn hfit
  rw [hc] at hi
  refine W.putK C.1 C.2.1 (f := f) ⟨C.2.2.2.1, C.2.2.2.2.1 _ hq, ⟨_, _, _, hi⟩, hst⟩ (by rw [q2]; exact h6) q1 q3 (by rw [hsl]; exact k2_hasslot (q4 k hk)) rfl rfl hd fun H' e1 e2 e3 => ?_
  rw [hsl] at e1
  refine kk.2 hc1 hs H' _ ls ⟨⟨?_, fun j hj hj3 => ?_⟩, by rw [e2]; exact hsz⟩ (hS.put e2 e3 (Or.inl rfl)) hl
  · rw [← mm_fs_set (z := z) hk (hv ad) (ho ad)]
    exact ⟨_, rfl, t_OB.to (V := updV (vp_V (mm_fs ad z)) k v) ⟨_, e1, q2, q3, t_set q4 hap hk v⟩ (fun j _ => vp_updV_set (by rw [mm_fs_len]; exact hk) v j)⟩
  · rw [ha]
    exact mm_at_kept (hPa j hj hj3) (e3 _ (M.2.1 j hj hj3))
theorem mm_putI (C : gC X cc nL ret RX6 fr lo) (M : mm_C X E) (k : Nat) {idx : Nat} {v : Int32} {K : mm_S → Option ρ} (hk : k < 83) (hi : mm_k k ≤ 1) (hq : Cond.fieldLink RX6 idx RX6 (TX6 k).2.1 (TX6 k).2.2.1 ∈ lw_all) (hc : (TX6 k).1 = RX6) (hfin : (TX6 k).2.2.2 = false) (hdt : parseFieldDescriptor (TX6 k).2.2.1 = some .int) (hd : decode cc pc = .ok (.putfield idx, 3)) (h : mm_pI k v z K = some r)
    (kk : ∀ z' : mm_S, K z' = some r → gW X (mm_G E) fin z' (pc + 3) lv st) : gW X (mm_G E) fin z pc lv (.int v :: .ref E.2.2.1 :: st) := by
  refine mm_putv C M k (va_up z.1 k v, z.2) hk hq hc hfin hdt rfl rfl hd (fun ad => ?_) (fun ad j hj => ?_) (fun j => rfl) (kk _ h)
  · rw [mm_kind_int hi]
    show Value.int (if k = k then v else _) = _
    rw [if_pos rfl]
  · unfold mm_v
    show (if mm_k j ≤ 1 then Value.int (if j = k then v else z.1 j) else _) = _
    rw [if_neg hj]
theorem mm_putZ (C : gC X cc nL ret RX6 fr lo) (M : mm_C X E) (k : Nat) {idx : Nat} {v : Int32} {K : mm_S → Option ρ} (hk : k < 83) (hi : mm_k k ≤ 1) (hq : Cond.fieldLink RX6 idx RX6 (TX6 k).2.1 (TX6 k).2.2.1 ∈ lw_all) (hc : (TX6 k).1 = RX6) (hfin : (TX6 k).2.2.2 = false) (hdt : parseFieldDescriptor (TX6 k).2.2.1 = some .boolean) (hd : decode cc pc = .ok (.putfield idx, 3)) (h : mm_pZ k v z K = some r)
    (kk : ∀ z' : mm_S, K z' = some r → gW X (mm_G E) fin z' (pc + 3) lv st) : gW X (mm_G E) fin z pc lv (.int v :: .ref E.2.2.1 :: st) := by
  unfold mm_pZ at h
  by_cases q : v = 0 ∨ v = 1
  · rw [if_pos q] at h
    refine mm_putv C M k (va_up z.1 k v, z.2) hk hq hc hfin hdt (by rcases q with rfl | rfl <;> rfl) (by rcases q with rfl | rfl <;> rfl) hd (fun ad => ?_) (fun ad j hj => ?_) (fun j => rfl) (kk _ h)
    · rw [mm_kind_int hi]
      show Value.int (if k = k then v else _) = _
      rw [if_pos rfl]
    · unfold mm_v
      show (if mm_k j ≤ 1 then Value.int (if j = k then v else z.1 j) else _) = _
      rw [if_neg hj]
  · rw [if_neg q] at h
    cases h
theorem mm_putJ (C : gC X cc nL ret RX6 fr lo) (M : mm_C X E) {idx : Nat} {v : Int64} {K : mm_S → Option ρ} (hq : Cond.fieldLink RX6 idx RX6 (TX6 7).2.1 (TX6 7).2.2.1 ∈ lw_all) (hd : decode cc pc = .ok (.putfield idx, 3)) (h : mm_pJ v z K = some r)
    (kk : ∀ z' : mm_S, K z' = some r → gW X (mm_G E) fin z' (pc + 3) lv st) : gW X (mm_G E) fin z pc lv (.long v :: .ref E.2.2.1 :: st) := by
  refine mm_putv C M 7 (z.1, v, z.2.2) (by decide) hq rfl rfl (ty := .long) rfl rfl rfl hd (fun ad => ?_) (fun ad j hj => ?_) (fun j => rfl) (kk _ h)
  · rw [mm_kind_long rfl]
  · unfold mm_v
    by_cases q : mm_k j = 2
    · exact absurd (mm_k7 q) hj
    · rw [if_neg q, if_neg q]
/-- arrays -/
theorem mm_one {D : va_G} {q : Nat × va_E} {H : Heap} (h : va_at D mm_cl q H) : va_P D mm_cl [q] H := by
  intro j w hj
  match j, hj with
  | 0, hj => cases hj; exact h
  | j + 1, hj => simp at hj
theorem mm_ldI (C : gC X cc nL ret RX6 fr lo) (M : mm_C X E) (k : Nat) {i : Int32} {K : Int32 → Option ρ} (hk : k < 83) (h3 : mm_k k = 3) (hd : decode cc pc = .ok (.iaload, 1)) (h : mm_lI k i z K = some r) (kk : ∀ x : Int32, K x = some r → gW X (mm_G E) fin z (pc + 1) lv (.int x :: st)) : gW X (mm_G E) fin z pc lv (.int i :: .ref (E.2.2.2.1 k) :: st) := by
  obtain ⟨p, l, e, R, s, m, args, below, meth, c⟩ := X
  obtain ⟨D, dA, o, ad, sz⟩ := E
  unfold mm_lI at h
  by_cases q : mm_in i (mm_n k) = true
  · rw [if_pos q] at h
    have kk := kk _ h
    refine ⟨kk.1, fun hc1 hs H locs ls hI hS hl => ?_⟩
    have hP := hI.1.2 k hk (by omega)
    unfold mm_arr at hP
    rw [h3] at hP
    exact va_iald C.1 C.2.1 M.1 (mm_one hP) 0 0 rfl rfl (mm_in_iff.mp q) hd (kk.2 hc1 hs H locs ls hI hS hl)
  · rw [if_neg q] at h
    cases h
theorem mm_ldZ (C : gC X cc nL ret RX6 fr lo) (M : mm_C X E) (k : Nat) {i : Int32} {K : Int32 → Option ρ} (hk : k < 83) (h3 : mm_k k = 4) (hd : decode cc pc = .ok (.baload, 1)) (h : mm_lI k i z K = some r) (kk : ∀ x : Int32, K x = some r → gW X (mm_G E) fin z (pc + 1) lv (.int x :: st)) : gW X (mm_G E) fin z pc lv (.int i :: .ref (E.2.2.2.1 k) :: st) := by
  obtain ⟨p, l, e, R, s, m, args, below, meth, c⟩ := X
  obtain ⟨D, dA, o, ad, sz⟩ := E
  unfold mm_lI at h
  by_cases q : mm_in i (mm_n k) = true
  · rw [if_pos q] at h
    have kk := kk _ h
    refine ⟨kk.1, fun hc1 hs H locs ls hI hS hl => ?_⟩
    have hP := hI.1.2 k hk (by omega)
    unfold mm_arr at hP
    rw [h3] at hP
    exact va_zald C.1 C.2.1 M.1 (mm_one hP) 0 1 rfl rfl (mm_in_iff.mp q) hd (kk.2 hc1 hs H locs ls hI hS hl)
  · rw [if_neg q] at h
    cases h
theorem mm_ldL (C : gC X cc nL ret RX6 fr lo) (M : mm_C X E) (k : Nat) {i : Int32} {K : Int64 → Option ρ} (hk : k < 83) (h3 : mm_k k = 5) (hd : decode cc pc = .ok (.laload, 1)) (h : mm_lL k i z K = some r) (kk : ∀ x : Int64, K x = some r → gW X (mm_G E) fin z (pc + 1) lv (.long x :: st)) : gW X (mm_G E) fin z pc lv (.int i :: .ref (E.2.2.2.1 k) :: st) := by
  obtain ⟨p, l, e, R, s, m, args, below, meth, c⟩ := X
  obtain ⟨D, dA, o, ad, sz⟩ := E
  unfold mm_lL at h
  by_cases q : mm_in i (mm_n k) = true
  · rw [if_pos q] at h
    have kk := kk _ h
    refine ⟨kk.1, fun hc1 hs H locs ls hI hS hl => ?_⟩
    have hP := hI.1.2 k hk (by omega)
    unfold mm_arr at hP
    rw [h3] at hP
    exact va_lald C.1 C.2.1 M.1 (mm_one hP) 0 2 rfl rfl (mm_in_iff.mp q) hd (kk.2 hc1 hs H locs ls hI hS hl)
  · rw [if_neg q] at h
    cases h
theorem mm_stI (C : gC X cc nL ret RX6 fr lo) (M : mm_C X E) (k : Nat) {i : Int32} {x : Int32} {K : mm_S → Option ρ} (hk : k < 83) (h3 : mm_k k = 3) (hd : decode cc pc = .ok (.iastore, 1)) (h : mm_sI k i x z K = some r) (kk : ∀ z' : mm_S, K z' = some r → gW X (mm_G E) fin z' (pc + 1) lv st) : gW X (mm_G E) fin z pc lv (.int x :: .int i :: .ref (E.2.2.2.1 k) :: st) := by
  obtain ⟨p, l, e, R, s, m, args, below, meth, c⟩ := X
  obtain ⟨D, dA, o, ad, sz⟩ := E
  unfold mm_sI at h
  by_cases q : mm_in i (mm_n k) = true
  · rw [if_pos q] at h
    have kk := kk _ h
    refine ⟨kk.1, fun hc1 hs H locs ls hI hS hl => ?_⟩
    have hP := hI.1.2 k hk (by omega)
    rw [mm_arr_i (by omega), h3] at hP
    have hin := mm_in_iff.mp q
    refine W.iast C.1 C.2.1 hP ((M.1.2 0 _ rfl).1 (mm_n k) (fun j => .int (z.2.2.1 k j))) (fun w => by cases w) (by show ¬ (i < 0 ∨ (arrV _ _ _).slots.size ≤ _); rw [arrV_size]; exact hin) rfl rfl hd fun H1 e1 z1 oq => ?_
    refine kk.2 hc1 hs H1 _ ls ⟨⟨mm_at_kept hI.1.1 (oq _ (fun w => M.2.1 k hk (by omega) w.symm)), fun j hj hj3 => ?_⟩, by rw [z1]; exact hI.2⟩ (hS.put z1 oq (Or.inr ⟨k, hk, by omega, rfl⟩)) hl
    by_cases ej : j = k
    · subst ej
      rw [mm_arr_i (by omega), h3]
      show H1[ad j]? = some (vp_cell _ _)
      rw [e1]
      show some ((vp_cell _ _).setSlot _ _) = _
      rw [vp_cell_i, vp_cell_i, arrV_store]
      congr 2
      funext w
      by_cases hw : w = i.toNatClampNeg
      · subst hw
        simp [updV, upd, vp_updL, va_up, vp_nar]
        try rfl
      · simp [updV, upd, vp_updL, va_up, hw]
    · have hne : ad j ≠ ad k := fun w => ej (M.2.2 j k hj hj3 hk (by omega) w)
      have : mm_arr (z.1, z.2.1, va_up z.2.2.1 k (upd (z.2.2.1 k) i.toNatClampNeg x), z.2.2.2) j = mm_arr z j := by
        unfold mm_arr
        simp [va_up, ej]
      rw [this]
      exact mm_at_kept (hI.1.2 j hj hj3) (oq _ hne)
  · rw [if_neg q] at h
    cases h
theorem mm_stZ (C : gC X cc nL ret RX6 fr lo) (M : mm_C X E) (k : Nat) {i : Int32} {x : Int32} {K : mm_S → Option ρ} (hk : k < 83) (h3 : mm_k k = 4) (hd : decode cc pc = .ok (.bastore, 1)) (h : mm_sZ k i x z K = some r) (kk : ∀ z' : mm_S, K z' = some r → gW X (mm_G E) fin z' (pc + 1) lv st) : gW X (mm_G E) fin z pc lv (.int x :: .int i :: .ref (E.2.2.2.1 k) :: st) := by
  obtain ⟨p, l, e, R, s, m, args, below, meth, c⟩ := X
  obtain ⟨D, dA, o, ad, sz⟩ := E
  unfold mm_sZ at h
  by_cases q : mm_in i (mm_n k) = true
  · rw [if_pos q] at h
    have kk := kk _ h
    refine ⟨kk.1, fun hc1 hs H locs ls hI hS hl => ?_⟩
    have hP := hI.1.2 k hk (by omega)
    rw [mm_arr_i (by omega), h3] at hP
    have hin := mm_in_iff.mp q
    refine W.zast C.1 C.2.1 hP ((M.1.2 1 _ rfl).1 (mm_n k) (fun j => .int (z.2.2.1 k j))) (fun w => by cases w) (by show ¬ (i < 0 ∨ (arrV _ _ _).slots.size ≤ _); rw [arrV_size]; exact hin) rfl rfl hd fun H1 e1 z1 oq => ?_
    refine kk.2 hc1 hs H1 _ ls ⟨⟨mm_at_kept hI.1.1 (oq _ (fun w => M.2.1 k hk (by omega) w.symm)), fun j hj hj3 => ?_⟩, by rw [z1]; exact hI.2⟩ (hS.put z1 oq (Or.inr ⟨k, hk, by omega, rfl⟩)) hl
    by_cases ej : j = k
    · subst ej
      rw [mm_arr_i (by omega), h3]
      show H1[ad j]? = some (vp_cell _ _)
      rw [e1]
      show some ((vp_cell _ _).setSlot _ _) = _
      rw [vp_cell_i, vp_cell_i, arrV_store]
      congr 2
      funext w
      by_cases hw : w = i.toNatClampNeg
      · subst hw
        simp [updV, upd, vp_updL, va_up, vp_nar]
        try rfl
      · simp [updV, upd, vp_updL, va_up, hw]
    · have hne : ad j ≠ ad k := fun w => ej (M.2.2 j k hj hj3 hk (by omega) w)
      have : mm_arr (z.1, z.2.1, va_up z.2.2.1 k (upd (z.2.2.1 k) i.toNatClampNeg (vp_nar .boolean x)), z.2.2.2) j = mm_arr z j := by
        unfold mm_arr
        simp [va_up, ej]
      rw [this]
      exact mm_at_kept (hI.1.2 j hj hj3) (oq _ hne)
  · rw [if_neg q] at h
    cases h
theorem mm_stL (C : gC X cc nL ret RX6 fr lo) (M : mm_C X E) (k : Nat) {i : Int32} {x : Int64} {K : mm_S → Option ρ} (hk : k < 83) (h3 : mm_k k = 5) (hd : decode cc pc = .ok (.lastore, 1)) (h : mm_sL k i x z K = some r) (kk : ∀ z' : mm_S, K z' = some r → gW X (mm_G E) fin z' (pc + 1) lv st) : gW X (mm_G E) fin z pc lv (.long x :: .int i :: .ref (E.2.2.2.1 k) :: st) := by
  obtain ⟨p, l, e, R, s, m, args, below, meth, c⟩ := X
  obtain ⟨D, dA, o, ad, sz⟩ := E
  unfold mm_sL at h
  by_cases q : mm_in i (mm_n k) = true
  · rw [if_pos q] at h
    have kk := kk _ h
    refine ⟨kk.1, fun hc1 hs H locs ls hI hS hl => ?_⟩
    have hP := hI.1.2 k hk (by omega)
    rw [mm_arr_l h3, h3] at hP
    have hin := mm_in_iff.mp q
    refine W.last C.1 C.2.1 hP ((M.1.2 2 _ rfl).1 (mm_n k) (fun j => .long (z.2.2.2 k j))) (fun w => by cases w) (by show ¬ (i < 0 ∨ (arrV _ _ _).slots.size ≤ _); rw [arrV_size]; exact hin) rfl rfl hd fun H1 e1 z1 oq => ?_
    refine kk.2 hc1 hs H1 _ ls ⟨⟨mm_at_kept hI.1.1 (oq _ (fun w => M.2.1 k hk (by omega) w.symm)), fun j hj hj3 => ?_⟩, by rw [z1]; exact hI.2⟩ (hS.put z1 oq (Or.inr ⟨k, hk, by omega, rfl⟩)) hl
    by_cases ej : j = k
    · subst ej
      rw [mm_arr_l h3, h3]
      show H1[ad j]? = some (vp_cell _ _)
      rw [e1]
      show some ((vp_cell _ _).setSlot _ _) = _
      rw [vp_cell_l, vp_cell_l, arrV_store]
      congr 2
      funext w
      by_cases hw : w = i.toNatClampNeg
      · subst hw
        simp [updV, upd, vp_updL, va_up, vp_nar]
        try rfl
      · simp [updV, upd, vp_updL, va_up, hw]
    · have hne : ad j ≠ ad k := fun w => ej (M.2.2 j k hj hj3 hk (by omega) w)
      have : mm_arr (z.1, z.2.1, z.2.2.1, va_up z.2.2.2 k (vp_updL (z.2.2.2 k) i.toNatClampNeg x)) j = mm_arr z j := by
        unfold mm_arr
        simp [va_up, ej]
      rw [this]
      exact mm_at_kept (hI.1.2 j hj hj3) (oq _ hne)
  · rw [if_neg q] at h
    cases h
theorem g_dvI {A : Option ρ} {y : Int32} (h : g_dv y A = some r) : ¬ y = 0 ∧ A = some r := by
  unfold g_dv at h
  by_cases q : y = 0
  · rw [if_pos q] at h; cases h
  · rw [if_neg q] at h; exact ⟨q, h⟩
theorem g_dvJ {A : Option ρ} {y : Int64} (h : g_dvL y A = some r) : ¬ y = 0 ∧ A = some r := by
  unfold g_dvL at h
  by_cases q : y = 0
  · rw [if_pos q] at h; cases h
  · rw [if_neg q] at h; exact ⟨q, h⟩
end MR
/-! contracts -/
def mm_MetV (l : Launch) (y : MethodName) (cc : ByteArray) (nL : Nat) (ret : Option FieldType) (fr lo : Nat) (as : List Value) (z : mm_S) (fin : Outcome × mm_S) : Prop := ∀ E : mm_E, mm_D E.2.2.1 E.2.2.2.1 → l.stackTraces = false → Met l y (ws_ y cc nL ret) { frames := fr, cells := 0, slots := 0, locals := lo } (va_Pc (.ref E.2.2.1 :: as) (fun U => (mm_G E).1 z U.heap ∧ va_K E.1 mm_cl (mm_tys E.2.1) U)) (gQ (mm_G E) fin) 0 0 (mm_A E.2.2.1 E.2.2.2.1)
def mm_MetS (l : Launch) (y : MethodName) (cc : ByteArray) (nL : Nat) (ret : Option FieldType) (fr lo : Nat) (as : List Value) (z : mm_S) (fin : Outcome × mm_S) : Prop := ∀ E : mm_E, mm_D E.2.2.1 E.2.2.2.1 → l.stackTraces = false → Met l y (ws_ y cc nL ret) { frames := fr, cells := 0, slots := 0, locals := lo } (va_Pc as (fun U => (mm_G E).1 z U.heap ∧ va_K E.1 mm_cl (mm_tys E.2.1) U)) (gQ (mm_G E) fin) 0 0 (mm_A E.2.2.1 E.2.2.2.1)
section ME
variable {l : Launch} {y : MethodName} {cc : ByteArray} {nL : Nat} {ret : Option FieldType} {fr lo : Nat} {as : List Value} {z : mm_S} {fin : Outcome × mm_S}
theorem mm_enter (E : mm_E) (hD : mm_D E.2.2.1 E.2.2.2.1) (hy : y.cls = RX6) (hret : ∃ v, fin.1 = .returned v) (vs : List Value) (hlen : (lg_sl vs).length ≤ nL)
    (body : ∀ X : gX, gC X cc nL ret RX6 fr lo → mm_C X E → gW X (mm_G E) fin z 0 (lv_args 0 vs) []) : l.stackTraces = false → Met l y (ws_ y cc nL ret) { frames := fr, cells := 0, slots := 0, locals := lo } (va_Pc vs (fun U => (mm_G E).1 z U.heap ∧ va_K E.1 mm_cl (mm_tys E.2.1) U)) (gQ (mm_G E) fin) 0 0 (mm_A E.2.2.1 E.2.2.2.1) := by
  intro hST
  refine Met.ofW (cc := cc) (maxL := nL) (ret := ret) (by rw [hy]; decide) rfl ?_
  intro p e s m args below meth c s₁ B hml hv
  obtain ⟨rfl, hI, hK⟩ := hv
  have hts := atoms_spec (ws := ws_ y cc nL ret) B.pre
  have hts : ∀ w ∈ lw_all, w.before _ s = true := fun w h => hts w (List.mem_cons_of_mem _ h)
  have hown : s.vm.findClass y.cls = some m.cls := findClass_of_methodNamed B.named
  rw [hy] at hown
  have hl := lv_entry vs (n := nL) hlen
  rw [lg_entry_eq]
  have hl : lv_has (lg_sl vs ++ List.replicate (nL - (lg_sl vs).length) Slot.unset).toArray c.maxLocals (lv_args 0 vs) := by rw [hml]; exact hl
  have k := body (p, l, e, { frames := fr, cells := 0, slots := 0, locals := lo }, s, m, vs.toArray, below, meth, c) ⟨B.exec, B.bytes, hml, hown, hts, B.notSynchronized, B.returns, rfl, rfl, hST⟩ ⟨hK, hD⟩
  refine W.to (fun t h => ?_) (k.2 rfl rfl s.heap [] _ hI va_S.rf hl)
  obtain ⟨o, h1, h2, h3, L, ⟨-, h4, h5⟩, h6⟩ := h
  exact ⟨o, h1, h2, h3, L, ⟨by rw [h3.1]; exact hret, h4, h5⟩, h6⟩
end ME
section MC
variable {α ρ : Type} {X : gX} {E : mm_E} {fin : Outcome × mm_S} {z : mm_S} {cc : ByteArray} {nL fr lo pc : Nat} {ret : Option FieldType} {lv : List (Nat × Value)} {st : List Value} {r : ρ}
theorem mm_callV (C : gC X cc nL ret RX6 fr lo) (M : mm_C X E) (n : Nat) (As : List Value) {idx : Nat} {y : MethodName} {bytes : ByteArray} {maxL fr' lo' : Nat} {ret' : Option FieldType} {v : Option Value} {z' : mm_S} (ct : ∀ l, mm_MetV l y bytes maxL ret' fr' lo' As z (.returned v, z'))
    (hlw : GoodIn lw_all (wsV RX6 idx RX6 y (ws_ y bytes maxL ret'))) (hy : y.cls = RX6) (hdn : (parseMethodDescriptor y.desc).map (fun d => d.parameters.length) = some n) (hAs : As.length = n) (hfr : fr' + 1 ≤ fr) (hlo : 8 + (maxL + 11) + lo' ≤ lo) (hrest : (st.map fun v => v.category).sum ≤ 8) (hd : decode cc pc = .ok (.invokevirtual idx, 3))
    (kk : gW X (mm_G E) fin z' (pc + 3) lv (v.toList ++ st)) : gW X (mm_G E) fin z pc lv (As.reverse ++ .ref E.2.2.1 :: st) := by
  obtain ⟨p, l, e, R, s, m, args, below, meth, c⟩ := X
  refine ⟨kk.1, fun hc1 hs H locs ls hI hS hl => ?_⟩
  obtain ⟨hx, hb, hml, hown, hts, hlocks, hret, hRf, hRl, hST⟩ := C
  have cw := cwV (R := R) (s := s) (args := args) (own := RX6) (C := RX6) (rm := { frames := fr', cells := 0, slots := 0, locals := lo' }) (mc := 0) (ms := 0) n hts hlw rfl rfl rfl ⟨hy, by rw [hy]; decide, by rw [hy]; decide, hdn⟩ ⟨by rw [hRf]; exact hfr, by rw [hRl]; exact hlo⟩
  have hrecv := va_recv M.1 (mm_one hI.1.1) (ci := 0) (q0 := 0) rfl rfl
  have run := va_runV (rest := st) (g := F0 m pc ls (As.reverse ++ .ref E.2.2.1 :: st)) (b := E.2.2.1) (As := As) (H := H) (locs := locs) (cells := 0) (slots := 0) (e := e) (below := below) (meth := meth) ⟨hx, hb, hml, hown, hts⟩ (ct l E M.2 hST) cw ⟨fun a U g mk q => ⟨q.1, q.2.1, va_K.moved (u := U) (U := U.calling g mk a) (Vm.Alike.refl U.vm) q.2.2⟩, hrecv, fun U hU hW => ⟨rfl, by rw [hU]; exact hI, va_K.moved hW.alike M.1⟩⟩ rfl hAs (by rw [← hml]; exact hl.1) rfl (lv_room hrest) hd ⟨Nat.zero_le _, Nat.zero_le _⟩
  intro T hT X0
  obtain ⟨v1, st₀, t, T', L, h0, X', hL, e1, e2, ⟨hv, hI1, hF⟩, stp⟩ := run T hT X0
  cases hv
  have hz : H.size ≤ t.heap.size := by rw [← h0]; exact hF.1
  obtain ⟨t2, a1, b1⟩ := kk.2 hc1 hs T'.heap (locs ++ L) ls (by rw [e1]; exact hI1) ⟨Nat.le_trans hS.1 (by rw [e1]; exact hz), fun q h1 h2 => by
      rw [e1, hF.2 q (by rw [h0]; exact Nat.lt_of_lt_of_le h1 hS.1) h2, h0]
      exact hS.2.1 q h1 h2, fun q hq => by
      rcases List.mem_append.mp hq with h | h
      · exact hS.2.2 q h
      · exact hL q h⟩ hl T' rfl X'
  exact ⟨t2, stp t2 a1, b1⟩
theorem mm_callS (C : gC X cc nL ret RX6 fr lo) (M : mm_C X E) (n : Nat) (As : List Value) {idx : Nat} {y : MethodName} {bytes : ByteArray} {maxL fr' lo' : Nat} {ret' : Option FieldType} {v : Option Value} {z' : mm_S} (ct : ∀ l, mm_MetS l y bytes maxL ret' fr' lo' As z (.returned v, z'))
    (hlw : GoodIn lw_all (va_wsS RX6 idx y (ws_ y bytes maxL ret'))) (hy : y.cls = RX6) (hdn : (parseMethodDescriptor y.desc).map (fun d => d.parameters.length) = some n) (hAs : As.length = n) (hfr : fr' + 1 ≤ fr) (hlo : 8 + (maxL + 11) + lo' ≤ lo) (hrest : (st.map fun v => v.category).sum ≤ 8) (hd : decode cc pc = .ok (.invokestatic idx, 3))
    (kk : gW X (mm_G E) fin z' (pc + 3) lv (v.toList ++ st)) : gW X (mm_G E) fin z pc lv (As.reverse ++ st) := by
  obtain ⟨p, l, e, R, s, m, args, below, meth, c⟩ := X
  refine ⟨kk.1, fun hc1 hs H locs ls hI hS hl => ?_⟩
  obtain ⟨hx, hb, hml, hown, hts, hlocks, hret, hRf, hRl, hST⟩ := C
  have cw := va_cwS (R := R) (s := s) (args := args) (own := RX6) (rm := { frames := fr', cells := 0, slots := 0, locals := lo' }) (mc := 0) (ms := 0) n hts hlw rfl rfl rfl ⟨by rw [hy]; decide, by rw [hy]; decide, hdn⟩ ⟨by rw [hRf]; exact hfr, by rw [hRl]; exact hlo⟩
  have run := va_runS (rest := st) (g := F0 m pc ls (As.reverse ++ st)) (As := As) (H := H) (locs := locs) (cells := 0) (slots := 0) (e := e) (below := below) (meth := meth) ⟨hx, hb, hml, hown, hts⟩ (ct l E M.2 hST) cw ⟨fun a U g mk q => ⟨q.1, q.2.1, va_K.moved (u := U) (U := U.calling g mk a) (Vm.Alike.refl U.vm) q.2.2⟩, fun U hU hW => ⟨rfl, by rw [hU]; exact hI, va_K.moved hW.alike M.1⟩⟩ rfl hAs (by rw [← hml]; exact hl.1) rfl (lv_room hrest) hd ⟨Nat.zero_le _, Nat.zero_le _⟩
  intro T hT X0
  obtain ⟨v1, st₀, t, T', L, h0, X', hL, e1, e2, ⟨hv, hI1, hF⟩, stp⟩ := run T hT X0
  cases hv
  have hz : H.size ≤ t.heap.size := by rw [← h0]; exact hF.1
  obtain ⟨t2, a1, b1⟩ := kk.2 hc1 hs T'.heap (locs ++ L) ls (by rw [e1]; exact hI1) ⟨Nat.le_trans hS.1 (by rw [e1]; exact hz), fun q h1 h2 => by
      rw [e1, hF.2 q (by rw [h0]; exact Nat.lt_of_lt_of_le h1 hS.1) h2, h0]
      exact hS.2.1 q h1 h2, fun q hq => by
      rcases List.mem_append.mp hq with h | h
      · exact hS.2.2 q h
      · exact hL q h⟩ hl T' rfl X'
  exact ⟨t2, stp t2 a1, b1⟩
theorem g_callE {ζ : Type} {g : Option (α × ζ)} {K : α → ζ → Option ρ} {r : ρ} (h : g_call g K = some r) : ∃ a z', g = some (a, z') ∧ K a z' = some r := by
  unfold g_call at h
  cases g with
  | none => cases h
  | some q => exact ⟨q.1, q.2, rfl, h⟩
end MC
