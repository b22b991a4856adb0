set_option maxRecDepth 100000
/-! what each method of the reference may write, by the numbers of its fields -/
def mf_R (W : List Nat) (z z1 : mm_S) : Prop := (∀ k : Nat, k ∉ W → z1.1 k = z.1 k) ∧ (7 ∉ W → z1.2.1 = z.2.1) ∧ (∀ k : Nat, k ∉ W → z1.2.2.1 k = z.2.2.1 k) ∧ (∀ k : Nat, k ∉ W → z1.2.2.2 k = z.2.2.2 k)
def mf_F {α : Type} (W : List Nat) (z : mm_S) (e : Option (α × mm_S)) : Prop := ∀ r, e = some r → mf_R W z r.2
section MF
variable {α β : Type} {W W1 : List Nat} {z z0 z1 : mm_S}
theorem mf_R.rfl : mf_R W z z := ⟨fun _ _ => Eq.refl _, fun _ => Eq.refl _, fun _ _ => Eq.refl _, fun _ _ => Eq.refl _⟩
theorem mf_R.trans (h : mf_R W z0 z) (g : mf_R W z z1) : mf_R W z0 z1 := ⟨fun k hk => (g.1 k hk).trans (h.1 k hk), fun hk => (g.2.1 hk).trans (h.2.1 hk), fun k hk => (g.2.2.1 k hk).trans (h.2.2.1 k hk), fun k hk => (g.2.2.2 k hk).trans (h.2.2.2 k hk)⟩
theorem mf_R.mono (h : mf_R W1 z0 z) (s : ∀ k ∈ W1, k ∈ W) : mf_R W z0 z := ⟨fun k hk => h.1 k (fun q => hk (s k q)), fun hk => h.2.1 (fun q => hk (s 7 q)), fun k hk => h.2.2.1 k (fun q => hk (s k q)), fun k hk => h.2.2.2 k (fun q => hk (s k q))⟩
theorem mf_F.none : mf_F W z0 (none : Option (α × mm_S)) := by intro r h; cases h
theorem mf_F.ret {a : α} (h : mf_R W z0 z) : mf_F W z0 (some (a, z)) := by intro r q; cases q; exact h
theorem mf_F.ite {c : Prop} {d : Decidable c} {a b : Option (α × mm_S)} (h : mf_F W z0 a) (g : mf_F W z0 b) : mf_F W z0 (if c then a else b) := by
  by_cases q : c
  · rw [if_pos q]; exact h
  · rw [if_neg q]; exact g
theorem mf_F.gI {k : Nat} {K : Int32 → Option (α × mm_S)} (h : ∀ x, mf_F W z0 (K x)) : mf_F W z0 (mm_gI k z K) := h _
theorem mf_F.gJ {K : Int64 → Option (α × mm_S)} (h : ∀ x, mf_F W z0 (K x)) : mf_F W z0 (mm_gJ z K) := h _
theorem mf_F.lI {k : Nat} {i : Int32} {K : Int32 → Option (α × mm_S)} (h : ∀ x, mf_F W z0 (K x)) : mf_F W z0 (mm_lI k i z K) := mf_F.ite (h _) mf_F.none
theorem mf_F.lL {k : Nat} {i : Int32} {K : Int64 → Option (α × mm_S)} (h : ∀ x, mf_F W z0 (K x)) : mf_F W z0 (mm_lL k i z K) := mf_F.ite (h _) mf_F.none
theorem mf_up {γ : Type} {f : Nat → γ} {k : Nat} {v : γ} {j : Nat} (hk : k ∈ W) (hj : j ∉ W) : va_up f k v j = f j := by
  unfold va_up
  rw [if_neg (show ¬ j = k from fun q => hj (by rw [q]; exact hk))]
theorem mf_F.pI {k : Nat} {v : Int32} {K : mm_S → Option (α × mm_S)} (hz : mf_R W z0 z) (hk : k ∈ W) (h : ∀ z1, mf_R W z0 z1 → mf_F W z0 (K z1)) : mf_F W z0 (mm_pI k v z K) :=
  h _ (hz.trans ⟨fun _ hj => mf_up hk hj, fun _ => Eq.refl _, fun _ _ => Eq.refl _, fun _ _ => Eq.refl _⟩)
theorem mf_F.pZ {k : Nat} {v : Int32} {K : mm_S → Option (α × mm_S)} (hz : mf_R W z0 z) (hk : k ∈ W) (h : ∀ z1, mf_R W z0 z1 → mf_F W z0 (K z1)) : mf_F W z0 (mm_pZ k v z K) :=
  mf_F.ite (h _ (hz.trans ⟨fun _ hj => mf_up hk hj, fun _ => Eq.refl _, fun _ _ => Eq.refl _, fun _ _ => Eq.refl _⟩)) mf_F.none
theorem mf_F.pJ {v : Int64} {K : mm_S → Option (α × mm_S)} (hz : mf_R W z0 z) (hk : 7 ∈ W) (h : ∀ z1, mf_R W z0 z1 → mf_F W z0 (K z1)) : mf_F W z0 (mm_pJ v z K) :=
  h _ (hz.trans ⟨fun _ _ => Eq.refl _, fun q => absurd hk q, fun _ _ => Eq.refl _, fun _ _ => Eq.refl _⟩)
theorem mf_F.sI {k : Nat} {i v : Int32} {K : mm_S → Option (α × mm_S)} (hz : mf_R W z0 z) (hk : k ∈ W) (h : ∀ z1, mf_R W z0 z1 → mf_F W z0 (K z1)) : mf_F W z0 (mm_sI k i v z K) :=
  mf_F.ite (h _ (hz.trans ⟨fun _ _ => Eq.refl _, fun _ => Eq.refl _, fun _ hj => mf_up hk hj, fun _ _ => Eq.refl _⟩)) mf_F.none
theorem mf_F.sZ {k : Nat} {i v : Int32} {K : mm_S → Option (α × mm_S)} (hz : mf_R W z0 z) (hk : k ∈ W) (h : ∀ z1, mf_R W z0 z1 → mf_F W z0 (K z1)) : mf_F W z0 (mm_sZ k i v z K) :=
  mf_F.ite (h _ (hz.trans ⟨fun _ _ => Eq.refl _, fun _ => Eq.refl _, fun _ hj => mf_up hk hj, fun _ _ => Eq.refl _⟩)) mf_F.none
theorem mf_F.sL {k : Nat} {i : Int32} {v : Int64} {K : mm_S → Option (α × mm_S)} (hz : mf_R W z0 z) (hk : k ∈ W) (h : ∀ z1, mf_R W z0 z1 → mf_F W z0 (K z1)) : mf_F W z0 (mm_sL k i v z K) :=
  mf_F.ite (h _ (hz.trans ⟨fun _ _ => Eq.refl _, fun _ => Eq.refl _, fun _ _ => Eq.refl _, fun _ hj => mf_up hk hj⟩)) mf_F.none
theorem mf_F.dv {y : Int32} {K : Option (α × mm_S)} (h : mf_F W z0 K) : mf_F W z0 (g_dv y K) := mf_F.ite mf_F.none h
theorem mf_F.dvL {y : Int64} {K : Option (α × mm_S)} (h : mf_F W z0 K) : mf_F W z0 (g_dvL y K) := mf_F.ite mf_F.none h
theorem mf_F.call {g : Option (β × mm_S)} {K : β → mm_S → Option (α × mm_S)} (hz : mf_R W z0 z) (hg : mf_F W1 z g) (s : ∀ k ∈ W1, k ∈ W) (h : ∀ a z1, mf_R W z0 z1 → mf_F W z0 (K a z1)) : mf_F W z0 (g_call g K) := by
  unfold g_call
  cases g with
  | none => exact mf_F.none
  | some q => exact h _ _ (hz.trans ((hg _ (Eq.refl _)).mono s))
end MF
abbrev wr_refuses : List Nat := [52]
abbrev wr_put : List Nat := [0, 1]
abbrev wr_feed : List Nat := [0, 1, 52]
abbrev wr_end : List Nat := [1, 52]
abbrev wr_isLetter : List Nat := []
abbrev wr_isDigit : List Nat := []
abbrev wr_blame : List Nat := [8, 9]
abbrev wr_ahead : List Nat := [3, 4, 5, 6, 7, 8, 9]
abbrev wr_isWord : List Nat := []
abbrev wr_is : List Nat := []
abbrev wr_number : List Nat := [3, 4, 5, 6, 7, 8, 9]
abbrev wr_isSign : List Nat := []
abbrev wr_must : List Nat := [3, 4, 5, 6, 7, 8, 9]
abbrev wr_sizes : List Nat := [3, 4, 5, 6, 7, 8, 9, 13, 14]
abbrev wr_counts : List Nat := [3, 4, 5, 6, 7, 8, 9]
abbrev wr_lucks : List Nat := [3, 4, 5, 6, 7, 8, 9, 37]
abbrev wr_mostRules : List Nat := []
abbrev wr_firstRule : List Nat := []
abbrev wr_pushes : List Nat := [42, 43, 44, 46, 47]
abbrev wr_isTest : List Nat := []
abbrev wr_holdsBack : List Nat := [49, 50]
abbrev wr_opens : List Nat := [3, 4, 5, 6, 7, 8, 9, 42, 43, 44, 46, 47, 48]
abbrev wr_add : List Nat := [38, 39, 40]
abbrev wr_operand : List Nat := [3, 4, 5, 6, 7, 8, 9, 38, 39, 40, 42, 43, 44, 45, 46, 47, 48, 49, 50]
abbrev wr_rank : List Nat := []
abbrev wr_joins : List Nat := [38, 39, 40, 50]
abbrev wr_goesOn : List Nat := [3, 4, 5, 6, 7, 8, 9, 38, 39, 40, 42, 43, 44, 47, 48, 49, 50, 51]
abbrev wr_reads : List Nat := [3, 4, 5, 6, 7, 8, 9, 38, 39, 40, 42, 43, 44, 45, 46, 47, 48, 49, 50, 51]
abbrev wr_must_2 : List Nat := [3, 4, 5, 6, 7, 8, 9]
abbrev wr_rule : List Nat := [3, 4, 5, 6, 7, 8, 9, 15, 16, 17, 18, 38, 39, 40, 42, 43, 44, 45, 46, 47, 48, 49, 50, 51]
abbrev wr_isOwn : List Nat := []
abbrev wr_named : List Nat := []
abbrev wr_fresh : List Nat := [3, 4, 5, 6, 7, 8, 9]
abbrev wr_ship : List Nat := [3, 4, 5, 6, 7, 8, 9, 19, 20, 21, 22, 23, 24]
abbrev wr_asked : List Nat := [3, 4, 5, 6, 7, 8, 9]
abbrev wr_cellHere : List Nat := [3, 4, 5, 6, 7, 8, 9]
abbrev wr_says : List Nat := [3, 4, 5, 6, 7, 8, 9, 25, 26, 27]
abbrev wr_book : List Nat := [3, 4, 5, 6, 7, 8, 9, 28, 29, 30, 31, 32]
abbrev wr_seen : List Nat := [3, 4, 5, 6, 7, 8, 9, 33, 34, 35, 36]
abbrev wr_statement : List Nat := [3, 4, 5, 6, 7, 8, 9, 15, 16, 17, 18, 19, 20, 21, 22, 23, 24, 25, 26, 27, 28, 29, 30, 31, 32, 33, 34, 35, 36, 37, 38, 39, 40, 42, 43, 44, 45, 46, 47, 48, 49, 50, 51]
abbrev wr_cells : List Nat := []
abbrev wr_columnOf : List Nat := []
abbrev wr_rowOf : List Nat := []
abbrev wr_bounded : List Nat := []
abbrev wr_over : List Nat := []
abbrev wr_made : List Nat := []
abbrev wr_works : List Nat := [53]
abbrev wr_ruleOf : List Nat := [53, 54]
abbrev wr_sumOf : List Nat := [53, 54]
abbrev wr_lays : List Nat := [53, 54, 55, 56]
abbrev wr_sea : List Nat := [1, 2, 3, 4, 5, 6, 7, 8, 9, 10, 11, 12, 13, 14, 15, 16, 17, 18, 19, 20, 21, 22, 23, 24, 25, 26, 27, 28, 29, 30, 31, 32, 33, 34, 35, 36, 37, 38, 39, 40, 41, 42, 43, 44, 45, 46, 47, 48, 49, 50, 51, 52, 53, 54, 55, 56]
abbrev wr_fault : List Nat := []
abbrev wr_status : List Nat := []
abbrev wr_isCell : List Nat := []
abbrev wr_isHour : List Nat := []
abbrev wr_at : List Nat := []
abbrev wr_isQuiet : List Nat := [53, 54]
abbrev wr_cell : List Nat := [53, 54]
abbrev wr_said : List Nat := []
abbrev wr_sayingsOf : List Nat := []
abbrev wr_has : List Nat := []
abbrev wr_isShip : List Nat := []
abbrev wr_letter : List Nat := []
abbrev wr_isWater : List Nat := []
abbrev wr_reaches : List Nat := [57, 58, 59]
abbrev wr_goes : List Nat := [57, 58, 59]
abbrev wr_hoursTo : List Nat := []
abbrev wr_far : List Nat := [57, 58, 59]
abbrev wr_fact : List Nat := [60, 61, 62, 63]
abbrev wr_addBooks : List Nat := [60, 61, 62, 63]
abbrev wr_between : List Nat := []
abbrev wr_fit : List Nat := [57, 58, 59]
abbrev wr_booksFit : List Nat := [57, 58, 59, 60, 61, 62, 63]
abbrev wr_laden : List Nat := []
abbrev wr_isSound : List Nat := []
abbrev wr_withBooks : List Nat := [57, 58, 59]
abbrev wr_pairs : List Nat := [57, 58, 59, 65, 67, 68, 70]
abbrev wr_keeps : List Nat := [57, 58, 59, 60, 61, 62, 63, 64, 65, 66, 67, 68, 69, 70, 71]
abbrev wr_booksOf : List Nat := []
abbrev wr_ship_2 : List Nat := [57, 58, 59, 60, 61, 62, 63, 64, 65, 66, 67, 68, 69, 70, 71]
abbrev wr_hourOf : List Nat := []
abbrev wr_saying : List Nat := [57, 58, 59, 60, 61, 62, 63, 64, 65, 66, 67, 68, 69, 70, 71]
abbrev wr_can : List Nat := [57, 58, 59, 65, 67, 68, 70]
abbrev wr_lays_2 : List Nat := [57, 58, 59, 60, 61, 62, 63, 64, 65, 66, 67, 68, 69, 70, 71, 72]
abbrev wr_mayBe : List Nat := []
abbrev wr_cellsOf : List Nat := []
abbrev wr_reach : List Nat := [57, 58, 59, 60, 61, 62, 63, 64, 65, 66, 67, 68, 69, 70, 71, 72]
abbrev wr_may : List Nat := [57, 58, 59, 60, 61, 62, 63, 64, 65, 66, 67, 68, 69, 70, 71, 72]
abbrev wr_addSayings : List Nat := [60, 61, 62, 63]
abbrev wr_saidBy : List Nat := [57, 58, 59, 60, 61, 62, 63]
abbrev wr_whoOf : List Nat := [57, 58, 59, 60, 61, 62, 63]
abbrev wr_keepsSets : List Nat := [75]
abbrev wr_parts : List Nat := [74]
abbrev wr_bringsSets : List Nat := [74]
abbrev wr_isPair : List Nat := [57, 58, 59, 60, 61, 62, 63, 65, 67, 68, 70, 74, 75]
abbrev wr_isHonest : List Nat := [53, 54]
abbrev wr_gapsOf : List Nat := [53, 54, 57, 58, 59, 60, 61, 62, 63, 64, 65, 66, 67, 68, 69, 70, 71, 72, 73]
abbrev wr_isKind : List Nat := [53, 54, 57, 58, 59, 60, 61, 62, 63, 64, 65, 66, 67, 68, 69, 70, 71, 72, 73, 74, 75]
abbrev wr_judge : List Nat := [53, 54, 57, 58, 59, 60, 61, 62, 63, 64, 65, 66, 67, 68, 69, 70, 71, 72, 73, 74, 75]
abbrev wr_taleOf : List Nat := [53, 54, 57, 58, 59, 60, 61, 62, 63, 64, 65, 66, 67, 68, 69, 70, 71, 72, 73, 74, 75]
abbrev wr_tale : List Nat := [53, 54, 57, 58, 59, 60, 61, 62, 63, 64, 65, 66, 67, 68, 69, 70, 71, 72, 73, 74, 75]
abbrev wr_bars : List Nat := [57, 58, 59, 60, 61, 62, 63, 65, 67, 68, 70]
abbrev wr_clash : List Nat := [57, 58, 59, 65, 67, 68, 70]
abbrev wr_who : List Nat := [57, 58, 59, 60, 61, 62, 63]
abbrev wr_isFor : List Nat := [57, 58, 59, 60, 61, 62, 63]
abbrev wr_swap : List Nat := [57, 58, 59, 60, 61, 62, 63]
abbrev wr_kinds : List Nat := [53, 54, 57, 58, 59, 60, 61, 62, 63, 64, 65, 66, 67, 68, 69, 70, 71, 72, 73, 74, 75]
abbrev wr_liesOf : List Nat := [57, 58, 59, 60, 61, 62, 63, 64, 65, 66, 67, 68, 69, 70, 71]
abbrev wr_lies : List Nat := [57, 58, 59, 60, 61, 62, 63, 64, 65, 66, 67, 68, 69, 70, 71]
abbrev wr_changes : List Nat := []
abbrev wr_met : List Nat := [57, 58, 59, 60, 61, 62, 63, 64, 65, 66, 67, 68, 69, 70, 71, 72, 76, 77]
abbrev wr_explains : List Nat := [57, 58, 59, 60, 61, 62, 63, 64, 65, 66, 67, 68, 69, 70, 71, 72, 78]
abbrev wr_sighting : List Nat := [57, 58, 59, 60, 61, 62, 63, 64, 65, 66, 67, 68, 69, 70, 71, 72, 78]
abbrev wr_strange : List Nat := [57, 58, 59, 60, 61, 62, 63, 64, 65, 66, 67, 68, 69, 70, 71, 72, 78]
abbrev wr_doubted : List Nat := [53, 54, 57, 58, 59, 60, 61, 62, 63, 64, 65, 66, 67, 68, 69, 70, 71, 72, 73, 74, 75, 78]
abbrev wr_gaps : List Nat := [53, 54, 57, 58, 59, 60, 61, 62, 63, 64, 65, 66, 67, 68, 69, 70, 71, 72, 73]
abbrev wr_chanceOf : List Nat := [53, 54, 57, 58, 59, 60, 61, 62, 63, 64, 65, 66, 67, 68, 69, 70, 71, 72, 73, 79]
abbrev wr_chance : List Nat := [53, 54, 57, 58, 59, 60, 61, 62, 63, 64, 65, 66, 67, 68, 69, 70, 71, 72, 73, 79]
abbrev wr_beyond : List Nat := [53, 54, 57, 58, 59, 60, 61, 62, 63, 64, 65, 66, 67, 68, 69, 70, 71, 72, 73, 79]
abbrev wr_settlesAll : List Nat := [57, 58, 59, 60, 61, 62, 63, 64, 65, 66, 67, 68, 69, 70, 71, 72, 80]
abbrev wr_settles : List Nat := [57, 58, 59, 60, 61, 62, 63, 64, 65, 66, 67, 68, 69, 70, 71, 72, 80]
abbrev wr_next : List Nat := [57, 58, 59, 60, 61, 62, 63, 64, 65, 66, 67, 68, 69, 70, 71, 72, 80]
abbrev wr_offOf : List Nat := [57, 58, 59, 60, 61, 62, 63]
abbrev wr_off : List Nat := [57, 58, 59, 60, 61, 62, 63]
abbrev wr_whose : List Nat := [57, 58, 59, 60, 61, 62, 63, 64, 65, 66, 67, 68, 69, 70, 71]
abbrev wr_says_2 : List Nat := [25, 26, 27]
abbrev wr_numberOf : List Nat := []
abbrev wr_add_2 : List Nat := [25, 26, 27, 52]
abbrev wr_drop : List Nat := [25, 26, 52]
abbrev wr_spots : List Nat := [33, 34, 35, 36]
abbrev wr_spot : List Nat := [33, 34, 35, 36, 52]
abbrev wr_writes : List Nat := [81, 82]
abbrev wr_image : List Nat := [81, 82]
abbrev wr_octet : List Nat := []
abbrev wr_isWhole : List Nat := []
abbrev wr_on : List Nat := [1, 25, 26, 27, 33, 34, 35, 36, 52]
theorem fr_refuses (x1 : Int32) (z : mm_S) : mf_F wr_refuses z (mo_refuses x1 z) := by
  have hz : mf_R wr_refuses z z := mf_R.rfl
  unfold mo_refuses
  exact (mf_F.lI fun v1 => (mf_F.sI hz (by decide) fun z2 hz2 => (mf_F.ret hz2)))
theorem fr_put_b3 {z0 : mm_S} : ∀ (n : Nat) (x1 : Int32) (x2 : Int32) (z : mm_S), mf_R wr_put z0 z → mf_F wr_put z0 (mo_put_b3 n x1 x2 z) := by
  intro n
  induction n with
  | zero => intro x1 x2 z hz; exact mf_F.none
  | succ n ih =>
    intro x1 x2 z hz
    rw [mo_put_b3]
    exact (mf_F.ite (mf_F.ret hz) (mf_F.gI fun v1 => (mf_F.sI hz (by decide) fun z2 hz2 => (mf_F.gI fun v3 => (mf_F.pI hz2 (by decide) fun z4 hz4 => (ih x1 (x2 + (-8 : Int32)) z4 hz4))))))
theorem fr_put (x1 : Int32) (z : mm_S) : mf_F wr_put z (mo_put x1 z) := by
  have hz : mf_R wr_put z z := mf_R.rfl
  unfold mo_put
  exact (fr_put_b3  g_fu x1 (24 : Int32) z hz)
theorem fr_feed (x1 : Int32) (x2 : Int32) (x3 : Int32) (x4 : Int32) (x5 : Int32) (z : mm_S) : mf_F wr_feed z (mo_feed x1 x2 x3 x4 x5 z) := by
  have hz : mf_R wr_feed z z := mf_R.rfl
  unfold mo_feed
  exact (mf_F.gI fun v1 => (mf_F.ite (mf_F.call hz (fr_put x1 z) (by decide) fun _ z2 hz2 => (mf_F.call hz2 (fr_put x2 z2) (by decide) fun _ z4 hz4 => (mf_F.call hz4 (fr_put x3 z4) (by decide) fun _ z6 hz6 => (mf_F.call hz6 (fr_put x4 z6) (by decide) fun _ z8 hz8 => (mf_F.call hz8 (fr_put x5 z8) (by decide) fun _ z10 hz10 => (mf_F.gI fun v12 => (mf_F.ret hz10))))))) (mf_F.call hz (fr_refuses (0 : Int32) z) (by decide) fun v14 z13 hz13 => (mf_F.ret hz13))))
theorem fr_end_b12 {z0 : mm_S} (z : mm_S) (hz : mf_R wr_end z0 z) : mf_F wr_end z0 (mo_end_b12 z) := by
  unfold mo_end_b12
  exact (mf_F.call hz (fr_refuses (0 : Int32) z) (by decide) fun v2 z1 hz1 => (mf_F.ite (mf_F.ret hz1) (mf_F.ret hz1)))
theorem fr_end (x1 : Int32) (z : mm_S) : mf_F wr_end z (mo_end x1 z) := by
  have hz : mf_R wr_end z z := mf_R.rfl
  unfold mo_end
  exact (mf_F.ite (fr_end_b12  z hz) (mf_F.gI fun v1 => (mf_F.ite (mf_F.pI hz (by decide) fun z2 hz2 => (mf_F.ret hz2)) (fr_end_b12  z hz))))
theorem fr_isLetter (x0 : Int32) (z : mm_S) : mf_F wr_isLetter z (mo_isLetter x0 z) := by
  have hz : mf_R wr_isLetter z z := mf_R.rfl
  unfold mo_isLetter
  exact (mf_F.ite (mf_F.ret hz) (mf_F.ite (mf_F.ret hz) (mf_F.ret hz)))
theorem fr_isDigit (x0 : Int32) (z : mm_S) : mf_F wr_isDigit z (mo_isDigit x0 z) := by
  have hz : mf_R wr_isDigit z z := mf_R.rfl
  unfold mo_isDigit
  exact (mf_F.ite (mf_F.ret hz) (mf_F.ite (mf_F.ret hz) (mf_F.ret hz)))
theorem fr_blame (x1 : Int32) (x2 : Int32) (z : mm_S) : mf_F wr_blame z (mo_blame x1 x2 z) := by
  have hz : mf_R wr_blame z z := mf_R.rfl
  unfold mo_blame
  exact (mf_F.gI fun v1 => (mf_F.ite (mf_F.pI hz (by decide) fun z2 hz2 => (mf_F.pI hz2 (by decide) fun z3 hz3 => (mf_F.ret hz3))) (mf_F.ret hz)))
theorem fr_ahead_b323 {z0 : mm_S} (x1 : Int32) (z : mm_S) (hz : mf_R wr_ahead z0 z) : mf_F wr_ahead z0 (mo_ahead_b323 x1 z) := by
  unfold mo_ahead_b323
  exact (mf_F.pI hz (by decide) fun z1 hz1 => (mf_F.ret hz1))
theorem fr_ahead_b314 {z0 : mm_S} {k200 : Int32 → Int32 → Int32 → Int32 → Int32 → mm_S → Option (Unit × mm_S)} (hk200 : ∀ (y1 : Int32) (y2 : Int32) (y3 : Int32) (y4 : Int32) (y5 : Int32) (y6 : mm_S), mf_R wr_ahead z0 y6 → mf_F wr_ahead z0 (k200 y1 y2 y3 y4 y5 y6)) (x1 : Int32) (x2 : Int32) (x3 : Int32) (x4 : Int32) (x5 : Int32) (z : mm_S) (hz : mf_R wr_ahead z0 z) : mf_F wr_ahead z0 (mo_ahead_b314 k200 x1 x2 x3 x4 x5 z) := by
  unfold mo_ahead_b314
  exact (hk200 (x1 + (1 : Int32)) x2 x3 x4 (x5 + (1 : Int32)) z hz)
theorem fr_ahead_b282 {z0 : mm_S} {k200 : Int32 → Int32 → Int32 → Int32 → Int32 → mm_S → Option (Unit × mm_S)} (hk200 : ∀ (y1 : Int32) (y2 : Int32) (y3 : Int32) (y4 : Int32) (y5 : Int32) (y6 : mm_S), mf_R wr_ahead z0 y6 → mf_F wr_ahead z0 (k200 y1 y2 y3 y4 y5 y6)) (x1 : Int32) (x2 : Int32) (x3 : Int32) (x4 : Int32) (x5 : Int32) (z : mm_S) (hz : mf_R wr_ahead z0 z) : mf_F wr_ahead z0 (mo_ahead_b282 k200 x1 x2 x3 x4 x5 z) := by
  unfold mo_ahead_b282
  exact (mf_F.ite (fr_ahead_b314 hk200 x1 x2 x3 x4 x5 z hz) (mf_F.ite (fr_ahead_b314 hk200 x1 x2 x3 x4 x5 z hz) (mf_F.gI fun v1 => (mf_F.lI fun v2 => (mf_F.pI hz (by decide) fun z3 hz3 => (fr_ahead_b314 hk200 x1 x2 x3 x4 x5 z3 hz3))))))
theorem fr_ahead_b252 {z0 : mm_S} {k200 : Int32 → Int32 → Int32 → Int32 → Int32 → mm_S → Option (Unit × mm_S)} (hk200 : ∀ (y1 : Int32) (y2 : Int32) (y3 : Int32) (y4 : Int32) (y5 : Int32) (y6 : mm_S), mf_R wr_ahead z0 y6 → mf_F wr_ahead z0 (k200 y1 y2 y3 y4 y5 y6)) (x1 : Int32) (x2 : Int32) (x3 : Int32) (x4 : Int32) (x5 : Int32) (z : mm_S) (hz : mf_R wr_ahead z0 z) : mf_F wr_ahead z0 (mo_ahead_b252 k200 x1 x2 x3 x4 x5 z) := by
  unfold mo_ahead_b252
  exact (mf_F.ite (fr_ahead_b282 hk200 x1 x2 x3 x4 x5 z hz) (mf_F.ite (fr_ahead_b282 hk200 x1 x2 x3 x4 x5 z hz) (mf_F.gJ fun v1 => (mf_F.lI fun v2 => (mf_F.pJ hz (by decide) fun z3 hz3 => (fr_ahead_b282 hk200 x1 x2 x3 x4 x5 z3 hz3))))))
theorem fr_ahead_b239 {z0 : mm_S} {k200 : Int32 → Int32 → Int32 → Int32 → Int32 → mm_S → Option (Unit × mm_S)} (hk200 : ∀ (y1 : Int32) (y2 : Int32) (y3 : Int32) (y4 : Int32) (y5 : Int32) (y6 : mm_S), mf_R wr_ahead z0 y6 → mf_F wr_ahead z0 (k200 y1 y2 y3 y4 y5 y6)) (x1 : Int32) (x2 : Int32) (x3 : Int32) (x4 : Int32) (x5 : Int32) (z : mm_S) (hz : mf_R wr_ahead z0 z) : mf_F wr_ahead z0 (mo_ahead_b239 k200 x1 x2 x3 x4 x5 z) := by
  unfold mo_ahead_b239
  exact (mf_F.ite (mf_F.call hz (fr_blame (1 : Int32) x1 z) (by decide) fun _ z1 hz1 => (fr_ahead_b252 hk200 x1 x2 x3 x4 x5 z1 hz1)) (fr_ahead_b252 hk200 x1 x2 x3 x4 x5 z hz))
theorem fr_ahead_b200 {z0 : mm_S} : ∀ (n : Nat) (x1 : Int32) (x2 : Int32) (x3 : Int32) (x4 : Int32) (x5 : Int32) (z : mm_S), mf_R wr_ahead z0 z → mf_F wr_ahead z0 (mo_ahead_b200 n x1 x2 x3 x4 x5 z) := by
  intro n
  induction n with
  | zero => intro x1 x2 x3 x4 x5 z hz; exact mf_F.none
  | succ n ih =>
    intro x1 x2 x3 x4 x5 z hz
    rw [mo_ahead_b200]
    exact (mf_F.gI fun v1 => (mf_F.ite (fr_ahead_b323  x1 z hz) (mf_F.ite (mf_F.lI fun v2 => (mf_F.call hz (fr_isDigit v2 z) (by decide) fun v4 z3 hz3 => (mf_F.ite (fr_ahead_b323  x1 z3 hz3) (fr_ahead_b239 ih x1 x2 x3 x4 x5 z3 hz3)))) (mf_F.lI fun v5 => (mf_F.call hz (fr_isLetter v5 z) (by decide) fun v7 z6 hz6 => (mf_F.ite (fr_ahead_b323  x1 z6 hz6) (fr_ahead_b239 ih x1 x2 x3 x4 x5 z6 hz6)))))))
theorem fr_ahead_b195 {z0 : mm_S} (x1 : Int32) (x2 : Int32) (x3 : Int32) (s0 : Int32) (z : mm_S) (hz : mf_R wr_ahead z0 z) : mf_F wr_ahead z0 (mo_ahead_b195 x1 x2 x3 s0 z) := by
  unfold mo_ahead_b195
  exact (fr_ahead_b200  g_fu x1 x2 x3 s0 (0 : Int32) z hz)
theorem fr_ahead_b182 {z0 : mm_S} (x1 : Int32) (x2 : Int32) (x3 : Int32) (s1 : Int32) (z : mm_S) (hz : mf_R wr_ahead z0 z) : mf_F wr_ahead z0 (mo_ahead_b182 x1 x2 x3 s1 z) := by
  unfold mo_ahead_b182
  exact (mf_F.pI hz (by decide) fun z1 hz1 => (mf_F.ite (fr_ahead_b195  x1 x2 x3 (4 : Int32) z1 hz1) (fr_ahead_b195  x1 x2 x3 (6 : Int32) z1 hz1)))
theorem fr_ahead_b172 {z0 : mm_S} (x1 : Int32) (x2 : Int32) (x3 : Int32) (z : mm_S) (hz : mf_R wr_ahead z0 z) : mf_F wr_ahead z0 (mo_ahead_b172 x1 x2 x3 z) := by
  unfold mo_ahead_b172
  exact (mf_F.ite (fr_ahead_b182  x1 x2 x3 (2 : Int32) z hz) (fr_ahead_b182  x1 x2 x3 (1 : Int32) z hz))
theorem fr_ahead_b131 {z0 : mm_S} (x1 : Int32) (x2 : Int32) (x3 : Int32) (z : mm_S) (hz : mf_R wr_ahead z0 z) : mf_F wr_ahead z0 (mo_ahead_b131 x1 x2 x3 z) := by
  unfold mo_ahead_b131
  exact (mf_F.pI hz (by decide) fun z1 hz1 => (mf_F.pJ hz1 (by decide) fun z2 hz2 => (mf_F.pI hz2 (by decide) fun z3 hz3 => (mf_F.pI hz3 (by decide) fun z4 hz4 => (mf_F.ite (mf_F.ite (mf_F.lI fun v5 => (mf_F.pI hz4 (by decide) fun z6 hz6 => (mf_F.ret hz6))) (fr_ahead_b172  x1 x2 x3 z4 hz4)) (fr_ahead_b172  x1 x2 x3 z4 hz4))))))
theorem fr_ahead_b125 {z0 : mm_S} (x1 : Int32) (x2 : Int32) (x3 : Int32) (z : mm_S) (hz : mf_R wr_ahead z0 z) : mf_F wr_ahead z0 (mo_ahead_b125 x1 x2 x3 z) := by
  unfold mo_ahead_b125
  exact (mf_F.call hz (fr_blame (1 : Int32) x1 z) (by decide) fun _ z1 hz1 => (fr_ahead_b131  x1 x2 x3 z1 hz1))
theorem fr_ahead_b93 {z0 : mm_S} (x1 : Int32) (x2 : Int32) (x3 : Int32) (z : mm_S) (hz : mf_R wr_ahead z0 z) : mf_F wr_ahead z0 (mo_ahead_b93 x1 x2 x3 z) := by
  unfold mo_ahead_b93
  exact (mf_F.ite (fr_ahead_b131  x1 x2 x3 z hz) (mf_F.lI fun v1 => (mf_F.call hz (fr_isLetter v1 z) (by decide) fun v3 z2 hz2 => (mf_F.ite (mf_F.lI fun v4 => (mf_F.call hz2 (fr_isDigit v4 z2) (by decide) fun v6 z5 hz5 => (mf_F.ite (fr_ahead_b131  x1 x2 x3 z5 hz5) (fr_ahead_b125  x1 x2 x3 z5 hz5)))) (fr_ahead_b125  x1 x2 x3 z2 hz2)))))
theorem fr_ahead_b41 {z0 : mm_S} (x1 : Int32) (z : mm_S) (hz : mf_R wr_ahead z0 z) : mf_F wr_ahead z0 (mo_ahead_b41 x1 z) := by
  unfold mo_ahead_b41
  exact (mf_F.pI hz (by decide) fun z1 hz1 => (mf_F.pI hz1 (by decide) fun z2 hz2 => (mf_F.pI hz2 (by decide) fun z3 hz3 => (mf_F.gI fun v4 => (mf_F.ite (mf_F.lI fun v5 => (mf_F.call hz3 (fr_isLetter v5 z3) (by decide) fun v7 z6 hz6 => (mf_F.lI fun v8 => (mf_F.call hz6 (fr_isDigit v8 z6) (by decide) fun v10 z9 hz9 => (mf_F.ite (mf_F.ite (fr_ahead_b131  x1 v7 v10 z9 hz9) (fr_ahead_b93  x1 v7 v10 z9 hz9)) (fr_ahead_b93  x1 v7 v10 z9 hz9)))))) (mf_F.ret hz3))))))
theorem fr_ahead_b35 {z0 : mm_S} {k5 : Int32 → mm_S → Option (Unit × mm_S)} (hk5 : ∀ (y1 : Int32) (y2 : mm_S), mf_R wr_ahead z0 y2 → mf_F wr_ahead z0 (k5 y1 y2)) (x1 : Int32) (z : mm_S) (hz : mf_R wr_ahead z0 z) : mf_F wr_ahead z0 (mo_ahead_b35 k5 x1 z) := by
  unfold mo_ahead_b35
  exact (hk5 (x1 + (1 : Int32)) z hz)
theorem fr_ahead_b5 {z0 : mm_S} : ∀ (n : Nat) (x1 : Int32) (z : mm_S), mf_R wr_ahead z0 z → mf_F wr_ahead z0 (mo_ahead_b5 n x1 z) := by
  intro n
  induction n with
  | zero => intro x1 z hz; exact mf_F.none
  | succ n ih =>
    intro x1 z hz
    rw [mo_ahead_b5]
    exact (mf_F.gI fun v1 => (mf_F.ite (fr_ahead_b41  x1 z hz) (mf_F.lI fun v2 => (mf_F.ite (fr_ahead_b35 ih x1 z hz) (mf_F.lI fun v3 => (mf_F.ite (fr_ahead_b35 ih x1 z hz) (fr_ahead_b41  x1 z hz)))))))
theorem fr_ahead (z : mm_S) : mf_F wr_ahead z (mo_ahead z) := by
  have hz : mf_R wr_ahead z z := mf_R.rfl
  unfold mo_ahead
  exact (mf_F.gI fun v1 => (fr_ahead_b5  g_fu v1 z hz))
theorem fr_isWord (x1 : Int64) (z : mm_S) : mf_F wr_isWord z (mo_isWord x1 z) := by
  have hz : mf_R wr_isWord z z := mf_R.rfl
  unfold mo_isWord
  exact (mf_F.gI fun v1 => (mf_F.ite (mf_F.gJ fun v2 => (mf_F.ite (mf_F.ret hz) (mf_F.ret hz))) (mf_F.ret hz)))
theorem fr_is (x0 : Int32) (x1 : Int32) (x2 : Int32) (z : mm_S) : mf_F wr_is z (mo_is x0 x1 x2 z) := by
  have hz : mf_R wr_is z z := mf_R.rfl
  unfold mo_is
  exact (mf_F.ite (mf_F.ret hz) (mf_F.ite (mf_F.ret hz) (mf_F.ret hz)))
theorem fr_number_b54 {z0 : mm_S} (z : mm_S) (hz : mf_R wr_number z0 z) : mf_F wr_number z0 (mo_number_b54 z) := by
  unfold mo_number_b54
  exact (mf_F.gI fun v1 => (mf_F.gI fun v2 => (mf_F.ite (mf_F.call hz (fr_ahead z) (by decide) fun _ z3 hz3 => (mf_F.ret hz3)) (mf_F.ret hz))))
theorem fr_number_b26 {z0 : mm_S} (x1 : Int32) (x2 : Int32) (z : mm_S) (hz : mf_R wr_number z0 z) : mf_F wr_number z0 (mo_number_b26 x1 x2 z) := by
  unfold mo_number_b26
  exact (mf_F.gI fun v1 => (mf_F.ite (mf_F.gI fun v2 => (mf_F.call hz (fr_is v2 x1 x2 z) (by decide) fun v4 z3 hz3 => (mf_F.ite (mf_F.gI fun v5 => (mf_F.call hz3 (fr_blame (4 : Int32) v5 z3) (by decide) fun _ z6 hz6 => (fr_number_b54  z6 hz6))) (fr_number_b54  z3 hz3)))) (fr_number_b54  z hz)))
theorem fr_number (x1 : Int32) (x2 : Int32) (z : mm_S) : mf_F wr_number z (mo_number x1 x2 z) := by
  have hz : mf_R wr_number z z := mf_R.rfl
  unfold mo_number
  exact (mf_F.gI fun v1 => (mf_F.ite (mf_F.gI fun v2 => (mf_F.ite (fr_number_b26  x1 x2 z hz) (mf_F.gI fun v3 => (mf_F.call hz (fr_blame (1 : Int32) v3 z) (by decide) fun _ z4 hz4 => (fr_number_b26  x1 x2 z4 hz4))))) (mf_F.ret hz)))
theorem fr_isSign (x1 : Int32) (z : mm_S) : mf_F wr_isSign z (mo_isSign x1 z) := by
  have hz : mf_R wr_isSign z z := mf_R.rfl
  unfold mo_isSign
  exact (mf_F.gI fun v1 => (mf_F.ite (mf_F.gI fun v2 => (mf_F.ite (mf_F.ret hz) (mf_F.ret hz))) (mf_F.ret hz)))
theorem fr_must_b17 {z0 : mm_S} (z : mm_S) (hz : mf_R wr_must z0 z) : mf_F wr_must z0 (mo_must_b17 z) := by
  unfold mo_must_b17
  exact (mf_F.gI fun v1 => (mf_F.ite (mf_F.call hz (fr_ahead z) (by decide) fun _ z2 hz2 => (mf_F.ret hz2)) (mf_F.ret hz)))
theorem fr_must (x1 : Int32) (z : mm_S) : mf_F wr_must z (mo_must x1 z) := by
  have hz : mf_R wr_must z z := mf_R.rfl
  unfold mo_must
  exact (mf_F.call hz (fr_isSign x1 z) (by decide) fun v2 z1 hz1 => (mf_F.ite (mf_F.gI fun v3 => (mf_F.call hz1 (fr_blame (1 : Int32) v3 z1) (by decide) fun _ z4 hz4 => (fr_must_b17  z4 hz4))) (fr_must_b17  z1 hz1)))
theorem fr_sizes_b19 {z0 : mm_S} (z : mm_S) (hz : mf_R wr_sizes z0 z) : mf_F wr_sizes z0 (mo_sizes_b19 z) := by
  unfold mo_sizes_b19
  exact (mf_F.gI fun v1 => (mf_F.ite (mf_F.call hz (fr_ahead z) (by decide) fun _ z2 hz2 => (mf_F.gI fun v4 => (mf_F.call hz2 (fr_number (2 : Int32) (16 : Int32) z2) (by decide) fun v6 z5 hz5 => (mf_F.sI hz5 (by decide) fun z7 hz7 => (mf_F.gI fun v8 => (mf_F.call hz7 (fr_number (2 : Int32) (16 : Int32) z7) (by decide) fun v10 z9 hz9 => (mf_F.sI hz9 (by decide) fun z11 hz11 => (mf_F.gI fun v12 => (mf_F.ite (mf_F.call hz11 (fr_must (59 : Int32) z11) (by decide) fun _ z13 hz13 => (mf_F.ret hz13)) (mf_F.ret hz11)))))))))) (mf_F.ret hz)))
theorem fr_sizes (z : mm_S) : mf_F wr_sizes z (mo_sizes z) := by
  have hz : mf_R wr_sizes z z := mf_R.rfl
  unfold mo_sizes
  exact (mf_F.call hz (fr_isWord (1936292453 : Int64) z) (by decide) fun v2 z1 hz1 => (mf_F.ite (mf_F.gI fun v3 => (mf_F.call hz1 (fr_blame (1 : Int32) v3 z1) (by decide) fun _ z4 hz4 => (fr_sizes_b19  z4 hz4))) (fr_sizes_b19  z1 hz1)))
theorem fr_counts_b31 {z0 : mm_S} (z : mm_S) (hz : mf_R wr_counts z0 z) : mf_F wr_counts z0 (mo_counts_b31 z) := by
  unfold mo_counts_b31
  exact (mf_F.gI fun v1 => (mf_F.ite (mf_F.ret hz) (mf_F.ret hz)))
theorem fr_counts_b20 {z0 : mm_S} (z : mm_S) (hz : mf_R wr_counts z0 z) : mf_F wr_counts z0 (mo_counts_b20 z) := by
  unfold mo_counts_b20
  exact (mf_F.gI fun v1 => (mf_F.ite (mf_F.call hz (fr_ahead z) (by decide) fun _ z2 hz2 => (fr_counts_b31  z2 hz2)) (fr_counts_b31  z hz)))
theorem fr_counts (x1 : Int32) (z : mm_S) : mf_F wr_counts z (mo_counts x1 z) := by
  have hz : mf_R wr_counts z z := mf_R.rfl
  unfold mo_counts
  exact (mf_F.gI fun v1 => (mf_F.ite (mf_F.ite (fr_counts_b20  z hz) (mf_F.gI fun v2 => (mf_F.call hz (fr_blame (5 : Int32) v2 z) (by decide) fun _ z3 hz3 => (fr_counts_b20  z3 hz3)))) (fr_counts_b20  z hz)))
theorem fr_lucks (z : mm_S) : mf_F wr_lucks z (mo_lucks z) := by
  have hz : mf_R wr_lucks z z := mf_R.rfl
  unfold mo_lucks
  exact (mf_F.call hz (fr_counts (0 : Int32) z) (by decide) fun v2 z1 hz1 => (mf_F.ite (mf_F.ret hz1) (mf_F.gI fun v3 => (mf_F.call hz1 (fr_number (0 : Int32) (100 : Int32) z1) (by decide) fun v5 z4 hz4 => (mf_F.sI hz4 (by decide) fun z6 hz6 => (mf_F.ret hz6))))))
theorem fr_mostRules (x0 : Int32) (z : mm_S) : mf_F wr_mostRules z (mo_mostRules x0 z) := by
  have hz : mf_R wr_mostRules z z := mf_R.rfl
  unfold mo_mostRules
  exact (mf_F.ite (mf_F.ret hz) (mf_F.ret hz))
theorem fr_firstRule (x0 : Int32) (z : mm_S) : mf_F wr_firstRule z (mo_firstRule x0 z) := by
  have hz : mf_R wr_firstRule z z := mf_R.rfl
  unfold mo_firstRule
  exact (mf_F.ret hz)
theorem fr_pushes (x1 : Int32) (z : mm_S) : mf_F wr_pushes z (mo_pushes x1 z) := by
  have hz : mf_R wr_pushes z z := mf_R.rfl
  unfold mo_pushes
  exact (mf_F.gI fun v1 => (mf_F.sI hz (by decide) fun z2 hz2 => (mf_F.gI fun v3 => (mf_F.sI hz2 (by decide) fun z4 hz4 => (mf_F.gI fun v5 => (mf_F.sZ hz4 (by decide) fun z6 hz6 => (mf_F.gI fun v7 => (mf_F.gI fun v8 => (mf_F.sI hz6 (by decide) fun z9 hz9 => (mf_F.gI fun v10 => (mf_F.pI hz9 (by decide) fun z11 hz11 => (mf_F.ret hz11))))))))))))
theorem fr_isTest (x0 : Int32) (z : mm_S) : mf_F wr_isTest z (mo_isTest x0 z) := by
  have hz : mf_R wr_isTest z z := mf_R.rfl
  unfold mo_isTest
  exact (mf_F.ite (mf_F.ret hz) (mf_F.ite (mf_F.ret hz) (mf_F.ret hz)))
theorem fr_holdsBack (x1 : Int32) (z : mm_S) : mf_F wr_holdsBack z (mo_holdsBack x1 z) := by
  have hz : mf_R wr_holdsBack z z := mf_R.rfl
  unfold mo_holdsBack
  exact (mf_F.gI fun v1 => (mf_F.sI hz (by decide) fun z2 hz2 => (mf_F.gI fun v3 => (mf_F.pI hz2 (by decide) fun z4 hz4 => (mf_F.ret hz4)))))
theorem fr_opens_b18 {z0 : mm_S} (x1 : Int32) (z : mm_S) (hz : mf_R wr_opens z0 z) : mf_F wr_opens z0 (mo_opens_b18 x1 z) := by
  unfold mo_opens_b18
  exact (mf_F.gI fun v1 => (mf_F.ite (mf_F.gI fun v2 => (mf_F.pI hz (by decide) fun z3 hz3 => (mf_F.call hz3 (fr_ahead z3) (by decide) fun _ z4 hz4 => (mf_F.call hz4 (fr_pushes x1 z4) (by decide) fun _ z6 hz6 => (mf_F.ret hz6))))) (mf_F.ret hz)))
theorem fr_opens (x1 : Int32) (z : mm_S) : mf_F wr_opens z (mo_opens x1 z) := by
  have hz : mf_R wr_opens z z := mf_R.rfl
  unfold mo_opens
  exact (mf_F.gI fun v1 => (mf_F.ite (mf_F.gI fun v2 => (mf_F.call hz (fr_blame (5 : Int32) v2 z) (by decide) fun _ z3 hz3 => (fr_opens_b18  x1 z3 hz3))) (fr_opens_b18  x1 z hz)))
theorem fr_add (x1 : Int32) (x2 : Int32) (z : mm_S) : mf_F wr_add z (mo_add x1 x2 z) := by
  have hz : mf_R wr_add z z := mf_R.rfl
  unfold mo_add
  exact (mf_F.gI fun v1 => (mf_F.gI fun v2 => (mf_F.sI hz (by decide) fun z3 hz3 => (mf_F.gI fun v4 => (mf_F.gI fun v5 => (mf_F.sI hz3 (by decide) fun z6 hz6 => (mf_F.gI fun v7 => (mf_F.pI hz6 (by decide) fun z8 hz8 => (mf_F.ret hz8)))))))))
theorem fr_operand_b197 {z0 : mm_S} (x3 : Int32) (z : mm_S) (hz : mf_R wr_operand z0 z) : mf_F wr_operand z0 (mo_operand_b197 x3 z) := by
  unfold mo_operand_b197
  exact (mf_F.call hz (fr_opens (3 : Int32) z) (by decide) fun _ z1 hz1 => (mf_F.gI fun v3 => (mf_F.ite (mf_F.gI fun v4 => (mf_F.sI hz1 (by decide) fun z5 hz5 => (mf_F.ret hz5))) (mf_F.ret hz1))))
theorem fr_operand_b174 {z0 : mm_S} (s0 : Int32) (z : mm_S) (hz : mf_R wr_operand z0 z) : mf_F wr_operand z0 (mo_operand_b174 s0 z) := by
  unfold mo_operand_b174
  exact (mf_F.call hz (fr_ahead z) (by decide) fun _ z1 hz1 => (mf_F.call hz1 (fr_isSign (40 : Int32) z1) (by decide) fun v4 z3 hz3 => (mf_F.ite (mf_F.gI fun v5 => (mf_F.call hz3 (fr_blame (1 : Int32) v5 z3) (by decide) fun _ z6 hz6 => (fr_operand_b197  s0 z6 hz6))) (fr_operand_b197  s0 z3 hz3))))
theorem fr_operand_b157 {z0 : mm_S} (z : mm_S) (hz : mf_R wr_operand z0 z) : mf_F wr_operand z0 (mo_operand_b157 z) := by
  unfold mo_operand_b157
  exact (mf_F.call hz (fr_isWord (7170414 : Int64) z) (by decide) fun v2 z1 hz1 => (mf_F.ite (fr_operand_b174  (16 : Int32) z1 hz1) (fr_operand_b174  (15 : Int32) z1 hz1)))
theorem fr_operand_b307 {z0 : mm_S} (x3 : Int32) (z : mm_S) (hz : mf_R wr_operand z0 z) : mf_F wr_operand z0 (mo_operand_b307 x3 z) := by
  unfold mo_operand_b307
  exact (mf_F.gI fun v1 => (mf_F.ite (mf_F.gI fun v2 => (mf_F.call hz (fr_add x3 v2 z) (by decide) fun _ z3 hz3 => (mf_F.call hz3 (fr_ahead z3) (by decide) fun _ z5 hz5 => (mf_F.ret hz5)))) (mf_F.ret hz)))
theorem fr_operand_b292 {z0 : mm_S} (s0 : Int32) (z : mm_S) (hz : mf_R wr_operand z0 z) : mf_F wr_operand z0 (mo_operand_b292 s0 z) := by
  unfold mo_operand_b292
  exact (mf_F.ite (mf_F.gI fun v1 => (mf_F.call hz (fr_blame (1 : Int32) v1 z) (by decide) fun _ z2 hz2 => (fr_operand_b307  s0 z2 hz2))) (fr_operand_b307  s0 z hz))
theorem fr_operand_b121 {z0 : mm_S} (z : mm_S) (hz : mf_R wr_operand z0 z) : mf_F wr_operand z0 (mo_operand_b121 z) := by
  unfold mo_operand_b121
  exact (mf_F.call hz (fr_isSign (40 : Int32) z) (by decide) fun v2 z1 hz1 => (mf_F.ite (mf_F.call hz1 (fr_isWord (7170414 : Int64) z1) (by decide) fun v4 z3 hz3 => (mf_F.ite (mf_F.call hz3 (fr_isWord (7168376 : Int64) z3) (by decide) fun v6 z5 hz5 => (mf_F.ite (mf_F.gI fun v7 => (mf_F.ite (fr_operand_b292  (0 : Int32) z5 hz5) (mf_F.call hz5 (fr_isWord (109330212154734 : Int64) z5) (by decide) fun v9 z8 hz8 => (mf_F.ite (mf_F.call hz8 (fr_isWord (7499639 : Int64) z8) (by decide) fun v11 z10 hz10 => (mf_F.ite (mf_F.call hz10 (fr_isWord (1752135026 : Int64) z10) (by decide) fun v13 z12 hz12 => (mf_F.ite (mf_F.call hz12 (fr_isWord (431198598248 : Int64) z12) (by decide) fun v15 z14 hz14 => (mf_F.ite (fr_operand_b292  (-1 : Int32) z14 hz14) (fr_operand_b292  (4 : Int32) z14 hz14))) (fr_operand_b292  (3 : Int32) z12 hz12))) (fr_operand_b292  (2 : Int32) z10 hz10))) (fr_operand_b292  (1 : Int32) z8 hz8))))) (fr_operand_b157  z5 hz5))) (fr_operand_b157  z3 hz3))) (mf_F.call hz1 (fr_opens (2 : Int32) z1) (by decide) fun _ z16 hz16 => (mf_F.ret hz16))))
theorem fr_operand_b87 {z0 : mm_S} (x1 : Int32) (x2 : Int32) (z : mm_S) (hz : mf_R wr_operand z0 z) : mf_F wr_operand z0 (mo_operand_b87 x1 x2 z) := by
  unfold mo_operand_b87
  exact (mf_F.ite (fr_operand_b121  z hz) (mf_F.call hz (fr_isWord (6384748 : Int64) z) (by decide) fun v2 z1 hz1 => (mf_F.ite (fr_operand_b121  z1 hz1) (mf_F.call hz1 (fr_add (9 : Int32) (0 : Int32) z1) (by decide) fun _ z3 hz3 => (mf_F.sI hz3 (by decide) fun z5 hz5 => (mf_F.call hz5 (fr_ahead z5) (by decide) fun _ z6 hz6 => (mf_F.ret hz6)))))))
theorem fr_operand_b60 {z0 : mm_S} (x1 : Int32) (x2 : Int32) (z : mm_S) (hz : mf_R wr_operand z0 z) : mf_F wr_operand z0 (mo_operand_b60 x1 x2 z) := by
  unfold mo_operand_b60
  exact (mf_F.sZ hz (by decide) fun z1 hz1 => (mf_F.ite (fr_operand_b87  x1 x2 z1 hz1) (mf_F.call hz1 (fr_isSign (91 : Int32) z1) (by decide) fun v3 z2 hz2 => (mf_F.ite (fr_operand_b87  x1 x2 z2 hz2) (mf_F.call hz2 (fr_opens (5 : Int32) z2) (by decide) fun _ z4 hz4 => (mf_F.ret hz4))))))
theorem fr_operand_b33 {z0 : mm_S} (x1 : Int32) (s0 : Int32) (z : mm_S) (hz : mf_R wr_operand z0 z) : mf_F wr_operand z0 (mo_operand_b33 x1 s0 z) := by
  unfold mo_operand_b33
  exact (mf_F.ite (fr_operand_b60  x1 s0 z hz) (mf_F.call hz (fr_isWord (7237492 : Int64) z) (by decide) fun v2 z1 hz1 => (mf_F.ite (fr_operand_b60  x1 s0 z1 hz1) (mf_F.call hz1 (fr_holdsBack (22 : Int32) z1) (by decide) fun _ z3 hz3 => (mf_F.call hz3 (fr_ahead z3) (by decide) fun _ z5 hz5 => (mf_F.ret hz5))))))
theorem fr_operand_b32 {z0 : mm_S} (x1 : Int32) (z : mm_S) (hz : mf_R wr_operand z0 z) : mf_F wr_operand z0 (mo_operand_b32 x1 z) := by
  unfold mo_operand_b32
  exact (fr_operand_b33  x1 (0 : Int32) z hz)
theorem fr_operand (z : mm_S) : mf_F wr_operand z (mo_operand z) := by
  have hz : mf_R wr_operand z z := mf_R.rfl
  unfold mo_operand
  exact (mf_F.gI fun v1 => (mf_F.lI fun v2 => (mf_F.call hz (fr_isTest v2 z) (by decide) fun v4 z3 hz3 => (mf_F.ite (fr_operand_b32  (v1 - (1 : Int32)) z3 hz3) (mf_F.lI fun v5 => (mf_F.ite (fr_operand_b32  (v1 - (1 : Int32)) z3 hz3) (fr_operand_b33  (v1 - (1 : Int32)) (1 : Int32) z3 hz3)))))))
theorem fr_rank (x0 : Int32) (z : mm_S) : mf_F wr_rank z (mo_rank x0 z) := by
  have hz : mf_R wr_rank z z := mf_R.rfl
  unfold mo_rank
  exact (mf_F.ite (mf_F.ret hz) (mf_F.ite (mf_F.ret hz) (mf_F.ite (mf_F.ret hz) (mf_F.ite (mf_F.ret hz) (mf_F.ite (mf_F.ret hz) (mf_F.ite (mf_F.ret hz) (mf_F.ite (mf_F.ret hz) (mf_F.ite (mf_F.ret hz) (mf_F.ret hz)))))))))
theorem fr_joins_b0 {z0 : mm_S} : ∀ (n : Nat) (x1 : Int32) (z : mm_S), mf_R wr_joins z0 z → mf_F wr_joins z0 (mo_joins_b0 n x1 z) := by
  intro n
  induction n with
  | zero => intro x1 z hz; exact mf_F.none
  | succ n ih =>
    intro x1 z hz
    rw [mo_joins_b0]
    exact (mf_F.gI fun v1 => (mf_F.gI fun v2 => (mf_F.lI fun v3 => (mf_F.ite (mf_F.ret hz) (mf_F.gI fun v4 => (mf_F.lI fun v5 => (mf_F.call hz (fr_rank v5 z) (by decide) fun v7 z6 hz6 => (mf_F.ite (mf_F.ret hz6) (mf_F.gI fun v8 => (mf_F.pI hz6 (by decide) fun z9 hz9 => (mf_F.gI fun v10 => (mf_F.lI fun v11 => (mf_F.call hz9 (fr_add v11 (0 : Int32) z9) (by decide) fun _ z12 hz12 => (ih x1 z12 hz12))))))))))))))
theorem fr_joins (x1 : Int32) (z : mm_S) : mf_F wr_joins z (mo_joins x1 z) := by
  have hz : mf_R wr_joins z z := mf_R.rfl
  unfold mo_joins
  exact (fr_joins_b0  g_fu x1 z hz)
theorem fr_goesOn_b578 {z0 : mm_S} (z : mm_S) (hz : mf_R wr_goesOn z0 z) : mf_F wr_goesOn z0 (mo_goesOn_b578 z) := by
  unfold mo_goesOn_b578
  exact (mf_F.call hz (fr_ahead z) (by decide) fun _ z1 hz1 => (mf_F.ret hz1))
theorem fr_goesOn_b561 {z0 : mm_S} (x2 : Int32) (z : mm_S) (hz : mf_R wr_goesOn z0 z) : mf_F wr_goesOn z0 (mo_goesOn_b561 x2 z) := by
  unfold mo_goesOn_b561
  exact (mf_F.ite (mf_F.gI fun v1 => (mf_F.sI hz (by decide) fun z2 hz2 => (fr_goesOn_b578  z2 hz2))) (fr_goesOn_b578  z hz))
theorem fr_goesOn_b511 {z0 : mm_S} (x1 : Int32) (x2 : Int32) (z : mm_S) (hz : mf_R wr_goesOn z0 z) : mf_F wr_goesOn z0 (mo_goesOn_b511 x1 x2 z) := by
  unfold mo_goesOn_b511
  exact (mf_F.gI fun v1 => (mf_F.ite (mf_F.call hz (fr_joins (1 : Int32) z) (by decide) fun _ z2 hz2 => (mf_F.gI fun v4 => (mf_F.pI hz2 (by decide) fun z5 hz5 => (mf_F.gI fun v6 => (mf_F.pI hz5 (by decide) fun z7 hz7 => (mf_F.ite (mf_F.lI fun v8 => (mf_F.call hz7 (fr_add v8 (0 : Int32) z7) (by decide) fun _ z9 hz9 => (fr_goesOn_b561  x2 z9 hz9))) (fr_goesOn_b561  x2 z7 hz7))))))) (mf_F.ret hz)))
theorem fr_goesOn_b496 {z0 : mm_S} (x1 : Int32) (x2 : Int32) (s1 : Int32) (z : mm_S) (hz : mf_R wr_goesOn z0 z) : mf_F wr_goesOn z0 (mo_goesOn_b496 x1 x2 s1 z) := by
  unfold mo_goesOn_b496
  exact (mf_F.call hz (fr_isSign s1 z) (by decide) fun v2 z1 hz1 => (mf_F.ite (mf_F.gI fun v3 => (mf_F.call hz1 (fr_blame (1 : Int32) v3 z1) (by decide) fun _ z4 hz4 => (fr_goesOn_b511  x1 x2 z4 hz4))) (fr_goesOn_b511  x1 x2 z1 hz1)))
theorem fr_goesOn_b451 {z0 : mm_S} (x1 : Int32) (z : mm_S) (hz : mf_R wr_goesOn z0 z) : mf_F wr_goesOn z0 (mo_goesOn_b451 x1 z) := by
  unfold mo_goesOn_b451
  exact (mf_F.gI fun v1 => (mf_F.ite (mf_F.call hz (fr_joins (1 : Int32) z) (by decide) fun _ z2 hz2 => (mf_F.sI hz2 (by decide) fun z4 hz4 => (mf_F.call hz4 (fr_ahead z4) (by decide) fun _ z5 hz5 => (mf_F.pZ hz5 (by decide) fun z7 hz7 => (mf_F.ret hz7))))) (mf_F.ret hz)))
theorem fr_goesOn_b409 {z0 : mm_S} (x1 : Int32) (x2 : Int32) (z : mm_S) (hz : mf_R wr_goesOn z0 z) : mf_F wr_goesOn z0 (mo_goesOn_b409 x1 x2 z) := by
  unfold mo_goesOn_b409
  exact (mf_F.ite (mf_F.ite (mf_F.call hz (fr_isSign (44 : Int32) z) (by decide) fun v2 z1 hz1 => (mf_F.ite (mf_F.gI fun v3 => (mf_F.call hz1 (fr_blame (1 : Int32) v3 z1) (by decide) fun _ z4 hz4 => (fr_goesOn_b451  x1 z4 hz4))) (fr_goesOn_b451  x1 z1 hz1))) (mf_F.ite (fr_goesOn_b496  x1 x2 (93 : Int32) z hz) (fr_goesOn_b496  x1 x2 (41 : Int32) z hz))) (mf_F.gI fun v6 => (mf_F.ite (mf_F.call hz (fr_joins (1 : Int32) z) (by decide) fun _ z7 hz7 => (mf_F.ret hz7)) (mf_F.ret hz))))
theorem fr_goesOn_b387 {z0 : mm_S} (x1 : Int32) (x2 : Int32) (x3 : Int32) (z : mm_S) (hz : mf_R wr_goesOn z0 z) : mf_F wr_goesOn z0 (mo_goesOn_b387 x1 x2 x3 z) := by
  unfold mo_goesOn_b387
  exact (mf_F.ite (fr_goesOn_b409  x1 x2 z hz) (mf_F.lI fun v1 => (mf_F.ite (mf_F.gI fun v2 => (mf_F.call hz (fr_blame (1 : Int32) v2 z) (by decide) fun _ z3 hz3 => (fr_goesOn_b409  x1 x2 z3 hz3))) (fr_goesOn_b409  x1 x2 z hz))))
theorem fr_goesOn_b359 {z0 : mm_S} (x1 : Int32) (s1 : Int32) (z : mm_S) (hz : mf_R wr_goesOn z0 z) : mf_F wr_goesOn z0 (mo_goesOn_b359 x1 s1 z) := by
  unfold mo_goesOn_b359
  exact (mf_F.call hz (fr_holdsBack s1 z) (by decide) fun _ z1 hz1 => (mf_F.sI hz1 (by decide) fun z3 hz3 => (mf_F.sZ hz3 (by decide) fun z4 hz4 => (mf_F.call hz4 (fr_ahead z4) (by decide) fun _ z5 hz5 => (mf_F.pZ hz5 (by decide) fun z7 hz7 => (mf_F.ret hz7))))))
theorem fr_goesOn_b343 {z0 : mm_S} (x1 : Int32) (x4 : Int32) (s1 : Int32) (z : mm_S) (hz : mf_R wr_goesOn z0 z) : mf_F wr_goesOn z0 (mo_goesOn_b343 x1 x4 s1 z) := by
  unfold mo_goesOn_b343
  exact (mf_F.call hz (fr_joins s1 z) (by decide) fun _ z1 hz1 => (mf_F.ite (fr_goesOn_b359  x1 (21 : Int32) z1 hz1) (fr_goesOn_b359  x1 (20 : Int32) z1 hz1)))
theorem fr_goesOn_b314 {z0 : mm_S} (x1 : Int32) (z : mm_S) (hz : mf_R wr_goesOn z0 z) : mf_F wr_goesOn z0 (mo_goesOn_b314 x1 z) := by
  unfold mo_goesOn_b314
  exact (mf_F.gI fun v1 => (mf_F.ite (mf_F.call hz (fr_isWord (6385252 : Int64) z) (by decide) fun v3 z2 hz2 => (mf_F.ite (fr_goesOn_b343  x1 v3 (1 : Int32) z2 hz2) (fr_goesOn_b343  x1 v3 (2 : Int32) z2 hz2))) (mf_F.ret hz)))
theorem fr_goesOn_b296 {z0 : mm_S} (x1 : Int32) (z : mm_S) (hz : mf_R wr_goesOn z0 z) : mf_F wr_goesOn z0 (mo_goesOn_b296 x1 z) := by
  unfold mo_goesOn_b296
  exact (mf_F.lI fun v1 => (mf_F.ite (mf_F.gI fun v2 => (mf_F.call hz (fr_blame (1 : Int32) v2 z) (by decide) fun _ z3 hz3 => (fr_goesOn_b314  x1 z3 hz3))) (fr_goesOn_b314  x1 z hz)))
theorem fr_goesOn_b272 {z0 : mm_S} (x1 : Int32) (x2 : Int32) (x3 : Int32) (z : mm_S) (hz : mf_R wr_goesOn z0 z) : mf_F wr_goesOn z0 (mo_goesOn_b272 x1 x2 x3 z) := by
  unfold mo_goesOn_b272
  exact (mf_F.ite (fr_goesOn_b387  x1 x2 x3 z hz) (mf_F.call hz (fr_isWord (6385252 : Int64) z) (by decide) fun v2 z1 hz1 => (mf_F.ite (mf_F.call hz1 (fr_isWord (28530 : Int64) z1) (by decide) fun v4 z3 hz3 => (mf_F.ite (fr_goesOn_b387  x1 x2 x3 z3 hz3) (fr_goesOn_b296  x1 z3 hz3))) (fr_goesOn_b296  x1 z1 hz1))))
theorem fr_goesOn_b251 {z0 : mm_S} (x1 : Int32) (s1 : Int32) (z : mm_S) (hz : mf_R wr_goesOn z0 z) : mf_F wr_goesOn z0 (mo_goesOn_b251 x1 s1 z) := by
  unfold mo_goesOn_b251
  exact (mf_F.call hz (fr_holdsBack s1 z) (by decide) fun _ z1 hz1 => (mf_F.sI hz1 (by decide) fun z3 hz3 => (mf_F.call hz3 (fr_ahead z3) (by decide) fun _ z4 hz4 => (mf_F.pZ hz4 (by decide) fun z6 hz6 => (mf_F.ret hz6)))))
theorem fr_goesOn_b215 {z0 : mm_S} (x1 : Int32) (z : mm_S) (hz : mf_R wr_goesOn z0 z) : mf_F wr_goesOn z0 (mo_goesOn_b215 x1 z) := by
  unfold mo_goesOn_b215
  exact (mf_F.call hz (fr_joins (5 : Int32) z) (by decide) fun _ z1 hz1 => (mf_F.call hz1 (fr_isSign (60 : Int32) z1) (by decide) fun v4 z3 hz3 => (mf_F.ite (mf_F.call hz3 (fr_isSign (62 : Int32) z3) (by decide) fun v6 z5 hz5 => (mf_F.ite (fr_goesOn_b251  x1 (19 : Int32) z5 hz5) (fr_goesOn_b251  x1 (18 : Int32) z5 hz5))) (fr_goesOn_b251  x1 (17 : Int32) z3 hz3))))
theorem fr_goesOn_b175 {z0 : mm_S} (x1 : Int32) (x2 : Int32) (x3 : Int32) (z : mm_S) (hz : mf_R wr_goesOn z0 z) : mf_F wr_goesOn z0 (mo_goesOn_b175 x1 x2 x3 z) := by
  unfold mo_goesOn_b175
  exact (mf_F.ite (fr_goesOn_b272  x1 x2 x3 z hz) (mf_F.lI fun v1 => (mf_F.ite (mf_F.call hz (fr_isSign (60 : Int32) z) (by decide) fun v3 z2 hz2 => (mf_F.ite (mf_F.call hz2 (fr_isSign (62 : Int32) z2) (by decide) fun v5 z4 hz4 => (mf_F.ite (mf_F.call hz4 (fr_isSign (61 : Int32) z4) (by decide) fun v7 z6 hz6 => (mf_F.ite (fr_goesOn_b272  x1 x2 x3 z6 hz6) (fr_goesOn_b215  x1 z6 hz6))) (fr_goesOn_b215  x1 z4 hz4))) (fr_goesOn_b215  x1 z2 hz2))) (fr_goesOn_b272  x1 x2 x3 z hz))))
theorem fr_goesOn_b161 {z0 : mm_S} (s1 : Int32) (z : mm_S) (hz : mf_R wr_goesOn z0 z) : mf_F wr_goesOn z0 (mo_goesOn_b161 s1 z) := by
  unfold mo_goesOn_b161
  exact (mf_F.call hz (fr_holdsBack s1 z) (by decide) fun _ z1 hz1 => (mf_F.call hz1 (fr_ahead z1) (by decide) fun _ z3 hz3 => (mf_F.pZ hz3 (by decide) fun z5 hz5 => (mf_F.ret hz5))))
theorem fr_goesOn_b99 {z0 : mm_S} (s1 : Int32) (z : mm_S) (hz : mf_R wr_goesOn z0 z) : mf_F wr_goesOn z0 (mo_goesOn_b99 s1 z) := by
  unfold mo_goesOn_b99
  exact (mf_F.call hz (fr_joins s1 z) (by decide) fun _ z1 hz1 => (mf_F.call hz1 (fr_isSign (43 : Int32) z1) (by decide) fun v4 z3 hz3 => (mf_F.ite (mf_F.call hz3 (fr_isSign (45 : Int32) z3) (by decide) fun v6 z5 hz5 => (mf_F.ite (mf_F.call hz5 (fr_isSign (42 : Int32) z5) (by decide) fun v8 z7 hz7 => (mf_F.ite (mf_F.call hz7 (fr_isSign (47 : Int32) z7) (by decide) fun v10 z9 hz9 => (mf_F.ite (fr_goesOn_b161  (14 : Int32) z9 hz9) (fr_goesOn_b161  (13 : Int32) z9 hz9))) (fr_goesOn_b161  (12 : Int32) z7 hz7))) (fr_goesOn_b161  (11 : Int32) z5 hz5))) (fr_goesOn_b161  (10 : Int32) z3 hz3))))
theorem fr_goesOn_b93 {z0 : mm_S} (z : mm_S) (hz : mf_R wr_goesOn z0 z) : mf_F wr_goesOn z0 (mo_goesOn_b93 z) := by
  unfold mo_goesOn_b93
  exact (fr_goesOn_b99  (5 : Int32) z hz)
theorem fr_goesOn_b74 {z0 : mm_S} (z : mm_S) (hz : mf_R wr_goesOn z0 z) : mf_F wr_goesOn z0 (mo_goesOn_b74 z) := by
  unfold mo_goesOn_b74
  exact (mf_F.call hz (fr_isSign (43 : Int32) z) (by decide) fun v2 z1 hz1 => (mf_F.ite (mf_F.call hz1 (fr_isSign (45 : Int32) z1) (by decide) fun v4 z3 hz3 => (mf_F.ite (fr_goesOn_b99  (6 : Int32) z3 hz3) (fr_goesOn_b93  z3 hz3))) (fr_goesOn_b93  z1 hz1)))
theorem fr_goesOn (z : mm_S) : mf_F wr_goesOn z (mo_goesOn z) := by
  have hz : mf_R wr_goesOn z z := mf_R.rfl
  unfold mo_goesOn
  exact (mf_F.gI fun v1 => (mf_F.lI fun v2 => (mf_F.call hz (fr_isTest v2 z) (by decide) fun v4 z3 hz3 => (mf_F.lI fun v5 => (mf_F.ite (fr_goesOn_b175  (v1 - (1 : Int32)) v2 v4 z3 hz3) (mf_F.call hz3 (fr_isSign (43 : Int32) z3) (by decide) fun v7 z6 hz6 => (mf_F.ite (mf_F.call hz6 (fr_isSign (45 : Int32) z6) (by decide) fun v9 z8 hz8 => (mf_F.ite (mf_F.call hz8 (fr_isSign (42 : Int32) z8) (by decide) fun v11 z10 hz10 => (mf_F.ite (mf_F.call hz10 (fr_isSign (47 : Int32) z10) (by decide) fun v13 z12 hz12 => (mf_F.ite (mf_F.call hz12 (fr_isSign (37 : Int32) z12) (by decide) fun v15 z14 hz14 => (mf_F.ite (fr_goesOn_b175  (v1 - (1 : Int32)) v2 v4 z14 hz14) (fr_goesOn_b74  z14 hz14))) (fr_goesOn_b74  z12 hz12))) (fr_goesOn_b74  z10 hz10))) (fr_goesOn_b74  z8 hz8))) (fr_goesOn_b74  z6 hz6))))))))
theorem fr_reads_b86 {z0 : mm_S} {k43 : Int32 → mm_S → Option (Unit × mm_S)} (hk43 : ∀ (y1 : Int32) (y2 : mm_S), mf_R wr_reads z0 y2 → mf_F wr_reads z0 (k43 y1 y2)) (s0 : Int32) (z : mm_S) (hz : mf_R wr_reads z0 z) : mf_F wr_reads z0 (mo_reads_b86 k43 s0 z) := by
  unfold mo_reads_b86
  exact (hk43 s0 z hz)
theorem fr_reads_b85 {z0 : mm_S} {k43 : Int32 → mm_S → Option (Unit × mm_S)} (hk43 : ∀ (y1 : Int32) (y2 : mm_S), mf_R wr_reads z0 y2 → mf_F wr_reads z0 (k43 y1 y2)) (z : mm_S) (hz : mf_R wr_reads z0 z) : mf_F wr_reads z0 (mo_reads_b85 k43 z) := by
  unfold mo_reads_b85
  exact (fr_reads_b86 hk43 (0 : Int32) z hz)
theorem fr_reads_b70 {z0 : mm_S} {k43 : Int32 → mm_S → Option (Unit × mm_S)} (hk43 : ∀ (y1 : Int32) (y2 : mm_S), mf_R wr_reads z0 y2 → mf_F wr_reads z0 (k43 y1 y2)) (x2 : Int32) (z : mm_S) (hz : mf_R wr_reads z0 z) : mf_F wr_reads z0 (mo_reads_b70 k43 x2 z) := by
  unfold mo_reads_b70
  exact (mf_F.ite (fr_reads_b85 hk43 z hz) (mf_F.gI fun v1 => (mf_F.ite (fr_reads_b86 hk43 (1 : Int32) z hz) (fr_reads_b85 hk43 z hz))))
theorem fr_reads_b43 {z0 : mm_S} : ∀ (n : Nat) (x2 : Int32) (z : mm_S), mf_R wr_reads z0 z → mf_F wr_reads z0 (mo_reads_b43 n x2 z) := by
  intro n
  induction n with
  | zero => intro x2 z hz; exact mf_F.none
  | succ n ih =>
    intro x2 z hz
    rw [mo_reads_b43]
    exact (mf_F.ite (mf_F.ret hz) (mf_F.gI fun v1 => (mf_F.ite (mf_F.call hz (fr_operand z) (by decide) fun v5 z4 hz4 => (mf_F.pZ hz4 (by decide) fun z6 hz6 => (fr_reads_b70 ih x2 z6 hz6))) (mf_F.call hz (fr_goesOn z) (by decide) fun v3 z2 hz2 => (fr_reads_b70 ih v3 z2 hz2)))))
theorem fr_reads_b38 {z0 : mm_S} (s1 : Int32) (z : mm_S) (hz : mf_R wr_reads z0 z) : mf_F wr_reads z0 (mo_reads_b38 s1 z) := by
  unfold mo_reads_b38
  exact (mf_F.call hz (fr_pushes s1 z) (by decide) fun _ z1 hz1 => (fr_reads_b43  g_fu (1 : Int32) z1 hz1))
theorem fr_reads (x1 : Int32) (z : mm_S) : mf_F wr_reads z (mo_reads x1 z) := by
  have hz : mf_R wr_reads z z := mf_R.rfl
  unfold mo_reads
  exact (mf_F.gI fun v1 => (mf_F.ite (mf_F.pI hz (by decide) fun z2 hz2 => (mf_F.pI hz2 (by decide) fun z3 hz3 => (mf_F.pI hz3 (by decide) fun z4 hz4 => (mf_F.pZ hz4 (by decide) fun z5 hz5 => (mf_F.ite (fr_reads_b38  (0 : Int32) z5 hz5) (fr_reads_b38  (1 : Int32) z5 hz5)))))) (mf_F.ret hz)))
theorem fr_must_2_b25 {z0 : mm_S} (z : mm_S) (hz : mf_R wr_must_2 z0 z) : mf_F wr_must_2 z0 (mo_must_2_b25 z) := by
  unfold mo_must_2_b25
  exact (mf_F.gI fun v1 => (mf_F.ite (mf_F.call hz (fr_ahead z) (by decide) fun _ z2 hz2 => (mf_F.ret hz2)) (mf_F.ret hz)))
theorem fr_must_2 (x1 : Int64) (z : mm_S) : mf_F wr_must_2 z (mo_must_2 x1 z) := by
  have hz : mf_R wr_must_2 z z := mf_R.rfl
  unfold mo_must_2
  exact (mf_F.gI fun v1 => (mf_F.ite (mf_F.call hz (fr_isWord x1 z) (by decide) fun v3 z2 hz2 => (mf_F.ite (mf_F.gI fun v4 => (mf_F.call hz2 (fr_blame (1 : Int32) v4 z2) (by decide) fun _ z5 hz5 => (fr_must_2_b25  z5 hz5))) (fr_must_2_b25  z2 hz2))) (mf_F.ret hz)))
theorem fr_rule_b109 {z0 : mm_S} (x1 : Int32) (x2 : Int32) (z : mm_S) (hz : mf_R wr_rule z0 z) : mf_F wr_rule z0 (mo_rule_b109 x1 x2 z) := by
  unfold mo_rule_b109
  exact (mf_F.gI fun v1 => (mf_F.sI hz (by decide) fun z2 hz2 => (mf_F.gI fun v3 => (mf_F.ite (mf_F.gI fun v4 => (mf_F.lI fun v5 => (mf_F.sI hz2 (by decide) fun z6 hz6 => (mf_F.ret hz6)))) (mf_F.ret hz2)))))
theorem fr_rule_b80 {z0 : mm_S} (x1 : Int32) (x2 : Int32) (z : mm_S) (hz : mf_R wr_rule z0 z) : mf_F wr_rule z0 (mo_rule_b80 x1 x2 z) := by
  unfold mo_rule_b80
  exact (mf_F.call hz (fr_must_2 (2003330414 : Int64) z) (by decide) fun _ z1 hz1 => (mf_F.gI fun v3 => (mf_F.sI hz1 (by decide) fun z4 hz4 => (mf_F.gI fun v5 => (mf_F.ite (mf_F.call hz4 (fr_reads (1 : Int32) z4) (by decide) fun _ z6 hz6 => (fr_rule_b109  x1 x2 z6 hz6)) (fr_rule_b109  x1 x2 z4 hz4))))))
theorem fr_rule_b26 {z0 : mm_S} (x1 : Int32) (s1 : Int32) (z : mm_S) (hz : mf_R wr_rule z0 z) : mf_F wr_rule z0 (mo_rule_b26 x1 s1 z) := by
  unfold mo_rule_b26
  exact (mf_F.call hz (fr_counts s1 z) (by decide) fun v2 z1 hz1 => (mf_F.ite (mf_F.ret hz1) (mf_F.gI fun v3 => (mf_F.call hz1 (fr_firstRule x1 z1) (by decide) fun v5 z4 hz4 => (mf_F.gI fun v6 => (mf_F.lI fun v7 => (mf_F.gI fun v8 => (mf_F.sI hz4 (by decide) fun z9 hz9 => (mf_F.ite (fr_rule_b80  x1 ((((30 : Int32) * v3) + v5) + v7) z9 hz9) (mf_F.call hz9 (fr_reads (0 : Int32) z9) (by decide) fun _ z10 hz10 => (fr_rule_b80  x1 ((((30 : Int32) * v3) + v5) + v7) z10 hz10)))))))))))
theorem fr_rule (x1 : Int32) (z : mm_S) : mf_F wr_rule z (mo_rule x1 z) := by
  have hz : mf_R wr_rule z z := mf_R.rfl
  unfold mo_rule
  exact (mf_F.gI fun v1 => (mf_F.lI fun v2 => (mf_F.call hz (fr_mostRules x1 z) (by decide) fun v4 z3 hz3 => (mf_F.ite (fr_rule_b26  x1 (1 : Int32) z3 hz3) (fr_rule_b26  x1 (0 : Int32) z3 hz3)))))
theorem fr_isOwn (x1 : Int64) (z : mm_S) : mf_F wr_isOwn z (mo_isOwn x1 z) := by
  have hz : mf_R wr_isOwn z z := mf_R.rfl
  unfold mo_isOwn
  exact (mf_F.ite (mf_F.ret hz) (mf_F.ite (mf_F.ret hz) (mf_F.ite (mf_F.ret hz) (mf_F.ite (mf_F.ret hz) (mf_F.ite (mf_F.ret hz) (mf_F.ite (mf_F.ret hz) (mf_F.ite (mf_F.ret hz) (mf_F.ite (mf_F.ret hz) (mf_F.ite (mf_F.ret hz) (mf_F.ite (mf_F.ret hz) (mf_F.ite (mf_F.ret hz) (mf_F.ite (mf_F.ret hz) (mf_F.ite (mf_F.ret hz) (mf_F.ite (mf_F.ret hz) (mf_F.ite (mf_F.ret hz) (mf_F.ite (mf_F.ret hz) (mf_F.ite (mf_F.ret hz) (mf_F.ite (mf_F.ret hz) (mf_F.ite (mf_F.ret hz) (mf_F.ite (mf_F.ret hz) (mf_F.ite (mf_F.ret hz) (mf_F.ite (mf_F.ret hz) (mf_F.ite (mf_F.ret hz) (mf_F.ite (mf_F.ret hz) (mf_F.ite (mf_F.ret hz) (mf_F.ite (mf_F.ret hz) (mf_F.ite (mf_F.ret hz) (mf_F.ret hz))))))))))))))))))))))))))))
theorem fr_named_b2 {z0 : mm_S} : ∀ (n : Nat) (x1 : Int64) (x3 : Int32) (z : mm_S), mf_R wr_named z0 z → mf_F wr_named z0 (mo_named_b2 n x1 x3 z) := by
  intro n
  induction n with
  | zero => intro x1 x3 z hz; exact mf_F.none
  | succ n ih =>
    intro x1 x3 z hz
    rw [mo_named_b2]
    exact (mf_F.gI fun v1 => (mf_F.lI fun v2 => (mf_F.ite (mf_F.ret hz) (mf_F.gI fun v3 => (mf_F.lL fun v4 => (mf_F.ite (mf_F.ret hz) (ih x1 (x3 + (1 : Int32)) z hz)))))))
theorem fr_named (x1 : Int64) (z : mm_S) : mf_F wr_named z (mo_named x1 z) := by
  have hz : mf_R wr_named z z := mf_R.rfl
  unfold mo_named
  exact (fr_named_b2  g_fu x1 (0 : Int32) z hz)
theorem fr_fresh_b65 {z0 : mm_S} (z : mm_S) (hz : mf_R wr_fresh z0 z) : mf_F wr_fresh z0 (mo_fresh_b65 z) := by
  unfold mo_fresh_b65
  exact (mf_F.gJ fun v1 => (mf_F.gI fun v2 => (mf_F.ite (mf_F.call hz (fr_ahead z) (by decide) fun _ z3 hz3 => (mf_F.ret hz3)) (mf_F.ret hz))))
theorem fr_fresh_b37 {z0 : mm_S} (z : mm_S) (hz : mf_R wr_fresh z0 z) : mf_F wr_fresh z0 (mo_fresh_b37 z) := by
  unfold mo_fresh_b37
  exact (mf_F.gI fun v1 => (mf_F.ite (mf_F.gJ fun v2 => (mf_F.call hz (fr_named v2 z) (by decide) fun v4 z3 hz3 => (mf_F.ite (fr_fresh_b65  z3 hz3) (mf_F.gI fun v5 => (mf_F.call hz3 (fr_blame (2 : Int32) v5 z3) (by decide) fun _ z6 hz6 => (fr_fresh_b65  z6 hz6)))))) (fr_fresh_b65  z hz)))
theorem fr_fresh_b28 {z0 : mm_S} (z : mm_S) (hz : mf_R wr_fresh z0 z) : mf_F wr_fresh z0 (mo_fresh_b28 z) := by
  unfold mo_fresh_b28
  exact (mf_F.gI fun v1 => (mf_F.call hz (fr_blame (1 : Int32) v1 z) (by decide) fun _ z2 hz2 => (fr_fresh_b37  z2 hz2)))
theorem fr_fresh (z : mm_S) : mf_F wr_fresh z (mo_fresh z) := by
  have hz : mf_R wr_fresh z z := mf_R.rfl
  unfold mo_fresh
  exact (mf_F.gI fun v1 => (mf_F.ite (mf_F.gI fun v2 => (mf_F.ite (mf_F.gJ fun v3 => (mf_F.call hz (fr_isOwn v3 z) (by decide) fun v5 z4 hz4 => (mf_F.ite (fr_fresh_b37  z4 hz4) (fr_fresh_b28  z4 hz4)))) (fr_fresh_b28  z hz))) (mf_F.ret hz)))
theorem fr_ship_b20 {z0 : mm_S} (s1 : Int32) (z : mm_S) (hz : mf_R wr_ship z0 z) : mf_F wr_ship z0 (mo_ship_b20 s1 z) := by
  unfold mo_ship_b20
  exact (mf_F.call hz (fr_counts s1 z) (by decide) fun v2 z1 hz1 => (mf_F.ite (mf_F.ret hz1) (mf_F.gI fun v3 => (mf_F.gI fun v4 => (mf_F.lI fun v5 => (mf_F.call hz1 (fr_fresh z1) (by decide) fun v7 z6 hz6 => (mf_F.sL hz6 (by decide) fun z8 hz8 => (mf_F.call hz8 (fr_must_2 (1819242347 : Int64) z8) (by decide) fun _ z9 hz9 => (mf_F.call hz9 (fr_number (0 : Int32) (3 : Int32) z9) (by decide) fun v12 z11 hz11 => (mf_F.sI hz11 (by decide) fun z13 hz13 => (mf_F.call hz13 (fr_must_2 (495806932324 : Int64) z13) (by decide) fun _ z14 hz14 => (mf_F.call hz14 (fr_number (1 : Int32) (4 : Int32) z14) (by decide) fun v17 z16 hz16 => (mf_F.sI hz16 (by decide) fun z18 hz18 => (mf_F.call hz18 (fr_must_2 (431415715444 : Int64) z18) (by decide) fun _ z19 hz19 => (mf_F.call hz19 (fr_number (1 : Int32) (40 : Int32) z19) (by decide) fun v22 z21 hz21 => (mf_F.sI hz21 (by decide) fun z23 hz23 => (mf_F.call hz23 (fr_must_2 (1819238756 : Int64) z23) (by decide) fun _ z24 hz24 => (mf_F.call hz24 (fr_number (0 : Int32) (40 : Int32) z24) (by decide) fun v27 z26 hz26 => (mf_F.sI hz26 (by decide) fun z28 hz28 => (mf_F.gI fun v29 => (mf_F.ite (mf_F.gI fun v30 => (mf_F.lI fun v31 => (mf_F.sI hz28 (by decide) fun z32 hz32 => (mf_F.ret hz32)))) (mf_F.ret hz28))))))))))))))))))))))
theorem fr_ship (z : mm_S) : mf_F wr_ship z (mo_ship z) := by
  have hz : mf_R wr_ship z z := mf_R.rfl
  unfold mo_ship
  exact (mf_F.gI fun v1 => (mf_F.lI fun v2 => (mf_F.ite (fr_ship_b20  (1 : Int32) z hz) (fr_ship_b20  (0 : Int32) z hz))))
theorem fr_asked_b89 {z0 : mm_S} (x1 : Int32) (z : mm_S) (hz : mf_R wr_asked z0 z) : mf_F wr_asked z0 (mo_asked_b89 x1 z) := by
  unfold mo_asked_b89
  exact (mf_F.gI fun v1 => (mf_F.ite (mf_F.ret hz) (mf_F.ret hz)))
theorem fr_asked_b78 {z0 : mm_S} (x1 : Int32) (z : mm_S) (hz : mf_R wr_asked z0 z) : mf_F wr_asked z0 (mo_asked_b78 x1 z) := by
  unfold mo_asked_b78
  exact (mf_F.gI fun v1 => (mf_F.ite (mf_F.call hz (fr_ahead z) (by decide) fun _ z2 hz2 => (fr_asked_b89  x1 z2 hz2)) (fr_asked_b89  x1 z hz)))
theorem fr_asked_b56 {z0 : mm_S} (s0 : Int32) (z : mm_S) (hz : mf_R wr_asked z0 z) : mf_F wr_asked z0 (mo_asked_b56 s0 z) := by
  unfold mo_asked_b56
  exact (mf_F.gI fun v1 => (mf_F.ite (mf_F.ite (mf_F.gI fun v2 => (mf_F.call hz (fr_blame (3 : Int32) v2 z) (by decide) fun _ z3 hz3 => (fr_asked_b78  s0 z3 hz3))) (fr_asked_b78  s0 z hz)) (fr_asked_b78  s0 z hz)))
theorem fr_asked_b37 {z0 : mm_S} (z : mm_S) (hz : mf_R wr_asked z0 z) : mf_F wr_asked z0 (mo_asked_b37 z) := by
  unfold mo_asked_b37
  exact (mf_F.gI fun v1 => (mf_F.ite (mf_F.gJ fun v2 => (mf_F.call hz (fr_named v2 z) (by decide) fun v4 z3 hz3 => (fr_asked_b56  v4 z3 hz3))) (fr_asked_b56  (0 : Int32) z hz)))
theorem fr_asked_b28 {z0 : mm_S} (z : mm_S) (hz : mf_R wr_asked z0 z) : mf_F wr_asked z0 (mo_asked_b28 z) := by
  unfold mo_asked_b28
  exact (mf_F.gI fun v1 => (mf_F.call hz (fr_blame (1 : Int32) v1 z) (by decide) fun _ z2 hz2 => (fr_asked_b37  z2 hz2)))
theorem fr_asked (z : mm_S) : mf_F wr_asked z (mo_asked z) := by
  have hz : mf_R wr_asked z z := mf_R.rfl
  unfold mo_asked
  exact (mf_F.gI fun v1 => (mf_F.ite (mf_F.gI fun v2 => (mf_F.ite (mf_F.gJ fun v3 => (mf_F.call hz (fr_isOwn v3 z) (by decide) fun v5 z4 hz4 => (mf_F.ite (fr_asked_b37  z4 hz4) (fr_asked_b28  z4 hz4)))) (fr_asked_b28  z hz))) (mf_F.ret hz)))
theorem fr_cellHere (z : mm_S) : mf_F wr_cellHere z (mo_cellHere z) := by
  have hz : mf_R wr_cellHere z z := mf_R.rfl
  unfold mo_cellHere
  exact (mf_F.call hz (fr_must_2 (24948 : Int64) z) (by decide) fun _ z1 hz1 => (mf_F.gI fun v3 => (mf_F.lI fun v4 => (mf_F.call hz1 (fr_number (0 : Int32) (v4 - (1 : Int32)) z1) (by decide) fun v6 z5 hz5 => (mf_F.gI fun v7 => (mf_F.lI fun v8 => (mf_F.call hz5 (fr_number (0 : Int32) (v8 - (1 : Int32)) z5) (by decide) fun v10 z9 hz9 => (mf_F.gI fun v11 => (mf_F.lI fun v12 => (mf_F.ret hz9))))))))))
theorem fr_says_b173 {z0 : mm_S} (s1 : Int32) (s2 : Int32) (z : mm_S) (hz : mf_R wr_says z0 z) : mf_F wr_says z0 (mo_says_b173 s1 s2 z) := by
  unfold mo_says_b173
  exact (mf_F.sZ hz (by decide) fun z1 hz1 => (mf_F.gI fun v2 => (mf_F.lI fun v3 => (mf_F.sI hz1 (by decide) fun z4 hz4 => (mf_F.ret hz4)))))
theorem fr_says_b96 {z0 : mm_S} (x1 : Int32) (z : mm_S) (hz : mf_R wr_says z0 z) : mf_F wr_says z0 (mo_says_b96 x1 z) := by
  unfold mo_says_b96
  exact (mf_F.call hz (fr_number (0 : Int32) (47 : Int32) z) (by decide) fun v2 z1 hz1 => (mf_F.gI fun v3 => (mf_F.call hz1 (fr_cellHere z1) (by decide) fun v5 z4 hz4 => (mf_F.call hz4 (fr_must_2 (465490437486 : Int64) z4) (by decide) fun _ z6 hz6 => (mf_F.call hz6 (fr_number (0 : Int32) (1 : Int32) z6) (by decide) fun v9 z8 hz8 => (mf_F.gI fun v10 => (mf_F.ite (mf_F.sI hz8 (by decide) fun z11 hz11 => (mf_F.ite (fr_says_b173  ((((384 : Int32) * v3) + ((48 : Int32) * x1)) + v2) (1 : Int32) z11 hz11) (fr_says_b173  ((((384 : Int32) * v3) + ((48 : Int32) * x1)) + v2) (0 : Int32) z11 hz11))) (mf_F.ret hz8))))))))
theorem fr_says_b20 {z0 : mm_S} (s1 : Int32) (z : mm_S) (hz : mf_R wr_says z0 z) : mf_F wr_says z0 (mo_says_b20 s1 z) := by
  unfold mo_says_b20
  exact (mf_F.call hz (fr_counts s1 z) (by decide) fun v2 z1 hz1 => (mf_F.ite (mf_F.ret hz1) (mf_F.call hz1 (fr_asked z1) (by decide) fun v4 z3 hz3 => (mf_F.gI fun v5 => (mf_F.ite (mf_F.gI fun v6 => (mf_F.ite (mf_F.gI fun v7 => (mf_F.call hz3 (fr_is v7 (0 : Int32) (47 : Int32) z3) (by decide) fun v9 z8 hz8 => (mf_F.ite (fr_says_b96  v4 z8 hz8) (mf_F.gI fun v10 => (mf_F.gI fun v11 => (mf_F.lI fun v12 => (mf_F.ite (fr_says_b96  v4 z8 hz8) (mf_F.gI fun v13 => (mf_F.call hz8 (fr_blame (3 : Int32) v13 z8) (by decide) fun _ z14 hz14 => (fr_says_b96  v4 z14 hz14)))))))))) (fr_says_b96  v4 z3 hz3))) (fr_says_b96  v4 z3 hz3))))))
theorem fr_says (z : mm_S) : mf_F wr_says z (mo_says z) := by
  have hz : mf_R wr_says z z := mf_R.rfl
  unfold mo_says
  exact (mf_F.gI fun v1 => (mf_F.lI fun v2 => (mf_F.ite (fr_says_b20  (1 : Int32) z hz) (fr_says_b20  (0 : Int32) z hz))))
theorem fr_book_b20 {z0 : mm_S} (s1 : Int32) (z : mm_S) (hz : mf_R wr_book z0 z) : mf_F wr_book z0 (mo_book_b20 s1 z) := by
  unfold mo_book_b20
  exact (mf_F.call hz (fr_counts s1 z) (by decide) fun v2 z1 hz1 => (mf_F.ite (mf_F.ret hz1) (mf_F.gI fun v3 => (mf_F.gI fun v4 => (mf_F.lI fun v5 => (mf_F.call hz1 (fr_asked z1) (by decide) fun v7 z6 hz6 => (mf_F.sI hz6 (by decide) fun z8 hz8 => (mf_F.call hz8 (fr_cellHere z8) (by decide) fun v10 z9 hz9 => (mf_F.sI hz9 (by decide) fun z11 hz11 => (mf_F.call hz11 (fr_must_2 (1718775661 : Int64) z11) (by decide) fun _ z12 hz12 => (mf_F.call hz12 (fr_number (0 : Int32) (47 : Int32) z12) (by decide) fun v15 z14 hz14 => (mf_F.sI hz14 (by decide) fun z16 hz16 => (mf_F.call hz16 (fr_must_2 (29807 : Int64) z16) (by decide) fun _ z17 hz17 => (mf_F.lI fun v19 => (mf_F.call hz17 (fr_number v19 (47 : Int32) z17) (by decide) fun v21 z20 hz20 => (mf_F.sI hz20 (by decide) fun z22 hz22 => (mf_F.gI fun v23 => (mf_F.ite (mf_F.gI fun v24 => (mf_F.lI fun v25 => (mf_F.sI hz22 (by decide) fun z26 hz26 => (mf_F.ret hz26)))) (mf_F.ret hz22)))))))))))))))))))
theorem fr_book (z : mm_S) : mf_F wr_book z (mo_book z) := by
  have hz : mf_R wr_book z z := mf_R.rfl
  unfold mo_book
  exact (mf_F.gI fun v1 => (mf_F.lI fun v2 => (mf_F.ite (fr_book_b20  (1 : Int32) z hz) (fr_book_b20  (0 : Int32) z hz))))
theorem fr_seen_b20 {z0 : mm_S} (s1 : Int32) (z : mm_S) (hz : mf_R wr_seen z0 z) : mf_F wr_seen z0 (mo_seen_b20 s1 z) := by
  unfold mo_seen_b20
  exact (mf_F.call hz (fr_counts s1 z) (by decide) fun v2 z1 hz1 => (mf_F.ite (mf_F.ret hz1) (mf_F.gI fun v3 => (mf_F.gI fun v4 => (mf_F.lI fun v5 => (mf_F.call hz1 (fr_number (0 : Int32) (3 : Int32) z1) (by decide) fun v7 z6 hz6 => (mf_F.sI hz6 (by decide) fun z8 hz8 => (mf_F.call hz8 (fr_cellHere z8) (by decide) fun v10 z9 hz9 => (mf_F.sI hz9 (by decide) fun z11 hz11 => (mf_F.call hz11 (fr_must_2 (1752135026 : Int64) z11) (by decide) fun _ z12 hz12 => (mf_F.call hz12 (fr_number (0 : Int32) (47 : Int32) z12) (by decide) fun v15 z14 hz14 => (mf_F.sI hz14 (by decide) fun z16 hz16 => (mf_F.gI fun v17 => (mf_F.ite (mf_F.gI fun v18 => (mf_F.lI fun v19 => (mf_F.sI hz16 (by decide) fun z20 hz20 => (mf_F.ret hz20)))) (mf_F.ret hz16)))))))))))))))
theorem fr_seen (z : mm_S) : mf_F wr_seen z (mo_seen z) := by
  have hz : mf_R wr_seen z z := mf_R.rfl
  unfold mo_seen
  exact (mf_F.gI fun v1 => (mf_F.lI fun v2 => (mf_F.ite (fr_seen_b20  (1 : Int32) z hz) (fr_seen_b20  (0 : Int32) z hz))))
theorem fr_statement_b148 {z0 : mm_S} (z : mm_S) (hz : mf_R wr_statement z0 z) : mf_F wr_statement z0 (mo_statement_b148 z) := by
  unfold mo_statement_b148
  exact (mf_F.gI fun v1 => (mf_F.ite (mf_F.call hz (fr_must (59 : Int32) z) (by decide) fun _ z2 hz2 => (mf_F.ret hz2)) (mf_F.ret hz)))
theorem fr_statement (z : mm_S) : mf_F wr_statement z (mo_statement z) := by
  have hz : mf_R wr_statement z z := mf_R.rfl
  unfold mo_statement
  exact (mf_F.call hz (fr_isWord (431198598248 : Int64) z) (by decide) fun v2 z1 hz1 => (mf_F.ite (mf_F.call hz1 (fr_isWord (1668248436 : Int64) z1) (by decide) fun v4 z3 hz3 => (mf_F.ite (mf_F.call hz3 (fr_isWord (487301145972 : Int64) z3) (by decide) fun v6 z5 hz5 => (mf_F.ite (mf_F.call hz5 (fr_isWord (1936222576 : Int64) z5) (by decide) fun v8 z7 hz7 => (mf_F.ite (mf_F.call hz7 (fr_isWord (1935767923 : Int64) z7) (by decide) fun v10 z9 hz9 => (mf_F.ite (mf_F.call hz9 (fr_isWord (1651470187 : Int64) z9) (by decide) fun v12 z11 hz11 => (mf_F.ite (mf_F.call hz11 (fr_isWord (1936024942 : Int64) z11) (by decide) fun v14 z13 hz13 => (mf_F.ite (mf_F.call hz13 (fr_isWord (1819632491 : Int64) z13) (by decide) fun v16 z15 hz15 => (mf_F.ite (mf_F.gI fun v17 => (mf_F.call hz15 (fr_blame (1 : Int32) v17 z15) (by decide) fun _ z18 hz18 => (fr_statement_b148  z18 hz18))) (mf_F.call hz15 (fr_lucks z15) (by decide) fun _ z20 hz20 => (fr_statement_b148  z20 hz20)))) (mf_F.call hz13 (fr_seen z13) (by decide) fun _ z22 hz22 => (fr_statement_b148  z22 hz22)))) (mf_F.call hz11 (fr_book z11) (by decide) fun _ z24 hz24 => (fr_statement_b148  z24 hz24)))) (mf_F.call hz9 (fr_says z9) (by decide) fun _ z26 hz26 => (fr_statement_b148  z26 hz26)))) (mf_F.call hz7 (fr_ship z7) (by decide) fun _ z28 hz28 => (fr_statement_b148  z28 hz28)))) (mf_F.call hz5 (fr_rule (2 : Int32) z5) (by decide) fun _ z30 hz30 => (fr_statement_b148  z30 hz30)))) (mf_F.call hz3 (fr_rule (1 : Int32) z3) (by decide) fun _ z32 hz32 => (fr_statement_b148  z32 hz32)))) (mf_F.call hz1 (fr_rule (0 : Int32) z1) (by decide) fun _ z34 hz34 => (fr_statement_b148  z34 hz34))))
theorem fr_cells (z : mm_S) : mf_F wr_cells z (mo_cells z) := by
  have hz : mf_R wr_cells z z := mf_R.rfl
  unfold mo_cells
  exact (mf_F.gI fun v1 => (mf_F.lI fun v2 => (mf_F.gI fun v3 => (mf_F.lI fun v4 => (mf_F.ret hz)))))
theorem fr_columnOf (x1 : Int32) (z : mm_S) : mf_F wr_columnOf z (mo_columnOf x1 z) := by
  have hz : mf_R wr_columnOf z z := mf_R.rfl
  unfold mo_columnOf
  exact (mf_F.gI fun v1 => (mf_F.lI fun v2 => (mf_F.dv (mf_F.ret hz))))
theorem fr_rowOf (x1 : Int32) (z : mm_S) : mf_F wr_rowOf z (mo_rowOf x1 z) := by
  have hz : mf_R wr_rowOf z z := mf_R.rfl
  unfold mo_rowOf
  exact (mf_F.gI fun v1 => (mf_F.lI fun v2 => (mf_F.dv (mf_F.ret hz))))
theorem fr_bounded (x0 : Int64) (z : mm_S) : mf_F wr_bounded z (mo_bounded x0 z) := by
  have hz : mf_R wr_bounded z z := mf_R.rfl
  unfold mo_bounded
  exact (mf_F.ite (mf_F.ite (mf_F.ret hz) (mf_F.ret hz)) (mf_F.ret hz))
theorem fr_over_b43 {z0 : mm_S} (x4 : Int64) (s0 : Int32) (s1 : Int32) (z : mm_S) (hz : mf_R wr_over z0 z) : mf_F wr_over z0 (mo_over_b43 x4 s0 s1 z) := by
  unfold mo_over_b43
  exact (mf_F.ite (mf_F.ret hz) (mf_F.ret hz))
theorem fr_over_b32 {z0 : mm_S} (x2 : Int64) (x4 : Int64) (s0 : Int32) (z : mm_S) (hz : mf_R wr_over z0 z) : mf_F wr_over z0 (mo_over_b32 x2 x4 s0 z) := by
  unfold mo_over_b32
  exact (mf_F.ite (fr_over_b43  x4 s0 (0 : Int32) z hz) (fr_over_b43  x4 s0 (1 : Int32) z hz))
theorem fr_over (x0 : Int64) (x2 : Int64) (z : mm_S) : mf_F wr_over z (mo_over x0 x2 z) := by
  have hz : mf_R wr_over z z := mf_R.rfl
  unfold mo_over
  exact (mf_F.ite (mf_F.ret hz) (mf_F.dvL (mf_F.dvL (mf_F.ite (mf_F.ret hz) (mf_F.ite (fr_over_b32  x2 (x0 / x2) (0 : Int32) z hz) (fr_over_b32  x2 (x0 / x2) (1 : Int32) z hz))))))
theorem fr_made (x0 : Int32) (x1 : Int64) (x3 : Int64) (z : mm_S) : mf_F wr_made z (mo_made x0 x1 x3 z) := by
  have hz : mf_R wr_made z z := mf_R.rfl
  unfold mo_made
  exact (mf_F.ite (mf_F.call hz (fr_bounded (x1 + x3) z) (by decide) fun v2 z1 hz1 => (mf_F.ret hz1)) (mf_F.ite (mf_F.call hz (fr_bounded (x1 - x3) z) (by decide) fun v4 z3 hz3 => (mf_F.ret hz3)) (mf_F.ite (mf_F.call hz (fr_bounded (x1 * x3) z) (by decide) fun v6 z5 hz5 => (mf_F.ret hz5)) (mf_F.ite (mf_F.call hz (fr_over x1 x3 z) (by decide) fun v8 z7 hz7 => (mf_F.ret hz7)) (mf_F.ite (mf_F.ite (mf_F.ret hz) (mf_F.call hz (fr_over x1 x3 z) (by decide) fun v10 z9 hz9 => (mf_F.ret hz9))) (mf_F.ite (mf_F.ite (mf_F.ret hz) (mf_F.ret hz)) (mf_F.ite (mf_F.ite (mf_F.ret hz) (mf_F.ret hz)) (mf_F.ite (mf_F.ite (mf_F.ret hz) (mf_F.ret hz)) (mf_F.ite (mf_F.ite (mf_F.ret hz) (mf_F.ret hz)) (mf_F.ite (mf_F.ite (mf_F.ret hz) (mf_F.ret hz)) (mf_F.ite (mf_F.ret hz) (mf_F.ite (mf_F.ret hz) (mf_F.ret hz)))))))))))))
theorem fr_works_b150 {z0 : mm_S} {k14 : Int32 → Int32 → Int32 → mm_S → Option (Int64 × mm_S)} (hk14 : ∀ (y1 : Int32) (y2 : Int32) (y3 : Int32) (y4 : mm_S), mf_R wr_works z0 y4 → mf_F wr_works z0 (k14 y1 y2 y3 y4)) (x2 : Int32) (x3 : Int32) (x4 : Int32) (z : mm_S) (hz : mf_R wr_works z0 z) : mf_F wr_works z0 (mo_works_b150 k14 x2 x3 x4 z) := by
  unfold mo_works_b150
  exact (hk14 x2 x3 (x4 + (1 : Int32)) z hz)
theorem fr_works_b85 {z0 : mm_S} {k14 : Int32 → Int32 → Int32 → mm_S → Option (Int64 × mm_S)} (hk14 : ∀ (y1 : Int32) (y2 : Int32) (y3 : Int32) (y4 : mm_S), mf_R wr_works z0 y4 → mf_F wr_works z0 (k14 y1 y2 y3 y4)) (x2 : Int32) (x3 : Int32) (x4 : Int32) (s1 : Int32) (s2 : Int64) (z : mm_S) (hz : mf_R wr_works z0 z) : mf_F wr_works z0 (mo_works_b85 k14 x2 x3 x4 s1 s2 z) := by
  unfold mo_works_b85
  exact (mf_F.sL hz (by decide) fun z1 hz1 => (fr_works_b150 hk14 x2 (x3 + (1 : Int32)) x4 z1 hz1))
theorem fr_works_b14 {z0 : mm_S} : ∀ (n : Nat) (x2 : Int32) (x3 : Int32) (x4 : Int32) (z : mm_S), mf_R wr_works z0 z → mf_F wr_works z0 (mo_works_b14 n x2 x3 x4 z) := by
  intro n
  induction n with
  | zero => intro x2 x3 x4 z hz; exact mf_F.none
  | succ n ih =>
    intro x2 x3 x4 z hz
    rw [mo_works_b14]
    exact (mf_F.gI fun v1 => (mf_F.ite (mf_F.lL fun v2 => (mf_F.ret hz)) (mf_F.lI fun v3 => (mf_F.ite (mf_F.ite (mf_F.lL fun v9 => (mf_F.sL hz (by decide) fun z10 hz10 => (fr_works_b150 ih x2 x3 x4 z10 hz10))) (mf_F.lL fun v4 => (mf_F.lL fun v5 => (mf_F.call hz (fr_made v3 v4 v5 z) (by decide) fun v7 z6 hz6 => (mf_F.sL hz6 (by decide) fun z8 hz8 => (fr_works_b150 ih x2 (x3 + (-1 : Int32)) x4 z8 hz8)))))) (mf_F.ite (mf_F.lI fun v12 => (fr_works_b85 ih x2 x3 x4 x3 (v12).toInt64 z hz)) (mf_F.ite (fr_works_b85 ih x2 x3 x4 x3 (1 : Int64) z hz) (mf_F.lI fun v11 => (fr_works_b85 ih x2 x3 x4 x3 (v11).toInt64 z hz))))))))
theorem fr_works (x1 : Int32) (x2 : Int32) (z : mm_S) : mf_F wr_works z (mo_works x1 x2 z) := by
  have hz : mf_R wr_works z z := mf_R.rfl
  unfold mo_works
  exact (mf_F.gI fun v1 => (fr_works_b14  g_fu x2 (0 : Int32) (((1800 : Int32) * v1) + x1) z hz))
theorem fr_ruleOf_b55 {z0 : mm_S} : ∀ (n : Nat) (x1 : Int32) (x5 : Int32) (x6 : Int32) (z : mm_S), mf_R wr_ruleOf z0 z → mf_F wr_ruleOf z0 (mo_ruleOf_b55 n x1 x5 x6 z) := by
  intro n
  induction n with
  | zero => intro x1 x5 x6 z hz; exact mf_F.none
  | succ n ih =>
    intro x1 x5 x6 z hz
    rw [mo_ruleOf_b55]
    exact (mf_F.gI fun v1 => (mf_F.lI fun v2 => (mf_F.ite (mf_F.ret hz) (mf_F.lI fun v3 => (mf_F.lI fun v4 => (mf_F.call hz (fr_works v3 v4 z) (by decide) fun v6 z5 hz5 => (mf_F.ite (mf_F.ret hz5) (ih x1 x5 (x6 + (1 : Int32)) z5 hz5))))))))
theorem fr_ruleOf (x1 : Int32) (x2 : Int32) (x3 : Int32) (x4 : Int32) (z : mm_S) : mf_F wr_ruleOf z (mo_ruleOf x1 x2 x3 x4 z) := by
  have hz : mf_R wr_ruleOf z z := mf_R.rfl
  unfold mo_ruleOf
  exact (mf_F.call hz (fr_columnOf x2 z) (by decide) fun v2 z1 hz1 => (mf_F.sI hz1 (by decide) fun z3 hz3 => (mf_F.call hz3 (fr_rowOf x2 z3) (by decide) fun v5 z4 hz4 => (mf_F.sI hz4 (by decide) fun z6 hz6 => (mf_F.sI hz6 (by decide) fun z7 hz7 => (mf_F.sI hz7 (by decide) fun z8 hz8 => (mf_F.gI fun v9 => (mf_F.call hz8 (fr_firstRule x1 z8) (by decide) fun v11 z10 hz10 => (fr_ruleOf_b55  g_fu x1 (((30 : Int32) * v9) + v11) (((30 : Int32) * v9) + v11) z10 hz10)))))))))
theorem fr_sumOf_b38 {z0 : mm_S} (s0 : Int64) (z : mm_S) (hz : mf_R wr_sumOf z0 z) : mf_F wr_sumOf z0 (mo_sumOf_b38 s0 z) := by
  unfold mo_sumOf_b38
  exact (mf_F.ite (mf_F.ite (mf_F.ret hz) (mf_F.ret hz)) (mf_F.ret hz))
theorem fr_sumOf (x1 : Int32) (x2 : Int32) (x3 : Int32) (z : mm_S) : mf_F wr_sumOf z (mo_sumOf x1 x2 x3 z) := by
  have hz : mf_R wr_sumOf z z := mf_R.rfl
  unfold mo_sumOf
  exact (mf_F.call hz (fr_ruleOf x1 x2 (0 : Int32) x3 z) (by decide) fun v2 z1 hz1 => (mf_F.ite (fr_sumOf_b38  (0 : Int64) z1 hz1) (mf_F.lI fun v3 => (mf_F.lI fun v4 => (mf_F.call hz1 (fr_works v3 v4 z1) (by decide) fun v6 z5 hz5 => (fr_sumOf_b38  v6 z5 hz5))))))
theorem fr_lays_b2 {z0 : mm_S} : ∀ (n : Nat) (x1 : Int32) (z : mm_S), mf_R wr_lays z0 z → mf_F wr_lays z0 (mo_lays_b2 n x1 z) := by
  intro n
  induction n with
  | zero => intro x1 z hz; exact mf_F.none
  | succ n ih =>
    intro x1 z hz
    rw [mo_lays_b2]
    exact (mf_F.call hz (fr_cells z) (by decide) fun v2 z1 hz1 => (mf_F.ite (mf_F.ret hz1) (mf_F.call hz1 (fr_sumOf (0 : Int32) x1 (0 : Int32) z1) (by decide) fun v4 z3 hz3 => (mf_F.sI hz3 (by decide) fun z5 hz5 => (mf_F.lI fun v6 => (mf_F.call hz5 (fr_sumOf (1 : Int32) x1 v6 z5) (by decide) fun v8 z7 hz7 => (mf_F.sI hz7 (by decide) fun z9 hz9 => (ih (x1 + (1 : Int32)) z9 hz9))))))))
theorem fr_lays (z : mm_S) : mf_F wr_lays z (mo_lays z) := by
  have hz : mf_R wr_lays z z := mf_R.rfl
  unfold mo_lays
  exact (fr_lays_b2  g_fu (0 : Int32) z hz)
theorem fr_sea_b186 {z0 : mm_S} (x1 : Int32) (z : mm_S) (hz : mf_R wr_sea z0 z) : mf_F wr_sea z0 (mo_sea_b186 x1 z) := by
  unfold mo_sea_b186
  exact (mf_F.gI fun v1 => (mf_F.pI hz (by decide) fun z2 hz2 => (mf_F.gI fun v3 => (mf_F.pI hz2 (by decide) fun z4 hz4 => (mf_F.gI fun v5 => (mf_F.ite (mf_F.gI fun v6 => (mf_F.pI hz4 (by decide) fun z7 hz7 => (mf_F.call hz7 (fr_lays z7) (by decide) fun _ z8 hz8 => (mf_F.ret hz8)))) (mf_F.call hz4 (fr_refuses (1 : Int32) z4) (by decide) fun v11 z10 hz10 => (mf_F.ret hz10))))))))
theorem fr_sea_b162 {z0 : mm_S} : ∀ (n : Nat) (x1 : Int32) (z : mm_S), mf_R wr_sea z0 z → mf_F wr_sea z0 (mo_sea_b162 n x1 z) := by
  intro n
  induction n with
  | zero => intro x1 z hz; exact mf_F.none
  | succ n ih =>
    intro x1 z hz
    rw [mo_sea_b162]
    exact (mf_F.gI fun v1 => (mf_F.ite (mf_F.gI fun v2 => (mf_F.ite (fr_sea_b186  x1 z hz) (mf_F.call hz (fr_statement z) (by decide) fun _ z3 hz3 => (ih (x1 + (1 : Int32)) z3 hz3)))) (fr_sea_b186  x1 z hz)))
theorem fr_sea_b67 {z0 : mm_S} : ∀ (n : Nat) (x1 : Int32) (z : mm_S), mf_R wr_sea z0 z → mf_F wr_sea z0 (mo_sea_b67 n x1 z) := by
  intro n
  induction n with
  | zero => intro x1 z hz; exact mf_F.none
  | succ n ih =>
    intro x1 z hz
    rw [mo_sea_b67]
    exact (mf_F.ite (mf_F.gI fun v1 => (mf_F.sI hz (by decide) fun z2 hz2 => (mf_F.gI fun v3 => (mf_F.sI hz2 (by decide) fun z4 hz4 => (mf_F.gI fun v5 => (mf_F.sI hz4 (by decide) fun z6 hz6 => (mf_F.gI fun v7 => (mf_F.sI hz6 (by decide) fun z8 hz8 => (mf_F.gI fun v9 => (mf_F.sI hz8 (by decide) fun z10 hz10 => (mf_F.pI hz10 (by decide) fun z11 hz11 => (mf_F.call hz11 (fr_ahead z11) (by decide) fun _ z12 hz12 => (mf_F.call hz12 (fr_sizes z12) (by decide) fun _ z14 hz14 => (fr_sea_b162  g_fu (1 : Int32) z14 hz14)))))))))))))) (mf_F.gI fun v16 => (mf_F.sI hz (by decide) fun z17 hz17 => (ih (x1 + (1 : Int32)) z17 hz17))))
theorem fr_sea_b40 {z0 : mm_S} : ∀ (n : Nat) (x1 : Int32) (z : mm_S), mf_R wr_sea z0 z → mf_F wr_sea z0 (mo_sea_b40 n x1 z) := by
  intro n
  induction n with
  | zero => intro x1 z hz; exact mf_F.none
  | succ n ih =>
    intro x1 z hz
    rw [mo_sea_b40]
    exact (mf_F.ite (fr_sea_b67  g_fu (0 : Int32) z hz) (mf_F.gI fun v1 => (mf_F.sI hz (by decide) fun z2 hz2 => (ih (x1 + (1 : Int32)) z2 hz2))))
theorem fr_sea (z : mm_S) : mf_F wr_sea z (mo_sea z) := by
  have hz : mf_R wr_sea z z := mf_R.rfl
  unfold mo_sea
  exact (mf_F.gI fun v1 => (mf_F.pI hz (by decide) fun z2 hz2 => (mf_F.pI hz2 (by decide) fun z3 hz3 => (mf_F.pI hz3 (by decide) fun z4 hz4 => (mf_F.pI hz4 (by decide) fun z5 hz5 => (mf_F.pI hz5 (by decide) fun z6 hz6 => (mf_F.gI fun v7 => (mf_F.pI hz6 (by decide) fun z8 hz8 => (fr_sea_b40  g_fu (0 : Int32) z8 hz8)))))))))
theorem fr_fault (x1 : Int32) (z : mm_S) : mf_F wr_fault z (mo_fault x1 z) := by
  have hz : mf_R wr_fault z z := mf_R.rfl
  unfold mo_fault
  exact (mf_F.ite (mf_F.gI fun v2 => (mf_F.ret hz)) (mf_F.ite (mf_F.gI fun v1 => (mf_F.ret hz)) (mf_F.ret hz)))
theorem fr_status (x1 : Int32) (z : mm_S) : mf_F wr_status z (mo_status x1 z) := by
  have hz : mf_R wr_status z z := mf_R.rfl
  unfold mo_status
  exact (mf_F.call hz (fr_is x1 (0 : Int32) (4 : Int32) z) (by decide) fun v2 z1 hz1 => (mf_F.ite (mf_F.ret hz1) (mf_F.lI fun v3 => (mf_F.ret hz1))))
theorem fr_isCell (x1 : Int32) (x2 : Int32) (z : mm_S) : mf_F wr_isCell z (mo_isCell x1 x2 z) := by
  have hz : mf_R wr_isCell z z := mf_R.rfl
  unfold mo_isCell
  exact (mf_F.gI fun v1 => (mf_F.lI fun v2 => (mf_F.call hz (fr_is x1 (0 : Int32) (v2 - (1 : Int32)) z) (by decide) fun v4 z3 hz3 => (mf_F.ite (mf_F.ret hz3) (mf_F.gI fun v5 => (mf_F.lI fun v6 => (mf_F.call hz3 (fr_is x2 (0 : Int32) (v6 - (1 : Int32)) z3) (by decide) fun v8 z7 hz7 => (mf_F.ite (mf_F.ret hz7) (mf_F.ret hz7)))))))))
theorem fr_isHour (x0 : Int32) (z : mm_S) : mf_F wr_isHour z (mo_isHour x0 z) := by
  have hz : mf_R wr_isHour z z := mf_R.rfl
  unfold mo_isHour
  exact (mf_F.call hz (fr_is x0 (0 : Int32) (47 : Int32) z) (by decide) fun v2 z1 hz1 => (mf_F.ite (mf_F.ret hz1) mf_F.none))
theorem fr_at (x1 : Int32) (x2 : Int32) (z : mm_S) : mf_F wr_at z (mo_at x1 x2 z) := by
  have hz : mf_R wr_at z z := mf_R.rfl
  unfold mo_at
  exact (mf_F.gI fun v1 => (mf_F.lI fun v2 => (mf_F.ret hz)))
theorem fr_isQuiet (x1 : Int32) (x2 : Int32) (z : mm_S) : mf_F wr_isQuiet z (mo_isQuiet x1 x2 z) := by
  have hz : mf_R wr_isQuiet z z := mf_R.rfl
  unfold mo_isQuiet
  exact (mf_F.lI fun v1 => (mf_F.call hz (fr_ruleOf (2 : Int32) x1 x2 v1 z) (by decide) fun v3 z2 hz2 => (mf_F.ite (mf_F.ret hz2) (mf_F.ret hz2))))
theorem fr_cell (x1 : Int32) (x2 : Int32) (x3 : Int32) (x4 : Int32) (z : mm_S) : mf_F wr_cell z (mo_cell x1 x2 x3 x4 z) := by
  have hz : mf_R wr_cell z z := mf_R.rfl
  unfold mo_cell
  exact (mf_F.call hz (fr_isCell x1 x2 z) (by decide) fun v2 z1 hz1 => (mf_F.ite (mf_F.ret hz1) (mf_F.call hz1 (fr_isHour x3 z1) (by decide) fun v4 z3 hz3 => (mf_F.ite (mf_F.ret hz3) (mf_F.call hz3 (fr_at x1 x2 z3) (by decide) fun v6 z5 hz5 => (mf_F.ite (mf_F.lI fun v10 => (mf_F.ret hz5)) (mf_F.ite (mf_F.lI fun v9 => (mf_F.ret hz5)) (mf_F.ite (mf_F.call hz5 (fr_isQuiet v6 x3 z5) (by decide) fun v8 z7 hz7 => (mf_F.ite (mf_F.ret hz7) (mf_F.ret hz7))) (mf_F.ret hz5)))))))))
theorem fr_said (x1 : Int32) (x2 : Int32) (z : mm_S) : mf_F wr_said z (mo_said x1 x2 z) := by
  have hz : mf_R wr_said z z := mf_R.rfl
  unfold mo_said
  exact (mf_F.gI fun v1 => (mf_F.lI fun v2 => (mf_F.ret hz)))
theorem fr_sayingsOf_b26 {z0 : mm_S} {k4 : Int32 → Int32 → Int32 → mm_S → Option (Int32 × mm_S)} (hk4 : ∀ (y1 : Int32) (y2 : Int32) (y3 : Int32) (y4 : mm_S), mf_R wr_sayingsOf z0 y4 → mf_F wr_sayingsOf z0 (k4 y1 y2 y3 y4)) (x1 : Int32) (x3 : Int32) (s0 : Int32) (s1 : Int32) (z : mm_S) (hz : mf_R wr_sayingsOf z0 z) : mf_F wr_sayingsOf z0 (mo_sayingsOf_b26 k4 x1 x3 s0 s1 z) := by
  unfold mo_sayingsOf_b26
  exact (hk4 x1 (s0 + s1) (x3 + (1 : Int32)) z hz)
theorem fr_sayingsOf_b4 {z0 : mm_S} : ∀ (n : Nat) (x1 : Int32) (x2 : Int32) (x3 : Int32) (z : mm_S), mf_R wr_sayingsOf z0 z → mf_F wr_sayingsOf z0 (mo_sayingsOf_b4 n x1 x2 x3 z) := by
  intro n
  induction n with
  | zero => intro x1 x2 x3 z hz; exact mf_F.none
  | succ n ih =>
    intro x1 x2 x3 z hz
    rw [mo_sayingsOf_b4]
    exact (mf_F.ite (mf_F.ret hz) (mf_F.call hz (fr_said x1 x3 z) (by decide) fun v2 z1 hz1 => (mf_F.ite (fr_sayingsOf_b26 ih x1 x3 x2 (0 : Int32) z1 hz1) (fr_sayingsOf_b26 ih x1 x3 x2 (1 : Int32) z1 hz1))))
theorem fr_sayingsOf (x1 : Int32) (z : mm_S) : mf_F wr_sayingsOf z (mo_sayingsOf x1 z) := by
  have hz : mf_R wr_sayingsOf z z := mf_R.rfl
  unfold mo_sayingsOf
  exact (fr_sayingsOf_b4  g_fu x1 (0 : Int32) (0 : Int32) z hz)
theorem fr_has_b147 {z0 : mm_S} {k120 : Int32 → Int32 → mm_S → Option (Int32 × mm_S)} (hk120 : ∀ (y1 : Int32) (y2 : Int32) (y3 : mm_S), mf_R wr_has z0 y3 → mf_F wr_has z0 (k120 y1 y2 y3)) (x3 : Int32) (s0 : Int32) (s1 : Int32) (z : mm_S) (hz : mf_R wr_has z0 z) : mf_F wr_has z0 (mo_has_b147 k120 x3 s0 s1 z) := by
  unfold mo_has_b147
  exact (hk120 (s0 + s1) (x3 + (1 : Int32)) z hz)
theorem fr_has_b120 {z0 : mm_S} : ∀ (n : Nat) (x2 : Int32) (x3 : Int32) (z : mm_S), mf_R wr_has z0 z → mf_F wr_has z0 (mo_has_b120 n x2 x3 z) := by
  intro n
  induction n with
  | zero => intro x2 x3 z hz; exact mf_F.none
  | succ n ih =>
    intro x2 x3 z hz
    rw [mo_has_b120]
    exact (mf_F.gI fun v1 => (mf_F.lI fun v2 => (mf_F.ite (mf_F.ret hz) (mf_F.call hz (fr_sayingsOf x3 z) (by decide) fun v4 z3 hz3 => (mf_F.ite (fr_has_b147 ih x3 x2 (0 : Int32) z3 hz3) (fr_has_b147 ih x3 x2 (1 : Int32) z3 hz3))))))
theorem fr_has (x1 : Int32) (z : mm_S) : mf_F wr_has z (mo_has x1 z) := by
  have hz : mf_R wr_has z z := mf_R.rfl
  unfold mo_has
  exact (mf_F.ite (mf_F.gI fun v1 => (mf_F.lI fun v2 => (mf_F.ret hz))) (mf_F.ite (mf_F.gI fun v3 => (mf_F.lI fun v4 => (mf_F.ret hz))) (mf_F.ite (mf_F.gI fun v5 => (mf_F.lI fun v6 => (mf_F.ret hz))) (mf_F.ite (mf_F.gI fun v7 => (mf_F.lI fun v8 => (mf_F.ret hz))) (mf_F.ite (mf_F.gI fun v9 => (mf_F.lI fun v10 => (mf_F.ret hz))) (mf_F.ite (mf_F.gI fun v11 => (mf_F.lI fun v12 => (mf_F.ret hz))) (mf_F.ite (mf_F.gI fun v13 => (mf_F.lI fun v14 => (mf_F.ret hz))) (mf_F.ite (fr_has_b120  g_fu (0 : Int32) (0 : Int32) z hz) (mf_F.ret hz)))))))))
theorem fr_isShip (x1 : Int32) (z : mm_S) : mf_F wr_isShip z (mo_isShip x1 z) := by
  have hz : mf_R wr_isShip z z := mf_R.rfl
  unfold mo_isShip
  exact (mf_F.gI fun v1 => (mf_F.lI fun v2 => (mf_F.call hz (fr_is x1 (0 : Int32) (v2 - (1 : Int32)) z) (by decide) fun v4 z3 hz3 => (mf_F.ite (mf_F.ret hz3) mf_F.none))))
theorem fr_letter_b31 {z0 : mm_S} : ∀ (n : Nat) (x2 : Int32) (x3 : Int64) (x5 : Int32) (x6 : Int64) (z : mm_S), mf_R wr_letter z0 z → mf_F wr_letter z0 (mo_letter_b31 n x2 x3 x5 x6 z) := by
  intro n
  induction n with
  | zero => intro x2 x3 x5 x6 z hz; exact mf_F.none
  | succ n ih =>
    intro x2 x3 x5 x6 z hz
    rw [mo_letter_b31]
    exact (mf_F.ite (mf_F.ite (mf_F.ret hz) (mf_F.ite (mf_F.ret hz) (mf_F.ret hz))) (ih x2 x3 (x5 + (1 : Int32)) (((x6).toUInt64 >>> (((8 : Int32)).toInt64.toUInt64 &&& Int64.toUInt64 63)).toInt64) z hz))
theorem fr_letter (x1 : Int32) (x2 : Int32) (z : mm_S) : mf_F wr_letter z (mo_letter x1 x2 z) := by
  have hz : mf_R wr_letter z z := mf_R.rfl
  unfold mo_letter
  exact (mf_F.call hz (fr_isShip x1 z) (by decide) fun v2 z1 hz1 => (mf_F.ite (mf_F.ret hz1) (mf_F.gI fun v3 => (mf_F.lL fun v4 => (fr_letter_b31  g_fu x2 v4 (0 : Int32) v4 z1 hz1)))))
theorem fr_isWater (x1 : Int32) (x2 : Int32) (z : mm_S) : mf_F wr_isWater z (mo_isWater x1 x2 z) := by
  have hz : mf_R wr_isWater z z := mf_R.rfl
  unfold mo_isWater
  exact (mf_F.lI fun v1 => (mf_F.gI fun v2 => (mf_F.lI fun v3 => (mf_F.ite (mf_F.ret hz) (mf_F.ret hz)))))
theorem fr_reaches (x1 : Int32) (x2 : Int32) (x3 : Int32) (x4 : Int32) (z : mm_S) : mf_F wr_reaches z (mo_reaches x1 x2 x3 x4 z) := by
  have hz : mf_R wr_reaches z z := mf_R.rfl
  unfold mo_reaches
  exact (mf_F.call hz (fr_isCell x2 x3 z) (by decide) fun v2 z1 hz1 => (mf_F.ite (mf_F.ret hz1) (mf_F.call hz1 (fr_at x2 x3 z1) (by decide) fun v4 z3 hz3 => (mf_F.lI fun v5 => (mf_F.ite (mf_F.call hz3 (fr_isWater x1 v4 z3) (by decide) fun v7 z6 hz6 => (mf_F.ite (mf_F.ret hz6) (mf_F.sI hz6 (by decide) fun z8 hz8 => (mf_F.gI fun v9 => (mf_F.sI hz8 (by decide) fun z10 hz10 => (mf_F.gI fun v11 => (mf_F.pI hz10 (by decide) fun z12 hz12 => (mf_F.ret hz12)))))))) (mf_F.ret hz3))))))
theorem fr_goes_b46 {z0 : mm_S} : ∀ (n : Nat) (x1 : Int32) (x3 : Int32) (z : mm_S), mf_R wr_goes z0 z → mf_F wr_goes z0 (mo_goes_b46 n x1 x3 z) := by
  intro n
  induction n with
  | zero => intro x1 x3 z hz; exact mf_F.none
  | succ n ih =>
    intro x1 x3 z hz
    rw [mo_goes_b46]
    exact (mf_F.gI fun v1 => (mf_F.ite (mf_F.ret hz) (mf_F.lI fun v2 => (mf_F.call hz (fr_columnOf v2 z) (by decide) fun v4 z3 hz3 => (mf_F.call hz3 (fr_rowOf v2 z3) (by decide) fun v6 z5 hz5 => (mf_F.lI fun v7 => (mf_F.call hz5 (fr_reaches x1 (v4 - (1 : Int32)) v6 (v7 + (1 : Int32)) z5) (by decide) fun _ z8 hz8 => (mf_F.lI fun v10 => (mf_F.call hz8 (fr_reaches x1 (v4 + (1 : Int32)) v6 (v10 + (1 : Int32)) z8) (by decide) fun _ z11 hz11 => (mf_F.lI fun v13 => (mf_F.call hz11 (fr_reaches x1 v4 (v6 - (1 : Int32)) (v13 + (1 : Int32)) z11) (by decide) fun _ z14 hz14 => (mf_F.lI fun v16 => (mf_F.call hz14 (fr_reaches x1 v4 (v6 + (1 : Int32)) (v16 + (1 : Int32)) z14) (by decide) fun _ z17 hz17 => (ih x1 (x3 + (1 : Int32)) z17 hz17))))))))))))))
theorem fr_goes_b2 {z0 : mm_S} : ∀ (n : Nat) (x1 : Int32) (x2 : Int32) (x3 : Int32) (z : mm_S), mf_R wr_goes z0 z → mf_F wr_goes z0 (mo_goes_b2 n x1 x2 x3 z) := by
  intro n
  induction n with
  | zero => intro x1 x2 x3 z hz; exact mf_F.none
  | succ n ih =>
    intro x1 x2 x3 z hz
    rw [mo_goes_b2]
    exact (mf_F.call hz (fr_cells z) (by decide) fun v2 z1 hz1 => (mf_F.ite (mf_F.pI hz1 (by decide) fun z3 hz3 => (mf_F.call hz3 (fr_columnOf x2 z3) (by decide) fun v5 z4 hz4 => (mf_F.call hz4 (fr_rowOf x2 z4) (by decide) fun v7 z6 hz6 => (mf_F.call hz6 (fr_reaches x1 v5 v7 (0 : Int32) z6) (by decide) fun _ z8 hz8 => (fr_goes_b46  g_fu x1 (0 : Int32) z8 hz8))))) (mf_F.sI hz1 (by decide) fun z10 hz10 => (ih x1 x2 (x3 + (1 : Int32)) z10 hz10))))
theorem fr_goes (x1 : Int32) (x2 : Int32) (z : mm_S) : mf_F wr_goes z (mo_goes x1 x2 z) := by
  have hz : mf_R wr_goes z z := mf_R.rfl
  unfold mo_goes
  exact (fr_goes_b2  g_fu x1 x2 (0 : Int32) z hz)
theorem fr_hoursTo (x1 : Int32) (x2 : Int32) (z : mm_S) : mf_F wr_hoursTo z (mo_hoursTo x1 x2 z) := by
  have hz : mf_R wr_hoursTo z z := mf_R.rfl
  unfold mo_hoursTo
  exact (mf_F.gI fun v1 => (mf_F.lI fun v2 => (mf_F.lI fun v3 => (mf_F.ite (mf_F.ret hz) (mf_F.lI fun v4 => (mf_F.dv (mf_F.ret hz)))))))
theorem fr_far (x1 : Int32) (x2 : Int32) (x3 : Int32) (x4 : Int32) (x5 : Int32) (z : mm_S) : mf_F wr_far z (mo_far x1 x2 x3 x4 x5 z) := by
  have hz : mf_R wr_far z z := mf_R.rfl
  unfold mo_far
  exact (mf_F.call hz (fr_isShip x1 z) (by decide) fun v2 z1 hz1 => (mf_F.ite (mf_F.ret hz1) (mf_F.call hz1 (fr_isCell x2 x3 z1) (by decide) fun v4 z3 hz3 => (mf_F.ite (mf_F.ret hz3) (mf_F.call hz3 (fr_isCell x4 x5 z3) (by decide) fun v6 z5 hz5 => (mf_F.ite (mf_F.ret hz5) (mf_F.call hz5 (fr_at x2 x3 z5) (by decide) fun v8 z7 hz7 => (mf_F.call hz7 (fr_goes x1 v8 z7) (by decide) fun _ z9 hz9 => (mf_F.call hz9 (fr_at x4 x5 z9) (by decide) fun v12 z11 hz11 => (mf_F.call hz11 (fr_hoursTo x1 v12 z11) (by decide) fun v14 z13 hz13 => (mf_F.ite (mf_F.ret hz13) (mf_F.ret hz13))))))))))))
theorem fr_fact (x1 : Int32) (x2 : Int32) (x3 : Int32) (z : mm_S) : mf_F wr_fact z (mo_fact x1 x2 x3 z) := by
  have hz : mf_R wr_fact z z := mf_R.rfl
  unfold mo_fact
  exact (mf_F.gI fun v1 => (mf_F.sI hz (by decide) fun z2 hz2 => (mf_F.gI fun v3 => (mf_F.sI hz2 (by decide) fun z4 hz4 => (mf_F.gI fun v5 => (mf_F.sI hz4 (by decide) fun z6 hz6 => (mf_F.gI fun v7 => (mf_F.pI hz6 (by decide) fun z8 hz8 => (mf_F.ret hz8)))))))))
theorem fr_addBooks_b61 {z0 : mm_S} {k8 : Int32 → Int32 → mm_S → Option (Unit × mm_S)} (hk8 : ∀ (y1 : Int32) (y2 : Int32) (y3 : mm_S), mf_R wr_addBooks z0 y3 → mf_F wr_addBooks z0 (k8 y1 y2 y3)) (x1 : Int32) (x2 : Int32) (z : mm_S) (hz : mf_R wr_addBooks z0 z) : mf_F wr_addBooks z0 (mo_addBooks_b61 k8 x1 x2 z) := by
  unfold mo_addBooks_b61
  exact (hk8 x1 (x2 + (1 : Int32)) z hz)
theorem fr_addBooks_b8 {z0 : mm_S} : ∀ (n : Nat) (x1 : Int32) (x2 : Int32) (z : mm_S), mf_R wr_addBooks z0 z → mf_F wr_addBooks z0 (mo_addBooks_b8 n x1 x2 z) := by
  intro n
  induction n with
  | zero => intro x1 x2 z hz; exact mf_F.none
  | succ n ih =>
    intro x1 x2 z hz
    rw [mo_addBooks_b8]
    exact (mf_F.gI fun v1 => (mf_F.gI fun v2 => (mf_F.lI fun v3 => (mf_F.ite (mf_F.ret hz) (mf_F.lI fun v4 => (mf_F.ite (mf_F.lI fun v5 => (mf_F.lI fun v6 => (mf_F.lI fun v7 => (mf_F.call hz (fr_fact v5 v6 v7 z) (by decide) fun _ z8 hz8 => (fr_addBooks_b61 ih x1 x2 z8 hz8))))) (fr_addBooks_b61 ih x1 x2 z hz)))))))
theorem fr_addBooks (x1 : Int32) (z : mm_S) : mf_F wr_addBooks z (mo_addBooks x1 z) := by
  have hz : mf_R wr_addBooks z z := mf_R.rfl
  unfold mo_addBooks
  exact (mf_F.gI fun v1 => (fr_addBooks_b8  g_fu x1 ((12 : Int32) * v1) z hz))
theorem fr_between (x0 : Int32) (x1 : Int32) (x2 : Int32) (x3 : Int32) (z : mm_S) : mf_F wr_between z (mo_between x0 x1 x2 x3 z) := by
  have hz : mf_R wr_between z z := mf_R.rfl
  unfold mo_between
  exact (mf_F.ite (mf_F.ite (mf_F.ret hz) (mf_F.ret hz)) (mf_F.ret hz))
theorem fr_fit_b23 {z0 : mm_S} {k2 : Int32 → Int32 → mm_S → Option (Int32 × mm_S)} (hk2 : ∀ (y1 : Int32) (y2 : Int32) (y3 : mm_S), mf_R wr_fit z0 y3 → mf_F wr_fit z0 (k2 y1 y2 y3)) : ∀ (n : Nat) (x1 : Int32) (x2 : Int32) (x3 : Int32) (z : mm_S), mf_R wr_fit z0 z → mf_F wr_fit z0 (mo_fit_b23 k2 n x1 x2 x3 z) := by
  intro n
  induction n with
  | zero => intro x1 x2 x3 z hz; exact mf_F.none
  | succ n ih =>
    intro x1 x2 x3 z hz
    rw [mo_fit_b23]
    exact (mf_F.gI fun v1 => (mf_F.ite (hk2 x1 (x2 + (1 : Int32)) z hz) (mf_F.lI fun v2 => (mf_F.call hz (fr_hoursTo x1 v2 z) (by decide) fun v4 z3 hz3 => (mf_F.lI fun v5 => (mf_F.lI fun v6 => (mf_F.lI fun v7 => (mf_F.lI fun v8 => (mf_F.call hz3 (fr_between v5 v6 v7 v8 z3) (by decide) fun v10 z9 hz9 => (mf_F.ite (ih x1 x2 (x3 + (1 : Int32)) z9 hz9) (mf_F.ret hz9)))))))))))
theorem fr_fit_b2 {z0 : mm_S} : ∀ (n : Nat) (x1 : Int32) (x2 : Int32) (z : mm_S), mf_R wr_fit z0 z → mf_F wr_fit z0 (mo_fit_b2 n x1 x2 z) := by
  intro n
  induction n with
  | zero => intro x1 x2 z hz; exact mf_F.none
  | succ n ih =>
    intro x1 x2 z hz
    rw [mo_fit_b2]
    exact (mf_F.gI fun v1 => (mf_F.ite (mf_F.ret hz) (mf_F.lI fun v2 => (mf_F.call hz (fr_goes x1 v2 z) (by decide) fun _ z3 hz3 => (fr_fit_b23 ih g_fu x1 x2 (0 : Int32) z3 hz3)))))
theorem fr_fit (x1 : Int32) (z : mm_S) : mf_F wr_fit z (mo_fit x1 z) := by
  have hz : mf_R wr_fit z z := mf_R.rfl
  unfold mo_fit
  exact (fr_fit_b2  g_fu x1 (0 : Int32) z hz)
theorem fr_booksFit (x1 : Int32) (z : mm_S) : mf_F wr_booksFit z (mo_booksFit x1 z) := by
  have hz : mf_R wr_booksFit z z := mf_R.rfl
  unfold mo_booksFit
  exact (mf_F.pI hz (by decide) fun z1 hz1 => (mf_F.call hz1 (fr_addBooks x1 z1) (by decide) fun _ z2 hz2 => (mf_F.call hz2 (fr_fit x1 z2) (by decide) fun v5 z4 hz4 => (mf_F.ite (mf_F.ret hz4) mf_F.none))))
theorem fr_laden (x1 : Int32) (x2 : Int32) (z : mm_S) : mf_F wr_laden z (mo_laden x1 x2 z) := by
  have hz : mf_R wr_laden z z := mf_R.rfl
  unfold mo_laden
  exact (mf_F.gI fun v1 => (mf_F.lI fun v2 => (mf_F.ite (mf_F.ret hz) mf_F.none)))
theorem fr_isSound_b42 {z0 : mm_S} (s0 : Int32) (s1 : Int32) (s2 : Int32) (z : mm_S) (hz : mf_R wr_isSound z0 z) : mf_F wr_isSound z0 (mo_isSound_b42 s0 s1 s2 z) := by
  unfold mo_isSound_b42
  exact (mf_F.ite (mf_F.ret hz) (mf_F.ret hz))
theorem fr_isSound (x1 : Int32) (x2 : Int32) (x3 : Int32) (z : mm_S) : mf_F wr_isSound z (mo_isSound x1 x2 x3 z) := by
  have hz : mf_R wr_isSound z z := mf_R.rfl
  unfold mo_isSound
  exact (mf_F.lI fun v1 => (mf_F.gI fun v2 => (mf_F.lI fun v3 => (mf_F.ite (fr_isSound_b42  v1 v3 (0 : Int32) z hz) (mf_F.gI fun v4 => (mf_F.lI fun v5 => (fr_isSound_b42  v1 v3 v5 z hz)))))))
theorem fr_withBooks_b84 {z0 : mm_S} {k15 : Int32 → Int32 → Int32 → mm_S → Option (Int32 × mm_S)} (hk15 : ∀ (y1 : Int32) (y2 : Int32) (y3 : Int32) (y4 : mm_S), mf_R wr_withBooks z0 y4 → mf_F wr_withBooks z0 (k15 y1 y2 y3 y4)) (x1 : Int32) (x3 : Int32) (x4 : Int32) (z : mm_S) (hz : mf_R wr_withBooks z0 z) : mf_F wr_withBooks z0 (mo_withBooks_b84 k15 x1 x3 x4 z) := by
  unfold mo_withBooks_b84
  exact (hk15 x1 x3 (x4 + (1 : Int32)) z hz)
theorem fr_withBooks_b15 {z0 : mm_S} : ∀ (n : Nat) (x1 : Int32) (x3 : Int32) (x4 : Int32) (z : mm_S), mf_R wr_withBooks z0 z → mf_F wr_withBooks z0 (mo_withBooks_b15 n x1 x3 x4 z) := by
  intro n
  induction n with
  | zero => intro x1 x3 x4 z hz; exact mf_F.none
  | succ n ih =>
    intro x1 x3 x4 z hz
    rw [mo_withBooks_b15]
    exact (mf_F.gI fun v1 => (mf_F.gI fun v2 => (mf_F.lI fun v3 => (mf_F.ite (mf_F.ret hz) (mf_F.lI fun v4 => (mf_F.ite (mf_F.lI fun v5 => (mf_F.call hz (fr_hoursTo x1 v5 z) (by decide) fun v7 z6 hz6 => (mf_F.lI fun v8 => (mf_F.lI fun v9 => (mf_F.call hz6 (fr_between x3 x3 v8 v9 z6) (by decide) fun v11 z10 hz10 => (mf_F.ite (fr_withBooks_b84 ih x1 x3 x4 z10 hz10) (mf_F.ret hz10))))))) (fr_withBooks_b84 ih x1 x3 x4 z hz)))))))
theorem fr_withBooks (x1 : Int32) (x2 : Int32) (x3 : Int32) (z : mm_S) : mf_F wr_withBooks z (mo_withBooks x1 x2 x3 z) := by
  have hz : mf_R wr_withBooks z z := mf_R.rfl
  unfold mo_withBooks
  exact (mf_F.call hz (fr_goes x1 x2 z) (by decide) fun _ z1 hz1 => (mf_F.gI fun v3 => (fr_withBooks_b15  g_fu x1 x3 ((12 : Int32) * v3) z1 hz1)))
theorem fr_pairs_b221 {z0 : mm_S} {k54 : Int32 → Int32 → mm_S → Option (Unit × mm_S)} {k129 : Int32 → Int32 → Int32 → mm_S → Option (Unit × mm_S)} (hk54 : ∀ (y1 : Int32) (y2 : Int32) (y3 : mm_S), mf_R wr_pairs z0 y3 → mf_F wr_pairs z0 (k54 y1 y2 y3)) (hk129 : ∀ (y1 : Int32) (y2 : Int32) (y3 : Int32) (y4 : mm_S), mf_R wr_pairs z0 y4 → mf_F wr_pairs z0 (k129 y1 y2 y3 y4)) (x1 : Int32) (x2 : Int32) (x4 : Int32) (s1 : Int32) (s2 : Int32) (z : mm_S) (hz : mf_R wr_pairs z0 z) : mf_F wr_pairs z0 (mo_pairs_b221 k54 k129 x1 x2 x4 s1 s2 z) := by
  unfold mo_pairs_b221
  exact (mf_F.sZ hz (by decide) fun z1 hz1 => (hk129 x1 x2 (x4 + (1 : Int32)) z1 hz1))
theorem fr_pairs_b213 {z0 : mm_S} {k54 : Int32 → Int32 → mm_S → Option (Unit × mm_S)} {k129 : Int32 → Int32 → Int32 → mm_S → Option (Unit × mm_S)} (hk54 : ∀ (y1 : Int32) (y2 : Int32) (y3 : mm_S), mf_R wr_pairs z0 y3 → mf_F wr_pairs z0 (k54 y1 y2 y3)) (hk129 : ∀ (y1 : Int32) (y2 : Int32) (y3 : Int32) (y4 : mm_S), mf_R wr_pairs z0 y4 → mf_F wr_pairs z0 (k129 y1 y2 y3 y4)) (x1 : Int32) (x2 : Int32) (x4 : Int32) (s1 : Int32) (s2 : Int32) (s3 : Int32) (z : mm_S) (hz : mf_R wr_pairs z0 z) : mf_F wr_pairs z0 (mo_pairs_b213 k54 k129 x1 x2 x4 s1 s2 s3 z) := by
  unfold mo_pairs_b213
  exact (mf_F.ite (fr_pairs_b221 hk54 hk129 x1 x2 x4 s1 (0 : Int32) z hz) (fr_pairs_b221 hk54 hk129 x1 x2 x4 s1 (1 : Int32) z hz))
theorem fr_pairs_b129 {z0 : mm_S} {k54 : Int32 → Int32 → mm_S → Option (Unit × mm_S)} (hk54 : ∀ (y1 : Int32) (y2 : Int32) (y3 : mm_S), mf_R wr_pairs z0 y3 → mf_F wr_pairs z0 (k54 y1 y2 y3)) : ∀ (n : Nat) (x1 : Int32) (x2 : Int32) (x4 : Int32) (z : mm_S), mf_R wr_pairs z0 z → mf_F wr_pairs z0 (mo_pairs_b129 k54 n x1 x2 x4 z) := by
  intro n
  induction n with
  | zero => intro x1 x2 x4 z hz; exact mf_F.none
  | succ n ih =>
    intro x1 x2 x4 z hz
    rw [mo_pairs_b129]
    exact (mf_F.gI fun v1 => (mf_F.ite (hk54 x1 (x2 + (1 : Int32)) z hz) (mf_F.lI fun v2 => (mf_F.call hz (fr_said x1 v2 z) (by decide) fun v4 z3 hz3 => (mf_F.call hz3 (fr_hoursTo x1 v4 z3) (by decide) fun v6 z5 hz5 => (mf_F.lI fun v7 => (mf_F.lI fun v8 => (mf_F.ite (mf_F.lI fun v9 => (mf_F.lI fun v10 => (fr_pairs_b213 hk54 ih x1 x2 x4 (((48 : Int32) * x2) + x4) v6 (v9 - v10) z5 hz5))) (mf_F.lI fun v11 => (mf_F.lI fun v12 => (fr_pairs_b213 hk54 ih x1 x2 x4 (((48 : Int32) * x2) + x4) v6 (v11 - v12) z5 hz5)))))))))))
theorem fr_pairs_b119 {z0 : mm_S} {k54 : Int32 → Int32 → mm_S → Option (Unit × mm_S)} (hk54 : ∀ (y1 : Int32) (y2 : Int32) (y3 : mm_S), mf_R wr_pairs z0 y3 → mf_F wr_pairs z0 (k54 y1 y2 y3)) (x1 : Int32) (x2 : Int32) (x3 : Int32) (s1 : Int32) (s2 : Int32) (z : mm_S) (hz : mf_R wr_pairs z0 z) : mf_F wr_pairs z0 (mo_pairs_b119 k54 x1 x2 x3 s1 s2 z) := by
  unfold mo_pairs_b119
  exact (mf_F.sZ hz (by decide) fun z1 hz1 => (mf_F.call hz1 (fr_goes x1 x3 z1) (by decide) fun _ z2 hz2 => (fr_pairs_b129 hk54 g_fu x1 x2 (0 : Int32) z2 hz2)))
theorem fr_pairs_b118 {z0 : mm_S} {k54 : Int32 → Int32 → mm_S → Option (Unit × mm_S)} (hk54 : ∀ (y1 : Int32) (y2 : Int32) (y3 : mm_S), mf_R wr_pairs z0 y3 → mf_F wr_pairs z0 (k54 y1 y2 y3)) (x1 : Int32) (x2 : Int32) (x3 : Int32) (s1 : Int32) (z : mm_S) (hz : mf_R wr_pairs z0 z) : mf_F wr_pairs z0 (mo_pairs_b118 k54 x1 x2 x3 s1 z) := by
  unfold mo_pairs_b118
  exact (fr_pairs_b119 hk54 x1 x2 x3 s1 (0 : Int32) z hz)
theorem fr_pairs_b54 {z0 : mm_S} : ∀ (n : Nat) (x1 : Int32) (x2 : Int32) (z : mm_S), mf_R wr_pairs z0 z → mf_F wr_pairs z0 (mo_pairs_b54 n x1 x2 z) := by
  intro n
  induction n with
  | zero => intro x1 x2 z hz; exact mf_F.none
  | succ n ih =>
    intro x1 x2 z hz
    rw [mo_pairs_b54]
    exact (mf_F.gI fun v1 => (mf_F.ite (mf_F.ret hz) (mf_F.lI fun v2 => (mf_F.call hz (fr_said x1 v2 z) (by decide) fun v4 z3 hz3 => (mf_F.lI fun v5 => (mf_F.call hz3 (fr_laden x1 v5 z3) (by decide) fun v7 z6 hz6 => (mf_F.call hz6 (fr_isSound x1 v4 v7 z6) (by decide) fun v9 z8 hz8 => (mf_F.ite (fr_pairs_b118 ih x1 x2 v4 x2 z8 hz8) (mf_F.lI fun v10 => (mf_F.call hz8 (fr_withBooks x1 v4 v10 z8) (by decide) fun v12 z11 hz11 => (mf_F.ite (fr_pairs_b118 ih x1 x2 v4 x2 z11 hz11) (fr_pairs_b119 ih x1 x2 v4 x2 (1 : Int32) z11 hz11))))))))))))
theorem fr_pairs_b46 {z0 : mm_S} {k7 : Int32 → Int32 → mm_S → Option (Unit × mm_S)} (hk7 : ∀ (y1 : Int32) (y2 : Int32) (y3 : mm_S), mf_R wr_pairs z0 y3 → mf_F wr_pairs z0 (k7 y1 y2 y3)) (x1 : Int32) (x2 : Int32) (z : mm_S) (hz : mf_R wr_pairs z0 z) : mf_F wr_pairs z0 (mo_pairs_b46 k7 x1 x2 z) := by
  unfold mo_pairs_b46
  exact (hk7 x1 (x2 + (1 : Int32)) z hz)
theorem fr_pairs_b7 {z0 : mm_S} : ∀ (n : Nat) (x1 : Int32) (x2 : Int32) (z : mm_S), mf_R wr_pairs z0 z → mf_F wr_pairs z0 (mo_pairs_b7 n x1 x2 z) := by
  intro n
  induction n with
  | zero => intro x1 x2 z hz; exact mf_F.none
  | succ n ih =>
    intro x1 x2 z hz
    rw [mo_pairs_b7]
    exact (mf_F.ite (fr_pairs_b54  g_fu x1 (0 : Int32) z hz) (mf_F.call hz (fr_said x1 x2 z) (by decide) fun v2 z1 hz1 => (mf_F.ite (fr_pairs_b46 ih x1 x2 z1 hz1) (mf_F.gI fun v3 => (mf_F.sI hz1 (by decide) fun z4 hz4 => (mf_F.gI fun v5 => (mf_F.pI hz4 (by decide) fun z6 hz6 => (fr_pairs_b46 ih x1 x2 z6 hz6))))))))
theorem fr_pairs (x1 : Int32) (z : mm_S) : mf_F wr_pairs z (mo_pairs x1 z) := by
  have hz : mf_R wr_pairs z z := mf_R.rfl
  unfold mo_pairs
  exact (mf_F.pI hz (by decide) fun z1 hz1 => (fr_pairs_b7  g_fu x1 (0 : Int32) z1 hz1))
theorem fr_keeps_b268 {z0 : mm_S} {k207 : Int32 → Int32 → Int32 → mm_S → Option (Unit × mm_S)} (hk207 : ∀ (y1 : Int32) (y2 : Int32) (y3 : Int32) (y4 : mm_S), mf_R wr_keeps z0 y4 → mf_F wr_keeps z0 (k207 y1 y2 y3 y4)) (x2 : Int32) (x3 : Int32) (x4 : Int32) (z : mm_S) (hz : mf_R wr_keeps z0 z) : mf_F wr_keeps z0 (mo_keeps_b268 k207 x2 x3 x4 z) := by
  unfold mo_keeps_b268
  exact (hk207 x2 x3 (x4 + (1 : Int32)) z hz)
theorem fr_keeps_b254 {z0 : mm_S} {k207 : Int32 → Int32 → Int32 → mm_S → Option (Unit × mm_S)} (hk207 : ∀ (y1 : Int32) (y2 : Int32) (y3 : Int32) (y4 : mm_S), mf_R wr_keeps z0 y4 → mf_F wr_keeps z0 (k207 y1 y2 y3 y4)) (x2 : Int32) (x4 : Int32) (z : mm_S) (hz : mf_R wr_keeps z0 z) : mf_F wr_keeps z0 (mo_keeps_b254 k207 x2 x4 z) := by
  unfold mo_keeps_b254
  exact (mf_F.sZ hz (by decide) fun z1 hz1 => (fr_keeps_b268 hk207 (x2 + (-1 : Int32)) x4 x4 z1 hz1))
theorem fr_keeps_b207 {z0 : mm_S} : ∀ (n : Nat) (x2 : Int32) (x3 : Int32) (x4 : Int32) (z : mm_S), mf_R wr_keeps z0 z → mf_F wr_keeps z0 (mo_keeps_b207 n x2 x3 x4 z) := by
  intro n
  induction n with
  | zero => intro x2 x3 x4 z hz; exact mf_F.none
  | succ n ih =>
    intro x2 x3 x4 z hz
    rw [mo_keeps_b207]
    exact (mf_F.gI fun v1 => (mf_F.ite (mf_F.ret hz) (mf_F.ite (mf_F.ret hz) (mf_F.lI fun v2 => (mf_F.ite (mf_F.ite (fr_keeps_b254 ih x2 x4 z hz) (mf_F.lI fun v3 => (mf_F.ite (fr_keeps_b268 ih x2 x3 x4 z hz) (fr_keeps_b254 ih x2 x4 z hz)))) (fr_keeps_b268 ih x2 x3 x4 z hz))))))
theorem fr_keeps_b190 {z0 : mm_S} {k59 : Int32 → Int32 → mm_S → Option (Unit × mm_S)} (hk59 : ∀ (y1 : Int32) (y2 : Int32) (y3 : mm_S), mf_R wr_keeps z0 y3 → mf_F wr_keeps z0 (k59 y1 y2 y3)) (x3 : Int32) (s0 : Int32) (z : mm_S) (hz : mf_R wr_keeps z0 z) : mf_F wr_keeps z0 (mo_keeps_b190 k59 x3 s0 z) := by
  unfold mo_keeps_b190
  exact (hk59 s0 (x3 + (-1 : Int32)) z hz)
theorem fr_keeps_b170 {z0 : mm_S} {k59 : Int32 → Int32 → mm_S → Option (Unit × mm_S)} (hk59 : ∀ (y1 : Int32) (y2 : Int32) (y3 : mm_S), mf_R wr_keeps z0 y3 → mf_F wr_keeps z0 (k59 y1 y2 y3)) (x2 : Int32) (x3 : Int32) (z : mm_S) (hz : mf_R wr_keeps z0 z) : mf_F wr_keeps z0 (mo_keeps_b170 k59 x2 x3 z) := by
  unfold mo_keeps_b170
  exact (mf_F.lI fun v1 => (mf_F.ite (fr_keeps_b190 hk59 x3 x2 z hz) (mf_F.lI fun v2 => (fr_keeps_b190 hk59 x3 v2 z hz))))
theorem fr_keeps_b164 {z0 : mm_S} {k59 : Int32 → Int32 → mm_S → Option (Unit × mm_S)} {k88 : Int32 → Int32 → Int32 → mm_S → Option (Unit × mm_S)} (hk59 : ∀ (y1 : Int32) (y2 : Int32) (y3 : mm_S), mf_R wr_keeps z0 y3 → mf_F wr_keeps z0 (k59 y1 y2 y3)) (hk88 : ∀ (y1 : Int32) (y2 : Int32) (y3 : Int32) (y4 : mm_S), mf_R wr_keeps z0 y4 → mf_F wr_keeps z0 (k88 y1 y2 y3 y4)) (x2 : Int32) (x3 : Int32) (x4 : Int32) (z : mm_S) (hz : mf_R wr_keeps z0 z) : mf_F wr_keeps z0 (mo_keeps_b164 k59 k88 x2 x3 x4 z) := by
  unfold mo_keeps_b164
  exact (hk88 x2 x3 (x4 + (1 : Int32)) z hz)
theorem fr_keeps_b88 {z0 : mm_S} {k59 : Int32 → Int32 → mm_S → Option (Unit × mm_S)} (hk59 : ∀ (y1 : Int32) (y2 : Int32) (y3 : mm_S), mf_R wr_keeps z0 y3 → mf_F wr_keeps z0 (k59 y1 y2 y3)) : ∀ (n : Nat) (x2 : Int32) (x3 : Int32) (x4 : Int32) (z : mm_S), mf_R wr_keeps z0 z → mf_F wr_keeps z0 (mo_keeps_b88 k59 n x2 x3 x4 z) := by
  intro n
  induction n with
  | zero => intro x2 x3 x4 z hz; exact mf_F.none
  | succ n ih =>
    intro x2 x3 x4 z hz
    rw [mo_keeps_b88]
    exact (mf_F.gI fun v1 => (mf_F.ite (fr_keeps_b170 hk59 x2 x3 z hz) (mf_F.lI fun v2 => (mf_F.ite (fr_keeps_b170 hk59 x2 x3 z hz) (mf_F.lI fun v3 => (mf_F.ite (fr_keeps_b164 hk59 ih x2 x3 x4 z hz) (mf_F.lI fun v4 => (mf_F.ite (fr_keeps_b164 hk59 ih x2 x3 x4 z hz) (mf_F.lI fun v5 => (mf_F.lI fun v6 => (mf_F.ite (fr_keeps_b164 hk59 ih x2 x3 x4 z hz) (mf_F.lI fun v7 => (mf_F.sI hz (by decide) fun z8 hz8 => (fr_keeps_b164 hk59 ih x2 x3 x4 z8 hz8))))))))))))))
theorem fr_keeps_b82 {z0 : mm_S} {k59 : Int32 → Int32 → mm_S → Option (Unit × mm_S)} (hk59 : ∀ (y1 : Int32) (y2 : Int32) (y3 : mm_S), mf_R wr_keeps z0 y3 → mf_F wr_keeps z0 (k59 y1 y2 y3)) (x2 : Int32) (x3 : Int32) (s1 : Int32) (s2 : Int32) (z : mm_S) (hz : mf_R wr_keeps z0 z) : mf_F wr_keeps z0 (mo_keeps_b82 k59 x2 x3 s1 s2 z) := by
  unfold mo_keeps_b82
  exact (mf_F.sI hz (by decide) fun z1 hz1 => (fr_keeps_b88 hk59 g_fu x2 x3 (x3 + (1 : Int32)) z1 hz1))
theorem fr_keeps_b59 {z0 : mm_S} : ∀ (n : Nat) (x2 : Int32) (x3 : Int32) (z : mm_S), mf_R wr_keeps z0 z → mf_F wr_keeps z0 (mo_keeps_b59 n x2 x3 z) := by
  intro n
  induction n with
  | zero => intro x2 x3 z hz; exact mf_F.none
  | succ n ih =>
    intro x2 x3 z hz
    rw [mo_keeps_b59]
    exact (mf_F.ite (mf_F.pI hz (by decide) fun z1 hz1 => (fr_keeps_b207  g_fu x2 (-1 : Int32) (0 : Int32) z1 hz1)) (mf_F.lI fun v2 => (mf_F.ite (fr_keeps_b82 ih x2 x3 x3 (0 : Int32) z hz) (fr_keeps_b82 ih x2 x3 x3 (1 : Int32) z hz))))
theorem fr_keeps_b21 {z0 : mm_S} : ∀ (n : Nat) (x2 : Int32) (z : mm_S), mf_R wr_keeps z0 z → mf_F wr_keeps z0 (mo_keeps_b21 n x2 z) := by
  intro n
  induction n with
  | zero => intro x2 z hz; exact mf_F.none
  | succ n ih =>
    intro x2 z hz
    rw [mo_keeps_b21]
    exact (mf_F.gI fun v1 => (mf_F.ite (mf_F.gI fun v2 => (mf_F.ite (mf_F.ret hz) (mf_F.gI fun v3 => (fr_keeps_b59  g_fu (0 : Int32) (v3 - (1 : Int32)) z hz)))) (mf_F.sZ hz (by decide) fun z4 hz4 => (ih (x2 + (1 : Int32)) z4 hz4))))
theorem fr_keeps (x1 : Int32) (z : mm_S) : mf_F wr_keeps z (mo_keeps x1 z) := by
  have hz : mf_R wr_keeps z z := mf_R.rfl
  unfold mo_keeps
  exact (mf_F.call hz (fr_booksFit x1 z) (by decide) fun v2 z1 hz1 => (mf_F.pZ hz1 (by decide) fun z3 hz3 => (mf_F.call hz3 (fr_pairs x1 z3) (by decide) fun _ z4 hz4 => (mf_F.pI hz4 (by decide) fun z6 hz6 => (fr_keeps_b21  g_fu (0 : Int32) z6 hz6)))))
theorem fr_booksOf_b41 {z0 : mm_S} {k4 : Int32 → Int32 → Int32 → mm_S → Option (Int32 × mm_S)} (hk4 : ∀ (y1 : Int32) (y2 : Int32) (y3 : Int32) (y4 : mm_S), mf_R wr_booksOf z0 y4 → mf_F wr_booksOf z0 (k4 y1 y2 y3 y4)) (x1 : Int32) (x3 : Int32) (s0 : Int32) (s1 : Int32) (z : mm_S) (hz : mf_R wr_booksOf z0 z) : mf_F wr_booksOf z0 (mo_booksOf_b41 k4 x1 x3 s0 s1 z) := by
  unfold mo_booksOf_b41
  exact (hk4 x1 (s0 + s1) (x3 + (1 : Int32)) z hz)
theorem fr_booksOf_b4 {z0 : mm_S} : ∀ (n : Nat) (x1 : Int32) (x2 : Int32) (x3 : Int32) (z : mm_S), mf_R wr_booksOf z0 z → mf_F wr_booksOf z0 (mo_booksOf_b4 n x1 x2 x3 z) := by
  intro n
  induction n with
  | zero => intro x1 x2 x3 z hz; exact mf_F.none
  | succ n ih =>
    intro x1 x2 x3 z hz
    rw [mo_booksOf_b4]
    exact (mf_F.gI fun v1 => (mf_F.lI fun v2 => (mf_F.ite (mf_F.ret hz) (mf_F.gI fun v3 => (mf_F.lI fun v4 => (mf_F.ite (fr_booksOf_b41 ih x1 x3 x2 (1 : Int32) z hz) (fr_booksOf_b41 ih x1 x3 x2 (0 : Int32) z hz)))))))
theorem fr_booksOf (x1 : Int32) (z : mm_S) : mf_F wr_booksOf z (mo_booksOf x1 z) := by
  have hz : mf_R wr_booksOf z z := mf_R.rfl
  unfold mo_booksOf
  exact (fr_booksOf_b4  g_fu x1 (0 : Int32) (0 : Int32) z hz)
theorem fr_ship_2_b134 {z0 : mm_S} (x1 : Int32) (x2 : Int32) (z : mm_S) (hz : mf_R wr_ship_2 z0 z) : mf_F wr_ship_2 z0 (mo_ship_2_b134 x1 x2 z) := by
  unfold mo_ship_2_b134
  exact (mf_F.call hz (fr_keeps x1 z) (by decide) fun _ z1 hz1 => (mf_F.ite (mf_F.gI fun v5 => (mf_F.ret hz1)) (mf_F.gI fun v3 => (mf_F.gI fun v4 => (mf_F.ret hz1)))))
theorem fr_ship_2 (x1 : Int32) (x2 : Int32) (z : mm_S) : mf_F wr_ship_2 z (mo_ship_2 x1 x2 z) := by
  have hz : mf_R wr_ship_2 z z := mf_R.rfl
  unfold mo_ship_2
  exact (mf_F.call hz (fr_isShip x1 z) (by decide) fun v2 z1 hz1 => (mf_F.ite (mf_F.ret hz1) (mf_F.call hz1 (fr_is x2 (0 : Int32) (8 : Int32) z1) (by decide) fun v4 z3 hz3 => (mf_F.ite (mf_F.ret hz3) (mf_F.gI fun v5 => (mf_F.ite (mf_F.lI fun v6 => (mf_F.ret hz3)) (mf_F.ite (mf_F.lI fun v7 => (mf_F.ret hz3)) (mf_F.ite (mf_F.lI fun v8 => (mf_F.ret hz3)) (mf_F.ite (mf_F.lI fun v9 => (mf_F.ret hz3)) (mf_F.ite (mf_F.call hz3 (fr_sayingsOf x1 z3) (by decide) fun v11 z10 hz10 => (mf_F.ret hz10)) (mf_F.ite (fr_ship_2_b134  x1 x2 z3 hz3) (mf_F.ite (fr_ship_2_b134  x1 x2 z3 hz3) (mf_F.ite (mf_F.call hz3 (fr_booksOf x1 z3) (by decide) fun v13 z12 hz12 => (mf_F.ret hz12)) (mf_F.ite (mf_F.call hz3 (fr_booksFit x1 z3) (by decide) fun v15 z14 hz14 => (mf_F.ite (mf_F.ret hz14) (mf_F.ret hz14))) (fr_ship_2_b134  x1 x2 z3 hz3)))))))))))))))
theorem fr_hourOf_b40 {z0 : mm_S} {k5 : Int32 → Int32 → Int32 → mm_S → Option (Int32 × mm_S)} (hk5 : ∀ (y1 : Int32) (y2 : Int32) (y3 : Int32) (y4 : mm_S), mf_R wr_hourOf z0 y4 → mf_F wr_hourOf z0 (k5 y1 y2 y3 y4)) (x1 : Int32) (x3 : Int32) (x4 : Int32) (z : mm_S) (hz : mf_R wr_hourOf z0 z) : mf_F wr_hourOf z0 (mo_hourOf_b40 k5 x1 x3 x4 z) := by
  unfold mo_hourOf_b40
  exact (hk5 x1 x3 (x4 + (1 : Int32)) z hz)
theorem fr_hourOf_b5 {z0 : mm_S} : ∀ (n : Nat) (x1 : Int32) (x3 : Int32) (x4 : Int32) (z : mm_S), mf_R wr_hourOf z0 z → mf_F wr_hourOf z0 (mo_hourOf_b5 n x1 x3 x4 z) := by
  intro n
  induction n with
  | zero => intro x1 x3 x4 z hz; exact mf_F.none
  | succ n ih =>
    intro x1 x3 x4 z hz
    rw [mo_hourOf_b5]
    exact (mf_F.ite (mf_F.ret hz) (mf_F.ite (mf_F.ret hz) (mf_F.call hz (fr_said x1 x4 z) (by decide) fun v2 z1 hz1 => (mf_F.ite (fr_hourOf_b40 ih x1 x3 x4 z1 hz1) (mf_F.ite (mf_F.ret hz1) (fr_hourOf_b40 ih x1 (x3 + (-1 : Int32)) x4 z1 hz1))))))
theorem fr_hourOf (x1 : Int32) (x2 : Int32) (z : mm_S) : mf_F wr_hourOf z (mo_hourOf x1 x2 z) := by
  have hz : mf_R wr_hourOf z z := mf_R.rfl
  unfold mo_hourOf
  exact (fr_hourOf_b5  g_fu x1 x2 (0 : Int32) z hz)
theorem fr_saying_b18 {z0 : mm_S} (x1 : Int32) (x2 : Int32) (x3 : Int32) (s0 : Int32) (z : mm_S) (hz : mf_R wr_saying z0 z) : mf_F wr_saying z0 (mo_saying_b18 x1 x2 x3 s0 z) := by
  unfold mo_saying_b18
  exact (mf_F.ite (mf_F.ret hz) (mf_F.ite (mf_F.ret hz) (mf_F.ite (mf_F.call hz (fr_said x1 s0 z) (by decide) fun v2 z1 hz1 => (mf_F.ret hz1)) (mf_F.ite (mf_F.call hz (fr_laden x1 s0 z) (by decide) fun v4 z3 hz3 => (mf_F.ite (mf_F.ret hz3) (mf_F.ret hz3))) (mf_F.ite (mf_F.call hz (fr_said x1 s0 z) (by decide) fun v6 z5 hz5 => (mf_F.call hz5 (fr_laden x1 s0 z5) (by decide) fun v8 z7 hz7 => (mf_F.call hz7 (fr_isSound x1 v6 v8 z7) (by decide) fun v10 z9 hz9 => (mf_F.ite (mf_F.ret hz9) (mf_F.ret hz9))))) (mf_F.ite (mf_F.call hz (fr_keeps x1 z) (by decide) fun _ z11 hz11 => (mf_F.lI fun v13 => (mf_F.ite (mf_F.ret hz11) (mf_F.ret hz11)))) (mf_F.ret hz)))))))
theorem fr_saying (x1 : Int32) (x2 : Int32) (x3 : Int32) (z : mm_S) : mf_F wr_saying z (mo_saying x1 x2 x3 z) := by
  have hz : mf_R wr_saying z z := mf_R.rfl
  unfold mo_saying
  exact (mf_F.call hz (fr_isShip x1 z) (by decide) fun v2 z1 hz1 => (mf_F.ite (fr_saying_b18  x1 x2 x3 (-1 : Int32) z1 hz1) (mf_F.call hz1 (fr_hourOf x1 x2 z1) (by decide) fun v4 z3 hz3 => (fr_saying_b18  x1 x2 x3 v4 z3 hz3))))
theorem fr_can (x1 : Int32) (x2 : Int32) (x3 : Int32) (z : mm_S) : mf_F wr_can z (mo_can x1 x2 x3 z) := by
  have hz : mf_R wr_can z z := mf_R.rfl
  unfold mo_can
  exact (mf_F.call hz (fr_isShip x1 z) (by decide) fun v2 z1 hz1 => (mf_F.ite (mf_F.ret hz1) (mf_F.ite (mf_F.ret hz1) (mf_F.call hz1 (fr_hourOf x1 x2 z1) (by decide) fun v4 z3 hz3 => (mf_F.ite (mf_F.ret hz3) (mf_F.call hz3 (fr_hourOf x1 x3 z3) (by decide) fun v6 z5 hz5 => (mf_F.ite (mf_F.ret hz5) (mf_F.call hz5 (fr_pairs x1 z5) (by decide) fun _ z7 hz7 => (mf_F.lI fun v9 => (mf_F.ite (mf_F.ret hz7) (mf_F.ret hz7)))))))))))
theorem fr_lays_2_b90 {z0 : mm_S} {k69 : Int32 → Int32 → mm_S → Option (Unit × mm_S)} (hk69 : ∀ (y1 : Int32) (y2 : Int32) (y3 : mm_S), mf_R wr_lays_2 z0 y3 → mf_F wr_lays_2 z0 (k69 y1 y2 y3)) : ∀ (n : Nat) (x1 : Int32) (x2 : Int32) (x3 : Int32) (z : mm_S), mf_R wr_lays_2 z0 z → mf_F wr_lays_2 z0 (mo_lays_2_b90 k69 n x1 x2 x3 z) := by
  intro n
  induction n with
  | zero => intro x1 x2 x3 z hz; exact mf_F.none
  | succ n ih =>
    intro x1 x2 x3 z hz
    rw [mo_lays_2_b90]
    exact (mf_F.call hz (fr_cells z) (by decide) fun v2 z1 hz1 => (mf_F.ite (hk69 x1 (x2 + (1 : Int32)) z1 hz1) (mf_F.call hz1 (fr_hoursTo x1 x3 z1) (by decide) fun v4 z3 hz3 => (mf_F.sI hz3 (by decide) fun z5 hz5 => (ih x1 x2 (x3 + (1 : Int32)) z5 hz5)))))
theorem fr_lays_2_b69 {z0 : mm_S} : ∀ (n : Nat) (x1 : Int32) (x2 : Int32) (z : mm_S), mf_R wr_lays_2 z0 z → mf_F wr_lays_2 z0 (mo_lays_2_b69 n x1 x2 z) := by
  intro n
  induction n with
  | zero => intro x1 x2 z hz; exact mf_F.none
  | succ n ih =>
    intro x1 x2 z hz
    rw [mo_lays_2_b69]
    exact (mf_F.gI fun v1 => (mf_F.ite (mf_F.ret hz) (mf_F.lI fun v2 => (mf_F.call hz (fr_goes x1 v2 z) (by decide) fun _ z3 hz3 => (fr_lays_2_b90 ih g_fu x1 x2 (0 : Int32) z3 hz3)))))
theorem fr_lays_2_b61 {z0 : mm_S} {k17 : Int32 → Int32 → mm_S → Option (Unit × mm_S)} (hk17 : ∀ (y1 : Int32) (y2 : Int32) (y3 : mm_S), mf_R wr_lays_2 z0 y3 → mf_F wr_lays_2 z0 (k17 y1 y2 y3)) (x1 : Int32) (x2 : Int32) (z : mm_S) (hz : mf_R wr_lays_2 z0 z) : mf_F wr_lays_2 z0 (mo_lays_2_b61 k17 x1 x2 z) := by
  unfold mo_lays_2_b61
  exact (hk17 x1 (x2 + (1 : Int32)) z hz)
theorem fr_lays_2_b17 {z0 : mm_S} : ∀ (n : Nat) (x1 : Int32) (x2 : Int32) (z : mm_S), mf_R wr_lays_2 z0 z → mf_F wr_lays_2 z0 (mo_lays_2_b17 n x1 x2 z) := by
  intro n
  induction n with
  | zero => intro x1 x2 z hz; exact mf_F.none
  | succ n ih =>
    intro x1 x2 z hz
    rw [mo_lays_2_b17]
    exact (mf_F.gI fun v1 => (mf_F.ite (fr_lays_2_b69  g_fu x1 (0 : Int32) z hz) (mf_F.lI fun v2 => (mf_F.ite (fr_lays_2_b61 ih x1 x2 z hz) (mf_F.lI fun v3 => (mf_F.call hz (fr_said x1 v3 z) (by decide) fun v5 z4 hz4 => (mf_F.lI fun v6 => (mf_F.lI fun v7 => (mf_F.call hz4 (fr_fact v5 v6 v7 z4) (by decide) fun _ z8 hz8 => (fr_lays_2_b61 ih x1 x2 z8 hz8))))))))))
theorem fr_lays_2 (x1 : Int32) (z : mm_S) : mf_F wr_lays_2 z (mo_lays_2 x1 z) := by
  have hz : mf_R wr_lays_2 z z := mf_R.rfl
  unfold mo_lays_2
  exact (mf_F.call hz (fr_keeps x1 z) (by decide) fun _ z1 hz1 => (mf_F.pI hz1 (by decide) fun z3 hz3 => (mf_F.call hz3 (fr_addBooks x1 z3) (by decide) fun _ z4 hz4 => (fr_lays_2_b17  g_fu x1 (0 : Int32) z4 hz4))))
theorem fr_mayBe_b21 {z0 : mm_S} : ∀ (n : Nat) (x2 : Int32) (x3 : Int32) (x4 : Int32) (z : mm_S), mf_R wr_mayBe z0 z → mf_F wr_mayBe z0 (mo_mayBe_b21 n x2 x3 x4 z) := by
  intro n
  induction n with
  | zero => intro x2 x3 x4 z hz; exact mf_F.none
  | succ n ih =>
    intro x2 x3 x4 z hz
    rw [mo_mayBe_b21]
    exact (mf_F.gI fun v1 => (mf_F.ite (mf_F.ret hz) (mf_F.lI fun v2 => (mf_F.lI fun v3 => (mf_F.lI fun v4 => (mf_F.call hz (fr_between x3 x3 v3 v4 z) (by decide) fun v6 z5 hz5 => (mf_F.ite (ih x2 x3 (x4 + (1 : Int32)) z5 hz5) (mf_F.ret hz5))))))))
theorem fr_mayBe (x1 : Int32) (x2 : Int32) (x3 : Int32) (z : mm_S) : mf_F wr_mayBe z (mo_mayBe x1 x2 x3 z) := by
  have hz : mf_R wr_mayBe z z := mf_R.rfl
  unfold mo_mayBe
  exact (mf_F.gI fun v1 => (mf_F.ite (mf_F.ret hz) (mf_F.call hz (fr_isWater x1 x2 z) (by decide) fun v3 z2 hz2 => (mf_F.ite (mf_F.ret hz2) (fr_mayBe_b21  g_fu x2 x3 (0 : Int32) z2 hz2)))))
theorem fr_cellsOf_b31 {z0 : mm_S} {k5 : Int32 → Int32 → Int32 → Int32 → mm_S → Option (Int32 × mm_S)} (hk5 : ∀ (y1 : Int32) (y2 : Int32) (y3 : Int32) (y4 : Int32) (y5 : mm_S), mf_R wr_cellsOf z0 y5 → mf_F wr_cellsOf z0 (k5 y1 y2 y3 y4 y5)) (x1 : Int32) (x2 : Int32) (x4 : Int32) (s0 : Int32) (s1 : Int32) (z : mm_S) (hz : mf_R wr_cellsOf z0 z) : mf_F wr_cellsOf z0 (mo_cellsOf_b31 k5 x1 x2 x4 s0 s1 z) := by
  unfold mo_cellsOf_b31
  exact (hk5 x1 x2 (s0 + s1) (x4 + (1 : Int32)) z hz)
theorem fr_cellsOf_b5 {z0 : mm_S} : ∀ (n : Nat) (x1 : Int32) (x2 : Int32) (x3 : Int32) (x4 : Int32) (z : mm_S), mf_R wr_cellsOf z0 z → mf_F wr_cellsOf z0 (mo_cellsOf_b5 n x1 x2 x3 x4 z) := by
  intro n
  induction n with
  | zero => intro x1 x2 x3 x4 z hz; exact mf_F.none
  | succ n ih =>
    intro x1 x2 x3 x4 z hz
    rw [mo_cellsOf_b5]
    exact (mf_F.call hz (fr_cells z) (by decide) fun v2 z1 hz1 => (mf_F.ite (mf_F.ret hz1) (mf_F.call hz1 (fr_mayBe x1 x4 x2 z1) (by decide) fun v4 z3 hz3 => (mf_F.ite (fr_cellsOf_b31 ih x1 x2 x4 x3 (0 : Int32) z3 hz3) (fr_cellsOf_b31 ih x1 x2 x4 x3 (1 : Int32) z3 hz3)))))
theorem fr_cellsOf (x1 : Int32) (x2 : Int32) (z : mm_S) : mf_F wr_cellsOf z (mo_cellsOf x1 x2 z) := by
  have hz : mf_R wr_cellsOf z z := mf_R.rfl
  unfold mo_cellsOf
  exact (fr_cellsOf_b5  g_fu x1 x2 (0 : Int32) (0 : Int32) z hz)
theorem fr_reach_b79 {z0 : mm_S} {k40 : Int32 → Int32 → Int32 → Int32 → mm_S → Option (Int32 × mm_S)} (hk40 : ∀ (y1 : Int32) (y2 : Int32) (y3 : Int32) (y4 : Int32) (y5 : mm_S), mf_R wr_reach z0 y5 → mf_F wr_reach z0 (k40 y1 y2 y3 y4 y5)) (x1 : Int32) (x2 : Int32) (x4 : Int32) (x5 : Int32) (z : mm_S) (hz : mf_R wr_reach z0 z) : mf_F wr_reach z0 (mo_reach_b79 k40 x1 x2 x4 x5 z) := by
  unfold mo_reach_b79
  exact (hk40 x1 x2 x4 (x5 + (1 : Int32)) z hz)
theorem fr_reach_b40 {z0 : mm_S} : ∀ (n : Nat) (x1 : Int32) (x2 : Int32) (x4 : Int32) (x5 : Int32) (z : mm_S), mf_R wr_reach z0 z → mf_F wr_reach z0 (mo_reach_b40 n x1 x2 x4 x5 z) := by
  intro n
  induction n with
  | zero => intro x1 x2 x4 x5 z hz; exact mf_F.none
  | succ n ih =>
    intro x1 x2 x4 x5 z hz
    rw [mo_reach_b40]
    exact (mf_F.call hz (fr_cells z) (by decide) fun v2 z1 hz1 => (mf_F.ite (mf_F.ret hz1) (mf_F.ite (mf_F.ret hz1) (mf_F.call hz1 (fr_mayBe x1 x5 x2 z1) (by decide) fun v4 z3 hz3 => (mf_F.ite (fr_reach_b79 ih x1 x2 x4 x5 z3 hz3) (mf_F.ite (mf_F.ret hz3) (fr_reach_b79 ih x1 x2 (x4 + (-1 : Int32)) x5 z3 hz3)))))))
theorem fr_reach (x1 : Int32) (x2 : Int32) (x3 : Int32) (z : mm_S) : mf_F wr_reach z (mo_reach x1 x2 x3 z) := by
  have hz : mf_R wr_reach z z := mf_R.rfl
  unfold mo_reach
  exact (mf_F.call hz (fr_isShip x1 z) (by decide) fun v2 z1 hz1 => (mf_F.ite (mf_F.ret hz1) (mf_F.call hz1 (fr_isHour x2 z1) (by decide) fun v4 z3 hz3 => (mf_F.ite (mf_F.ret hz3) (mf_F.call hz3 (fr_lays_2 x1 z3) (by decide) fun _ z5 hz5 => (mf_F.ite (mf_F.call hz5 (fr_cellsOf x1 x2 z5) (by decide) fun v8 z7 hz7 => (mf_F.ret hz7)) (fr_reach_b40  g_fu x1 x2 x3 (0 : Int32) z5 hz5)))))))
theorem fr_may (x1 : Int32) (x2 : Int32) (x3 : Int32) (x4 : Int32) (z : mm_S) : mf_F wr_may z (mo_may x1 x2 x3 x4 z) := by
  have hz : mf_R wr_may z z := mf_R.rfl
  unfold mo_may
  exact (mf_F.call hz (fr_isShip x1 z) (by decide) fun v2 z1 hz1 => (mf_F.ite (mf_F.ret hz1) (mf_F.call hz1 (fr_isHour x2 z1) (by decide) fun v4 z3 hz3 => (mf_F.ite (mf_F.ret hz3) (mf_F.call hz3 (fr_isCell x3 x4 z3) (by decide) fun v6 z5 hz5 => (mf_F.ite (mf_F.ret hz5) (mf_F.call hz5 (fr_lays_2 x1 z5) (by decide) fun _ z7 hz7 => (mf_F.call hz7 (fr_at x3 x4 z7) (by decide) fun v10 z9 hz9 => (mf_F.call hz9 (fr_mayBe x1 v10 x2 z9) (by decide) fun v12 z11 hz11 => (mf_F.ite (mf_F.ret hz11) (mf_F.ret hz11)))))))))))
theorem fr_addSayings_b90 {z0 : mm_S} {k6 : Int32 → Int32 → Int32 → Int32 → Int32 → mm_S → Option (Int32 × mm_S)} (hk6 : ∀ (y1 : Int32) (y2 : Int32) (y3 : Int32) (y4 : Int32) (y5 : Int32) (y6 : mm_S), mf_R wr_addSayings z0 y6 → mf_F wr_addSayings z0 (k6 y1 y2 y3 y4 y5 y6)) (x1 : Int32) (x2 : Int32) (x3 : Int32) (x4 : Int32) (x5 : Int32) (z : mm_S) (hz : mf_R wr_addSayings z0 z) : mf_F wr_addSayings z0 (mo_addSayings_b90 k6 x1 x2 x3 x4 x5 z) := by
  unfold mo_addSayings_b90
  exact (hk6 x1 x2 x3 x4 (x5 + (1 : Int32)) z hz)
theorem fr_addSayings_b88 {z0 : mm_S} {k6 : Int32 → Int32 → Int32 → Int32 → Int32 → mm_S → Option (Int32 × mm_S)} (hk6 : ∀ (y1 : Int32) (y2 : Int32) (y3 : Int32) (y4 : Int32) (y5 : Int32) (y6 : mm_S), mf_R wr_addSayings z0 y6 → mf_F wr_addSayings z0 (k6 y1 y2 y3 y4 y5 y6)) (x1 : Int32) (x2 : Int32) (x3 : Int32) (x5 : Int32) (s0 : Int32) (z : mm_S) (hz : mf_R wr_addSayings z0 z) : mf_F wr_addSayings z0 (mo_addSayings_b88 k6 x1 x2 x3 x5 s0 z) := by
  unfold mo_addSayings_b88
  exact (fr_addSayings_b90 hk6 x1 x2 x3 s0 x5 z hz)
theorem fr_addSayings_b87 {z0 : mm_S} {k6 : Int32 → Int32 → Int32 → Int32 → Int32 → mm_S → Option (Int32 × mm_S)} (hk6 : ∀ (y1 : Int32) (y2 : Int32) (y3 : Int32) (y4 : Int32) (y5 : Int32) (y6 : mm_S), mf_R wr_addSayings z0 y6 → mf_F wr_addSayings z0 (k6 y1 y2 y3 y4 y5 y6)) (x1 : Int32) (x2 : Int32) (x3 : Int32) (x5 : Int32) (z : mm_S) (hz : mf_R wr_addSayings z0 z) : mf_F wr_addSayings z0 (mo_addSayings_b87 k6 x1 x2 x3 x5 z) := by
  unfold mo_addSayings_b87
  exact (fr_addSayings_b88 hk6 x1 x2 x3 x5 (0 : Int32) z hz)
theorem fr_addSayings_b6 {z0 : mm_S} : ∀ (n : Nat) (x1 : Int32) (x2 : Int32) (x3 : Int32) (x4 : Int32) (x5 : Int32) (z : mm_S), mf_R wr_addSayings z0 z → mf_F wr_addSayings z0 (mo_addSayings_b6 n x1 x2 x3 x4 x5 z) := by
  intro n
  induction n with
  | zero => intro x1 x2 x3 x4 x5 z hz; exact mf_F.none
  | succ n ih =>
    intro x1 x2 x3 x4 x5 z hz
    rw [mo_addSayings_b6]
    exact (mf_F.ite (mf_F.ite (mf_F.ret hz) mf_F.none) (mf_F.call hz (fr_said x1 x5 z) (by decide) fun v2 z1 hz1 => (mf_F.ite (fr_addSayings_b90 ih x1 x2 x3 x4 x5 z1 hz1) (mf_F.call hz1 (fr_isHour (x5 + x3) z1) (by decide) fun v4 z3 hz3 => (mf_F.ite (fr_addSayings_b90 ih x1 x2 x3 x4 x5 z3 hz3) (mf_F.call hz3 (fr_said x1 x5 z3) (by decide) fun v6 z5 hz5 => (mf_F.call hz5 (fr_fact v6 (x5 + x3) (x5 + x3) z5) (by decide) fun _ z7 hz7 => (mf_F.ite (fr_addSayings_b87 ih x1 x2 x3 x5 z7 hz7) (mf_F.call hz7 (fr_said x1 x5 z7) (by decide) fun v10 z9 hz9 => (mf_F.call hz9 (fr_laden x1 x5 z9) (by decide) fun v12 z11 hz11 => (mf_F.call hz11 (fr_isSound x2 v10 v12 z11) (by decide) fun v14 z13 hz13 => (mf_F.ite (fr_addSayings_b87 ih x1 x2 x3 x5 z13 hz13) (fr_addSayings_b88 ih x1 x2 x3 x5 (1 : Int32) z13 hz13)))))))))))))
theorem fr_addSayings (x1 : Int32) (x2 : Int32) (x3 : Int32) (z : mm_S) : mf_F wr_addSayings z (mo_addSayings x1 x2 x3 z) := by
  have hz : mf_R wr_addSayings z z := mf_R.rfl
  unfold mo_addSayings
  exact (fr_addSayings_b6  g_fu x1 x2 x3 (1 : Int32) (0 : Int32) z hz)
theorem fr_saidBy_b32 {z0 : mm_S} (x2 : Int32) (s0 : Int32) (z : mm_S) (hz : mf_R wr_saidBy z0 z) : mf_F wr_saidBy z0 (mo_saidBy_b32 x2 s0 z) := by
  unfold mo_saidBy_b32
  exact (mf_F.call hz (fr_addBooks x2 z) (by decide) fun _ z1 hz1 => (mf_F.ite (mf_F.ret hz1) (mf_F.call hz1 (fr_fit x2 z1) (by decide) fun v4 z3 hz3 => (mf_F.ite (mf_F.ret hz3) (mf_F.ret hz3)))))
theorem fr_saidBy_b31 {z0 : mm_S} (x2 : Int32) (z : mm_S) (hz : mf_R wr_saidBy z0 z) : mf_F wr_saidBy z0 (mo_saidBy_b31 x2 z) := by
  unfold mo_saidBy_b31
  exact (fr_saidBy_b32  x2 (0 : Int32) z hz)
theorem fr_saidBy (x1 : Int32) (x2 : Int32) (z : mm_S) : mf_F wr_saidBy z (mo_saidBy x1 x2 z) := by
  have hz : mf_R wr_saidBy z z := mf_R.rfl
  unfold mo_saidBy
  exact (mf_F.pI hz (by decide) fun z1 hz1 => (mf_F.call hz1 (fr_addSayings x1 x2 (0 : Int32) z1) (by decide) fun v3 z2 hz2 => (mf_F.call hz2 (fr_addSayings x2 x2 (0 : Int32) z2) (by decide) fun v5 z4 hz4 => (mf_F.ite (fr_saidBy_b31  x2 z4 hz4) (mf_F.ite (fr_saidBy_b31  x2 z4 hz4) (fr_saidBy_b32  x2 (1 : Int32) z4 hz4))))))
theorem fr_whoOf_b47 {z0 : mm_S} {k4 : Int32 → Int32 → Int32 → mm_S → Option (Int32 × mm_S)} (hk4 : ∀ (y1 : Int32) (y2 : Int32) (y3 : Int32) (y4 : mm_S), mf_R wr_whoOf z0 y4 → mf_F wr_whoOf z0 (k4 y1 y2 y3 y4)) (x1 : Int32) (x3 : Int32) (s0 : Int32) (s1 : Int32) (z : mm_S) (hz : mf_R wr_whoOf z0 z) : mf_F wr_whoOf z0 (mo_whoOf_b47 k4 x1 x3 s0 s1 z) := by
  unfold mo_whoOf_b47
  exact (hk4 x1 (s0 ||| s1) (x3 + (1 : Int32)) z hz)
theorem fr_whoOf_b46 {z0 : mm_S} {k4 : Int32 → Int32 → Int32 → mm_S → Option (Int32 × mm_S)} (hk4 : ∀ (y1 : Int32) (y2 : Int32) (y3 : Int32) (y4 : mm_S), mf_R wr_whoOf z0 y4 → mf_F wr_whoOf z0 (k4 y1 y2 y3 y4)) (x1 : Int32) (x3 : Int32) (s0 : Int32) (z : mm_S) (hz : mf_R wr_whoOf z0 z) : mf_F wr_whoOf z0 (mo_whoOf_b46 k4 x1 x3 s0 z) := by
  unfold mo_whoOf_b46
  exact (fr_whoOf_b47 hk4 x1 x3 s0 (0 : Int32) z hz)
theorem fr_whoOf_b4 {z0 : mm_S} : ∀ (n : Nat) (x1 : Int32) (x2 : Int32) (x3 : Int32) (z : mm_S), mf_R wr_whoOf z0 z → mf_F wr_whoOf z0 (mo_whoOf_b4 n x1 x2 x3 z) := by
  intro n
  induction n with
  | zero => intro x1 x2 x3 z hz; exact mf_F.none
  | succ n ih =>
    intro x1 x2 x3 z hz
    rw [mo_whoOf_b4]
    exact (mf_F.gI fun v1 => (mf_F.lI fun v2 => (mf_F.ite (mf_F.ret hz) (mf_F.ite (fr_whoOf_b46 ih x1 x3 x2 z hz) (mf_F.call hz (fr_sayingsOf x1 z) (by decide) fun v4 z3 hz3 => (mf_F.ite (fr_whoOf_b46 ih x1 x3 x2 z3 hz3) (mf_F.call hz3 (fr_saidBy x1 x3 z3) (by decide) fun v6 z5 hz5 => (mf_F.ite (fr_whoOf_b46 ih x1 x3 x2 z5 hz5) (fr_whoOf_b47 ih x1 x3 x2 ((1 : Int32) <<< (x3 &&& 31)) z5 hz5)))))))))
theorem fr_whoOf (x1 : Int32) (z : mm_S) : mf_F wr_whoOf z (mo_whoOf x1 z) := by
  have hz : mf_R wr_whoOf z z := mf_R.rfl
  unfold mo_whoOf
  exact (fr_whoOf_b4  g_fu x1 (0 : Int32) (0 : Int32) z hz)
theorem fr_keepsSets_b2 {z0 : mm_S} : ∀ (n : Nat) (x1 : Int32) (z : mm_S), mf_R wr_keepsSets z0 z → mf_F wr_keepsSets z0 (mo_keepsSets_b2 n x1 z) := by
  intro n
  induction n with
  | zero => intro x1 z hz; exact mf_F.none
  | succ n ih =>
    intro x1 z hz
    rw [mo_keepsSets_b2]
    exact (mf_F.ite (mf_F.ret hz) (mf_F.lI fun v1 => (mf_F.sI hz (by decide) fun z2 hz2 => (ih (x1 + (1 : Int32)) z2 hz2))))
theorem fr_keepsSets (z : mm_S) : mf_F wr_keepsSets z (mo_keepsSets z) := by
  have hz : mf_R wr_keepsSets z z := mf_R.rfl
  unfold mo_keepsSets
  exact (fr_keepsSets_b2  g_fu (0 : Int32) z hz)
theorem fr_parts_b174 {z0 : mm_S} {k143 : Int32 → mm_S → Option (Int32 × mm_S)} (hk143 : ∀ (y1 : Int32) (y2 : mm_S), mf_R wr_parts z0 y2 → mf_F wr_parts z0 (k143 y1 y2)) (x4 : Int32) (z : mm_S) (hz : mf_R wr_parts z0 z) : mf_F wr_parts z0 (mo_parts_b174 k143 x4 z) := by
  unfold mo_parts_b174
  exact (hk143 (x4 + (1 : Int32)) z hz)
theorem fr_parts_b143 {z0 : mm_S} : ∀ (n : Nat) (x4 : Int32) (z : mm_S), mf_R wr_parts z0 z → mf_F wr_parts z0 (mo_parts_b143 n x4 z) := by
  intro n
  induction n with
  | zero => intro x4 z hz; exact mf_F.none
  | succ n ih =>
    intro x4 z hz
    rw [mo_parts_b143]
    exact (mf_F.gI fun v1 => (mf_F.ite (mf_F.ret hz) (mf_F.lI fun v2 => (mf_F.ite (mf_F.lI fun v3 => (mf_F.ite (mf_F.ret hz) (fr_parts_b174 ih x4 z hz))) (fr_parts_b174 ih x4 z hz)))))
theorem fr_parts_b131 {z0 : mm_S} {k9 : Int32 → mm_S → Option (Int32 × mm_S)} {k18 : Int32 → Int32 → mm_S → Option (Int32 × mm_S)} (hk9 : ∀ (y1 : Int32) (y2 : mm_S), mf_R wr_parts z0 y2 → mf_F wr_parts z0 (k9 y1 y2)) (hk18 : ∀ (y1 : Int32) (y2 : Int32) (y3 : mm_S), mf_R wr_parts z0 y3 → mf_F wr_parts z0 (k18 y1 y2 y3)) (x3 : Int32) (x4 : Int32) (z : mm_S) (hz : mf_R wr_parts z0 z) : mf_F wr_parts z0 (mo_parts_b131 k9 k18 x3 x4 z) := by
  unfold mo_parts_b131
  exact (hk18 x3 (x4 + (1 : Int32)) z hz)
theorem fr_parts_b125 {z0 : mm_S} {k9 : Int32 → mm_S → Option (Int32 × mm_S)} {k18 : Int32 → Int32 → mm_S → Option (Int32 × mm_S)} {k30 : Int32 → Int32 → Int32 → mm_S → Option (Int32 × mm_S)} (hk9 : ∀ (y1 : Int32) (y2 : mm_S), mf_R wr_parts z0 y2 → mf_F wr_parts z0 (k9 y1 y2)) (hk18 : ∀ (y1 : Int32) (y2 : Int32) (y3 : mm_S), mf_R wr_parts z0 y3 → mf_F wr_parts z0 (k18 y1 y2 y3)) (hk30 : ∀ (y1 : Int32) (y2 : Int32) (y3 : Int32) (y4 : mm_S), mf_R wr_parts z0 y4 → mf_F wr_parts z0 (k30 y1 y2 y3 y4)) (x3 : Int32) (x4 : Int32) (x5 : Int32) (z : mm_S) (hz : mf_R wr_parts z0 z) : mf_F wr_parts z0 (mo_parts_b125 k9 k18 k30 x3 x4 x5 z) := by
  unfold mo_parts_b125
  exact (hk30 x3 x4 (x5 + (1 : Int32)) z hz)
theorem fr_parts_b108 {z0 : mm_S} {k9 : Int32 → mm_S → Option (Int32 × mm_S)} {k18 : Int32 → Int32 → mm_S → Option (Int32 × mm_S)} {k30 : Int32 → Int32 → Int32 → mm_S → Option (Int32 × mm_S)} (hk9 : ∀ (y1 : Int32) (y2 : mm_S), mf_R wr_parts z0 y2 → mf_F wr_parts z0 (k9 y1 y2)) (hk18 : ∀ (y1 : Int32) (y2 : Int32) (y3 : mm_S), mf_R wr_parts z0 y3 → mf_F wr_parts z0 (k18 y1 y2 y3)) (hk30 : ∀ (y1 : Int32) (y2 : Int32) (y3 : Int32) (y4 : mm_S), mf_R wr_parts z0 y4 → mf_F wr_parts z0 (k30 y1 y2 y3 y4)) (x4 : Int32) (x5 : Int32) (s0 : Int32) (z : mm_S) (hz : mf_R wr_parts z0 z) : mf_F wr_parts z0 (mo_parts_b108 k9 k18 k30 x4 x5 s0 z) := by
  unfold mo_parts_b108
  exact (mf_F.lI fun v1 => (mf_F.sI hz (by decide) fun z2 hz2 => (fr_parts_b125 hk9 hk18 hk30 s0 x4 x5 z2 hz2)))
theorem fr_parts_b103 {z0 : mm_S} {k9 : Int32 → mm_S → Option (Int32 × mm_S)} {k18 : Int32 → Int32 → mm_S → Option (Int32 × mm_S)} {k30 : Int32 → Int32 → Int32 → mm_S → Option (Int32 × mm_S)} (hk9 : ∀ (y1 : Int32) (y2 : mm_S), mf_R wr_parts z0 y2 → mf_F wr_parts z0 (k9 y1 y2)) (hk18 : ∀ (y1 : Int32) (y2 : Int32) (y3 : mm_S), mf_R wr_parts z0 y3 → mf_F wr_parts z0 (k18 y1 y2 y3)) (hk30 : ∀ (y1 : Int32) (y2 : Int32) (y3 : Int32) (y4 : mm_S), mf_R wr_parts z0 y4 → mf_F wr_parts z0 (k30 y1 y2 y3 y4)) (x4 : Int32) (x5 : Int32) (z : mm_S) (hz : mf_R wr_parts z0 z) : mf_F wr_parts z0 (mo_parts_b103 k9 k18 k30 x4 x5 z) := by
  unfold mo_parts_b103
  exact (fr_parts_b108 hk9 hk18 hk30 x4 x5 (1 : Int32) z hz)
theorem fr_parts_b30 {z0 : mm_S} {k9 : Int32 → mm_S → Option (Int32 × mm_S)} {k18 : Int32 → Int32 → mm_S → Option (Int32 × mm_S)} (hk9 : ∀ (y1 : Int32) (y2 : mm_S), mf_R wr_parts z0 y2 → mf_F wr_parts z0 (k9 y1 y2)) (hk18 : ∀ (y1 : Int32) (y2 : Int32) (y3 : mm_S), mf_R wr_parts z0 y3 → mf_F wr_parts z0 (k18 y1 y2 y3)) : ∀ (n : Nat) (x3 : Int32) (x4 : Int32) (x5 : Int32) (z : mm_S), mf_R wr_parts z0 z → mf_F wr_parts z0 (mo_parts_b30 k9 k18 n x3 x4 x5 z) := by
  intro n
  induction n with
  | zero => intro x3 x4 x5 z hz; exact mf_F.none
  | succ n ih =>
    intro x3 x4 x5 z hz
    rw [mo_parts_b30]
    exact (mf_F.gI fun v1 => (mf_F.ite (fr_parts_b131 hk9 hk18 x3 x4 z hz) (mf_F.lI fun v2 => (mf_F.ite (fr_parts_b131 hk9 hk18 x3 x4 z hz) (mf_F.lI fun v3 => (mf_F.ite (mf_F.lI fun v4 => (mf_F.lI fun v5 => (mf_F.ite (mf_F.ret hz) (mf_F.ite (mf_F.lI fun v6 => (mf_F.ite (fr_parts_b103 hk9 hk18 ih x4 x5 z hz) (fr_parts_b108 hk9 hk18 ih x4 x5 (0 : Int32) z hz))) (fr_parts_b103 hk9 hk18 ih x4 x5 z hz))))) (fr_parts_b125 hk9 hk18 ih x3 x4 x5 z hz)))))))
theorem fr_parts_b18 {z0 : mm_S} {k9 : Int32 → mm_S → Option (Int32 × mm_S)} (hk9 : ∀ (y1 : Int32) (y2 : mm_S), mf_R wr_parts z0 y2 → mf_F wr_parts z0 (k9 y1 y2)) : ∀ (n : Nat) (x3 : Int32) (x4 : Int32) (z : mm_S), mf_R wr_parts z0 z → mf_F wr_parts z0 (mo_parts_b18 k9 n x3 x4 z) := by
  intro n
  induction n with
  | zero => intro x3 x4 z hz; exact mf_F.none
  | succ n ih =>
    intro x3 x4 z hz
    rw [mo_parts_b18]
    exact (mf_F.gI fun v1 => (mf_F.ite (hk9 x3 z hz) (fr_parts_b30 hk9 ih g_fu x3 x4 (0 : Int32) z hz)))
theorem fr_parts_b9 {z0 : mm_S} : ∀ (n : Nat) (x3 : Int32) (z : mm_S), mf_R wr_parts z0 z → mf_F wr_parts z0 (mo_parts_b9 n x3 z) := by
  intro n
  induction n with
  | zero => intro x3 z hz; exact mf_F.none
  | succ n ih =>
    intro x3 z hz
    rw [mo_parts_b9]
    exact (mf_F.ite (fr_parts_b143  g_fu (0 : Int32) z hz) (fr_parts_b18 ih g_fu (0 : Int32) (0 : Int32) z hz))
theorem fr_parts (x1 : Int32) (x2 : Int32) (z : mm_S) : mf_F wr_parts z (mo_parts x1 x2 z) := by
  have hz : mf_R wr_parts z z := mf_R.rfl
  unfold mo_parts
  exact (mf_F.sI hz (by decide) fun z1 hz1 => (fr_parts_b9  g_fu (1 : Int32) z1 hz1))
theorem fr_bringsSets_b2 {z0 : mm_S} : ∀ (n : Nat) (x1 : Int32) (z : mm_S), mf_R wr_bringsSets z0 z → mf_F wr_bringsSets z0 (mo_bringsSets_b2 n x1 z) := by
  intro n
  induction n with
  | zero => intro x1 z hz; exact mf_F.none
  | succ n ih =>
    intro x1 z hz
    rw [mo_bringsSets_b2]
    exact (mf_F.ite (mf_F.ret hz) (mf_F.lI fun v1 => (mf_F.sI hz (by decide) fun z2 hz2 => (ih (x1 + (1 : Int32)) z2 hz2))))
theorem fr_bringsSets (z : mm_S) : mf_F wr_bringsSets z (mo_bringsSets z) := by
  have hz : mf_R wr_bringsSets z z := mf_R.rfl
  unfold mo_bringsSets
  exact (fr_bringsSets_b2  g_fu (0 : Int32) z hz)
theorem fr_isPair_b214 {z0 : mm_S} : ∀ (n : Nat) (x3 : Int32) (x4 : Int32) (z : mm_S), mf_R wr_isPair z0 z → mf_F wr_isPair z0 (mo_isPair_b214 n x3 x4 z) := by
  intro n
  induction n with
  | zero => intro x3 x4 z hz; exact mf_F.none
  | succ n ih =>
    intro x3 x4 z hz
    rw [mo_isPair_b214]
    exact (mf_F.gI fun v1 => (mf_F.ite (mf_F.ite (mf_F.ret hz) (mf_F.gI fun v2 => (mf_F.ite (mf_F.ret hz) (mf_F.ret hz)))) (mf_F.lI fun v3 => (ih (x3 + v3) (x4 + (1 : Int32)) z hz))))
theorem fr_isPair_b203 {z0 : mm_S} {k142 : Int32 → mm_S → Option (Int32 × mm_S)} (hk142 : ∀ (y1 : Int32) (y2 : mm_S), mf_R wr_isPair z0 y2 → mf_F wr_isPair z0 (k142 y1 y2)) (x3 : Int32) (z : mm_S) (hz : mf_R wr_isPair z0 z) : mf_F wr_isPair z0 (mo_isPair_b203 k142 x3 z) := by
  unfold mo_isPair_b203
  exact (hk142 (x3 + (1 : Int32)) z hz)
theorem fr_isPair_b188 {z0 : mm_S} {k142 : Int32 → mm_S → Option (Int32 × mm_S)} (hk142 : ∀ (y1 : Int32) (y2 : mm_S), mf_R wr_isPair z0 y2 → mf_F wr_isPair z0 (k142 y1 y2)) (x3 : Int32) (z : mm_S) (hz : mf_R wr_isPair z0 z) : mf_F wr_isPair z0 (mo_isPair_b188 k142 x3 z) := by
  unfold mo_isPair_b188
  exact (mf_F.call hz (fr_bringsSets z) (by decide) fun _ z1 hz1 => (mf_F.call hz1 (fr_parts x3 (1 : Int32) z1) (by decide) fun v4 z3 hz3 => (mf_F.ite (mf_F.ret hz3) (fr_isPair_b203 hk142 x3 z3 hz3))))
theorem fr_isPair_b142 {z0 : mm_S} : ∀ (n : Nat) (x3 : Int32) (z : mm_S), mf_R wr_isPair z0 z → mf_F wr_isPair z0 (mo_isPair_b142 n x3 z) := by
  intro n
  induction n with
  | zero => intro x3 z hz; exact mf_F.none
  | succ n ih =>
    intro x3 z hz
    rw [mo_isPair_b142]
    exact (mf_F.gI fun v1 => (mf_F.ite (fr_isPair_b214  g_fu (0 : Int32) (0 : Int32) z hz) (mf_F.lI fun v2 => (mf_F.ite (mf_F.call hz (fr_keepsSets z) (by decide) fun _ z3 hz3 => (mf_F.lI fun v5 => (mf_F.ite (fr_isPair_b188 ih x3 z3 hz3) (mf_F.call hz3 (fr_parts x3 (0 : Int32) z3) (by decide) fun v7 z6 hz6 => (mf_F.ite (fr_isPair_b188 ih x3 z6 hz6) (fr_isPair_b203 ih x3 z6 hz6)))))) (fr_isPair_b203 ih x3 z hz)))))
theorem fr_isPair_b114 {z0 : mm_S} {k19 : Int32 → Int32 → Int32 → mm_S → Option (Int32 × mm_S)} {k81 : Int32 → Int32 → Int32 → Int32 → mm_S → Option (Int32 × mm_S)} (hk19 : ∀ (y1 : Int32) (y2 : Int32) (y3 : Int32) (y4 : mm_S), mf_R wr_isPair z0 y4 → mf_F wr_isPair z0 (k19 y1 y2 y3 y4)) (hk81 : ∀ (y1 : Int32) (y2 : Int32) (y3 : Int32) (y4 : Int32) (y5 : mm_S), mf_R wr_isPair z0 y5 → mf_F wr_isPair z0 (k81 y1 y2 y3 y4 y5)) (x1 : Int32) (x3 : Int32) (x4 : Int32) (s0 : Int32) (z : mm_S) (hz : mf_R wr_isPair z0 z) : mf_F wr_isPair z0 (mo_isPair_b114 k19 k81 x1 x3 x4 s0 z) := by
  unfold mo_isPair_b114
  exact (hk81 x1 s0 x3 (x4 + (1 : Int32)) z hz)
theorem fr_isPair_b113 {z0 : mm_S} {k19 : Int32 → Int32 → Int32 → mm_S → Option (Int32 × mm_S)} {k81 : Int32 → Int32 → Int32 → Int32 → mm_S → Option (Int32 × mm_S)} (hk19 : ∀ (y1 : Int32) (y2 : Int32) (y3 : Int32) (y4 : mm_S), mf_R wr_isPair z0 y4 → mf_F wr_isPair z0 (k19 y1 y2 y3 y4)) (hk81 : ∀ (y1 : Int32) (y2 : Int32) (y3 : Int32) (y4 : Int32) (y5 : mm_S), mf_R wr_isPair z0 y5 → mf_F wr_isPair z0 (k81 y1 y2 y3 y4 y5)) (x1 : Int32) (x3 : Int32) (x4 : Int32) (z : mm_S) (hz : mf_R wr_isPair z0 z) : mf_F wr_isPair z0 (mo_isPair_b113 k19 k81 x1 x3 x4 z) := by
  unfold mo_isPair_b113
  exact (fr_isPair_b114 hk19 hk81 x1 x3 x4 (0 : Int32) z hz)
theorem fr_isPair_b81 {z0 : mm_S} {k19 : Int32 → Int32 → Int32 → mm_S → Option (Int32 × mm_S)} (hk19 : ∀ (y1 : Int32) (y2 : Int32) (y3 : Int32) (y4 : mm_S), mf_R wr_isPair z0 y4 → mf_F wr_isPair z0 (k19 y1 y2 y3 y4)) : ∀ (n : Nat) (x1 : Int32) (x2 : Int32) (x3 : Int32) (x4 : Int32) (z : mm_S), mf_R wr_isPair z0 z → mf_F wr_isPair z0 (mo_isPair_b81 k19 n x1 x2 x3 x4 z) := by
  intro n
  induction n with
  | zero => intro x1 x2 x3 x4 z hz; exact mf_F.none
  | succ n ih =>
    intro x1 x2 x3 x4 z hz
    rw [mo_isPair_b81]
    exact (mf_F.gI fun v1 => (mf_F.ite (mf_F.sI hz (by decide) fun z2 hz2 => (hk19 x1 x2 (x3 + (1 : Int32)) z2 hz2)) (mf_F.ite (fr_isPair_b113 hk19 ih x1 x3 x4 z hz) (mf_F.lI fun v3 => (mf_F.ite (fr_isPair_b113 hk19 ih x1 x3 x4 z hz) (fr_isPair_b114 hk19 ih x1 x3 x4 (1 : Int32) z hz))))))
theorem fr_isPair_b77 {z0 : mm_S} {k19 : Int32 → Int32 → Int32 → mm_S → Option (Int32 × mm_S)} (hk19 : ∀ (y1 : Int32) (y2 : Int32) (y3 : Int32) (y4 : mm_S), mf_R wr_isPair z0 y4 → mf_F wr_isPair z0 (k19 y1 y2 y3 y4)) (x1 : Int32) (x3 : Int32) (s0 : Int32) (z : mm_S) (hz : mf_R wr_isPair z0 z) : mf_F wr_isPair z0 (mo_isPair_b77 k19 x1 x3 s0 z) := by
  unfold mo_isPair_b77
  exact (fr_isPair_b81 hk19 g_fu x1 s0 x3 (0 : Int32) z hz)
theorem fr_isPair_b76 {z0 : mm_S} {k19 : Int32 → Int32 → Int32 → mm_S → Option (Int32 × mm_S)} (hk19 : ∀ (y1 : Int32) (y2 : Int32) (y3 : Int32) (y4 : mm_S), mf_R wr_isPair z0 y4 → mf_F wr_isPair z0 (k19 y1 y2 y3 y4)) (x1 : Int32) (x3 : Int32) (z : mm_S) (hz : mf_R wr_isPair z0 z) : mf_F wr_isPair z0 (mo_isPair_b76 k19 x1 x3 z) := by
  unfold mo_isPair_b76
  exact (fr_isPair_b77 hk19 x1 x3 (0 : Int32) z hz)
theorem fr_isPair_b19 {z0 : mm_S} : ∀ (n : Nat) (x1 : Int32) (x2 : Int32) (x3 : Int32) (z : mm_S), mf_R wr_isPair z0 z → mf_F wr_isPair z0 (mo_isPair_b19 n x1 x2 x3 z) := by
  intro n
  induction n with
  | zero => intro x1 x2 x3 z hz; exact mf_F.none
  | succ n ih =>
    intro x1 x2 x3 z hz
    rw [mo_isPair_b19]
    exact (mf_F.gI fun v1 => (mf_F.ite (mf_F.ite (fr_isPair_b142  g_fu (0 : Int32) z hz) (mf_F.ret hz)) (mf_F.lI fun v2 => (mf_F.call hz (fr_said x1 v2 z) (by decide) fun v4 z3 hz3 => (mf_F.lI fun v5 => (mf_F.call hz3 (fr_laden x1 v5 z3) (by decide) fun v7 z6 hz6 => (mf_F.call hz6 (fr_isSound x1 v4 v7 z6) (by decide) fun v9 z8 hz8 => (mf_F.ite (mf_F.ret hz8) (mf_F.ite (fr_isPair_b76 ih x1 x3 z8 hz8) (mf_F.lI fun v10 => (mf_F.ite (fr_isPair_b76 ih x1 x3 z8 hz8) (fr_isPair_b77 ih x1 x3 (1 : Int32) z8 hz8))))))))))))
theorem fr_isPair (x1 : Int32) (z : mm_S) : mf_F wr_isPair z (mo_isPair x1 z) := by
  have hz : mf_R wr_isPair z z := mf_R.rfl
  unfold mo_isPair
  exact (mf_F.call hz (fr_booksFit x1 z) (by decide) fun v2 z1 hz1 => (mf_F.ite (mf_F.ret hz1) (mf_F.call hz1 (fr_pairs x1 z1) (by decide) fun _ z3 hz3 => (fr_isPair_b19  g_fu x1 (1 : Int32) (0 : Int32) z3 hz3))))
theorem fr_isHonest_b31 {z0 : mm_S} {k2 : Int32 → Int32 → Int32 → mm_S → Option (Int32 × mm_S)} (hk2 : ∀ (y1 : Int32) (y2 : Int32) (y3 : Int32) (y4 : mm_S), mf_R wr_isHonest z0 y4 → mf_F wr_isHonest z0 (k2 y1 y2 y3 y4)) (x1 : Int32) (x2 : Int32) (x3 : Int32) (z : mm_S) (hz : mf_R wr_isHonest z0 z) : mf_F wr_isHonest z0 (mo_isHonest_b31 k2 x1 x2 x3 z) := by
  unfold mo_isHonest_b31
  exact (hk2 x1 x2 (x3 + (1 : Int32)) z hz)
theorem fr_isHonest_b2 {z0 : mm_S} : ∀ (n : Nat) (x1 : Int32) (x2 : Int32) (x3 : Int32) (z : mm_S), mf_R wr_isHonest z0 z → mf_F wr_isHonest z0 (mo_isHonest_b2 n x1 x2 x3 z) := by
  intro n
  induction n with
  | zero => intro x1 x2 x3 z hz; exact mf_F.none
  | succ n ih =>
    intro x1 x2 x3 z hz
    rw [mo_isHonest_b2]
    exact (mf_F.call hz (fr_cells z) (by decide) fun v2 z1 hz1 => (mf_F.ite (mf_F.ret hz1) (mf_F.call hz1 (fr_mayBe x1 x3 x2 z1) (by decide) fun v4 z3 hz3 => (mf_F.ite (fr_isHonest_b31 ih x1 x2 x3 z3 hz3) (mf_F.call hz3 (fr_isQuiet x3 x2 z3) (by decide) fun v6 z5 hz5 => (mf_F.ite (fr_isHonest_b31 ih x1 x2 x3 z5 hz5) (mf_F.ret hz5)))))))
theorem fr_isHonest (x1 : Int32) (x2 : Int32) (z : mm_S) : mf_F wr_isHonest z (mo_isHonest x1 x2 z) := by
  have hz : mf_R wr_isHonest z z := mf_R.rfl
  unfold mo_isHonest
  exact (fr_isHonest_b2  g_fu x1 x2 (0 : Int32) z hz)
theorem fr_gapsOf_b93 {z0 : mm_S} {k31 : Int32 → Int32 → Int32 → mm_S → Option (Int32 × mm_S)} (hk31 : ∀ (y1 : Int32) (y2 : Int32) (y3 : Int32) (y4 : mm_S), mf_R wr_gapsOf z0 y4 → mf_F wr_gapsOf z0 (k31 y1 y2 y3 y4)) (x1 : Int32) (x2 : Int32) (x3 : Int32) (z : mm_S) (hz : mf_R wr_gapsOf z0 z) : mf_F wr_gapsOf z0 (mo_gapsOf_b93 k31 x1 x2 x3 z) := by
  unfold mo_gapsOf_b93
  exact (hk31 x1 x2 (x3 + (1 : Int32)) z hz)
theorem fr_gapsOf_b91 {z0 : mm_S} {k31 : Int32 → Int32 → Int32 → mm_S → Option (Int32 × mm_S)} (hk31 : ∀ (y1 : Int32) (y2 : Int32) (y3 : Int32) (y4 : mm_S), mf_R wr_gapsOf z0 y4 → mf_F wr_gapsOf z0 (k31 y1 y2 y3 y4)) (x1 : Int32) (x3 : Int32) (s0 : Int32) (s1 : Int32) (z : mm_S) (hz : mf_R wr_gapsOf z0 z) : mf_F wr_gapsOf z0 (mo_gapsOf_b91 k31 x1 x3 s0 s1 z) := by
  unfold mo_gapsOf_b91
  exact (fr_gapsOf_b93 hk31 x1 (s0 + s1) x3 z hz)
theorem fr_gapsOf_b31 {z0 : mm_S} : ∀ (n : Nat) (x1 : Int32) (x2 : Int32) (x3 : Int32) (z : mm_S), mf_R wr_gapsOf z0 z → mf_F wr_gapsOf z0 (mo_gapsOf_b31 n x1 x2 x3 z) := by
  intro n
  induction n with
  | zero => intro x1 x2 x3 z hz; exact mf_F.none
  | succ n ih =>
    intro x1 x2 x3 z hz
    rw [mo_gapsOf_b31]
    exact (mf_F.gI fun v1 => (mf_F.ite (mf_F.ret hz) (mf_F.gI fun v2 => (mf_F.lI fun v3 => (mf_F.ite (mf_F.ret hz) (mf_F.call hz (fr_said x1 x3 z) (by decide) fun v5 z4 hz4 => (mf_F.ite (mf_F.gI fun v6 => (mf_F.pI hz4 (by decide) fun z7 hz7 => (mf_F.call hz7 (fr_isHonest x1 x3 z7) (by decide) fun v9 z8 hz8 => (mf_F.ite (fr_gapsOf_b91 ih x1 x3 x2 (1 : Int32) z8 hz8) (fr_gapsOf_b91 ih x1 x3 x2 (0 : Int32) z8 hz8))))) (fr_gapsOf_b93 ih x1 x2 x3 z4 hz4))))))))
theorem fr_gapsOf_b30 {z0 : mm_S} (x1 : Int32) (x2 : Int32) (s0 : Int32) (z : mm_S) (hz : mf_R wr_gapsOf z0 z) : mf_F wr_gapsOf z0 (mo_gapsOf_b30 x1 x2 s0 z) := by
  unfold mo_gapsOf_b30
  exact (fr_gapsOf_b31  g_fu x1 x2 s0 z hz)
theorem fr_gapsOf (x1 : Int32) (z : mm_S) : mf_F wr_gapsOf z (mo_gapsOf x1 z) := by
  have hz : mf_R wr_gapsOf z z := mf_R.rfl
  unfold mo_gapsOf
  exact (mf_F.call hz (fr_lays_2 x1 z) (by decide) fun _ z1 hz1 => (mf_F.pI hz1 (by decide) fun z3 hz3 => (mf_F.gI fun v4 => (mf_F.ite (fr_gapsOf_b30  x1 (0 : Int32) (48 : Int32) z3 hz3) (mf_F.lI fun v5 => (fr_gapsOf_b30  x1 (0 : Int32) v5 z3 hz3))))))
theorem fr_isKind_b104 {z0 : mm_S} (s0 : Int32) (s1 : Int32) (z : mm_S) (hz : mf_R wr_isKind z0 z) : mf_F wr_isKind z0 (mo_isKind_b104 s0 s1 z) := by
  unfold mo_isKind_b104
  exact (mf_F.ite (mf_F.ret hz) (mf_F.ret hz))
theorem fr_isKind_b95 {z0 : mm_S} (x2 : Int32) (s0 : Int32) (z : mm_S) (hz : mf_R wr_isKind z0 z) : mf_F wr_isKind z0 (mo_isKind_b95 x2 s0 z) := by
  unfold mo_isKind_b95
  exact (mf_F.ite (fr_isKind_b104  s0 (1 : Int32) z hz) (fr_isKind_b104  s0 (0 : Int32) z hz))
theorem fr_isKind (x1 : Int32) (x2 : Int32) (z : mm_S) : mf_F wr_isKind z (mo_isKind x1 x2 z) := by
  have hz : mf_R wr_isKind z z := mf_R.rfl
  unfold mo_isKind
  exact (mf_F.call hz (fr_sayingsOf x1 z) (by decide) fun v2 z1 hz1 => (mf_F.ite (mf_F.ret hz1) (mf_F.ite (mf_F.call hz1 (fr_whoOf x1 z1) (by decide) fun v13 z12 hz12 => (mf_F.ite (mf_F.ret hz12) (mf_F.ret hz12))) (mf_F.ite (mf_F.call hz1 (fr_isPair x1 z1) (by decide) fun v11 z10 hz10 => (mf_F.ite (mf_F.ret hz10) mf_F.none)) (mf_F.call hz1 (fr_gapsOf x1 z1) (by decide) fun v4 z3 hz3 => (mf_F.ite (mf_F.gI fun v7 => (mf_F.ite (mf_F.ret hz3) (mf_F.gI fun v8 => (mf_F.gI fun v9 => (mf_F.ite (mf_F.ret hz3) (mf_F.ret hz3)))))) (mf_F.gI fun v5 => (mf_F.gI fun v6 => (mf_F.ite (mf_F.ite (fr_isKind_b95  x2 (1 : Int32) z3 hz3) (fr_isKind_b95  x2 (0 : Int32) z3 hz3)) (mf_F.ret hz3))))))))))
theorem fr_judge (x1 : Int32) (x2 : Int32) (z : mm_S) : mf_F wr_judge z (mo_judge x1 x2 z) := by
  have hz : mf_R wr_judge z z := mf_R.rfl
  unfold mo_judge
  exact (mf_F.call hz (fr_isShip x1 z) (by decide) fun v2 z1 hz1 => (mf_F.ite (mf_F.ret hz1) (mf_F.call hz1 (fr_is x2 (0 : Int32) (4 : Int32) z1) (by decide) fun v4 z3 hz3 => (mf_F.ite (mf_F.ret hz3) (mf_F.call hz3 (fr_isKind x1 x2 z3) (by decide) fun v6 z5 hz5 => (mf_F.ite (mf_F.ret hz5) (mf_F.ret hz5)))))))
theorem fr_taleOf_b38 {z0 : mm_S} {k5 : Int32 → Int32 → Int32 → mm_S → Option (Int32 × mm_S)} (hk5 : ∀ (y1 : Int32) (y2 : Int32) (y3 : Int32) (y4 : mm_S), mf_R wr_taleOf z0 y4 → mf_F wr_taleOf z0 (k5 y1 y2 y3 y4)) (x1 : Int32) (x3 : Int32) (x4 : Int32) (z : mm_S) (hz : mf_R wr_taleOf z0 z) : mf_F wr_taleOf z0 (mo_taleOf_b38 k5 x1 x3 x4 z) := by
  unfold mo_taleOf_b38
  exact (hk5 x1 x3 (x4 + (1 : Int32)) z hz)
theorem fr_taleOf_b5 {z0 : mm_S} : ∀ (n : Nat) (x1 : Int32) (x3 : Int32) (x4 : Int32) (z : mm_S), mf_R wr_taleOf z0 z → mf_F wr_taleOf z0 (mo_taleOf_b5 n x1 x3 x4 z) := by
  intro n
  induction n with
  | zero => intro x1 x3 x4 z hz; exact mf_F.none
  | succ n ih =>
    intro x1 x3 x4 z hz
    rw [mo_taleOf_b5]
    exact (mf_F.ite (mf_F.ret hz) (mf_F.ite (mf_F.ret hz) (mf_F.call hz (fr_isKind x1 x4 z) (by decide) fun v2 z1 hz1 => (mf_F.ite (fr_taleOf_b38 ih x1 x3 x4 z1 hz1) (mf_F.ite (mf_F.ret hz1) (fr_taleOf_b38 ih x1 (x3 + (-1 : Int32)) x4 z1 hz1))))))
theorem fr_taleOf (x1 : Int32) (x2 : Int32) (z : mm_S) : mf_F wr_taleOf z (mo_taleOf x1 x2 z) := by
  have hz : mf_R wr_taleOf z z := mf_R.rfl
  unfold mo_taleOf
  exact (fr_taleOf_b5  g_fu x1 x2 (0 : Int32) z hz)
theorem fr_tale (x1 : Int32) (x2 : Int32) (z : mm_S) : mf_F wr_tale z (mo_tale x1 x2 z) := by
  have hz : mf_R wr_tale z z := mf_R.rfl
  unfold mo_tale
  exact (mf_F.call hz (fr_isShip x1 z) (by decide) fun v2 z1 hz1 => (mf_F.ite (mf_F.ret hz1) (mf_F.call hz1 (fr_taleOf x1 x2 z1) (by decide) fun v4 z3 hz3 => (mf_F.ret hz3))))
theorem fr_bars_b83 {z0 : mm_S} {k23 : Int32 → Int32 → mm_S → Option (Int32 × mm_S)} {k53 : Int32 → Int32 → Int32 → mm_S → Option (Int32 × mm_S)} (hk23 : ∀ (y1 : Int32) (y2 : Int32) (y3 : mm_S), mf_R wr_bars z0 y3 → mf_F wr_bars z0 (k23 y1 y2 y3)) (hk53 : ∀ (y1 : Int32) (y2 : Int32) (y3 : Int32) (y4 : mm_S), mf_R wr_bars z0 y4 → mf_F wr_bars z0 (k53 y1 y2 y3 y4)) (x3 : Int32) (x4 : Int32) (s0 : Int32) (z : mm_S) (hz : mf_R wr_bars z0 z) : mf_F wr_bars z0 (mo_bars_b83 k23 k53 x3 x4 s0 z) := by
  unfold mo_bars_b83
  exact (hk53 s0 x3 (x4 + (1 : Int32)) z hz)
theorem fr_bars_b82 {z0 : mm_S} {k23 : Int32 → Int32 → mm_S → Option (Int32 × mm_S)} {k53 : Int32 → Int32 → Int32 → mm_S → Option (Int32 × mm_S)} (hk23 : ∀ (y1 : Int32) (y2 : Int32) (y3 : mm_S), mf_R wr_bars z0 y3 → mf_F wr_bars z0 (k23 y1 y2 y3)) (hk53 : ∀ (y1 : Int32) (y2 : Int32) (y3 : Int32) (y4 : mm_S), mf_R wr_bars z0 y4 → mf_F wr_bars z0 (k53 y1 y2 y3 y4)) (x3 : Int32) (x4 : Int32) (z : mm_S) (hz : mf_R wr_bars z0 z) : mf_F wr_bars z0 (mo_bars_b82 k23 k53 x3 x4 z) := by
  unfold mo_bars_b82
  exact (fr_bars_b83 hk23 hk53 x3 x4 (0 : Int32) z hz)
theorem fr_bars_b53 {z0 : mm_S} {k23 : Int32 → Int32 → mm_S → Option (Int32 × mm_S)} (hk23 : ∀ (y1 : Int32) (y2 : Int32) (y3 : mm_S), mf_R wr_bars z0 y3 → mf_F wr_bars z0 (k23 y1 y2 y3)) : ∀ (n : Nat) (x2 : Int32) (x3 : Int32) (x4 : Int32) (z : mm_S), mf_R wr_bars z0 z → mf_F wr_bars z0 (mo_bars_b53 k23 n x2 x3 x4 z) := by
  intro n
  induction n with
  | zero => intro x2 x3 x4 z hz; exact mf_F.none
  | succ n ih =>
    intro x2 x3 x4 z hz
    rw [mo_bars_b53]
    exact (mf_F.ite (mf_F.ite (mf_F.ret hz) (hk23 x2 (x3 + (1 : Int32)) z hz)) (mf_F.ite (fr_bars_b82 hk23 ih x3 x4 z hz) (mf_F.lI fun v1 => (mf_F.ite (fr_bars_b82 hk23 ih x3 x4 z hz) (fr_bars_b83 hk23 ih x3 x4 (1 : Int32) z hz)))))
theorem fr_bars_b49 {z0 : mm_S} {k23 : Int32 → Int32 → mm_S → Option (Int32 × mm_S)} (hk23 : ∀ (y1 : Int32) (y2 : Int32) (y3 : mm_S), mf_R wr_bars z0 y3 → mf_F wr_bars z0 (k23 y1 y2 y3)) (x3 : Int32) (s0 : Int32) (z : mm_S) (hz : mf_R wr_bars z0 z) : mf_F wr_bars z0 (mo_bars_b49 k23 x3 s0 z) := by
  unfold mo_bars_b49
  exact (fr_bars_b53 hk23 g_fu s0 x3 (0 : Int32) z hz)
theorem fr_bars_b48 {z0 : mm_S} {k23 : Int32 → Int32 → mm_S → Option (Int32 × mm_S)} (hk23 : ∀ (y1 : Int32) (y2 : Int32) (y3 : mm_S), mf_R wr_bars z0 y3 → mf_F wr_bars z0 (k23 y1 y2 y3)) (x3 : Int32) (z : mm_S) (hz : mf_R wr_bars z0 z) : mf_F wr_bars z0 (mo_bars_b48 k23 x3 z) := by
  unfold mo_bars_b48
  exact (fr_bars_b49 hk23 x3 (0 : Int32) z hz)
theorem fr_bars_b23 {z0 : mm_S} : ∀ (n : Nat) (x2 : Int32) (x3 : Int32) (z : mm_S), mf_R wr_bars z0 z → mf_F wr_bars z0 (mo_bars_b23 n x2 x3 z) := by
  intro n
  induction n with
  | zero => intro x2 x3 z hz; exact mf_F.none
  | succ n ih =>
    intro x2 x3 z hz
    rw [mo_bars_b23]
    exact (mf_F.gI fun v1 => (mf_F.ite (mf_F.ret hz) (mf_F.ite (fr_bars_b48 ih x3 z hz) (mf_F.lI fun v2 => (mf_F.ite (fr_bars_b48 ih x3 z hz) (fr_bars_b49 ih x3 (1 : Int32) z hz))))))
theorem fr_bars (x1 : Int32) (z : mm_S) : mf_F wr_bars z (mo_bars x1 z) := by
  have hz : mf_R wr_bars z z := mf_R.rfl
  unfold mo_bars
  exact (mf_F.call hz (fr_isShip x1 z) (by decide) fun v2 z1 hz1 => (mf_F.ite (mf_F.ret hz1) (mf_F.call hz1 (fr_booksFit x1 z1) (by decide) fun v4 z3 hz3 => (mf_F.call hz3 (fr_pairs x1 z3) (by decide) fun _ z5 hz5 => (fr_bars_b23  g_fu v4 (0 : Int32) z5 hz5)))))
theorem fr_clash_b158 {z0 : mm_S} (x2 : Int32) (x3 : Int32) (x4 : Int32) (x5 : Int32) (x6 : Int32) (z : mm_S) (hz : mf_R wr_clash z0 z) : mf_F wr_clash z0 (mo_clash_b158 x2 x3 x4 x5 x6 z) := by
  unfold mo_clash_b158
  exact (mf_F.ite (mf_F.ite (mf_F.ret hz) (mf_F.ite (mf_F.ret hz) (mf_F.lI fun v1 => (mf_F.ret hz)))) (mf_F.ite (mf_F.ret hz) (mf_F.ite (mf_F.ret hz) (mf_F.lI fun v2 => (mf_F.ret hz)))))
theorem fr_clash_b143 {z0 : mm_S} (x2 : Int32) (x3 : Int32) (x4 : Int32) (x5 : Int32) (s0 : Int32) (z : mm_S) (hz : mf_R wr_clash z0 z) : mf_F wr_clash z0 (mo_clash_b143 x2 x3 x4 x5 s0 z) := by
  unfold mo_clash_b143
  exact (mf_F.ite (mf_F.ite (mf_F.ret hz) (fr_clash_b158  x2 x3 x4 x5 s0 z hz)) (fr_clash_b158  x2 x3 x4 x5 s0 z hz))
theorem fr_clash_b142 {z0 : mm_S} (x2 : Int32) (x3 : Int32) (x4 : Int32) (x5 : Int32) (z : mm_S) (hz : mf_R wr_clash z0 z) : mf_F wr_clash z0 (mo_clash_b142 x2 x3 x4 x5 z) := by
  unfold mo_clash_b142
  exact (fr_clash_b143  x2 x3 x4 x5 (0 : Int32) z hz)
theorem fr_clash_b138 {z0 : mm_S} (x2 : Int32) (x3 : Int32) (x4 : Int32) (x5 : Int32) (z : mm_S) (hz : mf_R wr_clash z0 z) : mf_F wr_clash z0 (mo_clash_b138 x2 x3 x4 x5 z) := by
  unfold mo_clash_b138
  exact (fr_clash_b143  x2 x3 x4 x5 (1 : Int32) z hz)
theorem fr_clash_b115 {z0 : mm_S} {k35 : Int32 → Int32 → Int32 → Int32 → Int32 → mm_S → Option (Int32 × mm_S)} (hk35 : ∀ (y1 : Int32) (y2 : Int32) (y3 : Int32) (y4 : Int32) (y5 : Int32) (y6 : mm_S), mf_R wr_clash z0 y6 → mf_F wr_clash z0 (k35 y1 y2 y3 y4 y5 y6)) (x2 : Int32) (x3 : Int32) (x4 : Int32) (x5 : Int32) (x6 : Int32) (z : mm_S) (hz : mf_R wr_clash z0 z) : mf_F wr_clash z0 (mo_clash_b115 k35 x2 x3 x4 x5 x6 z) := by
  unfold mo_clash_b115
  exact (hk35 x2 x3 x4 x5 (x6 + (1 : Int32)) z hz)
theorem fr_clash_b109 {z0 : mm_S} {k35 : Int32 → Int32 → Int32 → Int32 → Int32 → mm_S → Option (Int32 × mm_S)} {k69 : Int32 → Int32 → Int32 → Int32 → Int32 → Int32 → mm_S → Option (Int32 × mm_S)} (hk35 : ∀ (y1 : Int32) (y2 : Int32) (y3 : Int32) (y4 : Int32) (y5 : Int32) (y6 : mm_S), mf_R wr_clash z0 y6 → mf_F wr_clash z0 (k35 y1 y2 y3 y4 y5 y6)) (hk69 : ∀ (y1 : Int32) (y2 : Int32) (y3 : Int32) (y4 : Int32) (y5 : Int32) (y6 : Int32) (y7 : mm_S), mf_R wr_clash z0 y7 → mf_F wr_clash z0 (k69 y1 y2 y3 y4 y5 y6 y7)) (x2 : Int32) (x3 : Int32) (x4 : Int32) (x5 : Int32) (x6 : Int32) (x7 : Int32) (z : mm_S) (hz : mf_R wr_clash z0 z) : mf_F wr_clash z0 (mo_clash_b109 k35 k69 x2 x3 x4 x5 x6 x7 z) := by
  unfold mo_clash_b109
  exact (hk69 x2 x3 x4 x5 x6 (x7 + (1 : Int32)) z hz)
theorem fr_clash_b69 {z0 : mm_S} {k35 : Int32 → Int32 → Int32 → Int32 → Int32 → mm_S → Option (Int32 × mm_S)} (hk35 : ∀ (y1 : Int32) (y2 : Int32) (y3 : Int32) (y4 : Int32) (y5 : Int32) (y6 : mm_S), mf_R wr_clash z0 y6 → mf_F wr_clash z0 (k35 y1 y2 y3 y4 y5 y6)) : ∀ (n : Nat) (x2 : Int32) (x3 : Int32) (x4 : Int32) (x5 : Int32) (x6 : Int32) (x7 : Int32) (z : mm_S), mf_R wr_clash z0 z → mf_F wr_clash z0 (mo_clash_b69 k35 n x2 x3 x4 x5 x6 x7 z) := by
  intro n
  induction n with
  | zero => intro x2 x3 x4 x5 x6 x7 z hz; exact mf_F.none
  | succ n ih =>
    intro x2 x3 x4 x5 x6 x7 z hz
    rw [mo_clash_b69]
    exact (mf_F.ite (fr_clash_b115 hk35 x2 x3 x4 x5 x6 z hz) (mf_F.ite (mf_F.lI fun v1 => (mf_F.ite (fr_clash_b109 hk35 ih x2 x3 x6 x7 x6 x7 z hz) (fr_clash_b109 hk35 ih x2 x3 x4 x5 x6 x7 z hz))) (fr_clash_b115 hk35 x2 x3 x4 x5 x6 z hz)))
theorem fr_clash_b65 {z0 : mm_S} {k35 : Int32 → Int32 → Int32 → Int32 → Int32 → mm_S → Option (Int32 × mm_S)} (hk35 : ∀ (y1 : Int32) (y2 : Int32) (y3 : Int32) (y4 : Int32) (y5 : Int32) (y6 : mm_S), mf_R wr_clash z0 y6 → mf_F wr_clash z0 (k35 y1 y2 y3 y4 y5 y6)) (x2 : Int32) (x4 : Int32) (x5 : Int32) (x6 : Int32) (s0 : Int32) (z : mm_S) (hz : mf_R wr_clash z0 z) : mf_F wr_clash z0 (mo_clash_b65 k35 x2 x4 x5 x6 s0 z) := by
  unfold mo_clash_b65
  exact (fr_clash_b69 hk35 g_fu x2 s0 x4 x5 x6 (0 : Int32) z hz)
theorem fr_clash_b64 {z0 : mm_S} {k35 : Int32 → Int32 → Int32 → Int32 → Int32 → mm_S → Option (Int32 × mm_S)} (hk35 : ∀ (y1 : Int32) (y2 : Int32) (y3 : Int32) (y4 : Int32) (y5 : Int32) (y6 : mm_S), mf_R wr_clash z0 y6 → mf_F wr_clash z0 (k35 y1 y2 y3 y4 y5 y6)) (x2 : Int32) (x3 : Int32) (x4 : Int32) (x5 : Int32) (x6 : Int32) (z : mm_S) (hz : mf_R wr_clash z0 z) : mf_F wr_clash z0 (mo_clash_b64 k35 x2 x3 x4 x5 x6 z) := by
  unfold mo_clash_b64
  exact (fr_clash_b65 hk35 x2 x4 x5 x6 x3 z hz)
theorem fr_clash_b35 {z0 : mm_S} : ∀ (n : Nat) (x2 : Int32) (x3 : Int32) (x4 : Int32) (x5 : Int32) (x6 : Int32) (z : mm_S), mf_R wr_clash z0 z → mf_F wr_clash z0 (mo_clash_b35 n x2 x3 x4 x5 x6 z) := by
  intro n
  induction n with
  | zero => intro x2 x3 x4 x5 x6 z hz; exact mf_F.none
  | succ n ih =>
    intro x2 x3 x4 x5 x6 z hz
    rw [mo_clash_b35]
    exact (mf_F.gI fun v1 => (mf_F.ite (mf_F.ite (fr_clash_b142  x2 x3 x4 x5 z hz) (mf_F.ite (fr_clash_b138  x2 x3 x4 x5 z hz) (mf_F.ite (fr_clash_b142  x2 x3 x4 x5 z hz) (fr_clash_b138  x2 x3 x4 x5 z hz)))) (mf_F.ite (mf_F.lI fun v2 => (mf_F.ite (fr_clash_b65 ih x2 x4 x5 x6 x6 z hz) (fr_clash_b64 ih x2 x3 x4 x5 x6 z hz))) (fr_clash_b64 ih x2 x3 x4 x5 x6 z hz))))
theorem fr_clash (x1 : Int32) (x2 : Int32) (z : mm_S) : mf_F wr_clash z (mo_clash x1 x2 z) := by
  have hz : mf_R wr_clash z z := mf_R.rfl
  unfold mo_clash
  exact (mf_F.call hz (fr_isShip x1 z) (by decide) fun v2 z1 hz1 => (mf_F.ite (mf_F.ret hz1) (mf_F.call hz1 (fr_is x2 (0 : Int32) (2 : Int32) z1) (by decide) fun v4 z3 hz3 => (mf_F.ite (mf_F.ret hz3) (mf_F.call hz3 (fr_pairs x1 z3) (by decide) fun _ z5 hz5 => (fr_clash_b35  g_fu x2 (-1 : Int32) (-1 : Int32) (-1 : Int32) (0 : Int32) z5 hz5))))))
theorem fr_who (x1 : Int32) (z : mm_S) : mf_F wr_who z (mo_who x1 z) := by
  have hz : mf_R wr_who z z := mf_R.rfl
  unfold mo_who
  exact (mf_F.call hz (fr_isShip x1 z) (by decide) fun v2 z1 hz1 => (mf_F.ite (mf_F.ret hz1) (mf_F.call hz1 (fr_whoOf x1 z1) (by decide) fun v4 z3 hz3 => (mf_F.ret hz3))))
theorem fr_isFor (x1 : Int32) (x2 : Int32) (z : mm_S) : mf_F wr_isFor z (mo_isFor x1 x2 z) := by
  have hz : mf_R wr_isFor z z := mf_R.rfl
  unfold mo_isFor
  exact (mf_F.pI hz (by decide) fun z1 hz1 => (mf_F.call hz1 (fr_addSayings x1 x2 (0 : Int32) z1) (by decide) fun v3 z2 hz2 => (mf_F.call hz2 (fr_addBooks x2 z2) (by decide) fun _ z4 hz4 => (mf_F.ite (mf_F.ret hz4) (mf_F.call hz4 (fr_fit x2 z4) (by decide) fun v7 z6 hz6 => (mf_F.ite (mf_F.ret hz6) (mf_F.ret hz6)))))))
theorem fr_swap (x1 : Int32) (x2 : Int32) (z : mm_S) : mf_F wr_swap z (mo_swap x1 x2 z) := by
  have hz : mf_R wr_swap z z := mf_R.rfl
  unfold mo_swap
  exact (mf_F.call hz (fr_isShip x1 z) (by decide) fun v2 z1 hz1 => (mf_F.ite (mf_F.ret hz1) (mf_F.call hz1 (fr_isShip x2 z1) (by decide) fun v4 z3 hz3 => (mf_F.ite (mf_F.ret hz3) (mf_F.ite (mf_F.ret hz3) (mf_F.call hz3 (fr_sayingsOf x1 z3) (by decide) fun v6 z5 hz5 => (mf_F.ite (mf_F.ret hz5) (mf_F.call hz5 (fr_sayingsOf x2 z5) (by decide) fun v8 z7 hz7 => (mf_F.ite (mf_F.ret hz7) (mf_F.call hz7 (fr_isFor x1 x2 z7) (by decide) fun v10 z9 hz9 => (mf_F.ite (mf_F.ret hz9) (mf_F.call hz9 (fr_isFor x2 x1 z9) (by decide) fun v12 z11 hz11 => (mf_F.ite (mf_F.ret hz11) (mf_F.ret hz11))))))))))))))
theorem fr_kinds_b52 {z0 : mm_S} {k15 : Int32 → Int32 → Int32 → mm_S → Option (Int32 × mm_S)} (hk15 : ∀ (y1 : Int32) (y2 : Int32) (y3 : Int32) (y4 : mm_S), mf_R wr_kinds z0 y4 → mf_F wr_kinds z0 (k15 y1 y2 y3 y4)) (x1 : Int32) (x3 : Int32) (s0 : Int32) (s1 : Int32) (z : mm_S) (hz : mf_R wr_kinds z0 z) : mf_F wr_kinds z0 (mo_kinds_b52 k15 x1 x3 s0 s1 z) := by
  unfold mo_kinds_b52
  exact (hk15 x1 (s0 + s1) (x3 + (1 : Int32)) z hz)
theorem fr_kinds_b51 {z0 : mm_S} {k15 : Int32 → Int32 → Int32 → mm_S → Option (Int32 × mm_S)} (hk15 : ∀ (y1 : Int32) (y2 : Int32) (y3 : Int32) (y4 : mm_S), mf_R wr_kinds z0 y4 → mf_F wr_kinds z0 (k15 y1 y2 y3 y4)) (x1 : Int32) (x3 : Int32) (s0 : Int32) (z : mm_S) (hz : mf_R wr_kinds z0 z) : mf_F wr_kinds z0 (mo_kinds_b51 k15 x1 x3 s0 z) := by
  unfold mo_kinds_b51
  exact (fr_kinds_b52 hk15 x1 x3 s0 (0 : Int32) z hz)
theorem fr_kinds_b15 {z0 : mm_S} : ∀ (n : Nat) (x1 : Int32) (x2 : Int32) (x3 : Int32) (z : mm_S), mf_R wr_kinds z0 z → mf_F wr_kinds z0 (mo_kinds_b15 n x1 x2 x3 z) := by
  intro n
  induction n with
  | zero => intro x1 x2 x3 z hz; exact mf_F.none
  | succ n ih =>
    intro x1 x2 x3 z hz
    rw [mo_kinds_b15]
    exact (mf_F.gI fun v1 => (mf_F.lI fun v2 => (mf_F.ite (mf_F.ret hz) (mf_F.call hz (fr_sayingsOf x3 z) (by decide) fun v4 z3 hz3 => (mf_F.ite (fr_kinds_b51 ih x1 x3 x2 z3 hz3) (mf_F.call hz3 (fr_taleOf x3 (0 : Int32) z3) (by decide) fun v6 z5 hz5 => (mf_F.ite (fr_kinds_b52 ih x1 x3 x2 (1 : Int32) z5 hz5) (fr_kinds_b51 ih x1 x3 x2 z5 hz5))))))))
theorem fr_kinds (x1 : Int32) (z : mm_S) : mf_F wr_kinds z (mo_kinds x1 z) := by
  have hz : mf_R wr_kinds z z := mf_R.rfl
  unfold mo_kinds
  exact (mf_F.call hz (fr_is x1 (-1 : Int32) (4 : Int32) z) (by decide) fun v2 z1 hz1 => (mf_F.ite (mf_F.ret hz1) (fr_kinds_b15  g_fu x1 (0 : Int32) (0 : Int32) z1 hz1)))
theorem fr_liesOf (x1 : Int32) (z : mm_S) : mf_F wr_liesOf z (mo_liesOf x1 z) := by
  have hz : mf_R wr_liesOf z z := mf_R.rfl
  unfold mo_liesOf
  exact (mf_F.call hz (fr_keeps x1 z) (by decide) fun _ z1 hz1 => (mf_F.gI fun v3 => (mf_F.gI fun v4 => (mf_F.ret hz1))))
theorem fr_lies_b4 {z0 : mm_S} : ∀ (n : Nat) (x1 : Int32) (x2 : Int32) (z : mm_S), mf_R wr_lies z0 z → mf_F wr_lies z0 (mo_lies_b4 n x1 x2 z) := by
  intro n
  induction n with
  | zero => intro x1 x2 z hz; exact mf_F.none
  | succ n ih =>
    intro x1 x2 z hz
    rw [mo_lies_b4]
    exact (mf_F.gI fun v1 => (mf_F.lI fun v2 => (mf_F.ite (mf_F.ret hz) (mf_F.call hz (fr_liesOf x2 z) (by decide) fun v4 z3 hz3 => (ih (x1 + v4) (x2 + (1 : Int32)) z3 hz3)))))
theorem fr_lies (z : mm_S) : mf_F wr_lies z (mo_lies z) := by
  have hz : mf_R wr_lies z z := mf_R.rfl
  unfold mo_lies
  exact (fr_lies_b4  g_fu (0 : Int32) (0 : Int32) z hz)
theorem fr_changes_b111 {z0 : mm_S} {k6 : Int32 → Int32 → Int32 → Int32 → Int32 → mm_S → Option (Int32 × mm_S)} (hk6 : ∀ (y1 : Int32) (y2 : Int32) (y3 : Int32) (y4 : Int32) (y5 : Int32) (y6 : mm_S), mf_R wr_changes z0 y6 → mf_F wr_changes z0 (k6 y1 y2 y3 y4 y5 y6)) (x1 : Int32) (x2 : Int32) (x3 : Int32) (x4 : Int32) (x5 : Int32) (z : mm_S) (hz : mf_R wr_changes z0 z) : mf_F wr_changes z0 (mo_changes_b111 k6 x1 x2 x3 x4 x5 z) := by
  unfold mo_changes_b111
  exact (hk6 x1 x2 x3 x4 (x5 + (1 : Int32)) z hz)
theorem fr_changes_b43 {z0 : mm_S} {k6 : Int32 → Int32 → Int32 → Int32 → Int32 → mm_S → Option (Int32 × mm_S)} (hk6 : ∀ (y1 : Int32) (y2 : Int32) (y3 : Int32) (y4 : Int32) (y5 : Int32) (y6 : mm_S), mf_R wr_changes z0 y6 → mf_F wr_changes z0 (k6 y1 y2 y3 y4 y5 y6)) (x1 : Int32) (x2 : Int32) (x3 : Int32) (x4 : Int32) (x5 : Int32) (z : mm_S) (hz : mf_R wr_changes z0 z) : mf_F wr_changes z0 (mo_changes_b43 k6 x1 x2 x3 x4 x5 z) := by
  unfold mo_changes_b43
  exact (mf_F.lI fun v1 => (mf_F.ite (mf_F.ret hz) (mf_F.lI fun v2 => (mf_F.ite (fr_changes_b111 hk6 x1 x2 x3 x4 x5 z hz) (mf_F.ite (mf_F.ret hz) (mf_F.lI fun v3 => (mf_F.call hz (fr_laden x1 v3 z) (by decide) fun v5 z4 hz4 => (mf_F.ite (mf_F.ret hz4) (mf_F.lI fun v6 => (mf_F.call hz4 (fr_laden x1 v6 z4) (by decide) fun v8 z7 hz7 => (mf_F.ite (mf_F.ret hz7) (mf_F.ret hz7))))))))))))
theorem fr_changes_b6 {z0 : mm_S} : ∀ (n : Nat) (x1 : Int32) (x2 : Int32) (x3 : Int32) (x4 : Int32) (x5 : Int32) (z : mm_S), mf_R wr_changes z0 z → mf_F wr_changes z0 (mo_changes_b6 n x1 x2 x3 x4 x5 z) := by
  intro n
  induction n with
  | zero => intro x1 x2 x3 x4 x5 z hz; exact mf_F.none
  | succ n ih =>
    intro x1 x2 x3 x4 x5 z hz
    rw [mo_changes_b6]
    exact (mf_F.gI fun v1 => (mf_F.ite (mf_F.ret hz) (mf_F.lI fun v2 => (mf_F.ite (fr_changes_b111 ih x1 x2 x3 x4 x5 z hz) (mf_F.lI fun v3 => (mf_F.ite (fr_changes_b43 ih x1 x2 x3 x4 x5 z hz) (fr_changes_b43 ih x1 x2 x3 x5 x5 z hz)))))))
theorem fr_changes (x1 : Int32) (x2 : Int32) (x3 : Int32) (z : mm_S) : mf_F wr_changes z (mo_changes x1 x2 x3 z) := by
  have hz : mf_R wr_changes z z := mf_R.rfl
  unfold mo_changes
  exact (fr_changes_b6  g_fu x1 x2 x3 (-1 : Int32) (0 : Int32) z hz)
theorem fr_met_b268 {z0 : mm_S} {k144 : Int32 → Int32 → Int32 → Int32 → Int32 → Int32 → mm_S → Option (Int32 × mm_S)} (hk144 : ∀ (y1 : Int32) (y2 : Int32) (y3 : Int32) (y4 : Int32) (y5 : Int32) (y6 : Int32) (y7 : mm_S), mf_R wr_met z0 y7 → mf_F wr_met z0 (k144 y1 y2 y3 y4 y5 y6 y7)) (x2 : Int32) (x3 : Int32) (x4 : Int32) (x5 : Int32) (x6 : Int32) (x7 : Int32) (z : mm_S) (hz : mf_R wr_met z0 z) : mf_F wr_met z0 (mo_met_b268 k144 x2 x3 x4 x5 x6 x7 z) := by
  unfold mo_met_b268
  exact (hk144 x2 x3 x4 x5 x6 (x7 + (1 : Int32)) z hz)
theorem fr_met_b266 {z0 : mm_S} {k144 : Int32 → Int32 → Int32 → Int32 → Int32 → Int32 → mm_S → Option (Int32 × mm_S)} (hk144 : ∀ (y1 : Int32) (y2 : Int32) (y3 : Int32) (y4 : Int32) (y5 : Int32) (y6 : Int32) (y7 : mm_S), mf_R wr_met z0 y7 → mf_F wr_met z0 (k144 y1 y2 y3 y4 y5 y6 y7)) (x2 : Int32) (x3 : Int32) (x4 : Int32) (x6 : Int32) (x7 : Int32) (s0 : Int32) (z : mm_S) (hz : mf_R wr_met z0 z) : mf_F wr_met z0 (mo_met_b266 k144 x2 x3 x4 x6 x7 s0 z) := by
  unfold mo_met_b266
  exact (fr_met_b268 hk144 x2 x3 x4 s0 x6 x7 z hz)
theorem fr_met_b226 {z0 : mm_S} {k144 : Int32 → Int32 → Int32 → Int32 → Int32 → Int32 → mm_S → Option (Int32 × mm_S)} {k181 : Int32 → Int32 → Int32 → Int32 → Int32 → Int32 → Int32 → Int32 → mm_S → Option (Int32 × mm_S)} (hk144 : ∀ (y1 : Int32) (y2 : Int32) (y3 : Int32) (y4 : Int32) (y5 : Int32) (y6 : Int32) (y7 : mm_S), mf_R wr_met z0 y7 → mf_F wr_met z0 (k144 y1 y2 y3 y4 y5 y6 y7)) (hk181 : ∀ (y1 : Int32) (y2 : Int32) (y3 : Int32) (y4 : Int32) (y5 : Int32) (y6 : Int32) (y7 : Int32) (y8 : Int32) (y9 : mm_S), mf_R wr_met z0 y9 → mf_F wr_met z0 (k181 y1 y2 y3 y4 y5 y6 y7 y8 y9)) (x2 : Int32) (x3 : Int32) (x4 : Int32) (x5 : Int32) (x6 : Int32) (x7 : Int32) (x9 : Int32) (s0 : Int32) (s1 : Int32) (z : mm_S) (hz : mf_R wr_met z0 z) : mf_F wr_met z0 (mo_met_b226 k144 k181 x2 x3 x4 x5 x6 x7 x9 s0 s1 z) := by
  unfold mo_met_b226
  exact (hk181 x2 x3 x4 x5 x6 x7 (s0 + s1) (x9 + (1 : Int32)) z hz)
theorem fr_met_b225 {z0 : mm_S} {k144 : Int32 → Int32 → Int32 → Int32 → Int32 → Int32 → mm_S → Option (Int32 × mm_S)} {k181 : Int32 → Int32 → Int32 → Int32 → Int32 → Int32 → Int32 → Int32 → mm_S → Option (Int32 × mm_S)} (hk144 : ∀ (y1 : Int32) (y2 : Int32) (y3 : Int32) (y4 : Int32) (y5 : Int32) (y6 : Int32) (y7 : mm_S), mf_R wr_met z0 y7 → mf_F wr_met z0 (k144 y1 y2 y3 y4 y5 y6 y7)) (hk181 : ∀ (y1 : Int32) (y2 : Int32) (y3 : Int32) (y4 : Int32) (y5 : Int32) (y6 : Int32) (y7 : Int32) (y8 : Int32) (y9 : mm_S), mf_R wr_met z0 y9 → mf_F wr_met z0 (k181 y1 y2 y3 y4 y5 y6 y7 y8 y9)) (x2 : Int32) (x3 : Int32) (x4 : Int32) (x5 : Int32) (x6 : Int32) (x7 : Int32) (x9 : Int32) (s0 : Int32) (z : mm_S) (hz : mf_R wr_met z0 z) : mf_F wr_met z0 (mo_met_b225 k144 k181 x2 x3 x4 x5 x6 x7 x9 s0 z) := by
  unfold mo_met_b225
  exact (fr_met_b226 hk144 hk181 x2 x3 x4 x5 x6 x7 x9 s0 (0 : Int32) z hz)
theorem fr_met_b181 {z0 : mm_S} {k144 : Int32 → Int32 → Int32 → Int32 → Int32 → Int32 → mm_S → Option (Int32 × mm_S)} (hk144 : ∀ (y1 : Int32) (y2 : Int32) (y3 : Int32) (y4 : Int32) (y5 : Int32) (y6 : Int32) (y7 : mm_S), mf_R wr_met z0 y7 → mf_F wr_met z0 (k144 y1 y2 y3 y4 y5 y6 y7)) : ∀ (n : Nat) (x2 : Int32) (x3 : Int32) (x4 : Int32) (x5 : Int32) (x6 : Int32) (x7 : Int32) (x8 : Int32) (x9 : Int32) (z : mm_S), mf_R wr_met z0 z → mf_F wr_met z0 (mo_met_b181 k144 n x2 x3 x4 x5 x6 x7 x8 x9 z) := by
  intro n
  induction n with
  | zero => intro x2 x3 x4 x5 x6 x7 x8 x9 z hz; exact mf_F.none
  | succ n ih =>
    intro x2 x3 x4 x5 x6 x7 x8 x9 z hz
    rw [mo_met_b181]
    exact (mf_F.call hz (fr_cells z) (by decide) fun v2 z1 hz1 => (mf_F.ite (mf_F.ite (fr_met_b268 hk144 x2 x3 x4 x5 x6 x7 z1 hz1) (mf_F.ite (fr_met_b266 hk144 x2 x3 (x4 + (1 : Int32)) (x6 + x8) x7 x7 z1 hz1) (fr_met_b266 hk144 x2 x3 (x4 + (1 : Int32)) (x6 + x8) x7 x5 z1 hz1))) (mf_F.lI fun v3 => (mf_F.ite (fr_met_b225 hk144 ih x2 x3 x4 x5 x6 x7 x9 x8 z1 hz1) (mf_F.call hz1 (fr_mayBe x2 x9 x7 z1) (by decide) fun v5 z4 hz4 => (mf_F.ite (fr_met_b225 hk144 ih x2 x3 x4 x5 x6 x7 x9 x8 z4 hz4) (fr_met_b226 hk144 ih x2 x3 x4 x5 x6 x7 x9 x8 (1 : Int32) z4 hz4)))))))
theorem fr_met_b144 {z0 : mm_S} : ∀ (n : Nat) (x2 : Int32) (x3 : Int32) (x4 : Int32) (x5 : Int32) (x6 : Int32) (x7 : Int32) (z : mm_S), mf_R wr_met z0 z → mf_F wr_met z0 (mo_met_b144 n x2 x3 x4 x5 x6 x7 z) := by
  intro n
  induction n with
  | zero => intro x2 x3 x4 x5 x6 x7 z hz; exact mf_F.none
  | succ n ih =>
    intro x2 x3 x4 x5 x6 x7 z hz
    rw [mo_met_b144]
    exact (mf_F.ite (mf_F.ite (mf_F.ret hz) (mf_F.ite (mf_F.ret hz) (mf_F.ret hz))) (mf_F.lI fun v1 => (mf_F.ite (fr_met_b268 ih x2 x3 x4 x5 x6 x7 z hz) (mf_F.call hz (fr_changes x2 x7 (1 : Int32) z) (by decide) fun v3 z2 hz2 => (mf_F.ite (fr_met_b268 ih x2 x3 x4 x5 x6 x7 z2 hz2) (fr_met_b181 ih g_fu x2 x3 x4 x5 x6 x7 (0 : Int32) (0 : Int32) z2 hz2))))))
theorem fr_met_b114 {z0 : mm_S} {k40 : Int32 → Int32 → Int32 → Int32 → mm_S → Option (Int32 × mm_S)} {k65 : Int32 → Int32 → Int32 → Int32 → Int32 → mm_S → Option (Int32 × mm_S)} (hk40 : ∀ (y1 : Int32) (y2 : Int32) (y3 : Int32) (y4 : Int32) (y5 : mm_S), mf_R wr_met z0 y5 → mf_F wr_met z0 (k40 y1 y2 y3 y4 y5)) (hk65 : ∀ (y1 : Int32) (y2 : Int32) (y3 : Int32) (y4 : Int32) (y5 : Int32) (y6 : mm_S), mf_R wr_met z0 y6 → mf_F wr_met z0 (k65 y1 y2 y3 y4 y5 y6)) (x1 : Int32) (x2 : Int32) (x3 : Int32) (x4 : Int32) (x5 : Int32) (s1 : Int32) (s2 : Int32) (z : mm_S) (hz : mf_R wr_met z0 z) : mf_F wr_met z0 (mo_met_b114 k40 k65 x1 x2 x3 x4 x5 s1 s2 z) := by
  unfold mo_met_b114
  exact (mf_F.sZ hz (by decide) fun z1 hz1 => (hk65 x1 x2 x3 x4 (x5 + (1 : Int32)) z1 hz1))
theorem fr_met_b113 {z0 : mm_S} {k40 : Int32 → Int32 → Int32 → Int32 → mm_S → Option (Int32 × mm_S)} {k65 : Int32 → Int32 → Int32 → Int32 → Int32 → mm_S → Option (Int32 × mm_S)} (hk40 : ∀ (y1 : Int32) (y2 : Int32) (y3 : Int32) (y4 : Int32) (y5 : mm_S), mf_R wr_met z0 y5 → mf_F wr_met z0 (k40 y1 y2 y3 y4 y5)) (hk65 : ∀ (y1 : Int32) (y2 : Int32) (y3 : Int32) (y4 : Int32) (y5 : Int32) (y6 : mm_S), mf_R wr_met z0 y6 → mf_F wr_met z0 (k65 y1 y2 y3 y4 y5 y6)) (x1 : Int32) (x2 : Int32) (x3 : Int32) (x4 : Int32) (x5 : Int32) (s1 : Int32) (z : mm_S) (hz : mf_R wr_met z0 z) : mf_F wr_met z0 (mo_met_b113 k40 k65 x1 x2 x3 x4 x5 s1 z) := by
  unfold mo_met_b113
  exact (fr_met_b114 hk40 hk65 x1 x2 x3 x4 x5 s1 (0 : Int32) z hz)
theorem fr_met_b65 {z0 : mm_S} {k40 : Int32 → Int32 → Int32 → Int32 → mm_S → Option (Int32 × mm_S)} (hk40 : ∀ (y1 : Int32) (y2 : Int32) (y3 : Int32) (y4 : Int32) (y5 : mm_S), mf_R wr_met z0 y5 → mf_F wr_met z0 (k40 y1 y2 y3 y4 y5)) : ∀ (n : Nat) (x1 : Int32) (x2 : Int32) (x3 : Int32) (x4 : Int32) (x5 : Int32) (z : mm_S), mf_R wr_met z0 z → mf_F wr_met z0 (mo_met_b65 k40 n x1 x2 x3 x4 x5 z) := by
  intro n
  induction n with
  | zero => intro x1 x2 x3 x4 x5 z hz; exact mf_F.none
  | succ n ih =>
    intro x1 x2 x3 x4 x5 z hz
    rw [mo_met_b65]
    exact (mf_F.call hz (fr_cells z) (by decide) fun v2 z1 hz1 => (mf_F.ite (hk40 x1 x2 x3 (x4 + (1 : Int32)) z1 hz1) (mf_F.lI fun v3 => (mf_F.ite (fr_met_b113 hk40 ih x1 x2 x3 x4 x5 (((256 : Int32) * x4) + x5) z1 hz1) (mf_F.call hz1 (fr_mayBe x1 x5 x4 z1) (by decide) fun v5 z4 hz4 => (mf_F.ite (fr_met_b113 hk40 ih x1 x2 x3 x4 x5 (((256 : Int32) * x4) + x5) z4 hz4) (fr_met_b114 hk40 ih x1 x2 x3 x4 x5 (((256 : Int32) * x4) + x5) (1 : Int32) z4 hz4)))))))
theorem fr_met_b40 {z0 : mm_S} : ∀ (n : Nat) (x1 : Int32) (x2 : Int32) (x3 : Int32) (x4 : Int32) (z : mm_S), mf_R wr_met z0 z → mf_F wr_met z0 (mo_met_b40 n x1 x2 x3 x4 z) := by
  intro n
  induction n with
  | zero => intro x1 x2 x3 x4 z hz; exact mf_F.none
  | succ n ih =>
    intro x1 x2 x3 x4 z hz
    rw [mo_met_b40]
    exact (mf_F.ite (mf_F.call hz (fr_lays_2 x2 z) (by decide) fun _ z1 hz1 => (fr_met_b144  g_fu x2 x3 (0 : Int32) (-1 : Int32) (0 : Int32) (0 : Int32) z1 hz1)) (mf_F.call hz (fr_changes x1 x4 (0 : Int32) z) (by decide) fun v4 z3 hz3 => (mf_F.sZ hz3 (by decide) fun z5 hz5 => (fr_met_b65 ih g_fu x1 x2 x3 x4 (0 : Int32) z5 hz5))))
theorem fr_met (x1 : Int32) (x2 : Int32) (x3 : Int32) (z : mm_S) : mf_F wr_met z (mo_met x1 x2 x3 z) := by
  have hz : mf_R wr_met z z := mf_R.rfl
  unfold mo_met
  exact (mf_F.call hz (fr_isShip x1 z) (by decide) fun v2 z1 hz1 => (mf_F.ite (mf_F.ret hz1) (mf_F.call hz1 (fr_isShip x2 z1) (by decide) fun v4 z3 hz3 => (mf_F.ite (mf_F.ret hz3) (mf_F.ite (mf_F.ret hz3) (mf_F.call hz3 (fr_is x3 (0 : Int32) (2 : Int32) z3) (by decide) fun v6 z5 hz5 => (mf_F.ite (mf_F.ret hz5) (mf_F.call hz5 (fr_lays_2 x1 z5) (by decide) fun _ z7 hz7 => (fr_met_b40  g_fu x1 x2 x3 (0 : Int32) z7 hz7)))))))))
theorem fr_explains_b121 {z0 : mm_S} {k23 : Int32 → mm_S → Option (Unit × mm_S)} {k43 : Int32 → Int32 → mm_S → Option (Unit × mm_S)} (hk23 : ∀ (y1 : Int32) (y2 : mm_S), mf_R wr_explains z0 y2 → mf_F wr_explains z0 (k23 y1 y2)) (hk43 : ∀ (y1 : Int32) (y2 : Int32) (y3 : mm_S), mf_R wr_explains z0 y3 → mf_F wr_explains z0 (k43 y1 y2 y3)) (x1 : Int32) (x2 : Int32) (z : mm_S) (hz : mf_R wr_explains z0 z) : mf_F wr_explains z0 (mo_explains_b121 k23 k43 x1 x2 z) := by
  unfold mo_explains_b121
  exact (hk43 x1 (x2 + (1 : Int32)) z hz)
theorem fr_explains_b43 {z0 : mm_S} {k23 : Int32 → mm_S → Option (Unit × mm_S)} (hk23 : ∀ (y1 : Int32) (y2 : mm_S), mf_R wr_explains z0 y2 → mf_F wr_explains z0 (k23 y1 y2)) : ∀ (n : Nat) (x1 : Int32) (x2 : Int32) (z : mm_S), mf_R wr_explains z0 z → mf_F wr_explains z0 (mo_explains_b43 k23 n x1 x2 z) := by
  intro n
  induction n with
  | zero => intro x1 x2 z hz; exact mf_F.none
  | succ n ih =>
    intro x1 x2 z hz
    rw [mo_explains_b43]
    exact (mf_F.gI fun v1 => (mf_F.lI fun v2 => (mf_F.ite (hk23 (x1 + (1 : Int32)) z hz) (mf_F.gI fun v3 => (mf_F.lI fun v4 => (mf_F.gI fun v5 => (mf_F.lI fun v6 => (mf_F.ite (mf_F.lI fun v7 => (mf_F.lI fun v8 => (mf_F.call hz (fr_mayBe x1 v7 v8 z) (by decide) fun v10 z9 hz9 => (mf_F.ite (fr_explains_b121 hk23 ih x1 x2 z9 hz9) (mf_F.lI fun v11 => (mf_F.sI hz9 (by decide) fun z12 hz12 => (fr_explains_b121 hk23 ih x1 x2 z12 hz12))))))) (fr_explains_b121 hk23 ih x1 x2 z hz)))))))))
theorem fr_explains_b23 {z0 : mm_S} : ∀ (n : Nat) (x1 : Int32) (z : mm_S), mf_R wr_explains z0 z → mf_F wr_explains z0 (mo_explains_b23 n x1 z) := by
  intro n
  induction n with
  | zero => intro x1 z hz; exact mf_F.none
  | succ n ih =>
    intro x1 z hz
    rw [mo_explains_b23]
    exact (mf_F.gI fun v1 => (mf_F.lI fun v2 => (mf_F.ite (mf_F.ret hz) (mf_F.call hz (fr_lays_2 x1 z) (by decide) fun _ z3 hz3 => (fr_explains_b43 ih g_fu x1 (0 : Int32) z3 hz3)))))
theorem fr_explains_b2 {z0 : mm_S} : ∀ (n : Nat) (x1 : Int32) (z : mm_S), mf_R wr_explains z0 z → mf_F wr_explains z0 (mo_explains_b2 n x1 z) := by
  intro n
  induction n with
  | zero => intro x1 z hz; exact mf_F.none
  | succ n ih =>
    intro x1 z hz
    rw [mo_explains_b2]
    exact (mf_F.ite (fr_explains_b23  g_fu (0 : Int32) z hz) (mf_F.sI hz (by decide) fun z1 hz1 => (ih (x1 + (1 : Int32)) z1 hz1)))
theorem fr_explains (z : mm_S) : mf_F wr_explains z (mo_explains z) := by
  have hz : mf_R wr_explains z z := mf_R.rfl
  unfold mo_explains
  exact (fr_explains_b2  g_fu (0 : Int32) z hz)
theorem fr_sighting (x1 : Int32) (x2 : Int32) (z : mm_S) : mf_F wr_sighting z (mo_sighting x1 x2 z) := by
  have hz : mf_R wr_sighting z z := mf_R.rfl
  unfold mo_sighting
  exact (mf_F.gI fun v1 => (mf_F.lI fun v2 => (mf_F.call hz (fr_is x1 (0 : Int32) (v2 - (1 : Int32)) z) (by decide) fun v4 z3 hz3 => (mf_F.ite (mf_F.ret hz3) (mf_F.call hz3 (fr_is x2 (0 : Int32) (3 : Int32) z3) (by decide) fun v6 z5 hz5 => (mf_F.ite (mf_F.ret hz5) (mf_F.gI fun v7 => (mf_F.ite (mf_F.call hz5 (fr_explains z5) (by decide) fun _ z8 hz8 => (mf_F.lI fun v10 => (mf_F.ret hz8))) (mf_F.ite (mf_F.lI fun v13 => (mf_F.ret hz5)) (mf_F.ite (mf_F.lI fun v12 => (mf_F.ret hz5)) (mf_F.lI fun v11 => (mf_F.ret hz5))))))))))))
theorem fr_strange_b36 {z0 : mm_S} {k8 : Int32 → Int32 → mm_S → Option (Int32 × mm_S)} (hk8 : ∀ (y1 : Int32) (y2 : Int32) (y3 : mm_S), mf_R wr_strange z0 y3 → mf_F wr_strange z0 (k8 y1 y2 y3)) (x2 : Int32) (s0 : Int32) (s1 : Int32) (z : mm_S) (hz : mf_R wr_strange z0 z) : mf_F wr_strange z0 (mo_strange_b36 k8 x2 s0 s1 z) := by
  unfold mo_strange_b36
  exact (hk8 (s0 + s1) (x2 + (1 : Int32)) z hz)
theorem fr_strange_b8 {z0 : mm_S} : ∀ (n : Nat) (x1 : Int32) (x2 : Int32) (z : mm_S), mf_R wr_strange z0 z → mf_F wr_strange z0 (mo_strange_b8 n x1 x2 z) := by
  intro n
  induction n with
  | zero => intro x1 x2 z hz; exact mf_F.none
  | succ n ih =>
    intro x1 x2 z hz
    rw [mo_strange_b8]
    exact (mf_F.gI fun v1 => (mf_F.lI fun v2 => (mf_F.ite (mf_F.ret hz) (mf_F.lI fun v3 => (mf_F.ite (fr_strange_b36 ih x2 x1 (1 : Int32) z hz) (fr_strange_b36 ih x2 x1 (0 : Int32) z hz))))))
theorem fr_strange (z : mm_S) : mf_F wr_strange z (mo_strange z) := by
  have hz : mf_R wr_strange z z := mf_R.rfl
  unfold mo_strange
  exact (mf_F.call hz (fr_explains z) (by decide) fun _ z1 hz1 => (fr_strange_b8  g_fu (0 : Int32) (0 : Int32) z1 hz1))
theorem fr_doubted_b119 {z0 : mm_S} {k8 : Int32 → Int32 → mm_S → Option (Int32 × mm_S)} (hk8 : ∀ (y1 : Int32) (y2 : Int32) (y3 : mm_S), mf_R wr_doubted z0 y3 → mf_F wr_doubted z0 (k8 y1 y2 y3)) (x2 : Int32) (s0 : Int32) (s1 : Int32) (z : mm_S) (hz : mf_R wr_doubted z0 z) : mf_F wr_doubted z0 (mo_doubted_b119 k8 x2 s0 s1 z) := by
  unfold mo_doubted_b119
  exact (hk8 (s0 ||| s1) (x2 + (1 : Int32)) z hz)
theorem fr_doubted_b118 {z0 : mm_S} {k8 : Int32 → Int32 → mm_S → Option (Int32 × mm_S)} (hk8 : ∀ (y1 : Int32) (y2 : Int32) (y3 : mm_S), mf_R wr_doubted z0 y3 → mf_F wr_doubted z0 (k8 y1 y2 y3)) (x2 : Int32) (s0 : Int32) (z : mm_S) (hz : mf_R wr_doubted z0 z) : mf_F wr_doubted z0 (mo_doubted_b118 k8 x2 s0 z) := by
  unfold mo_doubted_b118
  exact (fr_doubted_b119 hk8 x2 s0 (0 : Int32) z hz)
theorem fr_doubted_b91 {z0 : mm_S} {k8 : Int32 → Int32 → mm_S → Option (Int32 × mm_S)} {k26 : Int32 → Int32 → Int32 → Int32 → mm_S → Option (Int32 × mm_S)} (hk8 : ∀ (y1 : Int32) (y2 : Int32) (y3 : mm_S), mf_R wr_doubted z0 y3 → mf_F wr_doubted z0 (k8 y1 y2 y3)) (hk26 : ∀ (y1 : Int32) (y2 : Int32) (y3 : Int32) (y4 : Int32) (y5 : mm_S), mf_R wr_doubted z0 y5 → mf_F wr_doubted z0 (k26 y1 y2 y3 y4 y5)) (x1 : Int32) (x2 : Int32) (x4 : Int32) (s0 : Int32) (z : mm_S) (hz : mf_R wr_doubted z0 z) : mf_F wr_doubted z0 (mo_doubted_b91 k8 k26 x1 x2 x4 s0 z) := by
  unfold mo_doubted_b91
  exact (hk26 x1 x2 s0 (x4 + (1 : Int32)) z hz)
theorem fr_doubted_b86 {z0 : mm_S} {k8 : Int32 → Int32 → mm_S → Option (Int32 × mm_S)} {k26 : Int32 → Int32 → Int32 → Int32 → mm_S → Option (Int32 × mm_S)} (hk8 : ∀ (y1 : Int32) (y2 : Int32) (y3 : mm_S), mf_R wr_doubted z0 y3 → mf_F wr_doubted z0 (k8 y1 y2 y3)) (hk26 : ∀ (y1 : Int32) (y2 : Int32) (y3 : Int32) (y4 : Int32) (y5 : mm_S), mf_R wr_doubted z0 y5 → mf_F wr_doubted z0 (k26 y1 y2 y3 y4 y5)) (x1 : Int32) (x2 : Int32) (x4 : Int32) (z : mm_S) (hz : mf_R wr_doubted z0 z) : mf_F wr_doubted z0 (mo_doubted_b86 k8 k26 x1 x2 x4 z) := by
  unfold mo_doubted_b86
  exact (fr_doubted_b91 hk8 hk26 x1 x2 x4 (1 : Int32) z hz)
theorem fr_doubted_b90 {z0 : mm_S} {k8 : Int32 → Int32 → mm_S → Option (Int32 × mm_S)} {k26 : Int32 → Int32 → Int32 → Int32 → mm_S → Option (Int32 × mm_S)} (hk8 : ∀ (y1 : Int32) (y2 : Int32) (y3 : mm_S), mf_R wr_doubted z0 y3 → mf_F wr_doubted z0 (k8 y1 y2 y3)) (hk26 : ∀ (y1 : Int32) (y2 : Int32) (y3 : Int32) (y4 : Int32) (y5 : mm_S), mf_R wr_doubted z0 y5 → mf_F wr_doubted z0 (k26 y1 y2 y3 y4 y5)) (x1 : Int32) (x2 : Int32) (x4 : Int32) (z : mm_S) (hz : mf_R wr_doubted z0 z) : mf_F wr_doubted z0 (mo_doubted_b90 k8 k26 x1 x2 x4 z) := by
  unfold mo_doubted_b90
  exact (fr_doubted_b91 hk8 hk26 x1 x2 x4 (0 : Int32) z hz)
theorem fr_doubted_b26 {z0 : mm_S} {k8 : Int32 → Int32 → mm_S → Option (Int32 × mm_S)} (hk8 : ∀ (y1 : Int32) (y2 : Int32) (y3 : mm_S), mf_R wr_doubted z0 y3 → mf_F wr_doubted z0 (k8 y1 y2 y3)) : ∀ (n : Nat) (x1 : Int32) (x2 : Int32) (x3 : Int32) (x4 : Int32) (z : mm_S), mf_R wr_doubted z0 z → mf_F wr_doubted z0 (mo_doubted_b26 k8 n x1 x2 x3 x4 z) := by
  intro n
  induction n with
  | zero => intro x1 x2 x3 x4 z hz; exact mf_F.none
  | succ n ih =>
    intro x1 x2 x3 x4 z hz
    rw [mo_doubted_b26]
    exact (mf_F.gI fun v1 => (mf_F.lI fun v2 => (mf_F.ite (mf_F.ite (fr_doubted_b118 hk8 x2 x1 z hz) (mf_F.call hz (fr_isKind x2 (0 : Int32) z) (by decide) fun v4 z3 hz3 => (mf_F.ite (fr_doubted_b118 hk8 x2 x1 z3 hz3) (fr_doubted_b119 hk8 x2 x1 ((1 : Int32) <<< (x2 &&& 31)) z3 hz3)))) (mf_F.ite (mf_F.lI fun v5 => (mf_F.ite (mf_F.gI fun v6 => (mf_F.lI fun v7 => (mf_F.gI fun v8 => (mf_F.lI fun v9 => (mf_F.ite (fr_doubted_b86 hk8 ih x1 x2 x4 z hz) (fr_doubted_b90 hk8 ih x1 x2 x4 z hz)))))) (fr_doubted_b90 hk8 ih x1 x2 x4 z hz))) (fr_doubted_b86 hk8 ih x1 x2 x4 z hz)))))
theorem fr_doubted_b8 {z0 : mm_S} : ∀ (n : Nat) (x1 : Int32) (x2 : Int32) (z : mm_S), mf_R wr_doubted z0 z → mf_F wr_doubted z0 (mo_doubted_b8 n x1 x2 z) := by
  intro n
  induction n with
  | zero => intro x1 x2 z hz; exact mf_F.none
  | succ n ih =>
    intro x1 x2 z hz
    rw [mo_doubted_b8]
    exact (mf_F.gI fun v1 => (mf_F.lI fun v2 => (mf_F.ite (mf_F.ret hz) (fr_doubted_b26 ih g_fu x1 x2 (0 : Int32) (0 : Int32) z hz))))
theorem fr_doubted (z : mm_S) : mf_F wr_doubted z (mo_doubted z) := by
  have hz : mf_R wr_doubted z z := mf_R.rfl
  unfold mo_doubted
  exact (mf_F.call hz (fr_explains z) (by decide) fun _ z1 hz1 => (fr_doubted_b8  g_fu (0 : Int32) (0 : Int32) z1 hz1))
theorem fr_gaps_b19 {z0 : mm_S} (x1 : Int32) (x2 : Int32) (z : mm_S) (hz : mf_R wr_gaps z0 z) : mf_F wr_gaps z0 (mo_gaps_b19 x1 x2 z) := by
  unfold mo_gaps_b19
  exact (mf_F.call hz (fr_gapsOf x1 z) (by decide) fun v2 z1 hz1 => (mf_F.ite (mf_F.gI fun v3 => (mf_F.ret hz1)) (mf_F.ret hz1)))
theorem fr_gaps (x1 : Int32) (x2 : Int32) (z : mm_S) : mf_F wr_gaps z (mo_gaps x1 x2 z) := by
  have hz : mf_R wr_gaps z z := mf_R.rfl
  unfold mo_gaps
  exact (mf_F.call hz (fr_isShip x1 z) (by decide) fun v2 z1 hz1 => (mf_F.ite (mf_F.ret hz1) (mf_F.ite (fr_gaps_b19  x1 x2 z1 hz1) (mf_F.ite (fr_gaps_b19  x1 x2 z1 hz1) (mf_F.ret hz1)))))
theorem fr_chanceOf_b172 {z0 : mm_S} : ∀ (n : Nat) (x4 : Int64) (x6 : Int32) (z : mm_S), mf_R wr_chanceOf z0 z → mf_F wr_chanceOf z0 (mo_chanceOf_b172 n x4 x6 z) := by
  intro n
  induction n with
  | zero => intro x4 x6 z hz; exact mf_F.none
  | succ n ih =>
    intro x4 x6 z hz
    rw [mo_chanceOf_b172]
    exact (mf_F.ite (mf_F.ret hz) (mf_F.lL fun v1 => (ih (x4 + v1) (x6 + (1 : Int32)) z hz)))
theorem fr_chanceOf_b148 {z0 : mm_S} {k77 : Int32 → Int32 → Int32 → mm_S → Option (Int64 × mm_S)} {k87 : Int32 → Int32 → Int32 → Int32 → mm_S → Option (Int64 × mm_S)} (hk77 : ∀ (y1 : Int32) (y2 : Int32) (y3 : Int32) (y4 : mm_S), mf_R wr_chanceOf z0 y4 → mf_F wr_chanceOf z0 (k77 y1 y2 y3 y4)) (hk87 : ∀ (y1 : Int32) (y2 : Int32) (y3 : Int32) (y4 : Int32) (y5 : mm_S), mf_R wr_chanceOf z0 y5 → mf_F wr_chanceOf z0 (k87 y1 y2 y3 y4 y5)) (x2 : Int32) (x3 : Int32) (x4 : Int32) (x5 : Int32) (s1 : Int32) (s2 : Int64) (s3 : Int64) (z : mm_S) (hz : mf_R wr_chanceOf z0 z) : mf_F wr_chanceOf z0 (mo_chanceOf_b148 k77 k87 x2 x3 x4 x5 s1 s2 s3 z) := by
  unfold mo_chanceOf_b148
  exact (mf_F.sL hz (by decide) fun z1 hz1 => (hk87 x2 x3 x4 (x5 + (-1 : Int32)) z1 hz1))
theorem fr_chanceOf_b87 {z0 : mm_S} {k77 : Int32 → Int32 → Int32 → mm_S → Option (Int64 × mm_S)} (hk77 : ∀ (y1 : Int32) (y2 : Int32) (y3 : Int32) (y4 : mm_S), mf_R wr_chanceOf z0 y4 → mf_F wr_chanceOf z0 (k77 y1 y2 y3 y4)) : ∀ (n : Nat) (x2 : Int32) (x3 : Int32) (x4 : Int32) (x5 : Int32) (z : mm_S), mf_R wr_chanceOf z0 z → mf_F wr_chanceOf z0 (mo_chanceOf_b87 k77 n x2 x3 x4 x5 z) := by
  intro n
  induction n with
  | zero => intro x2 x3 x4 x5 z hz; exact mf_F.none
  | succ n ih =>
    intro x2 x3 x4 x5 z hz
    rw [mo_chanceOf_b87]
    exact (mf_F.ite (hk77 x2 x3 (x4 + (1 : Int32)) z hz) (mf_F.lL fun v1 => (mf_F.gI fun v2 => (mf_F.lI fun v3 => (mf_F.ite (fr_chanceOf_b148 hk77 ih x2 x3 x4 x5 x5 (v1 * (((100 : Int32) - v3)).toInt64) (0 : Int64) z hz) (mf_F.lL fun v4 => (mf_F.gI fun v5 => (mf_F.lI fun v6 => (fr_chanceOf_b148 hk77 ih x2 x3 x4 x5 x5 (v1 * (((100 : Int32) - v3)).toInt64) (v4 * (v6).toInt64) z hz)))))))))
theorem fr_chanceOf_b77 {z0 : mm_S} : ∀ (n : Nat) (x2 : Int32) (x3 : Int32) (x4 : Int32) (z : mm_S), mf_R wr_chanceOf z0 z → mf_F wr_chanceOf z0 (mo_chanceOf_b77 n x2 x3 x4 z) := by
  intro n
  induction n with
  | zero => intro x2 x3 x4 z hz; exact mf_F.none
  | succ n ih =>
    intro x2 x3 x4 z hz
    rw [mo_chanceOf_b77]
    exact (mf_F.ite (fr_chanceOf_b172  g_fu (0 : Int64) x2 z hz) (fr_chanceOf_b87 ih g_fu x2 x3 x4 (49 : Int32) z hz))
theorem fr_chanceOf_b67 {z0 : mm_S} {k42 : Int32 → Int32 → Int32 → mm_S → Option (Int64 × mm_S)} (hk42 : ∀ (y1 : Int32) (y2 : Int32) (y3 : Int32) (y4 : mm_S), mf_R wr_chanceOf z0 y4 → mf_F wr_chanceOf z0 (k42 y1 y2 y3 y4)) (x2 : Int32) (x3 : Int32) (x4 : Int32) (s1 : Int32) (s2 : Int64) (z : mm_S) (hz : mf_R wr_chanceOf z0 z) : mf_F wr_chanceOf z0 (mo_chanceOf_b67 k42 x2 x3 x4 s1 s2 z) := by
  unfold mo_chanceOf_b67
  exact (mf_F.sL hz (by decide) fun z1 hz1 => (hk42 x2 x3 (x4 + (1 : Int32)) z1 hz1))
theorem fr_chanceOf_b42 {z0 : mm_S} : ∀ (n : Nat) (x2 : Int32) (x3 : Int32) (x4 : Int32) (z : mm_S), mf_R wr_chanceOf z0 z → mf_F wr_chanceOf z0 (mo_chanceOf_b42 n x2 x3 x4 z) := by
  intro n
  induction n with
  | zero => intro x2 x3 x4 z hz; exact mf_F.none
  | succ n ih =>
    intro x2 x3 x4 z hz
    rw [mo_chanceOf_b42]
    exact (mf_F.ite (fr_chanceOf_b77  g_fu x2 x3 (0 : Int32) z hz) (mf_F.ite (fr_chanceOf_b67 ih x2 x3 x4 x4 (1000000000000 : Int64) z hz) (fr_chanceOf_b67 ih x2 x3 x4 x4 (0 : Int64) z hz)))
theorem fr_chanceOf_b38 {z0 : mm_S} (x2 : Int32) (s0 : Int32) (z : mm_S) (hz : mf_R wr_chanceOf z0 z) : mf_F wr_chanceOf z0 (mo_chanceOf_b38 x2 s0 z) := by
  unfold mo_chanceOf_b38
  exact (fr_chanceOf_b42  g_fu x2 s0 (0 : Int32) z hz)
theorem fr_chanceOf (x1 : Int32) (z : mm_S) : mf_F wr_chanceOf z (mo_chanceOf x1 z) := by
  have hz : mf_R wr_chanceOf z z := mf_R.rfl
  unfold mo_chanceOf
  exact (mf_F.call hz (fr_gapsOf x1 z) (by decide) fun v2 z1 hz1 => (mf_F.gI fun v3 => (mf_F.ite (mf_F.gI fun v4 => (mf_F.lI fun v5 => (mf_F.lI fun v6 => (fr_chanceOf_b38  v2 ((v5 - v6) - (1 : Int32)) z1 hz1)))) (fr_chanceOf_b38  v2 (0 : Int32) z1 hz1))))
theorem fr_chance (x1 : Int32) (z : mm_S) : mf_F wr_chance z (mo_chance x1 z) := by
  have hz : mf_R wr_chance z z := mf_R.rfl
  unfold mo_chance
  exact (mf_F.call hz (fr_isShip x1 z) (by decide) fun v2 z1 hz1 => (mf_F.ite (mf_F.ret hz1) (mf_F.call hz1 (fr_chanceOf x1 z1) (by decide) fun v4 z3 hz3 => (mf_F.ret hz3))))
theorem fr_beyond_b56 {z0 : mm_S} {k4 : Int32 → Int32 → mm_S → Option (Int32 × mm_S)} (hk4 : ∀ (y1 : Int32) (y2 : Int32) (y3 : mm_S), mf_R wr_beyond z0 y3 → mf_F wr_beyond z0 (k4 y1 y2 y3)) (x2 : Int32) (s0 : Int32) (s1 : Int32) (z : mm_S) (hz : mf_R wr_beyond z0 z) : mf_F wr_beyond z0 (mo_beyond_b56 k4 x2 s0 s1 z) := by
  unfold mo_beyond_b56
  exact (hk4 (s0 ||| s1) (x2 + (1 : Int32)) z hz)
theorem fr_beyond_b55 {z0 : mm_S} {k4 : Int32 → Int32 → mm_S → Option (Int32 × mm_S)} (hk4 : ∀ (y1 : Int32) (y2 : Int32) (y3 : mm_S), mf_R wr_beyond z0 y3 → mf_F wr_beyond z0 (k4 y1 y2 y3)) (x2 : Int32) (s0 : Int32) (z : mm_S) (hz : mf_R wr_beyond z0 z) : mf_F wr_beyond z0 (mo_beyond_b55 k4 x2 s0 z) := by
  unfold mo_beyond_b55
  exact (fr_beyond_b56 hk4 x2 s0 (0 : Int32) z hz)
theorem fr_beyond_b4 {z0 : mm_S} : ∀ (n : Nat) (x1 : Int32) (x2 : Int32) (z : mm_S), mf_R wr_beyond z0 z → mf_F wr_beyond z0 (mo_beyond_b4 n x1 x2 z) := by
  intro n
  induction n with
  | zero => intro x1 x2 z hz; exact mf_F.none
  | succ n ih =>
    intro x1 x2 z hz
    rw [mo_beyond_b4]
    exact (mf_F.gI fun v1 => (mf_F.lI fun v2 => (mf_F.ite (mf_F.ret hz) (mf_F.call hz (fr_gapsOf x2 z) (by decide) fun v4 z3 hz3 => (mf_F.ite (fr_beyond_b55 ih x2 x1 z3 hz3) (mf_F.call hz3 (fr_chanceOf x2 z3) (by decide) fun v6 z5 hz5 => (mf_F.gI fun v7 => (mf_F.lI fun v8 => (mf_F.ite (fr_beyond_b55 ih x2 x1 z5 hz5) (fr_beyond_b56 ih x2 x1 ((1 : Int32) <<< (x2 &&& 31)) z5 hz5))))))))))
theorem fr_beyond (z : mm_S) : mf_F wr_beyond z (mo_beyond z) := by
  have hz : mf_R wr_beyond z z := mf_R.rfl
  unfold mo_beyond
  exact (fr_beyond_b4  g_fu (0 : Int32) (0 : Int32) z hz)
theorem fr_settlesAll_b126 {z0 : mm_S} {k24 : Int32 → mm_S → Option (Unit × mm_S)} (hk24 : ∀ (y1 : Int32) (y2 : mm_S), mf_R wr_settlesAll z0 y2 → mf_F wr_settlesAll z0 (k24 y1 y2)) (x1 : Int32) (z : mm_S) (hz : mf_R wr_settlesAll z0 z) : mf_F wr_settlesAll z0 (mo_settlesAll_b126 k24 x1 z) := by
  unfold mo_settlesAll_b126
  exact (hk24 (x1 + (1 : Int32)) z hz)
theorem fr_settlesAll_b120 {z0 : mm_S} {k24 : Int32 → mm_S → Option (Unit × mm_S)} {k55 : Int32 → Int32 → mm_S → Option (Unit × mm_S)} (hk24 : ∀ (y1 : Int32) (y2 : mm_S), mf_R wr_settlesAll z0 y2 → mf_F wr_settlesAll z0 (k24 y1 y2)) (hk55 : ∀ (y1 : Int32) (y2 : Int32) (y3 : mm_S), mf_R wr_settlesAll z0 y3 → mf_F wr_settlesAll z0 (k55 y1 y2 y3)) (x1 : Int32) (x2 : Int32) (z : mm_S) (hz : mf_R wr_settlesAll z0 z) : mf_F wr_settlesAll z0 (mo_settlesAll_b120 k24 k55 x1 x2 z) := by
  unfold mo_settlesAll_b120
  exact (hk55 x1 (x2 + (1 : Int32)) z hz)
theorem fr_settlesAll_b112 {z0 : mm_S} {k24 : Int32 → mm_S → Option (Unit × mm_S)} {k55 : Int32 → Int32 → mm_S → Option (Unit × mm_S)} {k76 : Int32 → Int32 → Int32 → mm_S → Option (Unit × mm_S)} (hk24 : ∀ (y1 : Int32) (y2 : mm_S), mf_R wr_settlesAll z0 y2 → mf_F wr_settlesAll z0 (k24 y1 y2)) (hk55 : ∀ (y1 : Int32) (y2 : Int32) (y3 : mm_S), mf_R wr_settlesAll z0 y3 → mf_F wr_settlesAll z0 (k55 y1 y2 y3)) (hk76 : ∀ (y1 : Int32) (y2 : Int32) (y3 : Int32) (y4 : mm_S), mf_R wr_settlesAll z0 y4 → mf_F wr_settlesAll z0 (k76 y1 y2 y3 y4)) (x1 : Int32) (x2 : Int32) (x3 : Int32) (s1 : Int32) (s2 : Int32) (s3 : Int32) (z : mm_S) (hz : mf_R wr_settlesAll z0 z) : mf_F wr_settlesAll z0 (mo_settlesAll_b112 k24 k55 k76 x1 x2 x3 s1 s2 s3 z) := by
  unfold mo_settlesAll_b112
  exact (mf_F.sI hz (by decide) fun z1 hz1 => (hk76 x1 x2 (x3 + (1 : Int32)) z1 hz1))
theorem fr_settlesAll_b76 {z0 : mm_S} {k24 : Int32 → mm_S → Option (Unit × mm_S)} {k55 : Int32 → Int32 → mm_S → Option (Unit × mm_S)} (hk24 : ∀ (y1 : Int32) (y2 : mm_S), mf_R wr_settlesAll z0 y2 → mf_F wr_settlesAll z0 (k24 y1 y2)) (hk55 : ∀ (y1 : Int32) (y2 : Int32) (y3 : mm_S), mf_R wr_settlesAll z0 y3 → mf_F wr_settlesAll z0 (k55 y1 y2 y3)) : ∀ (n : Nat) (x1 : Int32) (x2 : Int32) (x3 : Int32) (z : mm_S), mf_R wr_settlesAll z0 z → mf_F wr_settlesAll z0 (mo_settlesAll_b76 k24 k55 n x1 x2 x3 z) := by
  intro n
  induction n with
  | zero => intro x1 x2 x3 z hz; exact mf_F.none
  | succ n ih =>
    intro x1 x2 x3 z hz
    rw [mo_settlesAll_b76]
    exact (mf_F.call hz (fr_cells z) (by decide) fun v2 z1 hz1 => (mf_F.ite (fr_settlesAll_b120 hk24 hk55 x1 x2 z1 hz1) (mf_F.lI fun v3 => (mf_F.call hz1 (fr_mayBe x1 x3 x2 z1) (by decide) fun v5 z4 hz4 => (mf_F.ite (fr_settlesAll_b112 hk24 hk55 ih x1 x2 x3 (((256 : Int32) * x2) + x3) v3 (0 : Int32) z4 hz4) (fr_settlesAll_b112 hk24 hk55 ih x1 x2 x3 (((256 : Int32) * x2) + x3) v3 (1 : Int32) z4 hz4))))))
theorem fr_settlesAll_b55 {z0 : mm_S} {k24 : Int32 → mm_S → Option (Unit × mm_S)} (hk24 : ∀ (y1 : Int32) (y2 : mm_S), mf_R wr_settlesAll z0 y2 → mf_F wr_settlesAll z0 (k24 y1 y2)) : ∀ (n : Nat) (x1 : Int32) (x2 : Int32) (z : mm_S), mf_R wr_settlesAll z0 z → mf_F wr_settlesAll z0 (mo_settlesAll_b55 k24 n x1 x2 z) := by
  intro n
  induction n with
  | zero => intro x1 x2 z hz; exact mf_F.none
  | succ n ih =>
    intro x1 x2 z hz
    rw [mo_settlesAll_b55]
    exact (mf_F.ite (fr_settlesAll_b126 hk24 x1 z hz) (mf_F.call hz (fr_cellsOf x1 x2 z) (by decide) fun v2 z1 hz1 => (mf_F.ite (fr_settlesAll_b76 hk24 ih g_fu x1 x2 (0 : Int32) z1 hz1) (fr_settlesAll_b120 hk24 ih x1 x2 z1 hz1))))
theorem fr_settlesAll_b24 {z0 : mm_S} : ∀ (n : Nat) (x1 : Int32) (z : mm_S), mf_R wr_settlesAll z0 z → mf_F wr_settlesAll z0 (mo_settlesAll_b24 n x1 z) := by
  intro n
  induction n with
  | zero => intro x1 z hz; exact mf_F.none
  | succ n ih =>
    intro x1 z hz
    rw [mo_settlesAll_b24]
    exact (mf_F.gI fun v1 => (mf_F.lI fun v2 => (mf_F.ite (mf_F.ret hz) (mf_F.call hz (fr_sayingsOf x1 z) (by decide) fun v4 z3 hz3 => (mf_F.ite (fr_settlesAll_b126 ih x1 z3 hz3) (mf_F.call hz3 (fr_lays_2 x1 z3) (by decide) fun _ z5 hz5 => (fr_settlesAll_b55 ih g_fu x1 (0 : Int32) z5 hz5)))))))
theorem fr_settlesAll_b2 {z0 : mm_S} : ∀ (n : Nat) (x1 : Int32) (z : mm_S), mf_R wr_settlesAll z0 z → mf_F wr_settlesAll z0 (mo_settlesAll_b2 n x1 z) := by
  intro n
  induction n with
  | zero => intro x1 z hz; exact mf_F.none
  | succ n ih =>
    intro x1 z hz
    rw [mo_settlesAll_b2]
    exact (mf_F.ite (fr_settlesAll_b24  g_fu (0 : Int32) z hz) (mf_F.sI hz (by decide) fun z1 hz1 => (ih (x1 + (1 : Int32)) z1 hz1)))
theorem fr_settlesAll (z : mm_S) : mf_F wr_settlesAll z (mo_settlesAll z) := by
  have hz : mf_R wr_settlesAll z z := mf_R.rfl
  unfold mo_settlesAll
  exact (fr_settlesAll_b2  g_fu (0 : Int32) z hz)
theorem fr_settles (x1 : Int32) (x2 : Int32) (x3 : Int32) (z : mm_S) : mf_F wr_settles z (mo_settles x1 x2 x3 z) := by
  have hz : mf_R wr_settles z z := mf_R.rfl
  unfold mo_settles
  exact (mf_F.call hz (fr_isHour x1 z) (by decide) fun v2 z1 hz1 => (mf_F.ite (mf_F.ret hz1) (mf_F.call hz1 (fr_isCell x2 x3 z1) (by decide) fun v4 z3 hz3 => (mf_F.ite (mf_F.ret hz3) (mf_F.call hz3 (fr_settlesAll z3) (by decide) fun _ z5 hz5 => (mf_F.call hz5 (fr_at x2 x3 z5) (by decide) fun v8 z7 hz7 => (mf_F.lI fun v9 => (mf_F.ret hz7))))))))
theorem fr_next_b140 {z0 : mm_S} {k19 : Int32 → Int32 → Int32 → mm_S → Option (Int32 × mm_S)} {k28 : Int32 → Int32 → Int32 → Int32 → mm_S → Option (Int32 × mm_S)} (hk19 : ∀ (y1 : Int32) (y2 : Int32) (y3 : Int32) (y4 : mm_S), mf_R wr_next z0 y4 → mf_F wr_next z0 (k19 y1 y2 y3 y4)) (hk28 : ∀ (y1 : Int32) (y2 : Int32) (y3 : Int32) (y4 : Int32) (y5 : mm_S), mf_R wr_next z0 y5 → mf_F wr_next z0 (k28 y1 y2 y3 y4 y5)) (x1 : Int32) (x3 : Int32) (x4 : Int32) (s0 : Int32) (z : mm_S) (hz : mf_R wr_next z0 z) : mf_F wr_next z0 (mo_next_b140 k19 k28 x1 x3 x4 s0 z) := by
  unfold mo_next_b140
  exact (hk28 x1 s0 x3 (x4 + (1 : Int32)) z hz)
theorem fr_next_b127 {z0 : mm_S} {k19 : Int32 → Int32 → Int32 → mm_S → Option (Int32 × mm_S)} {k28 : Int32 → Int32 → Int32 → Int32 → mm_S → Option (Int32 × mm_S)} (hk19 : ∀ (y1 : Int32) (y2 : Int32) (y3 : Int32) (y4 : mm_S), mf_R wr_next z0 y4 → mf_F wr_next z0 (k19 y1 y2 y3 y4)) (hk28 : ∀ (y1 : Int32) (y2 : Int32) (y3 : Int32) (y4 : Int32) (y5 : mm_S), mf_R wr_next z0 y5 → mf_F wr_next z0 (k28 y1 y2 y3 y4 y5)) (x1 : Int32) (x2 : Int32) (x3 : Int32) (x4 : Int32) (x5 : Int32) (s0 : Int32) (z : mm_S) (hz : mf_R wr_next z0 z) : mf_F wr_next z0 (mo_next_b127 k19 k28 x1 x2 x3 x4 x5 s0 z) := by
  unfold mo_next_b127
  exact (mf_F.ite (fr_next_b140 hk19 hk28 x1 x3 x4 x2 z hz) (fr_next_b140 hk19 hk28 x1 x3 x4 x5 z hz))
theorem fr_next_b122 {z0 : mm_S} {k19 : Int32 → Int32 → Int32 → mm_S → Option (Int32 × mm_S)} {k28 : Int32 → Int32 → Int32 → Int32 → mm_S → Option (Int32 × mm_S)} (hk19 : ∀ (y1 : Int32) (y2 : Int32) (y3 : Int32) (y4 : mm_S), mf_R wr_next z0 y4 → mf_F wr_next z0 (k19 y1 y2 y3 y4)) (hk28 : ∀ (y1 : Int32) (y2 : Int32) (y3 : Int32) (y4 : Int32) (y5 : mm_S), mf_R wr_next z0 y5 → mf_F wr_next z0 (k28 y1 y2 y3 y4 y5)) (x1 : Int32) (x2 : Int32) (x3 : Int32) (x4 : Int32) (x5 : Int32) (z : mm_S) (hz : mf_R wr_next z0 z) : mf_F wr_next z0 (mo_next_b122 k19 k28 x1 x2 x3 x4 x5 z) := by
  unfold mo_next_b122
  exact (fr_next_b127 hk19 hk28 x1 x2 x3 x4 x5 (1 : Int32) z hz)
theorem fr_next_b126 {z0 : mm_S} {k19 : Int32 → Int32 → Int32 → mm_S → Option (Int32 × mm_S)} {k28 : Int32 → Int32 → Int32 → Int32 → mm_S → Option (Int32 × mm_S)} (hk19 : ∀ (y1 : Int32) (y2 : Int32) (y3 : Int32) (y4 : mm_S), mf_R wr_next z0 y4 → mf_F wr_next z0 (k19 y1 y2 y3 y4)) (hk28 : ∀ (y1 : Int32) (y2 : Int32) (y3 : Int32) (y4 : Int32) (y5 : mm_S), mf_R wr_next z0 y5 → mf_F wr_next z0 (k28 y1 y2 y3 y4 y5)) (x1 : Int32) (x2 : Int32) (x3 : Int32) (x4 : Int32) (x5 : Int32) (z : mm_S) (hz : mf_R wr_next z0 z) : mf_F wr_next z0 (mo_next_b126 k19 k28 x1 x2 x3 x4 x5 z) := by
  unfold mo_next_b126
  exact (fr_next_b127 hk19 hk28 x1 x2 x3 x4 x5 (0 : Int32) z hz)
theorem fr_next_b28 {z0 : mm_S} {k19 : Int32 → Int32 → Int32 → mm_S → Option (Int32 × mm_S)} (hk19 : ∀ (y1 : Int32) (y2 : Int32) (y3 : Int32) (y4 : mm_S), mf_R wr_next z0 y4 → mf_F wr_next z0 (k19 y1 y2 y3 y4)) : ∀ (n : Nat) (x1 : Int32) (x2 : Int32) (x3 : Int32) (x4 : Int32) (z : mm_S), mf_R wr_next z0 z → mf_F wr_next z0 (mo_next_b28 k19 n x1 x2 x3 x4 z) := by
  intro n
  induction n with
  | zero => intro x1 x2 x3 x4 z hz; exact mf_F.none
  | succ n ih =>
    intro x1 x2 x3 x4 z hz
    rw [mo_next_b28]
    exact (mf_F.call hz (fr_cells z) (by decide) fun v2 z1 hz1 => (mf_F.ite (hk19 x1 x2 (x3 + (1 : Int32)) z1 hz1) (mf_F.ite (mf_F.lI fun v9 => (mf_F.ite (fr_next_b127 hk19 ih x1 x2 x3 x4 (((256 : Int32) * x3) + x4) (0 : Int32) z1 hz1) (fr_next_b127 hk19 ih x1 x2 x3 x4 (((256 : Int32) * x3) + x4) (1 : Int32) z1 hz1))) (mf_F.lI fun v3 => (mf_F.lI fun v4 => (mf_F.ite (fr_next_b122 hk19 ih x1 x2 x3 x4 (((256 : Int32) * x3) + x4) z1 hz1) (mf_F.lI fun v5 => (mf_F.lI fun v6 => (mf_F.ite (mf_F.lI fun v7 => (mf_F.lI fun v8 => (mf_F.ite (fr_next_b126 hk19 ih x1 x2 x3 x4 (((256 : Int32) * x3) + x4) z1 hz1) (fr_next_b122 hk19 ih x1 x2 x3 x4 (((256 : Int32) * x3) + x4) z1 hz1)))) (fr_next_b126 hk19 ih x1 x2 x3 x4 (((256 : Int32) * x3) + x4) z1 hz1))))))))))
theorem fr_next_b19 {z0 : mm_S} : ∀ (n : Nat) (x1 : Int32) (x2 : Int32) (x3 : Int32) (z : mm_S), mf_R wr_next z0 z → mf_F wr_next z0 (mo_next_b19 n x1 x2 x3 z) := by
  intro n
  induction n with
  | zero => intro x1 x2 x3 z hz; exact mf_F.none
  | succ n ih =>
    intro x1 x2 x3 z hz
    rw [mo_next_b19]
    exact (mf_F.ite (mf_F.ite (mf_F.ret hz) (mf_F.ite (mf_F.ret hz) (mf_F.ite (mf_F.ret hz) (mf_F.lI fun v1 => (mf_F.ret hz))))) (fr_next_b28 ih g_fu x1 x2 x3 (0 : Int32) z hz))
theorem fr_next (x1 : Int32) (z : mm_S) : mf_F wr_next z (mo_next x1 z) := by
  have hz : mf_R wr_next z z := mf_R.rfl
  unfold mo_next
  exact (mf_F.call hz (fr_is x1 (0 : Int32) (2 : Int32) z) (by decide) fun v2 z1 hz1 => (mf_F.ite (mf_F.ret hz1) (mf_F.call hz1 (fr_settlesAll z1) (by decide) fun _ z3 hz3 => (fr_next_b19  g_fu x1 (-1 : Int32) (0 : Int32) z3 hz3))))
theorem fr_offOf_b72 {z0 : mm_S} {k2 : Int32 → Int32 → mm_S → Option (Int32 × mm_S)} (hk2 : ∀ (y1 : Int32) (y2 : Int32) (y3 : mm_S), mf_R wr_offOf z0 y3 → mf_F wr_offOf z0 (k2 y1 y2 y3)) (x1 : Int32) (x2 : Int32) (z : mm_S) (hz : mf_R wr_offOf z0 z) : mf_F wr_offOf z0 (mo_offOf_b72 k2 x1 x2 z) := by
  unfold mo_offOf_b72
  exact (hk2 x1 (x2 + (1 : Int32)) z hz)
theorem fr_offOf_b26 {z0 : mm_S} {k2 : Int32 → Int32 → mm_S → Option (Int32 × mm_S)} (hk2 : ∀ (y1 : Int32) (y2 : Int32) (y3 : mm_S), mf_R wr_offOf z0 y3 → mf_F wr_offOf z0 (k2 y1 y2 y3)) (x1 : Int32) (x2 : Int32) (s0 : Int32) (z : mm_S) (hz : mf_R wr_offOf z0 z) : mf_F wr_offOf z0 (mo_offOf_b26 k2 x1 x2 s0 z) := by
  unfold mo_offOf_b26
  exact (mf_F.pI hz (by decide) fun z1 hz1 => (mf_F.call hz1 (fr_addSayings x1 x1 s0 z1) (by decide) fun v3 z2 hz2 => (mf_F.gI fun v4 => (mf_F.call hz2 (fr_addBooks x1 z2) (by decide) fun _ z5 hz5 => (mf_F.ite (fr_offOf_b72 hk2 x1 x2 z5 hz5) (mf_F.ite (fr_offOf_b72 hk2 x1 x2 z5 hz5) (mf_F.call hz5 (fr_fit x1 z5) (by decide) fun v8 z7 hz7 => (mf_F.ite (fr_offOf_b72 hk2 x1 x2 z7 hz7) (mf_F.ret hz7)))))))))
theorem fr_offOf_b2 {z0 : mm_S} : ∀ (n : Nat) (x1 : Int32) (x2 : Int32) (z : mm_S), mf_R wr_offOf z0 z → mf_F wr_offOf z0 (mo_offOf_b2 n x1 x2 z) := by
  intro n
  induction n with
  | zero => intro x1 x2 z hz; exact mf_F.none
  | succ n ih =>
    intro x1 x2 z hz
    rw [mo_offOf_b2]
    exact (mf_F.ite (mf_F.ret hz) (mf_F.ite (fr_offOf_b26 ih x1 x2 (x2 / (2 : Int32)) z hz) (fr_offOf_b26 ih x1 x2 ((-(x2 + (1 : Int32))) / (2 : Int32)) z hz)))
theorem fr_offOf (x1 : Int32) (z : mm_S) : mf_F wr_offOf z (mo_offOf x1 z) := by
  have hz : mf_R wr_offOf z z := mf_R.rfl
  unfold mo_offOf
  exact (fr_offOf_b2  g_fu x1 (0 : Int32) z hz)
theorem fr_off (x1 : Int32) (z : mm_S) : mf_F wr_off z (mo_off x1 z) := by
  have hz : mf_R wr_off z z := mf_R.rfl
  unfold mo_off
  exact (mf_F.call hz (fr_isShip x1 z) (by decide) fun v2 z1 hz1 => (mf_F.ite (mf_F.ret hz1) (mf_F.call hz1 (fr_offOf x1 z1) (by decide) fun v4 z3 hz3 => (mf_F.ret hz3))))
theorem fr_whose_b54 {z0 : mm_S} {k4 : Int32 → Int32 → mm_S → Option (Int32 × mm_S)} (hk4 : ∀ (y1 : Int32) (y2 : Int32) (y3 : mm_S), mf_R wr_whose z0 y3 → mf_F wr_whose z0 (k4 y1 y2 y3)) (x2 : Int32) (s0 : Int32) (s1 : Int32) (z : mm_S) (hz : mf_R wr_whose z0 z) : mf_F wr_whose z0 (mo_whose_b54 k4 x2 s0 s1 z) := by
  unfold mo_whose_b54
  exact (hk4 (s0 ||| s1) (x2 + (1 : Int32)) z hz)
theorem fr_whose_b53 {z0 : mm_S} {k4 : Int32 → Int32 → mm_S → Option (Int32 × mm_S)} (hk4 : ∀ (y1 : Int32) (y2 : Int32) (y3 : mm_S), mf_R wr_whose z0 y3 → mf_F wr_whose z0 (k4 y1 y2 y3)) (x2 : Int32) (s0 : Int32) (z : mm_S) (hz : mf_R wr_whose z0 z) : mf_F wr_whose z0 (mo_whose_b53 k4 x2 s0 z) := by
  unfold mo_whose_b53
  exact (fr_whose_b54 hk4 x2 s0 (0 : Int32) z hz)
theorem fr_whose_b35 {z0 : mm_S} {k4 : Int32 → Int32 → mm_S → Option (Int32 × mm_S)} (hk4 : ∀ (y1 : Int32) (y2 : Int32) (y3 : mm_S), mf_R wr_whose z0 y3 → mf_F wr_whose z0 (k4 y1 y2 y3)) (x1 : Int32) (x2 : Int32) (s0 : Int32) (z : mm_S) (hz : mf_R wr_whose z0 z) : mf_F wr_whose z0 (mo_whose_b35 k4 x1 x2 s0 z) := by
  unfold mo_whose_b35
  exact (mf_F.ite (fr_whose_b53 hk4 x2 x1 z hz) (mf_F.ite (fr_whose_b53 hk4 x2 x1 z hz) (fr_whose_b54 hk4 x2 x1 ((1 : Int32) <<< (x2 &&& 31)) z hz)))
theorem fr_whose_b4 {z0 : mm_S} : ∀ (n : Nat) (x1 : Int32) (x2 : Int32) (z : mm_S), mf_R wr_whose z0 z → mf_F wr_whose z0 (mo_whose_b4 n x1 x2 z) := by
  intro n
  induction n with
  | zero => intro x1 x2 z hz; exact mf_F.none
  | succ n ih =>
    intro x1 x2 z hz
    rw [mo_whose_b4]
    exact (mf_F.gI fun v1 => (mf_F.lI fun v2 => (mf_F.ite (mf_F.ret hz) (mf_F.call hz (fr_liesOf x2 z) (by decide) fun v4 z3 hz3 => (mf_F.ite (fr_whose_b35 ih x1 x2 (100 : Int32) z3 hz3) (mf_F.call hz3 (fr_offOf x2 z3) (by decide) fun v6 z5 hz5 => (fr_whose_b35 ih x1 x2 v6 z5 hz5)))))))
theorem fr_whose (z : mm_S) : mf_F wr_whose z (mo_whose z) := by
  have hz : mf_R wr_whose z z := mf_R.rfl
  unfold mo_whose
  exact (fr_whose_b4  g_fu (0 : Int32) (0 : Int32) z hz)
theorem fr_says_2 (x1 : Int32) (x2 : Int32) (x3 : Int32) (x4 : Int32) (z : mm_S) : mf_F wr_says_2 z (mo_says_2 x1 x2 x3 x4 z) := by
  have hz : mf_R wr_says_2 z z := mf_R.rfl
  unfold mo_says_2
  exact (mf_F.gI fun v1 => (mf_F.sI hz (by decide) fun z2 hz2 => (mf_F.gI fun v3 => (mf_F.sZ hz2 (by decide) fun z4 hz4 => (mf_F.gI fun v5 => (mf_F.lI fun v6 => (mf_F.sI hz4 (by decide) fun z7 hz7 => (mf_F.ret hz7))))))))
theorem fr_numberOf_b28 {z0 : mm_S} {k5 : Int32 → Int32 → Int32 → Int32 → mm_S → Option (Int32 × mm_S)} (hk5 : ∀ (y1 : Int32) (y2 : Int32) (y3 : Int32) (y4 : Int32) (y5 : mm_S), mf_R wr_numberOf z0 y5 → mf_F wr_numberOf z0 (k5 y1 y2 y3 y4 y5)) (x1 : Int32) (x2 : Int32) (x4 : Int32) (s0 : Int32) (s1 : Int32) (z : mm_S) (hz : mf_R wr_numberOf z0 z) : mf_F wr_numberOf z0 (mo_numberOf_b28 k5 x1 x2 x4 s0 s1 z) := by
  unfold mo_numberOf_b28
  exact (hk5 x1 x2 (s0 + s1) (x4 + (1 : Int32)) z hz)
theorem fr_numberOf_b5 {z0 : mm_S} : ∀ (n : Nat) (x1 : Int32) (x2 : Int32) (x3 : Int32) (x4 : Int32) (z : mm_S), mf_R wr_numberOf z0 z → mf_F wr_numberOf z0 (mo_numberOf_b5 n x1 x2 x3 x4 z) := by
  intro n
  induction n with
  | zero => intro x1 x2 x3 x4 z hz; exact mf_F.none
  | succ n ih =>
    intro x1 x2 x3 x4 z hz
    rw [mo_numberOf_b5]
    exact (mf_F.ite (mf_F.ret hz) (mf_F.call hz (fr_said x1 x4 z) (by decide) fun v2 z1 hz1 => (mf_F.ite (fr_numberOf_b28 ih x1 x2 x4 x3 (0 : Int32) z1 hz1) (fr_numberOf_b28 ih x1 x2 x4 x3 (1 : Int32) z1 hz1))))
theorem fr_numberOf (x1 : Int32) (x2 : Int32) (z : mm_S) : mf_F wr_numberOf z (mo_numberOf x1 x2 z) := by
  have hz : mf_R wr_numberOf z z := mf_R.rfl
  unfold mo_numberOf
  exact (fr_numberOf_b5  g_fu x1 x2 (0 : Int32) (0 : Int32) z hz)
theorem fr_add_2_b49 {z0 : mm_S} (z : mm_S) (hz : mf_R wr_add_2 z0 z) : mf_F wr_add_2 z0 (mo_add_2_b49 z) := by
  unfold mo_add_2_b49
  exact (mf_F.call hz (fr_refuses (2 : Int32) z) (by decide) fun v2 z1 hz1 => (mf_F.ret hz1))
theorem fr_add_2 (x1 : Int32) (x2 : Int32) (x3 : Int32) (x4 : Int32) (x5 : Int32) (z : mm_S) : mf_F wr_add_2 z (mo_add_2 x1 x2 x3 x4 x5 z) := by
  have hz : mf_R wr_add_2 z z := mf_R.rfl
  unfold mo_add_2
  exact (mf_F.call hz (fr_isShip x1 z) (by decide) fun v2 z1 hz1 => (mf_F.ite (fr_add_2_b49  z1 hz1) (mf_F.call hz1 (fr_isHour x2 z1) (by decide) fun v4 z3 hz3 => (mf_F.ite (fr_add_2_b49  z3 hz3) (mf_F.call hz3 (fr_isCell x3 x4 z3) (by decide) fun v6 z5 hz5 => (mf_F.ite (fr_add_2_b49  z5 hz5) (mf_F.call hz5 (fr_said x1 x2 z5) (by decide) fun v8 z7 hz7 => (mf_F.ite (mf_F.gI fun v9 => (mf_F.lI fun v10 => (mf_F.ite (fr_add_2_b49  z7 hz7) (mf_F.call hz7 (fr_at x3 x4 z7) (by decide) fun v12 z11 hz11 => (mf_F.call hz11 (fr_says_2 x1 x2 v12 x5 z11) (by decide) fun _ z13 hz13 => (mf_F.call hz13 (fr_numberOf x1 x2 z13) (by decide) fun v16 z15 hz15 => (mf_F.ret hz15))))))) (fr_add_2_b49  z7 hz7)))))))))
theorem fr_drop_b18 {z0 : mm_S} (x1 : Int32) (s0 : Int32) (z : mm_S) (hz : mf_R wr_drop z0 z) : mf_F wr_drop z0 (mo_drop_b18 x1 s0 z) := by
  unfold mo_drop_b18
  exact (mf_F.ite (mf_F.call hz (fr_refuses (2 : Int32) z) (by decide) fun v9 z8 hz8 => (mf_F.ret hz8)) (mf_F.gI fun v1 => (mf_F.sI hz (by decide) fun z2 hz2 => (mf_F.gI fun v3 => (mf_F.lI fun v4 => (mf_F.sI hz2 (by decide) fun z5 hz5 => (mf_F.call hz5 (fr_sayingsOf x1 z5) (by decide) fun v7 z6 hz6 => (mf_F.ret hz6))))))))
theorem fr_drop (x1 : Int32) (x2 : Int32) (z : mm_S) : mf_F wr_drop z (mo_drop x1 x2 z) := by
  have hz : mf_R wr_drop z z := mf_R.rfl
  unfold mo_drop
  exact (mf_F.call hz (fr_isShip x1 z) (by decide) fun v2 z1 hz1 => (mf_F.ite (fr_drop_b18  x1 (-1 : Int32) z1 hz1) (mf_F.call hz1 (fr_hourOf x1 x2 z1) (by decide) fun v4 z3 hz3 => (fr_drop_b18  x1 v4 z3 hz3))))
theorem fr_spots (x1 : Int32) (x2 : Int32) (x3 : Int32) (z : mm_S) : mf_F wr_spots z (mo_spots x1 x2 x3 z) := by
  have hz : mf_R wr_spots z z := mf_R.rfl
  unfold mo_spots
  exact (mf_F.gI fun v1 => (mf_F.gI fun v2 => (mf_F.lI fun v3 => (mf_F.sI hz (by decide) fun z4 hz4 => (mf_F.sI hz4 (by decide) fun z5 hz5 => (mf_F.sI hz5 (by decide) fun z6 hz6 => (mf_F.gI fun v7 => (mf_F.lI fun v8 => (mf_F.sI hz6 (by decide) fun z9 hz9 => (mf_F.ret hz9))))))))))
theorem fr_spot_b40 {z0 : mm_S} (z : mm_S) (hz : mf_R wr_spot z0 z) : mf_F wr_spot z0 (mo_spot_b40 z) := by
  unfold mo_spot_b40
  exact (mf_F.call hz (fr_refuses (3 : Int32) z) (by decide) fun v2 z1 hz1 => (mf_F.ret hz1))
theorem fr_spot (x1 : Int32) (x2 : Int32) (x3 : Int32) (x4 : Int32) (z : mm_S) : mf_F wr_spot z (mo_spot x1 x2 x3 x4 z) := by
  have hz : mf_R wr_spot z z := mf_R.rfl
  unfold mo_spot
  exact (mf_F.call hz (fr_is x1 (0 : Int32) (3 : Int32) z) (by decide) fun v2 z1 hz1 => (mf_F.ite (fr_spot_b40  z1 hz1) (mf_F.call hz1 (fr_isCell x2 x3 z1) (by decide) fun v4 z3 hz3 => (mf_F.ite (fr_spot_b40  z3 hz3) (mf_F.call hz3 (fr_isHour x4 z3) (by decide) fun v6 z5 hz5 => (mf_F.ite (fr_spot_b40  z5 hz5) (mf_F.gI fun v7 => (mf_F.lI fun v8 => (mf_F.ite (fr_spot_b40  z5 hz5) (mf_F.call hz5 (fr_at x2 x3 z5) (by decide) fun v10 z9 hz9 => (mf_F.call hz9 (fr_spots x1 v10 x4 z9) (by decide) fun _ z11 hz11 => (mf_F.gI fun v13 => (mf_F.lI fun v14 => (mf_F.ret hz11))))))))))))))
theorem fr_writes (x1 : Int32) (z : mm_S) : mf_F wr_writes z (mo_writes x1 z) := by
  have hz : mf_R wr_writes z z := mf_R.rfl
  unfold mo_writes
  exact (mf_F.gI fun v1 => (mf_F.sI hz (by decide) fun z2 hz2 => (mf_F.gI fun v3 => (mf_F.pI hz2 (by decide) fun z4 hz4 => (mf_F.ret hz4)))))
theorem fr_image_b187 {z0 : mm_S} : ∀ (n : Nat) (x1 : Int32) (x2 : Int32) (z : mm_S), mf_R wr_image z0 z → mf_F wr_image z0 (mo_image_b187 n x1 x2 z) := by
  intro n
  induction n with
  | zero => intro x1 x2 z hz; exact mf_F.none
  | succ n ih =>
    intro x1 x2 z hz
    rw [mo_image_b187]
    exact (mf_F.gI fun v1 => (mf_F.ite (mf_F.call hz (fr_writes x1 z) (by decide) fun _ z2 hz2 => (mf_F.gI fun v4 => (mf_F.ret hz2))) (mf_F.lI fun v5 => (ih ((((3 : Int32) * x1) + v5) - (((3 : Int32) * x1) + v5) / (241 : Int32) * (241 : Int32)) (x2 + (1 : Int32)) z hz))))
theorem fr_image_b125 {z0 : mm_S} : ∀ (n : Nat) (x1 : Int32) (z : mm_S), mf_R wr_image z0 z → mf_F wr_image z0 (mo_image_b125 n x1 z) := by
  intro n
  induction n with
  | zero => intro x1 z hz; exact mf_F.none
  | succ n ih =>
    intro x1 z hz
    rw [mo_image_b125]
    exact (mf_F.gI fun v1 => (mf_F.gI fun v2 => (mf_F.lI fun v3 => (mf_F.ite (fr_image_b187  g_fu (29 : Int32) (0 : Int32) z hz) (mf_F.lI fun v4 => (mf_F.call hz (fr_writes v4 z) (by decide) fun _ z5 hz5 => (mf_F.lI fun v7 => (mf_F.call hz5 (fr_writes v7 z5) (by decide) fun _ z8 hz8 => (mf_F.lI fun v10 => (mf_F.call hz8 (fr_writes v10 z8) (by decide) fun _ z11 hz11 => (ih (x1 + (1 : Int32)) z11 hz11)))))))))))
theorem fr_image_b92 {z0 : mm_S} {k20 : Int32 → mm_S → Option (Int32 × mm_S)} {k35 : Int32 → Int32 → mm_S → Option (Int32 × mm_S)} (hk20 : ∀ (y1 : Int32) (y2 : mm_S), mf_R wr_image z0 y2 → mf_F wr_image z0 (k20 y1 y2)) (hk35 : ∀ (y1 : Int32) (y2 : Int32) (y3 : mm_S), mf_R wr_image z0 y3 → mf_F wr_image z0 (k35 y1 y2 y3)) (x1 : Int32) (x2 : Int32) (z : mm_S) (hz : mf_R wr_image z0 z) : mf_F wr_image z0 (mo_image_b92 k20 k35 x1 x2 z) := by
  unfold mo_image_b92
  exact (hk35 x1 (x2 + (1 : Int32)) z hz)
theorem fr_image_b89 {z0 : mm_S} {k20 : Int32 → mm_S → Option (Int32 × mm_S)} {k35 : Int32 → Int32 → mm_S → Option (Int32 × mm_S)} (hk20 : ∀ (y1 : Int32) (y2 : mm_S), mf_R wr_image z0 y2 → mf_F wr_image z0 (k20 y1 y2)) (hk35 : ∀ (y1 : Int32) (y2 : Int32) (y3 : mm_S), mf_R wr_image z0 y3 → mf_F wr_image z0 (k35 y1 y2 y3)) (x1 : Int32) (x2 : Int32) (s1 : Int32) (z : mm_S) (hz : mf_R wr_image z0 z) : mf_F wr_image z0 (mo_image_b89 k20 k35 x1 x2 s1 z) := by
  unfold mo_image_b89
  exact (mf_F.call hz (fr_writes s1 z) (by decide) fun _ z1 hz1 => (fr_image_b92 hk20 hk35 x1 x2 z1 hz1))
theorem fr_image_b35 {z0 : mm_S} {k20 : Int32 → mm_S → Option (Int32 × mm_S)} (hk20 : ∀ (y1 : Int32) (y2 : mm_S), mf_R wr_image z0 y2 → mf_F wr_image z0 (k20 y1 y2)) : ∀ (n : Nat) (x1 : Int32) (x2 : Int32) (z : mm_S), mf_R wr_image z0 z → mf_F wr_image z0 (mo_image_b35 k20 n x1 x2 z) := by
  intro n
  induction n with
  | zero => intro x1 x2 z hz; exact mf_F.none
  | succ n ih =>
    intro x1 x2 z hz
    rw [mo_image_b35]
    exact (mf_F.ite (hk20 (x1 + (1 : Int32)) z hz) (mf_F.call hz (fr_said x1 x2 z) (by decide) fun v2 z1 hz1 => (mf_F.ite (fr_image_b92 hk20 ih x1 x2 z1 hz1) (mf_F.call hz1 (fr_writes x1 z1) (by decide) fun _ z3 hz3 => (mf_F.call hz3 (fr_writes x2 z3) (by decide) fun _ z5 hz5 => (mf_F.call hz5 (fr_said x1 x2 z5) (by decide) fun v8 z7 hz7 => (mf_F.call hz7 (fr_writes v8 z7) (by decide) fun _ z9 hz9 => (mf_F.call hz9 (fr_laden x1 x2 z9) (by decide) fun v12 z11 hz11 => (mf_F.ite (fr_image_b89 hk20 ih x1 x2 (0 : Int32) z11 hz11) (fr_image_b89 hk20 ih x1 x2 (1 : Int32) z11 hz11))))))))))
theorem fr_image_b20 {z0 : mm_S} : ∀ (n : Nat) (x1 : Int32) (z : mm_S), mf_R wr_image z0 z → mf_F wr_image z0 (mo_image_b20 n x1 z) := by
  intro n
  induction n with
  | zero => intro x1 z hz; exact mf_F.none
  | succ n ih =>
    intro x1 z hz
    rw [mo_image_b20]
    exact (mf_F.gI fun v1 => (mf_F.lI fun v2 => (mf_F.ite (mf_F.gI fun v3 => (mf_F.lI fun v4 => (mf_F.call hz (fr_writes v4 z) (by decide) fun _ z5 hz5 => (mf_F.gI fun v7 => (fr_image_b125  g_fu ((40 : Int32) * v7) z5 hz5))))) (fr_image_b35 ih g_fu x1 (0 : Int32) z hz))))
theorem fr_image (z : mm_S) : mf_F wr_image z (mo_image z) := by
  have hz : mf_R wr_image z z := mf_R.rfl
  unfold mo_image
  exact (mf_F.pI hz (by decide) fun z1 hz1 => (mf_F.gI fun v2 => (mf_F.lI fun v3 => (mf_F.call hz1 (fr_writes v3 z1) (by decide) fun _ z4 hz4 => (fr_image_b20  g_fu (0 : Int32) z4 hz4)))))
theorem fr_octet (x1 : Int32) (z : mm_S) : mf_F wr_octet z (mo_octet x1 z) := by
  have hz : mf_R wr_octet z z := mf_R.rfl
  unfold mo_octet
  exact (mf_F.ite (mf_F.ret hz) (mf_F.gI fun v1 => (mf_F.ite (mf_F.ret hz) (mf_F.lI fun v2 => (mf_F.ret hz)))))
theorem fr_isWhole_b231 {z0 : mm_S} : ∀ (n : Nat) (x1 : Int32) (x5 : Int32) (z : mm_S), mf_R wr_isWhole z0 z → mf_F wr_isWhole z0 (mo_isWhole_b231 n x1 x5 z) := by
  intro n
  induction n with
  | zero => intro x1 x5 z hz; exact mf_F.none
  | succ n ih =>
    intro x1 x5 z hz
    rw [mo_isWhole_b231]
    exact (mf_F.ite (mf_F.ret hz) (mf_F.lI fun v1 => (mf_F.ite (mf_F.ret hz) (mf_F.lI fun v2 => (mf_F.call hz (fr_cells z) (by decide) fun v4 z3 hz3 => (mf_F.ite (mf_F.ret hz3) (mf_F.lI fun v5 => (mf_F.call hz3 (fr_isHour v5 z3) (by decide) fun v7 z6 hz6 => (mf_F.ite (mf_F.ret hz6) (ih x1 (x5 + (3 : Int32)) z6 hz6))))))))))
theorem fr_isWhole_b121 {z0 : mm_S} : ∀ (n : Nat) (x1 : Int32) (x2 : Int32) (x4 : Int32) (x5 : Int32) (z : mm_S), mf_R wr_isWhole z0 z → mf_F wr_isWhole z0 (mo_isWhole_b121 n x1 x2 x4 x5 z) := by
  intro n
  induction n with
  | zero => intro x1 x2 x4 x5 z hz; exact mf_F.none
  | succ n ih =>
    intro x1 x2 x4 x5 z hz
    rw [mo_isWhole_b121]
    exact (mf_F.ite (fr_isWhole_b231  g_fu x1 (x2 + (1 : Int32)) z hz) (mf_F.lI fun v1 => (mf_F.lI fun v2 => (mf_F.lI fun v3 => (mf_F.call hz (fr_isShip v3 z) (by decide) fun v5 z4 hz4 => (mf_F.ite (mf_F.ret hz4) (mf_F.lI fun v6 => (mf_F.call hz4 (fr_isHour v6 z4) (by decide) fun v8 z7 hz7 => (mf_F.ite (mf_F.ret hz7) (mf_F.ite (mf_F.ret hz7) (mf_F.lI fun v9 => (mf_F.call hz7 (fr_cells z7) (by decide) fun v11 z10 hz10 => (mf_F.ite (mf_F.ret hz10) (mf_F.lI fun v12 => (mf_F.ite (ih x1 x2 (((48 : Int32) * v1) + v2) (x5 + (4 : Int32)) z10 hz10) (mf_F.ret hz10))))))))))))))))
theorem fr_isWhole_b71 {z0 : mm_S} : ∀ (n : Nat) (x1 : Int32) (x2 : Int32) (x3 : Int32) (x4 : Int32) (z : mm_S), mf_R wr_isWhole z0 z → mf_F wr_isWhole z0 (mo_isWhole_b71 n x1 x2 x3 x4 z) := by
  intro n
  induction n with
  | zero => intro x1 x2 x3 x4 z hz; exact mf_F.none
  | succ n ih =>
    intro x1 x2 x3 x4 z hz
    rw [mo_isWhole_b71]
    exact (mf_F.ite (mf_F.lI fun v1 => (mf_F.ite (fr_isWhole_b121  g_fu x1 x2 (-1 : Int32) (1 : Int32) z hz) (mf_F.ret hz))) (mf_F.lI fun v2 => (ih x1 x2 ((((3 : Int32) * x3) + v2) - (((3 : Int32) * x3) + v2) / (241 : Int32) * (241 : Int32)) (x4 + (1 : Int32)) z hz)))
theorem fr_isWhole (x1 : Int32) (z : mm_S) : mf_F wr_isWhole z (mo_isWhole x1 z) := by
  have hz : mf_R wr_isWhole z z := mf_R.rfl
  unfold mo_isWhole
  exact (mf_F.ite (mf_F.ret hz) (mf_F.lI fun v1 => (mf_F.ite (mf_F.lI fun v2 => (mf_F.ite (mf_F.ret hz) (mf_F.lI fun v3 => (mf_F.ite (mf_F.ret hz) (mf_F.lI fun v4 => (mf_F.ite (fr_isWhole_b71  g_fu x1 ((1 : Int32) + ((4 : Int32) * v2)) (29 : Int32) (0 : Int32) z hz) (mf_F.ret hz))))))) (mf_F.ret hz))))
theorem fr_on_b154 {z0 : mm_S} : ∀ (n : Nat) (x1 : Int32) (x3 : Int32) (z : mm_S), mf_R wr_on z0 z → mf_F wr_on z0 (mo_on_b154 n x1 x3 z) := by
  intro n
  induction n with
  | zero => intro x1 x3 z hz; exact mf_F.none
  | succ n ih =>
    intro x1 x3 z hz
    rw [mo_on_b154]
    exact (mf_F.ite (mf_F.ret hz) (mf_F.lI fun v1 => (mf_F.lI fun v2 => (mf_F.lI fun v3 => (mf_F.call hz (fr_spots v1 v2 v3 z) (by decide) fun _ z4 hz4 => (ih x1 (x3 + (3 : Int32)) z4 hz4))))))
theorem fr_on_b141 {z0 : mm_S} {k96 : Int32 → Int32 → Int32 → mm_S → Option (Int32 × mm_S)} (hk96 : ∀ (y1 : Int32) (y2 : Int32) (y3 : Int32) (y4 : mm_S), mf_R wr_on z0 y4 → mf_F wr_on z0 (k96 y1 y2 y3 y4)) (x1 : Int32) (x2 : Int32) (x3 : Int32) (s1 : Int32) (s2 : Int32) (s3 : Int32) (s4 : Int32) (z : mm_S) (hz : mf_R wr_on z0 z) : mf_F wr_on z0 (mo_on_b141 k96 x1 x2 x3 s1 s2 s3 s4 z) := by
  unfold mo_on_b141
  exact (mf_F.call hz (fr_says_2 s1 s2 s3 s4 z) (by decide) fun _ z1 hz1 => (hk96 x1 x2 (x3 + (4 : Int32)) z1 hz1))
theorem fr_on_b96 {z0 : mm_S} : ∀ (n : Nat) (x1 : Int32) (x2 : Int32) (x3 : Int32) (z : mm_S), mf_R wr_on z0 z → mf_F wr_on z0 (mo_on_b96 n x1 x2 x3 z) := by
  intro n
  induction n with
  | zero => intro x1 x2 x3 z hz; exact mf_F.none
  | succ n ih =>
    intro x1 x2 x3 z hz
    rw [mo_on_b96]
    exact (mf_F.ite (fr_on_b154  g_fu x1 (x2 + (1 : Int32)) z hz) (mf_F.lI fun v1 => (mf_F.lI fun v2 => (mf_F.lI fun v3 => (mf_F.lI fun v4 => (mf_F.ite (fr_on_b141 ih x1 x2 x3 v1 v2 v3 (1 : Int32) z hz) (fr_on_b141 ih x1 x2 x3 v1 v2 v3 (0 : Int32) z hz)))))))
theorem fr_on_b34 {z0 : mm_S} : ∀ (n : Nat) (x1 : Int32) (x2 : Int32) (z : mm_S), mf_R wr_on z0 z → mf_F wr_on z0 (mo_on_b34 n x1 x2 z) := by
  intro n
  induction n with
  | zero => intro x1 x2 z hz; exact mf_F.none
  | succ n ih =>
    intro x1 x2 z hz
    rw [mo_on_b34]
    exact (mf_F.ite (mf_F.gI fun v1 => (mf_F.sI hz (by decide) fun z2 hz2 => (mf_F.gI fun v3 => (mf_F.sI hz2 (by decide) fun z4 hz4 => (mf_F.lI fun v5 => (fr_on_b96  g_fu x1 ((1 : Int32) + ((4 : Int32) * v5)) (1 : Int32) z4 hz4)))))) (mf_F.gI fun v6 => (mf_F.sI hz (by decide) fun z7 hz7 => (ih x1 (x2 + (1 : Int32)) z7 hz7))))
theorem fr_on (z : mm_S) : mf_F wr_on z (mo_on z) := by
  have hz : mf_R wr_on z z := mf_R.rfl
  unfold mo_on
  exact (mf_F.gI fun v1 => (mf_F.pI hz (by decide) fun z2 hz2 => (mf_F.call hz2 (fr_isWhole v1 z2) (by decide) fun v4 z3 hz3 => (mf_F.ite (mf_F.call hz3 (fr_refuses (4 : Int32) z3) (by decide) fun v6 z5 hz5 => (mf_F.ite (mf_F.ret hz5) (mf_F.ret hz5))) (fr_on_b34  g_fu v1 (0 : Int32) z3 hz3)))))
