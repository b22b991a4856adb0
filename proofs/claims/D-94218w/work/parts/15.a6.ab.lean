/-! THE SEA AND WHAT IS TOLD (plain): a value of which both sides are pictures -/
/-- a ship: name, look, speed, draft, load; a book: ship, cell, from, to; a saying: hour, cell, laden; a sighting: look, cell, hour -/
abbrev aSh : Type := List Nat × Nat × Nat × Nat × Nat
abbrev aBk : Type := Nat × Nat × Nat × Nat
abbrev aSy : Type := Nat × Nat × Bool
abbrev aSg : Type := Nat × Nat × Nat
/-- columns, rows; depths; costs; quiets (codes of tests); ships; books; luck -/
abbrev aSea : Type := (Nat × Nat) × (Nat → Nat) × (Nat → Nat) × List cds × List aSh × List aBk × Nat
abbrev aTold : Type := List (List aSy) × List aSg
def sC (S : aSea) : Nat := S.1.1
def sR (S : aSea) : Nat := S.1.2
def sD (S : aSea) : Nat → Nat := S.2.1
def sK (S : aSea) : Nat → Nat := S.2.2.1
def sQ (S : aSea) : List cds := S.2.2.2.1
def sS (S : aSea) : List aSh := S.2.2.2.2.1
def sB (S : aSea) : List aBk := S.2.2.2.2.2.1
def sL (S : aSea) : Nat := S.2.2.2.2.2.2
def sN (S : aSea) : Nat := sC S * sR S
def nS (S : aSea) : Nat := (sS S).length
def aShp (S : aSea) (k : Nat) : aSh := (sS S).getD k ([], 0, 0, 0, 0)
def aLk (S : aSea) (k : Nat) : Nat := (aShp S k).2.1
def aSp (S : aSea) (k : Nat) : Nat := (aShp S k).2.2.1
def aDr (S : aSea) (k : Nat) : Nat := (aShp S k).2.2.2.1
def aLd (S : aSea) (k : Nat) : Nat := (aShp S k).2.2.2.2
def aNm (S : aSea) (k : Nat) : List Nat := (aShp S k).1
def aBo (S : aSea) (i : Nat) : aBk := (sB S).getD i (0, 0, 0, 0)
def dSy (D : aTold) (k : Nat) : List aSy := D.1.getD k []
def dSg (D : aTold) (i : Nat) : aSg := D.2.getD i (0, 0, 0)
/-- how many sayings -/
def dTot (l : List (List aSy)) : Nat := (l.map List.length).sum
/-- what is said in an hour -/
def tl (L : List aSy) (h : Nat) : Option (Nat × Bool) := (L.find? (fun s => s.1 == h)).map (fun s => s.2)
/-- a row of sayings by hours -/
def tlW (N : Nat) (L : List aSy) : Prop := L.Pairwise (fun s t => s.1 < t.1) ∧ ∀ s ∈ L, s.1 < 48 ∧ s.2.1 < N
/-- the sea stands -/
def sW (S : aSea) : Prop := (sC S ≤ 16 ∧ sR S ≤ 16) ∧ ((sS S).length ≤ 8 ∧ ∀ q ∈ sS S, (q.1.length ≤ 6 ∧ 1 ≤ q.1.length ∧ ∀ c ∈ q.1, 97 ≤ c ∧ c ≤ 122) ∧ q.2.1 ≤ 3 ∧ (1 ≤ q.2.2.1 ∧ q.2.2.1 ≤ 4) ∧ (1 ≤ q.2.2.2.1 ∧ q.2.2.2.1 ≤ 40) ∧ q.2.2.2.2 ≤ 40) ∧ ((sB S).length ≤ 12 ∧ ∀ q ∈ sB S, q.1 < (sS S).length ∧ q.2.1 < sN S ∧ q.2.2.1 ≤ q.2.2.2 ∧ q.2.2.2 < 48) ∧ sL S ≤ 100 ∧ (∀ c, sD S c ≤ 99 ∧ sK S c ≤ 99) ∧ (sQ S).length ≤ 6
def tW (S : aSea) (D : aTold) : Prop := D.1.length = (sS S).length ∧ (∀ L ∈ D.1, tlW (sN S) L) ∧ dTot D.1 ≤ 96 ∧ D.2.length ≤ 40 ∧ ∀ q ∈ D.2, q.1 ≤ 3 ∧ q.2.1 < sN S ∧ q.2.2 < 48
/-! how far it is -/
def aNb (C R : Nat) (x : Nat) : List Nat := if x < C * R then ((if 1 ≤ x % C then [x - 1] else []) ++ (if x % C + 1 < C then [x + 1] else []) ++ (if 1 ≤ x / C then [x - C] else []) ++ (if x / C + 1 < R then [x + C] else [])) else []
def aWt (S : aSea) (d x : Nat) : Bool := decide (x < sN S ∧ d ≤ sD S x)
noncomputable def bf_ds (nb : Nat → List Nat) (ok : Nat → Bool) (a b : Nat) : Option Nat := Classical.epsilon (bf_D nb ok a b)
theorem bf_ds_of {nb : Nat → List Nat} {ok : Nat → Bool} {a b : Nat} {o : Option Nat} (h : bf_D nb ok a b o) : bf_ds nb ok a b = o := bf_D.uniq (fun _ _ => Iff.rfl) (Classical.epsilon_spec ⟨o, h⟩) h
noncomputable def aDs (S : aSea) (d a x : Nat) : Option Nat := bf_ds (aNb (sC S) (sR S)) (aWt S d) a x
noncomputable def aHr (S : aSea) (k a x : Nat) : Option Nat := (aDs S (aDr S k) a x).map (fun n => (n + aSp S k - 1) / aSp S k)
noncomputable def aLe (S : aSea) (k a x t : Nat) : Bool := match aHr S k a x with
  | none => false
  | some h => decide (h ≤ t)
/-- hours, a thousand without a way -/
noncomputable def aHt (S : aSea) (k a x : Nat) : Nat := (aHr S k a x).getD 1000
theorem aLe_ht {S : aSea} {k a x t : Nat} (ht : t < 1000) : aLe S k a x t = decide (aHt S k a x ≤ t) := by
  unfold aLe aHt
  cases aHr S k a x with
  | none => rw [eq_comm]; exact decide_eq_false (by show ¬ (1000 ≤ t); omega)
  | some h => rfl
/-! what holds of a ship -/
/-- its books: cell, from, to -/
def aBks (S : aSea) (k : Nat) : List (Nat × Nat × Nat) := (sB S).filterMap (fun q => if q.1 = k then some q.2 else none)
noncomputable def aFit (S : aSea) (k : Nat) (F : List (Nat × Nat × Nat)) : Bool := F.all (fun p => F.all (fun q => aLe S k p.1 q.1 (fc_bt p.2.1 p.2.2 q.2.1 q.2.2)))
def aSnd (S : aSea) (k c : Nat) (l : Bool) : Bool := decide (aDr S k + (if l = true then aLd S k else 0) ≤ sD S c)
noncomputable def aWb (S : aSea) (k c h : Nat) : Bool := (aBks S k).all (fun q => aLe S k c q.1 (fc_bt h h q.2.1 q.2.2))
noncomputable def aGood (S : aSea) (k : Nat) (s : aSy) : Bool := aSnd S k s.2.1 s.2.2 && aWb S k s.2.1 s.1
noncomputable def aGw (S : aSea) (k : Nat) (s t : aSy) : Bool := aLe S k s.2.1 t.2.1 (fc_by s.1 t.1)
noncomputable def aBf (S : aSea) (k : Nat) : Bool := aFit S k (aBks S k)
noncomputable def aTg (S : aSea) (k : Nat) (L : List aSy) : List (Bool × (Nat × Nat)) := L.map (fun s => (aGood S k s, (s.1, s.2.1)))
noncomputable def aMk (S : aSea) (k : Nat) (L : List aSy) : Nat := if aBf S k = true then kp_m (aLe S k) none (aTg S k L) else 0
noncomputable def aKp (S : aSea) (k : Nat) (L : List aSy) : List Bool := if aBf S k = true then kp_g (aLe S k) (kp_m (aLe S k) none (aTg S k L)) none (aTg S k L) else L.map (fun _ => false)
/-- what is kept -/
def kpS (L : List aSy) (bs : List Bool) : List aSy := ((L.zip bs).filter (fun x => x.2)).map (fun x => x.1)
def syF (s : aSy) : Nat × Nat × Nat := (s.2.1, s.1, s.1)
noncomputable def aFs (S : aSea) (k : Nat) (L : List aSy) : List (Nat × Nat × Nat) := aBks S k ++ (kpS L (aKp S k L)).map syF
def aWet (S : aSea) (k c : Nat) : Bool := decide (aDr S k ≤ sD S c)
noncomputable def aMay (S : aSea) (k : Nat) (L : List aSy) (c h : Nat) : Bool := aBf S k && (aWet S k c && (aFs S k L).all (fun q => aLe S k q.1 c (fc_bt h h q.2.1 q.2.2)))
/-! codes worked out -/
def evB (v : Int) : Int := if 1000000 < v then 1000000 else if v < -1000000 then -1000000 else v
def ev2 (op : Nat) (a b : Int) : Int :=
  if op = 10 then evB (a + b) else if op = 11 then evB (a - b) else if op = 12 then evB (a * b) else if op = 13 then (if b = 0 then 0 else Int.fdiv a b) else if op = 14 then (if b = 0 then 0 else Int.fmod a b)
  else if op = 15 then (if a < b then a else b) else if op = 16 then (if b < a then a else b) else if op = 17 then (if a < b then 1 else 0) else if op = 18 then (if b < a then 1 else 0) else if op = 19 then (if a = b then 1 else 0) else if op = 20 then a * b else (if 0 < a + b then 1 else 0)
/-- one code: m the moment -/
def ev1 (m : Nat → Nat) (st : List Int) (q : Nat × Nat) : List Int :=
  if q.1 ≤ 9 then ((if q.1 = 0 then (q.2 : Int) else if q.1 = 9 then 1 else (m q.1 : Int)) :: st)
  else if q.1 = 22 then (match st with
    | a :: r => (1 - a) :: r
    | [] => [])
  else (match st with
    | b :: a :: r => ev2 q.1 a b :: r
    | _ => [])
def evs (m : Nat → Nat) (st : List Int) (c : cds) : List Int := c.foldl (ev1 m) st
def ev (m : Nat → Nat) (c : cds) : Int := (evs m [] c).headD 0
/-- column, row, hour, depth -/
def aMo (C c h d : Nat) : Nat → Nat := fun i => if i = 1 then c % C else if i = 2 then c / C else if i = 3 then h else d
def aQt (S : aSea) (c h : Nat) : Bool := (sQ S).any (fun t => decide (ev (aMo (sC S) c h (sD S c)) t = 1))
noncomputable def aHon (S : aSea) (k : Nat) (L : List aSy) (h : Nat) : Bool := (List.range (sN S)).any (fun c => aMay S k L c h && aQt S c h)
/-! the laws of 'at most so many hours' -/
theorem cq_mod {C q m : Nat} (h : m < C) : (C * q + m) % C = m := by rw [Nat.mul_add_mod]; exact Nat.mod_eq_of_lt h
theorem cq_div {C q m : Nat} (h : m < C) : (C * q + m) / C = q := by
  rw [Nat.mul_add_div (by omega), Nat.div_eq_of_lt h, Nat.add_zero]
theorem cq_lt {C R q m : Nat} (h : m < C) (g : q < R) : C * q + m < C * R := by
  have : C * (q + 1) ≤ C * R := Nat.mul_le_mul_left C g
  rw [Nat.mul_add, Nat.mul_one] at this
  omega
/-- the ways out of a cell, by its column m and its row q -/
theorem aNb_at {C R q m y : Nat} (h : m < C) (g : q < R) : y ∈ aNb C R (C * q + m) ↔ (1 ≤ m ∧ y = C * q + m - 1) ∨ (m + 1 < C ∧ y = C * q + m + 1) ∨ (1 ≤ q ∧ y = C * q + m - C) ∨ (q + 1 < R ∧ y = C * q + m + C) := by
  unfold aNb
  rw [if_pos (cq_lt h g), cq_mod h, cq_div h]
  simp only [List.mem_append]
  constructor
  · rintro (((h1 | h1) | h1) | h1) <;> split at h1 <;> simp at h1 <;> simp_all
  · rintro (⟨h1, h2⟩ | ⟨h1, h2⟩ | ⟨h1, h2⟩ | ⟨h1, h2⟩) <;> subst h2 <;> simp [h1]
theorem cq_ex {C R x : Nat} (h : x < C * R) : ∃ q m, m < C ∧ q < R ∧ x = C * q + m := by
  have hC : 0 < C := by
    cases C with
    | zero => simp at h
    | succ C => omega
  refine ⟨x / C, x % C, Nat.mod_lt _ hC, Nat.div_lt_of_lt_mul h, (Nat.div_add_mod x C).symm⟩
theorem aNb_lt {C R x y : Nat} (h : y ∈ aNb C R x) : x < C * R := by
  unfold aNb at h
  split at h
  · assumption
  · simp at h
theorem aNb_sy {C R x y : Nat} (h : y ∈ aNb C R x) : x ∈ aNb C R y := by
  obtain ⟨q, m, hm, hq, rfl⟩ := cq_ex (aNb_lt h)
  rcases (aNb_at hm hq).mp h with ⟨h1, h2⟩ | ⟨h1, h2⟩ | ⟨h1, h2⟩ | ⟨h1, h2⟩
  · have e : y = C * q + (m - 1) := by omega
    rw [e, aNb_at (by omega) hq]
    exact Or.inr (Or.inl ⟨by omega, by omega⟩)
  · have e : y = C * q + (m + 1) := by omega
    rw [e, aNb_at (by omega) hq]
    exact Or.inl ⟨by omega, by omega⟩
  · obtain ⟨q, rfl⟩ : ∃ p, q = p + 1 := ⟨q - 1, by omega⟩
    have e : y = C * q + m := by rw [h2, Nat.mul_add, Nat.mul_one]; omega
    rw [e, aNb_at hm (by omega)]
    exact Or.inr (Or.inr (Or.inr ⟨hq, by rw [Nat.mul_add, Nat.mul_one]; omega⟩))
  · have e : y = C * (q + 1) + m := by rw [h2, Nat.mul_add, Nat.mul_one]; omega
    rw [e, aNb_at hm h1]
    exact Or.inr (Or.inr (Or.inl ⟨by omega, by rw [Nat.mul_add, Nat.mul_one]; omega⟩))
theorem bf_ex (nb : Nat → List Nat) (ok : Nat → Bool) (a b : Nat) : ∃ o, bf_D nb ok a b o := by
  by_cases h : ∃ n, bf_w nb ok a n b
  · obtain ⟨n, hn⟩ := h
    have key : ∀ n, bf_w nb ok a n b → ∃ d, bf_w nb ok a d b ∧ ∀ n, bf_w nb ok a n b → d ≤ n := by
      intro n
      induction n using Nat.strongRecOn with
      | _ n ih =>
        intro hn
        by_cases q : ∃ m, m < n ∧ bf_w nb ok a m b
        · obtain ⟨m, h1, h2⟩ := q
          exact ih m h1 h2
        · refine ⟨n, hn, fun m hm => ?_⟩
          by_cases w : m < n
          · exact absurd ⟨m, w, hm⟩ q
          · omega
    obtain ⟨d, hd⟩ := key n hn
    exact ⟨some d, hd⟩
  · exact ⟨none, fun n hn => h ⟨n, hn⟩⟩
theorem bf_ds_D {nb : Nat → List Nat} {ok : Nat → Bool} {a b : Nat} : bf_D nb ok a b (bf_ds nb ok a b) := Classical.epsilon_spec (bf_ex nb ok a b)
theorem cl_le {n v t : Nat} (hv : 1 ≤ v) : (n + v - 1) / v ≤ t ↔ n ≤ t * v := by
  rw [← Nat.lt_succ_iff, Nat.div_lt_iff_lt_mul (by omega), Nat.succ_mul]
  omega
theorem aLe_iff {S : aSea} {k a x t : Nat} (hv : 1 ≤ aSp S k) : aLe S k a x t = true ↔ ∃ n, n ≤ t * aSp S k ∧ bf_w (aNb (sC S) (sR S)) (aWt S (aDr S k)) a n x := by
  have hD := bf_ds_D (nb := aNb (sC S) (sR S)) (ok := aWt S (aDr S k)) (a := a) (b := x)
  unfold aLe aHr aDs
  cases h : bf_ds (aNb (sC S) (sR S)) (aWt S (aDr S k)) a x with
  | none =>
    rw [h] at hD
    constructor
    · intro q; simp at q
    · rintro ⟨n, -, q⟩; exact absurd q (hD n)
  | some d =>
    rw [h] at hD
    simp only [Option.map_some, decide_eq_true_eq, cl_le hv]
    constructor
    · intro q; exact ⟨d, q, hD.1⟩
    · rintro ⟨n, q, w⟩; exact Nat.le_trans (hD.2 n w) q
theorem aLe_L {S : aSea} {k : Nat} (hv : 1 ≤ aSp S k) : fc_L (aLe S k) := by
  refine ⟨fun a b t h => ?_, fun a b c s t h g => ?_, fun a b h => ?_, fun a b s t hst h => ?_, fun a b t h => ?_⟩
  · rw [aLe_iff hv] at h ⊢
    obtain ⟨n, h1, h2⟩ := h
    exact ⟨n, h1, h2.rev (fun _ _ q => aNb_sy q)⟩
  · rw [aLe_iff hv] at h g ⊢
    obtain ⟨n, h1, h2⟩ := h
    obtain ⟨m, g1, g2⟩ := g
    exact ⟨n + m, by rw [Nat.add_mul]; omega, h2.app g2⟩
  · rw [aLe_iff hv] at h
    obtain ⟨n, h1, h2⟩ := h
    have : n = 0 := by omega
    subst this
    exact h2.1
  · rw [aLe_iff hv] at h ⊢
    obtain ⟨n, h1, h2⟩ := h
    exact ⟨n, Nat.le_trans h1 (Nat.mul_le_mul_right _ hst), h2⟩
  · rw [aLe_iff hv] at h ⊢
    obtain ⟨n, h1, h2⟩ := h
    exact ⟨0, by omega, rfl, h2.wet0⟩
/-! rows of sayings -/
theorem fm_congr {α β : Type} {f g : α → Option β} : ∀ {l : List α}, (∀ x ∈ l, f x = g x) → l.filterMap f = l.filterMap g
  | [], _ => rfl
  | x :: l, h => by
    rw [List.filterMap_cons, List.filterMap_cons, h x (by simp), fm_congr (fun y hy => h y (by simp [hy]))]
theorem tl_nil {h : Nat} : tl [] h = none := rfl
theorem tl_cons {s : aSy} {L : List aSy} {h : Nat} : tl (s :: L) h = if s.1 = h then some s.2 else tl L h := by
  unfold tl
  rw [List.find?_cons]
  by_cases q : s.1 = h
  · rw [if_pos q]; simp [q]
  · rw [if_neg q]
    have : (s.1 == h) = false := by simpa using q
    rw [this]
theorem tl_none {L : List aSy} {h : Nat} (q : ∀ s ∈ L, s.1 ≠ h) : tl L h = none := by
  induction L with
  | nil => rfl
  | cons s r ih => rw [tl_cons, if_neg (q s (by simp))]; exact ih (fun t ht => q t (by simp [ht]))
/-- the row out of the hours from i on -/
theorem tl_range {L : List aSy} : ∀ (n i : Nat), L.Pairwise (fun s t => s.1 < t.1) → (∀ s ∈ L, i ≤ s.1 ∧ s.1 < i + n) → (List.range' i n).filterMap (fun h => (tl L h).map (fun x => (h, x))) = L := by
  intro n
  induction n generalizing L with
  | zero =>
    intro i _ h2
    cases L with
    | nil => rfl
    | cons s r => have := h2 s (by simp); omega
  | succ n ih =>
    intro i h1 h2
    rw [List.range'_succ, List.filterMap_cons]
    cases L with
    | nil =>
      simp only [tl_nil, Option.map_none]
      have := ih (L := []) (i + 1) List.Pairwise.nil (by simp)
      simpa [tl_nil] using this
    | cons s r =>
      have hs := h2 s (by simp)
      obtain ⟨p1, p2⟩ := List.pairwise_cons.mp h1
      by_cases q : s.1 = i
      · rw [tl_cons, if_pos q]
        simp only [Option.map_some]
        have e : (List.range' (i + 1) n).filterMap (fun h => (tl (s :: r) h).map (fun x => (h, x))) = (List.range' (i + 1) n).filterMap (fun h => (tl r h).map (fun x => (h, x))) := by
          apply fm_congr
          intro h hh
          have := List.mem_range'_1.mp hh
          rw [tl_cons, if_neg (by omega)]
        rw [e, ih (i + 1) p2 (fun t ht => ⟨by have := p1 t ht; omega, by have := h2 t (by simp [ht]); omega⟩)]
        rw [← q]
      · rw [tl_none (L := s :: r) (h := i) (by
          intro t ht
          rcases List.mem_cons.mp ht with rfl | ht
          · exact q
          · have := p1 t ht
            omega)]
        simp only [Option.map_none]
        exact ih (i + 1) h1 (fun t ht => ⟨by
          rcases List.mem_cons.mp ht with rfl | ht
          · omega
          · have := p1 t ht
            omega, by have := h2 t ht; omega⟩)
theorem tl_all {N : Nat} {L : List aSy} (w : tlW N L) : (List.range' 0 48).filterMap (fun h => (tl L h).map (fun x => (h, x))) = L := tl_range 48 0 w.1 (fun s hs => ⟨Nat.zero_le _, by have := (w.2 s hs).1; omega⟩)
theorem tl_mem {L : List aSy} (h : L.Pairwise (fun s t => s.1 < t.1)) {s : aSy} (hs : s ∈ L) : tl L s.1 = some s.2 := by
  induction L with
  | nil => simp at hs
  | cons t r ih =>
    rw [tl_cons]
    obtain ⟨p1, p2⟩ := List.pairwise_cons.mp h
    rcases List.mem_cons.mp hs with rfl | hs
    · rw [if_pos rfl]
    · rw [if_neg (by have := p1 s hs; omega)]
      exact ih p2 hs
theorem tl_some {L : List aSy} {h : Nat} {x : Nat × Bool} (q : tl L h = some x) : (h, x) ∈ L := by
  induction L with
  | nil => simp [tl_nil] at q
  | cons t r ih =>
    rw [tl_cons] at q
    split at q
    · next e => cases q; subst e; simp
    · exact List.mem_cons_of_mem _ (ih q)
theorem tl_len {N : Nat} {L : List aSy} (w : tlW N L) : L.length ≤ 48 := by
  have := congrArg List.length (tl_all w)
  have h2 := List.length_filterMap_le (fun h => (tl L h).map (fun x => (h, x))) (List.range' 0 48)
  rw [this] at h2
  simpa using h2
