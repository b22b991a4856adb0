/-! A TEXT IS READ (plain): signs of a text by places, a reader by descent; codes as the reference writes them -/
/-- a letter, a digit, a blank -/
def lx_L (c : Nat) : Bool := decide (97 ≤ c ∧ c ≤ 122)
def lx_G (c : Nat) : Bool := decide (48 ≤ c ∧ c ≤ 57)
def lx_B (c : Nat) : Bool := decide (c = 32 ∨ c = 10)
/-- the first place from p on, ahead of n, at which f doesn't hold; or n -/
def lx_to (T : Nat → Nat) (f : Nat → Bool) : Nat → Nat → Nat
  | 0, p => p
  | k + 1, p => if f (T p) = true then lx_to T f k (p + 1) else p
/-- signs p .. p + k - 1 as a number at base b, from d's nought on -/
def lx_v (T : Nat → Nat) (b d : Nat) : Nat → Nat → Nat → Nat
  | 0, _, a => a
  | k + 1, p, a => lx_v T b d k (p + 1) (b * a + (T p - d))
/-- a sign of the text: its kind (0 end, 1 word, 2 number, 3 sign, 4 none: a fault), its place, its end (the fault's place), its value -/
abbrev lx_t : Type := Nat × Nat × Nat × Nat
/-- what stands behind place p -/
def lx (T : Nat → Nat) (n p : Nat) : lx_t :=
  let q := lx_to T lx_B (n - p) p
  if n ≤ q then (0, q, q, 0)
  else if lx_L (T q) = false ∧ lx_G (T q) = false then (3, q, q + 1, T q)
  else if 0 < q ∧ (lx_L (T (q - 1)) = true ∨ lx_G (T (q - 1)) = true) then (4, q, q, 0)
  else if lx_L (T q) = true then (let e := lx_to T lx_L (n - q) q; if 6 < e - q then (4, q, q + 6, 0) else (1, q, e, lx_v T 256 0 (e - q) q 0))
  else (let e := lx_to T lx_G (n - q) q; if 4 < e - q then (4, q, q + 4, 0) else (2, q, e, lx_v T 10 48 (e - q) q 0))
/-- what a part of a reader comes to: a thing and the place behind it; or a fault: its kind, its place -/
abbrev px (α : Type) : Type := (α × Nat) ⊕ (Nat × Nat)
section RD
variable {α β : Type}
def px_b (x : px α) (f : α → Nat → px β) : px β := match x with
  | .inl q => f q.1 q.2
  | .inr e => .inr e
def px_see (tk : Nat → lx_t) (p : Nat) (f : lx_t → px α) : px α := if (tk p).1 = 4 then .inr (1, (tk p).2.2.1) else f (tk p)
def rd_sign (tk : Nat → lx_t) (c p : Nat) (k : Nat → px α) : px α := px_see tk p fun t => if t.1 = 3 ∧ t.2.2.2 = c then k t.2.2.1 else .inr (1, t.2.1)
def rd_must (tk : Nat → lx_t) (w p : Nat) (k : Nat → px α) : px α := px_see tk p fun t => if t.1 = 1 ∧ t.2.2.2 = w then k t.2.2.1 else .inr (1, t.2.1)
def rd_num (tk : Nat → lx_t) (lo hi p : Nat) (k : Nat → Nat → px α) : px α := px_see tk p fun t => if t.1 = 2 then (if lo ≤ t.2.2.2 ∧ t.2.2.2 ≤ hi then k t.2.2.2 t.2.2.1 else .inr (4, t.2.1)) else .inr (1, t.2.1)
def rd_open {σ : Type} (tk : Nat → lx_t) (S : Option σ) (c p : Nat) (k : σ → Nat → px α) : px α := px_see tk p fun t => if t.1 = 3 ∧ t.2.2.2 = c then (match S with
    | none => .inr (5, t.2.1)
    | some s => k s t.2.2.1) else .inr (1, t.2.1)
end RD
/-- codes: sort and value -/
abbrev cds : Type := List (Nat × Nat)
/-- many of a kind, left to right: op tells which sign goes on -/
def rd_more (tk : Nat → lx_t) (op : lx_t → Option Nat) (nx : Nat → px cds) : Nat → cds → Nat → px cds
  | 0, _, _ => .inr (0, 0)
  | n + 1, c, p => px_see tk p fun t => match op t with
    | none => .inl (c, p)
    | some o => px_b (nx t.2.2.1) fun c2 p2 => rd_more tk op nx n (c ++ c2 ++ [(o, 0)]) p2
def rd_opP (t : lx_t) : Option Nat := if t.1 = 3 then (if t.2.2.2 = 42 then some 12 else if t.2.2.2 = 47 then some 13 else if t.2.2.2 = 37 then some 14 else none) else none
def rd_opS (t : lx_t) : Option Nat := if t.1 = 3 then (if t.2.2.2 = 43 then some 10 else if t.2.2.2 = 45 then some 11 else none) else none
def rd_opC (t : lx_t) : Option Nat := if t.1 = 3 then (if t.2.2.2 = 60 then some 17 else if t.2.2.2 = 62 then some 18 else if t.2.2.2 = 61 then some 19 else none) else none
def rd_opA (t : lx_t) : Option Nat := if t.1 = 1 ∧ t.2.2.2 = 6385252 then some 20 else none
def rd_opO (t : lx_t) : Option Nat := if t.1 = 1 ∧ t.2.2.2 = 28530 then some 21 else none
def rd_fu : Nat := 2000
def rd_word (tk : Nat → lx_t) (S : Option (Nat → px cds)) (t : lx_t) : px cds :=
  if t.2.2.2 = 109330212154734 then .inl ([(1, 0)], t.2.2.1)
  else if t.2.2.2 = 7499639 then .inl ([(2, 0)], t.2.2.1)
  else if t.2.2.2 = 1752135026 then .inl ([(3, 0)], t.2.2.1)
  else if t.2.2.2 = 431198598248 then .inl ([(4, 0)], t.2.2.1)
  else if t.2.2.2 = 7170414 ∨ t.2.2.2 = 7168376 then rd_open tk S 40 t.2.2.1 fun s p1 => px_b (s p1) fun a p2 => rd_sign tk 44 p2 fun p3 => px_b (s p3) fun b p4 => rd_sign tk 41 p4 fun p5 => .inl (a ++ b ++ [(if t.2.2.2 = 7170414 then 15 else 16, 0)], p5)
  else .inr (1, t.2.1)
def rd_part (tk : Nat → lx_t) (S : Option (Nat → px cds)) (p : Nat) : px cds := px_see tk p fun t =>
  if t.1 = 2 then .inl ([(0, t.2.2.2)], t.2.2.1)
  else if t.1 = 1 then rd_word tk S t
  else rd_open tk S 40 p fun s p1 => px_b (s p1) fun c p2 => rd_sign tk 41 p2 fun p3 => .inl (c, p3)
def rd_prod (tk : Nat → lx_t) (S : Option (Nat → px cds)) (p : Nat) : px cds := px_b (rd_part tk S p) fun c p1 => rd_more tk rd_opP (rd_part tk S) rd_fu c p1
def rd_sum0 (tk : Nat → lx_t) (S : Option (Nat → px cds)) (p : Nat) : px cds := px_b (rd_prod tk S p) fun c p1 => rd_more tk rd_opS (rd_prod tk S) rd_fu c p1
def rd_sum (tk : Nat → lx_t) : Nat → Nat → px cds
  | 0 => rd_sum0 tk none
  | m + 1 => rd_sum0 tk (some (rd_sum tk m))
def rd_agst (tk : Nat → lx_t) (S : Nat → px cds) (p : Nat) : px cds := px_b (S p) fun a p1 => px_see tk p1 fun t => match rd_opC t with
  | none => .inr (1, t.2.1)
  | some o => px_b (S t.2.2.1) fun b p2 => .inl (a ++ b ++ [(o, 0)], p2)
def rd_fact (tk : Nat → lx_t) (S : Nat → px cds) (T : Option (Nat → px cds)) : Nat → Nat → px cds
  | 0, _ => .inr (0, 0)
  | n + 1, p => px_see tk p fun t =>
    if t.1 = 1 ∧ t.2.2.2 = 7237492 then px_b (rd_fact tk S T n t.2.2.1) fun c p1 => .inl (c ++ [(22, 0)], p1)
    else if t.1 = 3 ∧ t.2.2.2 = 91 then rd_open tk T 91 p fun s p1 => px_b (s p1) fun c p2 => rd_sign tk 93 p2 fun p3 => .inl (c, p3)
    else if t.1 = 1 ∧ t.2.2.2 = 6384748 then .inl ([(9, 0)], t.2.2.1)
    else rd_agst tk S p
def rd_both (tk : Nat → lx_t) (S : Nat → px cds) (T : Option (Nat → px cds)) (p : Nat) : px cds := px_b (rd_fact tk S T rd_fu p) fun c p1 => rd_more tk rd_opA (rd_fact tk S T rd_fu) rd_fu c p1
def rd_test0 (tk : Nat → lx_t) (S : Nat → px cds) (T : Option (Nat → px cds)) (p : Nat) : px cds := px_b (rd_both tk S T p) fun c p1 => rd_more tk rd_opO (rd_both tk S T) rd_fu c p1
def rd_test (tk : Nat → lx_t) : Nat → Nat → px cds
  | 0 => rd_test0 tk (rd_sum tk 0) none
  | m + 1 => rd_test0 tk (rd_sum tk (m + 1)) (some (rd_test tk m))
