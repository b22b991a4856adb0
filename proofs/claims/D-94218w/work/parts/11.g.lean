set_option maxRecDepth 100000
/-! A WALK OVER ANY MEMORY: z is the memory's pure picture, fin the answer and the memory at the end -/
abbrev gX : Type := Program × Launch × Env × Room × State × MethodId × Array Value × List Frame × Method × Code
/-- a memory: what it says of the heap; cells and slots made so far; an order; what may be written -/
abbrev gG (ζ : Type) : Type := (ζ → Heap → Prop) × (ζ → Nat) × (ζ → Nat) × (ζ → ζ → Prop) × (Nat → Prop)
def gQ {ζ : Type} (G : gG ζ) (fin : Outcome × ζ) : Array Value → State → Outcome → State → Prop := fun _ st oc t => oc = fin.1 ∧ G.1 fin.2 t.heap ∧ va_F G.2.2.2.2 st t
/-- a method's end, by a return or a throw -/
def gFE (s : State) (o : Outcome) (t : State) (L : List Loc) (k n : Nat) : Prop := (match o with
  | .returned _ => True
  | .threw q => ∃ ce : Cell, t.heap[q]? = some ce ∧ ce.vm = .none) ∧ s.WarmedH t.vm ∧ s.sameButNew ({ t with vm := s.vm } : State) L k n
def gMQ (below : List Frame) (Qc : Array Value → State → Outcome → State → Prop) (a : Array Value) (s : State) (mc ms : Nat) (free : Addr → Prop) : State → Prop := fun t =>
  ∃ o, t.status = .running ∧ Ended t below o ∧ Qc a s o t ∧ ∃ L, gFE s o t L mc ms ∧ ∀ q ∈ L, free q.base
theorem gMQ.of {below : List Frame} {Qc : Array Value → State → Outcome → State → Prop} {a : Array Value} {s : State} {mc ms : Nat} {free : Addr → Prop} {t : State} (h : MQ below Qc a s mc ms free t) : gMQ below Qc a s mc ms free t := by
  obtain ⟨o, h1, h2, h3, L, ⟨⟨v, rfl⟩, h4, h5⟩, h6⟩ := h
  exact ⟨_, h1, h2, h3, L, ⟨trivial, h4, h5⟩, h6⟩
theorem W.to {p : Program} {l : Launch} {e : Env} {R : Room} {s : State} {m : MethodId} {args : Array Value} {below : List Frame} {meth : Method} {c : Code} {H : Heap} {locs : List Loc} {cells slots : Nat} {Q Q' : State → Prop} {g : JFrame} (h : ∀ t, Q t → Q' t) (k : W p l e R s m args below meth c H locs cells slots Q g) : W p l e R s m args below meth c H locs cells slots Q' g := by
  intro T hT X
  obtain ⟨t, a, b⟩ := k T hT X
  exact ⟨t, a, h t b⟩
def gW {ζ : Type} (X : gX) (G : gG ζ) (fin : Outcome × ζ) (z : ζ) (pc : Nat) (lv : List (Nat × Value)) (st : List Value) : Prop := match X with
  | (p, l, e, R, s, m, args, below, meth, c) => G.2.2.2.1 z fin.2 ∧ (R.cells = G.2.1 fin.2 → R.slots = G.2.2.1 fin.2 → ∀ (H : Heap) (locs : List Loc) (ls : Array Slot), G.1 z H → va_S G.2.2.2.2 s.heap H locs → lv_has ls c.maxLocals lv → W p l e R s m args below meth c H locs (G.2.1 z) (G.2.2.1 z) (gMQ below (gQ G fin) args s (G.2.1 fin.2) (G.2.2.1 fin.2) G.2.2.2.2) (F0 m pc ls st))
def gC (X : gX) (cc : ByteArray) (nL : Nat) (ret : Option FieldType) (own : String) (fr lo : Nat) : Prop := match X with
  | (p, l, e, R, s, m, args, below, meth, c) => p.tables.exec = Jvm.exec ∧ c.code = cc ∧ c.maxLocals = nL ∧ s.vm.findClass own = some m.cls ∧ (∀ w ∈ lw_all, w.before args s = true) ∧ meth.locks = false ∧ meth.sig.returnType = ret ∧ R.frames = fr ∧ R.locals = lo ∧ l.stackTraces = false
section GR
variable {ζ : Type} {X : gX} {G : gG ζ} {fin : Outcome × ζ} {z : ζ} {cc : ByteArray} {nL fr lo pc : Nat} {ret : Option FieldType} {own : String} {lv : List (Nat × Value)} {st : List Value}
theorem g_iconst (C : gC X cc nL ret own fr lo) {n : Int} {v : Int32} (hd : decode cc pc = .ok (.iconst n, 1)) (hv : Int32.ofInt n = v) (k : gW X G fin z (pc + 1) lv (.int v :: st)) : gW X G fin z pc lv (st) := by
  obtain ⟨p, l, e, R, s, m, args, below, meth, c⟩ := X
  exact ⟨k.1, fun hc hs H locs ls hI hS hl => lv_iconst C.1 C.2.1 hd hv (k.2 hc hs H locs ls hI hS hl)⟩
theorem g_bipush (C : gC X cc nL ret own fr lo) {n : Int} {v : Int32} (hd : decode cc pc = .ok (.bipush n, 2)) (hv : (Int8.ofInt n).toInt32 = v) (k : gW X G fin z (pc + 2) lv (.int v :: st)) : gW X G fin z pc lv (st) := by
  obtain ⟨p, l, e, R, s, m, args, below, meth, c⟩ := X
  exact ⟨k.1, fun hc hs H locs ls hI hS hl => lv_bipush C.1 C.2.1 hd hv (k.2 hc hs H locs ls hI hS hl)⟩
theorem g_sipush (C : gC X cc nL ret own fr lo) {n : Int} {v : Int32} (hd : decode cc pc = .ok (.sipush n, 3)) (hv : (Int16.ofInt n).toInt32 = v) (k : gW X G fin z (pc + 3) lv (.int v :: st)) : gW X G fin z pc lv (st) := by
  obtain ⟨p, l, e, R, s, m, args, below, meth, c⟩ := X
  exact ⟨k.1, fun hc hs H locs ls hI hS hl => lv_sipush C.1 C.2.1 hd hv (k.2 hc hs H locs ls hI hS hl)⟩
theorem g_lconst (C : gC X cc nL ret own fr lo) {n : Fin 2} {v : Int64} (hd : decode cc pc = .ok (.lconst n, 1)) (hv : Int64.ofNat (n : Nat) = v) (k : gW X G fin z (pc + 1) lv (.long v :: st)) : gW X G fin z pc lv (st) := by
  obtain ⟨p, l, e, R, s, m, args, below, meth, c⟩ := X
  exact ⟨k.1, fun hc hs H locs ls hI hS hl => lv_lconst C.1 C.2.1 hd hv (k.2 hc hs H locs ls hI hS hl)⟩
theorem g_ldc (C : gC X cc nL ret own fr lo) {index : Nat} {v : Int32} (hd : decode cc pc = .ok (.ldc index, 2)) (hq : Jvm.Cond.constant own index v ∈ lw_all) (k : gW X G fin z (pc + 2) lv (.int v :: st)) : gW X G fin z pc lv (st) := by
  obtain ⟨p, l, e, R, s, m, args, below, meth, c⟩ := X
  exact ⟨k.1, fun hc hs H locs ls hI hS hl => lv_ldc C.1 C.2.1 C.2.2.2.1 (C.2.2.2.2.1 _ hq) hd (k.2 hc hs H locs ls hI hS hl)⟩
theorem g_ldcw (C : gC X cc nL ret own fr lo) {index : Nat} {v : Int32} (hd : decode cc pc = .ok (.ldc_w index, 3)) (hq : Jvm.Cond.constant own index v ∈ lw_all) (k : gW X G fin z (pc + 3) lv (.int v :: st)) : gW X G fin z pc lv (st) := by
  obtain ⟨p, l, e, R, s, m, args, below, meth, c⟩ := X
  exact ⟨k.1, fun hc hs H locs ls hI hS hl => lv_ldcw C.1 C.2.1 C.2.2.2.1 (C.2.2.2.2.1 _ hq) hd (k.2 hc hs H locs ls hI hS hl)⟩
theorem g_ldc2 (C : gC X cc nL ret own fr lo) {index : Nat} {v : Int64} (hd : decode cc pc = .ok (.ldc2_w index, 3)) (hq : Jvm.Cond.constantLong own index v ∈ lw_all) (k : gW X G fin z (pc + 3) lv (.long v :: st)) : gW X G fin z pc lv (st) := by
  obtain ⟨p, l, e, R, s, m, args, below, meth, c⟩ := X
  exact ⟨k.1, fun hc hs H locs ls hI hS hl => lv_ldc2 C.1 C.2.1 C.2.2.2.1 (C.2.2.2.2.1 _ hq) hd (k.2 hc hs H locs ls hI hS hl)⟩
theorem g_iload_n (C : gC X cc nL ret own fr lo) {k0 : Fin 4} {i : Nat} {x : Int32} (hd : decode cc pc = .ok (.iload_n k0, 1)) (hi : (k0 : Nat) = i) (j : Nat) (hj : lv[j]? = some (i, .int x)) (k : gW X G fin z (pc + 1) lv (.int x :: st)) : gW X G fin z pc lv (st) := by
  obtain ⟨p, l, e, R, s, m, args, below, meth, c⟩ := X
  exact ⟨k.1, fun hc hs H locs ls hI hS hl => lv_iload_n C.1 C.2.1 hd hi (lv_at hl j hj) (k.2 hc hs H locs ls hI hS hl)⟩
theorem g_iload (C : gC X cc nL ret own fr lo) {i : Nat} {x : Int32} (hd : decode cc pc = .ok (.iload i, 2)) (j : Nat) (hj : lv[j]? = some (i, .int x)) (k : gW X G fin z (pc + 2) lv (.int x :: st)) : gW X G fin z pc lv (st) := by
  obtain ⟨p, l, e, R, s, m, args, below, meth, c⟩ := X
  exact ⟨k.1, fun hc hs H locs ls hI hS hl => lv_iload C.1 C.2.1 hd (lv_at hl j hj) (k.2 hc hs H locs ls hI hS hl)⟩
theorem g_lload_n (C : gC X cc nL ret own fr lo) {k0 : Fin 4} {i : Nat} {x : Int64} (hd : decode cc pc = .ok (.lload_n k0, 1)) (hi : (k0 : Nat) = i) (j : Nat) (hj : lv[j]? = some (i, .long x)) (k : gW X G fin z (pc + 1) lv (.long x :: st)) : gW X G fin z pc lv (st) := by
  obtain ⟨p, l, e, R, s, m, args, below, meth, c⟩ := X
  exact ⟨k.1, fun hc hs H locs ls hI hS hl => lv_lload_n C.1 C.2.1 hd hi (lv_at hl j hj) (k.2 hc hs H locs ls hI hS hl)⟩
theorem g_lload (C : gC X cc nL ret own fr lo) {i : Nat} {x : Int64} (hd : decode cc pc = .ok (.lload i, 2)) (j : Nat) (hj : lv[j]? = some (i, .long x)) (k : gW X G fin z (pc + 2) lv (.long x :: st)) : gW X G fin z pc lv (st) := by
  obtain ⟨p, l, e, R, s, m, args, below, meth, c⟩ := X
  exact ⟨k.1, fun hc hs H locs ls hI hS hl => lv_lload C.1 C.2.1 hd (lv_at hl j hj) (k.2 hc hs H locs ls hI hS hl)⟩
theorem g_aload_n (C : gC X cc nL ret own fr lo) {k0 : Fin 4} {i : Nat} {x : Nat} (hd : decode cc pc = .ok (.aload_n k0, 1)) (hi : (k0 : Nat) = i) (j : Nat) (hj : lv[j]? = some (i, .ref x)) (k : gW X G fin z (pc + 1) lv (.ref x :: st)) : gW X G fin z pc lv (st) := by
  obtain ⟨p, l, e, R, s, m, args, below, meth, c⟩ := X
  exact ⟨k.1, fun hc hs H locs ls hI hS hl => lv_aload_n C.1 C.2.1 hd hi (lv_at hl j hj) (k.2 hc hs H locs ls hI hS hl)⟩
theorem g_aload (C : gC X cc nL ret own fr lo) {i : Nat} {x : Nat} (hd : decode cc pc = .ok (.aload i, 2)) (j : Nat) (hj : lv[j]? = some (i, .ref x)) (k : gW X G fin z (pc + 2) lv (.ref x :: st)) : gW X G fin z pc lv (st) := by
  obtain ⟨p, l, e, R, s, m, args, below, meth, c⟩ := X
  exact ⟨k.1, fun hc hs H locs ls hI hS hl => lv_aload C.1 C.2.1 hd (lv_at hl j hj) (k.2 hc hs H locs ls hI hS hl)⟩
theorem g_istore_n (lv' : List (Nat × Value)) (C : gC X cc nL ret own fr lo) {k0 : Fin 4} {i : Nat} {x : Int32} (hd : decode cc pc = .ok (.istore_n k0, 1)) (hi : (k0 : Nat) = i) (hn : i < nL) (hl : (i, Value.int x) :: lv.filter (fun q => !(q.1 == i) && !(q.1 + 1 == i && q.2.category == 2)) = lv') (k : gW X G fin z (pc + 1) lv' st) : gW X G fin z pc lv (.int x :: st) := by
  obtain ⟨p, l, e, R, s, m, args, below, meth, c⟩ := X
  exact ⟨k.1, fun hc hs H locs ls hI hS h => lv_istore_n C.1 C.2.1 hd hi h (by rw [C.2.2.1]; exact hn) hl (fun ls h => k.2 hc hs H locs ls hI hS h)⟩
theorem g_istore (lv' : List (Nat × Value)) (C : gC X cc nL ret own fr lo) {i : Nat} {x : Int32} (hd : decode cc pc = .ok (.istore i, 2)) (hn : i < nL) (hl : (i, Value.int x) :: lv.filter (fun q => !(q.1 == i) && !(q.1 + 1 == i && q.2.category == 2)) = lv') (k : gW X G fin z (pc + 2) lv' st) : gW X G fin z pc lv (.int x :: st) := by
  obtain ⟨p, l, e, R, s, m, args, below, meth, c⟩ := X
  exact ⟨k.1, fun hc hs H locs ls hI hS h => lv_istore C.1 C.2.1 hd h (by rw [C.2.2.1]; exact hn) hl (fun ls h => k.2 hc hs H locs ls hI hS h)⟩
theorem g_lstore_n (lv' : List (Nat × Value)) (C : gC X cc nL ret own fr lo) {k0 : Fin 4} {i : Nat} {x : Int64} (hd : decode cc pc = .ok (.lstore_n k0, 1)) (hi : (k0 : Nat) = i) (hn : i + 1 < nL) (hl : (i, Value.long x) :: lv.filter (fun q => !(q.1 == i) && (!(q.1 == i + 1) && !(q.1 + 1 == i && q.2.category == 2))) = lv') (k : gW X G fin z (pc + 1) lv' st) : gW X G fin z pc lv (.long x :: st) := by
  obtain ⟨p, l, e, R, s, m, args, below, meth, c⟩ := X
  exact ⟨k.1, fun hc hs H locs ls hI hS h => lv_lstore_n C.1 C.2.1 hd hi h (by rw [C.2.2.1]; exact hn) hl (fun ls h => k.2 hc hs H locs ls hI hS h)⟩
theorem g_lstore (lv' : List (Nat × Value)) (C : gC X cc nL ret own fr lo) {i : Nat} {x : Int64} (hd : decode cc pc = .ok (.lstore i, 2)) (hn : i + 1 < nL) (hl : (i, Value.long x) :: lv.filter (fun q => !(q.1 == i) && (!(q.1 == i + 1) && !(q.1 + 1 == i && q.2.category == 2))) = lv') (k : gW X G fin z (pc + 2) lv' st) : gW X G fin z pc lv (.long x :: st) := by
  obtain ⟨p, l, e, R, s, m, args, below, meth, c⟩ := X
  exact ⟨k.1, fun hc hs H locs ls hI hS h => lv_lstore C.1 C.2.1 hd h (by rw [C.2.2.1]; exact hn) hl (fun ls h => k.2 hc hs H locs ls hI hS h)⟩
theorem g_astore_n (lv' : List (Nat × Value)) (C : gC X cc nL ret own fr lo) {k0 : Fin 4} {i : Nat} {x : Nat} (hd : decode cc pc = .ok (.astore_n k0, 1)) (hi : (k0 : Nat) = i) (hn : i < nL) (hl : (i, Value.ref x) :: lv.filter (fun q => !(q.1 == i) && !(q.1 + 1 == i && q.2.category == 2)) = lv') (k : gW X G fin z (pc + 1) lv' st) : gW X G fin z pc lv (.ref x :: st) := by
  obtain ⟨p, l, e, R, s, m, args, below, meth, c⟩ := X
  exact ⟨k.1, fun hc hs H locs ls hI hS h => lv_astore_n C.1 C.2.1 hd hi h (by rw [C.2.2.1]; exact hn) hl (fun ls h => k.2 hc hs H locs ls hI hS h)⟩
theorem g_astore (lv' : List (Nat × Value)) (C : gC X cc nL ret own fr lo) {i : Nat} {x : Nat} (hd : decode cc pc = .ok (.astore i, 2)) (hn : i < nL) (hl : (i, Value.ref x) :: lv.filter (fun q => !(q.1 == i) && !(q.1 + 1 == i && q.2.category == 2)) = lv') (k : gW X G fin z (pc + 2) lv' st) : gW X G fin z pc lv (.ref x :: st) := by
  obtain ⟨p, l, e, R, s, m, args, below, meth, c⟩ := X
  exact ⟨k.1, fun hc hs H locs ls hI hS h => lv_astore C.1 C.2.1 hd h (by rw [C.2.2.1]; exact hn) hl (fun ls h => k.2 hc hs H locs ls hI hS h)⟩
theorem g_iinc (lv' : List (Nat × Value)) (C : gC X cc nL ret own fr lo) {i j : Nat} {n : Int} {x v : Int32} (hd : decode cc pc = .ok (.iinc i n, 3)) (hk : lv[j]? = some (i, .int x)) (hv : x + Int32.ofInt n = v) (hn : i < nL) (hl : (i, Value.int v) :: lv.filter (fun q => !(q.1 == i) && !(q.1 + 1 == i && q.2.category == 2)) = lv') (k : gW X G fin z (pc + 3) lv' st) : gW X G fin z pc lv st := by
  obtain ⟨p, l, e, R, s, m, args, below, meth, c⟩ := X
  exact ⟨k.1, fun hc hs H locs ls hI hS h => lv_iinc C.1 C.2.1 hd h hk hv (by rw [C.2.2.1]; exact hn) hl (fun ls h => k.2 hc hs H locs ls hI hS h)⟩
theorem g_sub (lv' : List (Nat × Value)) (ks : List Nat) (hl : lv_pick lv ks = lv') (k : gW X G fin z pc lv' st) : gW X G fin z pc lv st := by
  obtain ⟨p, l, e, R, s, m, args, below, meth, c⟩ := X
  exact ⟨k.1, fun hc hs H locs ls hI hS h => k.2 hc hs H locs ls hI hS (lv_sub h ks hl)⟩
theorem g_iadd (C : gC X cc nL ret own fr lo) {x y : Int32} (hd : decode cc pc = .ok (.iadd, 1)) (k : gW X G fin z (pc + 1) lv (.int (x + y) :: st)) : gW X G fin z pc lv (.int y :: .int x :: st) := by
  obtain ⟨p, l, e, R, s, m, args, below, meth, c⟩ := X
  exact ⟨k.1, fun hc hs H locs ls hI hS hl => lv_iadd C.1 C.2.1 hd (k.2 hc hs H locs ls hI hS hl)⟩
theorem g_isub (C : gC X cc nL ret own fr lo) {x y : Int32} (hd : decode cc pc = .ok (.isub, 1)) (k : gW X G fin z (pc + 1) lv (.int (x - y) :: st)) : gW X G fin z pc lv (.int y :: .int x :: st) := by
  obtain ⟨p, l, e, R, s, m, args, below, meth, c⟩ := X
  exact ⟨k.1, fun hc hs H locs ls hI hS hl => lv_isub C.1 C.2.1 hd (k.2 hc hs H locs ls hI hS hl)⟩
theorem g_imul (C : gC X cc nL ret own fr lo) {x y : Int32} (hd : decode cc pc = .ok (.imul, 1)) (k : gW X G fin z (pc + 1) lv (.int (x * y) :: st)) : gW X G fin z pc lv (.int y :: .int x :: st) := by
  obtain ⟨p, l, e, R, s, m, args, below, meth, c⟩ := X
  exact ⟨k.1, fun hc hs H locs ls hI hS hl => lv_imul C.1 C.2.1 hd (k.2 hc hs H locs ls hI hS hl)⟩
theorem g_iand (C : gC X cc nL ret own fr lo) {x y : Int32} (hd : decode cc pc = .ok (.iand, 1)) (k : gW X G fin z (pc + 1) lv (.int (x &&& y) :: st)) : gW X G fin z pc lv (.int y :: .int x :: st) := by
  obtain ⟨p, l, e, R, s, m, args, below, meth, c⟩ := X
  exact ⟨k.1, fun hc hs H locs ls hI hS hl => lv_iand C.1 C.2.1 hd (k.2 hc hs H locs ls hI hS hl)⟩
theorem g_ior (C : gC X cc nL ret own fr lo) {x y : Int32} (hd : decode cc pc = .ok (.ior, 1)) (k : gW X G fin z (pc + 1) lv (.int (x ||| y) :: st)) : gW X G fin z pc lv (.int y :: .int x :: st) := by
  obtain ⟨p, l, e, R, s, m, args, below, meth, c⟩ := X
  exact ⟨k.1, fun hc hs H locs ls hI hS hl => lv_ior C.1 C.2.1 hd (k.2 hc hs H locs ls hI hS hl)⟩
theorem g_ixor (C : gC X cc nL ret own fr lo) {x y : Int32} (hd : decode cc pc = .ok (.ixor, 1)) (k : gW X G fin z (pc + 1) lv (.int (x ^^^ y) :: st)) : gW X G fin z pc lv (.int y :: .int x :: st) := by
  obtain ⟨p, l, e, R, s, m, args, below, meth, c⟩ := X
  exact ⟨k.1, fun hc hs H locs ls hI hS hl => lv_ixor C.1 C.2.1 hd (k.2 hc hs H locs ls hI hS hl)⟩
theorem g_ishl (C : gC X cc nL ret own fr lo) {x y : Int32} (hd : decode cc pc = .ok (.ishl, 1)) (k : gW X G fin z (pc + 1) lv (.int (x <<< (y &&& 31)) :: st)) : gW X G fin z pc lv (.int y :: .int x :: st) := by
  obtain ⟨p, l, e, R, s, m, args, below, meth, c⟩ := X
  exact ⟨k.1, fun hc hs H locs ls hI hS hl => lv_ishl C.1 C.2.1 hd (k.2 hc hs H locs ls hI hS hl)⟩
theorem g_ishr (C : gC X cc nL ret own fr lo) {x y : Int32} (hd : decode cc pc = .ok (.ishr, 1)) (k : gW X G fin z (pc + 1) lv (.int (x >>> (y &&& 31)) :: st)) : gW X G fin z pc lv (.int y :: .int x :: st) := by
  obtain ⟨p, l, e, R, s, m, args, below, meth, c⟩ := X
  exact ⟨k.1, fun hc hs H locs ls hI hS hl => lv_ishr C.1 C.2.1 hd (k.2 hc hs H locs ls hI hS hl)⟩
theorem g_ladd (C : gC X cc nL ret own fr lo) {x y : Int64} (hd : decode cc pc = .ok (.ladd, 1)) (k : gW X G fin z (pc + 1) lv (.long (x + y) :: st)) : gW X G fin z pc lv (.long y :: .long x :: st) := by
  obtain ⟨p, l, e, R, s, m, args, below, meth, c⟩ := X
  exact ⟨k.1, fun hc hs H locs ls hI hS hl => lv_ladd C.1 C.2.1 hd (k.2 hc hs H locs ls hI hS hl)⟩
theorem g_lsub (C : gC X cc nL ret own fr lo) {x y : Int64} (hd : decode cc pc = .ok (.lsub, 1)) (k : gW X G fin z (pc + 1) lv (.long (x - y) :: st)) : gW X G fin z pc lv (.long y :: .long x :: st) := by
  obtain ⟨p, l, e, R, s, m, args, below, meth, c⟩ := X
  exact ⟨k.1, fun hc hs H locs ls hI hS hl => lv_lsub C.1 C.2.1 hd (k.2 hc hs H locs ls hI hS hl)⟩
theorem g_lmul (C : gC X cc nL ret own fr lo) {x y : Int64} (hd : decode cc pc = .ok (.lmul, 1)) (k : gW X G fin z (pc + 1) lv (.long (x * y) :: st)) : gW X G fin z pc lv (.long y :: .long x :: st) := by
  obtain ⟨p, l, e, R, s, m, args, below, meth, c⟩ := X
  exact ⟨k.1, fun hc hs H locs ls hI hS hl => lv_lmul C.1 C.2.1 hd (k.2 hc hs H locs ls hI hS hl)⟩
theorem g_land (C : gC X cc nL ret own fr lo) {x y : Int64} (hd : decode cc pc = .ok (.land, 1)) (k : gW X G fin z (pc + 1) lv (.long (x &&& y) :: st)) : gW X G fin z pc lv (.long y :: .long x :: st) := by
  obtain ⟨p, l, e, R, s, m, args, below, meth, c⟩ := X
  exact ⟨k.1, fun hc hs H locs ls hI hS hl => lv_land C.1 C.2.1 hd (k.2 hc hs H locs ls hI hS hl)⟩
theorem g_lor (C : gC X cc nL ret own fr lo) {x y : Int64} (hd : decode cc pc = .ok (.lor, 1)) (k : gW X G fin z (pc + 1) lv (.long (x ||| y) :: st)) : gW X G fin z pc lv (.long y :: .long x :: st) := by
  obtain ⟨p, l, e, R, s, m, args, below, meth, c⟩ := X
  exact ⟨k.1, fun hc hs H locs ls hI hS hl => lv_lor C.1 C.2.1 hd (k.2 hc hs H locs ls hI hS hl)⟩
theorem g_lxor (C : gC X cc nL ret own fr lo) {x y : Int64} (hd : decode cc pc = .ok (.lxor, 1)) (k : gW X G fin z (pc + 1) lv (.long (x ^^^ y) :: st)) : gW X G fin z pc lv (.long y :: .long x :: st) := by
  obtain ⟨p, l, e, R, s, m, args, below, meth, c⟩ := X
  exact ⟨k.1, fun hc hs H locs ls hI hS hl => lv_lxor C.1 C.2.1 hd (k.2 hc hs H locs ls hI hS hl)⟩
theorem g_idiv (C : gC X cc nL ret own fr lo) {x y : Int32} (hd : decode cc pc = .ok (.idiv, 1)) (hne : ¬ y = 0) (k : gW X G fin z (pc + 1) lv (.int (x / y) :: st)) : gW X G fin z pc lv (.int y :: .int x :: st) := by
  obtain ⟨p, l, e, R, s, m, args, below, meth, c⟩ := X
  exact ⟨k.1, fun hc hs H locs ls hI hS hl => lv_idiv C.1 C.2.1 hd hne (k.2 hc hs H locs ls hI hS hl)⟩
theorem g_irem (C : gC X cc nL ret own fr lo) {x y : Int32} (hd : decode cc pc = .ok (.irem, 1)) (hne : ¬ y = 0) (k : gW X G fin z (pc + 1) lv (.int (x - x / y * y) :: st)) : gW X G fin z pc lv (.int y :: .int x :: st) := by
  obtain ⟨p, l, e, R, s, m, args, below, meth, c⟩ := X
  exact ⟨k.1, fun hc hs H locs ls hI hS hl => lv_irem C.1 C.2.1 hd hne (k.2 hc hs H locs ls hI hS hl)⟩
theorem g_ldiv (C : gC X cc nL ret own fr lo) {x y : Int64} (hd : decode cc pc = .ok (.ldiv, 1)) (hne : ¬ y = 0) (k : gW X G fin z (pc + 1) lv (.long (x / y) :: st)) : gW X G fin z pc lv (.long y :: .long x :: st) := by
  obtain ⟨p, l, e, R, s, m, args, below, meth, c⟩ := X
  exact ⟨k.1, fun hc hs H locs ls hI hS hl => lv_ldiv C.1 C.2.1 hd hne (k.2 hc hs H locs ls hI hS hl)⟩
theorem g_lrem (C : gC X cc nL ret own fr lo) {x y : Int64} (hd : decode cc pc = .ok (.lrem, 1)) (hne : ¬ y = 0) (k : gW X G fin z (pc + 1) lv (.long (x - x / y * y) :: st)) : gW X G fin z pc lv (.long y :: .long x :: st) := by
  obtain ⟨p, l, e, R, s, m, args, below, meth, c⟩ := X
  exact ⟨k.1, fun hc hs H locs ls hI hS hl => lv_lrem C.1 C.2.1 hd hne (k.2 hc hs H locs ls hI hS hl)⟩
theorem g_ineg (C : gC X cc nL ret own fr lo) {x : Int32} (hd : decode cc pc = .ok (.ineg, 1)) (k : gW X G fin z (pc + 1) lv (.int (-x) :: st)) : gW X G fin z pc lv (.int x :: st) := by
  obtain ⟨p, l, e, R, s, m, args, below, meth, c⟩ := X
  exact ⟨k.1, fun hc hs H locs ls hI hS hl => lv_ineg C.1 C.2.1 hd (k.2 hc hs H locs ls hI hS hl)⟩
theorem g_lneg (C : gC X cc nL ret own fr lo) {x : Int64} (hd : decode cc pc = .ok (.lneg, 1)) (k : gW X G fin z (pc + 1) lv (.long (-x) :: st)) : gW X G fin z pc lv (.long x :: st) := by
  obtain ⟨p, l, e, R, s, m, args, below, meth, c⟩ := X
  exact ⟨k.1, fun hc hs H locs ls hI hS hl => lv_lneg C.1 C.2.1 hd (k.2 hc hs H locs ls hI hS hl)⟩
theorem g_i2l (C : gC X cc nL ret own fr lo) {x : Int32} (hd : decode cc pc = .ok (.i2l, 1)) (k : gW X G fin z (pc + 1) lv (.long x.toInt64 :: st)) : gW X G fin z pc lv (.int x :: st) := by
  obtain ⟨p, l, e, R, s, m, args, below, meth, c⟩ := X
  exact ⟨k.1, fun hc hs H locs ls hI hS hl => lv_i2l C.1 C.2.1 hd rfl (k.2 hc hs H locs ls hI hS hl)⟩
theorem g_l2i (C : gC X cc nL ret own fr lo) {x : Int64} (hd : decode cc pc = .ok (.l2i, 1)) (k : gW X G fin z (pc + 1) lv (.int x.toInt32 :: st)) : gW X G fin z pc lv (.long x :: st) := by
  obtain ⟨p, l, e, R, s, m, args, below, meth, c⟩ := X
  exact ⟨k.1, fun hc hs H locs ls hI hS hl => lv_l2i C.1 C.2.1 hd rfl (k.2 hc hs H locs ls hI hS hl)⟩
theorem g_i2b (C : gC X cc nL ret own fr lo) {x : Int32} (hd : decode cc pc = .ok (.i2b, 1)) (k : gW X G fin z (pc + 1) lv (.int x.toInt8.toInt32 :: st)) : gW X G fin z pc lv (.int x :: st) := by
  obtain ⟨p, l, e, R, s, m, args, below, meth, c⟩ := X
  exact ⟨k.1, fun hc hs H locs ls hI hS hl => lv_i2b C.1 C.2.1 hd rfl (k.2 hc hs H locs ls hI hS hl)⟩
theorem g_i2s (C : gC X cc nL ret own fr lo) {x : Int32} (hd : decode cc pc = .ok (.i2s, 1)) (k : gW X G fin z (pc + 1) lv (.int x.toInt16.toInt32 :: st)) : gW X G fin z pc lv (.int x :: st) := by
  obtain ⟨p, l, e, R, s, m, args, below, meth, c⟩ := X
  exact ⟨k.1, fun hc hs H locs ls hI hS hl => lv_i2s C.1 C.2.1 hd rfl (k.2 hc hs H locs ls hI hS hl)⟩
theorem g_i2c (C : gC X cc nL ret own fr lo) {x : Int32} (hd : decode cc pc = .ok (.i2c, 1)) (k : gW X G fin z (pc + 1) lv (.int (x.toUInt32 % 65536).toInt32 :: st)) : gW X G fin z pc lv (.int x :: st) := by
  obtain ⟨p, l, e, R, s, m, args, below, meth, c⟩ := X
  exact ⟨k.1, fun hc hs H locs ls hI hS hl => lv_i2c C.1 C.2.1 hd rfl (k.2 hc hs H locs ls hI hS hl)⟩
theorem g_iushr (C : gC X cc nL ret own fr lo) {x y : Int32} (hd : decode cc pc = .ok (.iushr, 1)) (k : gW X G fin z (pc + 1) lv (.int (x.toUInt32 >>> (y.toUInt32 &&& Int32.toUInt32 31)).toInt32 :: st)) : gW X G fin z pc lv (.int y :: .int x :: st) := by
  obtain ⟨p, l, e, R, s, m, args, below, meth, c⟩ := X
  exact ⟨k.1, fun hc hs H locs ls hI hS hl => lv_iushr C.1 C.2.1 hd rfl (k.2 hc hs H locs ls hI hS hl)⟩
theorem g_lushr (C : gC X cc nL ret own fr lo) {x : Int64} {y : Int32} (hd : decode cc pc = .ok (.lushr, 1)) (k : gW X G fin z (pc + 1) lv (.long (x.toUInt64 >>> (y.toInt64.toUInt64 &&& Int64.toUInt64 63)).toInt64 :: st)) : gW X G fin z pc lv (.int y :: .long x :: st) := by
  obtain ⟨p, l, e, R, s, m, args, below, meth, c⟩ := X
  exact ⟨k.1, fun hc hs H locs ls hI hS hl => lv_lushr C.1 C.2.1 hd rfl (k.2 hc hs H locs ls hI hS hl)⟩
theorem g_lshl (C : gC X cc nL ret own fr lo) {x : Int64} {y : Int32} (hd : decode cc pc = .ok (.lshl, 1)) (k : gW X G fin z (pc + 1) lv (.long (x <<< (y.toInt64 &&& 63)) :: st)) : gW X G fin z pc lv (.int y :: .long x :: st) := by
  obtain ⟨p, l, e, R, s, m, args, below, meth, c⟩ := X
  exact ⟨k.1, fun hc hs H locs ls hI hS hl => lv_lshl C.1 C.2.1 hd rfl (k.2 hc hs H locs ls hI hS hl)⟩
theorem g_lshr (C : gC X cc nL ret own fr lo) {x : Int64} {y : Int32} (hd : decode cc pc = .ok (.lshr, 1)) (k : gW X G fin z (pc + 1) lv (.long (x >>> (y.toInt64 &&& 63)) :: st)) : gW X G fin z pc lv (.int y :: .long x :: st) := by
  obtain ⟨p, l, e, R, s, m, args, below, meth, c⟩ := X
  exact ⟨k.1, fun hc hs H locs ls hI hS hl => lv_lshr C.1 C.2.1 hd rfl (k.2 hc hs H locs ls hI hS hl)⟩
theorem g_lcmp (C : gC X cc nL ret own fr lo) {x y : Int64} (hd : decode cc pc = .ok (.lcmp, 1)) (k : gW X G fin z (pc + 1) lv (.int (lg_cmp x y) :: st)) : gW X G fin z pc lv (.long y :: .long x :: st) := by
  obtain ⟨p, l, e, R, s, m, args, below, meth, c⟩ := X
  exact ⟨k.1, fun hc hs H locs ls hI hS hl => W.lcmp C.1 C.2.1 hd (k.2 hc hs H locs ls hI hS hl)⟩
theorem g_dup (C : gC X cc nL ret own fr lo) {va : Value} (hd : decode cc pc = .ok (.dup, 1)) (hva : va.category = 1) (k : gW X G fin z (pc + 1) lv (va :: va :: st)) : gW X G fin z pc lv (va :: st) := by
  obtain ⟨p, l, e, R, s, m, args, below, meth, c⟩ := X
  exact ⟨k.1, fun hc hs H locs ls hI hS hl => lv_dup C.1 C.2.1 hd hva (k.2 hc hs H locs ls hI hS hl)⟩
theorem g_pop (C : gC X cc nL ret own fr lo) {va : Value} (hd : decode cc pc = .ok (.pop, 1)) (hva : va.category = 1) (k : gW X G fin z (pc + 1) lv (st)) : gW X G fin z pc lv (va :: st) := by
  obtain ⟨p, l, e, R, s, m, args, below, meth, c⟩ := X
  exact ⟨k.1, fun hc hs H locs ls hI hS hl => lv_pop C.1 C.2.1 hd hva (k.2 hc hs H locs ls hI hS hl)⟩
theorem g_dup_x1 (C : gC X cc nL ret own fr lo) {va vb : Value} (hd : decode cc pc = .ok (.dup_x1, 1)) (hva : va.category = 1) (hvb : vb.category = 1) (k : gW X G fin z (pc + 1) lv (va :: vb :: va :: st)) : gW X G fin z pc lv (va :: vb :: st) := by
  obtain ⟨p, l, e, R, s, m, args, below, meth, c⟩ := X
  exact ⟨k.1, fun hc hs H locs ls hI hS hl => lv_dup_x1 C.1 C.2.1 hd hva hvb (k.2 hc hs H locs ls hI hS hl)⟩
theorem g_dup2_11 (C : gC X cc nL ret own fr lo) {va vb : Value} (hd : decode cc pc = .ok (.dup2, 1)) (hva : va.category = 1) (hvb : vb.category = 1) (k : gW X G fin z (pc + 1) lv (va :: vb :: va :: vb :: st)) : gW X G fin z pc lv (va :: vb :: st) := by
  obtain ⟨p, l, e, R, s, m, args, below, meth, c⟩ := X
  exact ⟨k.1, fun hc hs H locs ls hI hS hl => lv_dup2_11 C.1 C.2.1 hd hva hvb (k.2 hc hs H locs ls hI hS hl)⟩
theorem g_if_eq {ρ : Type} {A B : Option ρ} {r : ρ} (C : gC X cc nL ret own fr lo) {x : Int32} {off : Int} {tgt : Nat} (hd : decode cc pc = .ok (.ifCond .eq off, 3)) (ht : (pc : Int) + off = (tgt : Int)) (h : (if x = 0 then A else B) = some r) (kt : A = some r → gW X G fin z tgt lv st) (kf : B = some r → gW X G fin z (pc + 3) lv st) : gW X G fin z pc lv (.int x :: st) := by
  obtain ⟨p, l, e, R, s, m, args, below, meth, c⟩ := X
  by_cases q : x = 0
  · rw [if_pos q] at h
    have k := kt h
    exact ⟨k.1, fun hc hs H locs ls hI hS hl => lv_if_eq C.1 C.2.1 hd ht (fun _ => k.2 hc hs H locs ls hI hS hl) (fun w => absurd q w)⟩
  · rw [if_neg q] at h
    have k := kf h
    exact ⟨k.1, fun hc hs H locs ls hI hS hl => lv_if_eq C.1 C.2.1 hd ht (fun w => absurd w q) (fun _ => k.2 hc hs H locs ls hI hS hl)⟩
theorem g_icmp_eq {ρ : Type} {A B : Option ρ} {r : ρ} (C : gC X cc nL ret own fr lo) {x y : Int32} {off : Int} {tgt : Nat} (hd : decode cc pc = .ok (.if_icmp .eq off, 3)) (ht : (pc : Int) + off = (tgt : Int)) (h : (if x = y then A else B) = some r) (kt : A = some r → gW X G fin z tgt lv st) (kf : B = some r → gW X G fin z (pc + 3) lv st) : gW X G fin z pc lv (.int y :: .int x :: st) := by
  obtain ⟨p, l, e, R, s, m, args, below, meth, c⟩ := X
  by_cases q : x = y
  · rw [if_pos q] at h
    have k := kt h
    exact ⟨k.1, fun hc hs H locs ls hI hS hl => lv_icmp_eq C.1 C.2.1 hd ht (fun _ => k.2 hc hs H locs ls hI hS hl) (fun w => absurd q w)⟩
  · rw [if_neg q] at h
    have k := kf h
    exact ⟨k.1, fun hc hs H locs ls hI hS hl => lv_icmp_eq C.1 C.2.1 hd ht (fun w => absurd w q) (fun _ => k.2 hc hs H locs ls hI hS hl)⟩
theorem g_if_lt {ρ : Type} {A B : Option ρ} {r : ρ} (C : gC X cc nL ret own fr lo) {x : Int32} {off : Int} {tgt : Nat} (hd : decode cc pc = .ok (.ifCond .lt off, 3)) (ht : (pc : Int) + off = (tgt : Int)) (h : (if x < 0 then A else B) = some r) (kt : A = some r → gW X G fin z tgt lv st) (kf : B = some r → gW X G fin z (pc + 3) lv st) : gW X G fin z pc lv (.int x :: st) := by
  obtain ⟨p, l, e, R, s, m, args, below, meth, c⟩ := X
  by_cases q : x < 0
  · rw [if_pos q] at h
    have k := kt h
    exact ⟨k.1, fun hc hs H locs ls hI hS hl => lv_if_lt C.1 C.2.1 hd ht (fun _ => k.2 hc hs H locs ls hI hS hl) (fun w => absurd q w)⟩
  · rw [if_neg q] at h
    have k := kf h
    exact ⟨k.1, fun hc hs H locs ls hI hS hl => lv_if_lt C.1 C.2.1 hd ht (fun w => absurd w q) (fun _ => k.2 hc hs H locs ls hI hS hl)⟩
theorem g_icmp_lt {ρ : Type} {A B : Option ρ} {r : ρ} (C : gC X cc nL ret own fr lo) {x y : Int32} {off : Int} {tgt : Nat} (hd : decode cc pc = .ok (.if_icmp .lt off, 3)) (ht : (pc : Int) + off = (tgt : Int)) (h : (if x < y then A else B) = some r) (kt : A = some r → gW X G fin z tgt lv st) (kf : B = some r → gW X G fin z (pc + 3) lv st) : gW X G fin z pc lv (.int y :: .int x :: st) := by
  obtain ⟨p, l, e, R, s, m, args, below, meth, c⟩ := X
  by_cases q : x < y
  · rw [if_pos q] at h
    have k := kt h
    exact ⟨k.1, fun hc hs H locs ls hI hS hl => lv_icmp_lt C.1 C.2.1 hd ht (fun _ => k.2 hc hs H locs ls hI hS hl) (fun w => absurd q w)⟩
  · rw [if_neg q] at h
    have k := kf h
    exact ⟨k.1, fun hc hs H locs ls hI hS hl => lv_icmp_lt C.1 C.2.1 hd ht (fun w => absurd w q) (fun _ => k.2 hc hs H locs ls hI hS hl)⟩
theorem g_if_ge {ρ : Type} {A B : Option ρ} {r : ρ} (C : gC X cc nL ret own fr lo) {x : Int32} {off : Int} {tgt : Nat} (hd : decode cc pc = .ok (.ifCond .ge off, 3)) (ht : (pc : Int) + off = (tgt : Int)) (h : (if 0 ≤ x then A else B) = some r) (kt : A = some r → gW X G fin z tgt lv st) (kf : B = some r → gW X G fin z (pc + 3) lv st) : gW X G fin z pc lv (.int x :: st) := by
  obtain ⟨p, l, e, R, s, m, args, below, meth, c⟩ := X
  by_cases q : 0 ≤ x
  · rw [if_pos q] at h
    have k := kt h
    exact ⟨k.1, fun hc hs H locs ls hI hS hl => lv_if_ge C.1 C.2.1 hd ht (fun _ => k.2 hc hs H locs ls hI hS hl) (fun w => absurd q w)⟩
  · rw [if_neg q] at h
    have k := kf h
    exact ⟨k.1, fun hc hs H locs ls hI hS hl => lv_if_ge C.1 C.2.1 hd ht (fun w => absurd w q) (fun _ => k.2 hc hs H locs ls hI hS hl)⟩
theorem g_icmp_ge {ρ : Type} {A B : Option ρ} {r : ρ} (C : gC X cc nL ret own fr lo) {x y : Int32} {off : Int} {tgt : Nat} (hd : decode cc pc = .ok (.if_icmp .ge off, 3)) (ht : (pc : Int) + off = (tgt : Int)) (h : (if y ≤ x then A else B) = some r) (kt : A = some r → gW X G fin z tgt lv st) (kf : B = some r → gW X G fin z (pc + 3) lv st) : gW X G fin z pc lv (.int y :: .int x :: st) := by
  obtain ⟨p, l, e, R, s, m, args, below, meth, c⟩ := X
  by_cases q : y ≤ x
  · rw [if_pos q] at h
    have k := kt h
    exact ⟨k.1, fun hc hs H locs ls hI hS hl => lv_icmp_ge C.1 C.2.1 hd ht (fun _ => k.2 hc hs H locs ls hI hS hl) (fun w => absurd q w)⟩
  · rw [if_neg q] at h
    have k := kf h
    exact ⟨k.1, fun hc hs H locs ls hI hS hl => lv_icmp_ge C.1 C.2.1 hd ht (fun w => absurd w q) (fun _ => k.2 hc hs H locs ls hI hS hl)⟩
theorem g_if_gt {ρ : Type} {A B : Option ρ} {r : ρ} (C : gC X cc nL ret own fr lo) {x : Int32} {off : Int} {tgt : Nat} (hd : decode cc pc = .ok (.ifCond .gt off, 3)) (ht : (pc : Int) + off = (tgt : Int)) (h : (if 0 < x then A else B) = some r) (kt : A = some r → gW X G fin z tgt lv st) (kf : B = some r → gW X G fin z (pc + 3) lv st) : gW X G fin z pc lv (.int x :: st) := by
  obtain ⟨p, l, e, R, s, m, args, below, meth, c⟩ := X
  by_cases q : 0 < x
  · rw [if_pos q] at h
    have k := kt h
    exact ⟨k.1, fun hc hs H locs ls hI hS hl => lv_if_gt C.1 C.2.1 hd ht (fun _ => k.2 hc hs H locs ls hI hS hl) (fun w => absurd q w)⟩
  · rw [if_neg q] at h
    have k := kf h
    exact ⟨k.1, fun hc hs H locs ls hI hS hl => lv_if_gt C.1 C.2.1 hd ht (fun w => absurd w q) (fun _ => k.2 hc hs H locs ls hI hS hl)⟩
theorem g_icmp_gt {ρ : Type} {A B : Option ρ} {r : ρ} (C : gC X cc nL ret own fr lo) {x y : Int32} {off : Int} {tgt : Nat} (hd : decode cc pc = .ok (.if_icmp .gt off, 3)) (ht : (pc : Int) + off = (tgt : Int)) (h : (if y < x then A else B) = some r) (kt : A = some r → gW X G fin z tgt lv st) (kf : B = some r → gW X G fin z (pc + 3) lv st) : gW X G fin z pc lv (.int y :: .int x :: st) := by
  obtain ⟨p, l, e, R, s, m, args, below, meth, c⟩ := X
  by_cases q : y < x
  · rw [if_pos q] at h
    have k := kt h
    exact ⟨k.1, fun hc hs H locs ls hI hS hl => lv_icmp_gt C.1 C.2.1 hd ht (fun _ => k.2 hc hs H locs ls hI hS hl) (fun w => absurd q w)⟩
  · rw [if_neg q] at h
    have k := kf h
    exact ⟨k.1, fun hc hs H locs ls hI hS hl => lv_icmp_gt C.1 C.2.1 hd ht (fun w => absurd w q) (fun _ => k.2 hc hs H locs ls hI hS hl)⟩
theorem g_if_le {ρ : Type} {A B : Option ρ} {r : ρ} (C : gC X cc nL ret own fr lo) {x : Int32} {off : Int} {tgt : Nat} (hd : decode cc pc = .ok (.ifCond .le off, 3)) (ht : (pc : Int) + off = (tgt : Int)) (h : (if x ≤ 0 then A else B) = some r) (kt : A = some r → gW X G fin z tgt lv st) (kf : B = some r → gW X G fin z (pc + 3) lv st) : gW X G fin z pc lv (.int x :: st) := by
  obtain ⟨p, l, e, R, s, m, args, below, meth, c⟩ := X
  by_cases q : x ≤ 0
  · rw [if_pos q] at h
    have k := kt h
    exact ⟨k.1, fun hc hs H locs ls hI hS hl => lv_if_le C.1 C.2.1 hd ht (fun _ => k.2 hc hs H locs ls hI hS hl) (fun w => absurd q w)⟩
  · rw [if_neg q] at h
    have k := kf h
    exact ⟨k.1, fun hc hs H locs ls hI hS hl => lv_if_le C.1 C.2.1 hd ht (fun w => absurd w q) (fun _ => k.2 hc hs H locs ls hI hS hl)⟩
theorem g_icmp_le {ρ : Type} {A B : Option ρ} {r : ρ} (C : gC X cc nL ret own fr lo) {x y : Int32} {off : Int} {tgt : Nat} (hd : decode cc pc = .ok (.if_icmp .le off, 3)) (ht : (pc : Int) + off = (tgt : Int)) (h : (if x ≤ y then A else B) = some r) (kt : A = some r → gW X G fin z tgt lv st) (kf : B = some r → gW X G fin z (pc + 3) lv st) : gW X G fin z pc lv (.int y :: .int x :: st) := by
  obtain ⟨p, l, e, R, s, m, args, below, meth, c⟩ := X
  by_cases q : x ≤ y
  · rw [if_pos q] at h
    have k := kt h
    exact ⟨k.1, fun hc hs H locs ls hI hS hl => lv_icmp_le C.1 C.2.1 hd ht (fun _ => k.2 hc hs H locs ls hI hS hl) (fun w => absurd q w)⟩
  · rw [if_neg q] at h
    have k := kf h
    exact ⟨k.1, fun hc hs H locs ls hI hS hl => lv_icmp_le C.1 C.2.1 hd ht (fun w => absurd w q) (fun _ => k.2 hc hs H locs ls hI hS hl)⟩
theorem g_if_ne {ρ : Type} {A B : Option ρ} {r : ρ} (C : gC X cc nL ret own fr lo) {x : Int32} {off : Int} {tgt : Nat} (hd : decode cc pc = .ok (.ifCond .ne off, 3)) (ht : (pc : Int) + off = (tgt : Int)) (h : (if x = 0 then A else B) = some r) (kt : B = some r → gW X G fin z tgt lv st) (kf : A = some r → gW X G fin z (pc + 3) lv st) : gW X G fin z pc lv (.int x :: st) := by
  obtain ⟨p, l, e, R, s, m, args, below, meth, c⟩ := X
  by_cases q : x = 0
  · rw [if_pos q] at h
    have k := kf h
    exact ⟨k.1, fun hc hs H locs ls hI hS hl => lv_if_ne C.1 C.2.1 hd ht (fun w => absurd q w) (fun _ => k.2 hc hs H locs ls hI hS hl)⟩
  · rw [if_neg q] at h
    have k := kt h
    exact ⟨k.1, fun hc hs H locs ls hI hS hl => lv_if_ne C.1 C.2.1 hd ht (fun _ => k.2 hc hs H locs ls hI hS hl) (fun w => absurd w q)⟩
theorem g_icmp_ne {ρ : Type} {A B : Option ρ} {r : ρ} (C : gC X cc nL ret own fr lo) {x y : Int32} {off : Int} {tgt : Nat} (hd : decode cc pc = .ok (.if_icmp .ne off, 3)) (ht : (pc : Int) + off = (tgt : Int)) (h : (if x = y then A else B) = some r) (kt : B = some r → gW X G fin z tgt lv st) (kf : A = some r → gW X G fin z (pc + 3) lv st) : gW X G fin z pc lv (.int y :: .int x :: st) := by
  obtain ⟨p, l, e, R, s, m, args, below, meth, c⟩ := X
  by_cases q : x = y
  · rw [if_pos q] at h
    have k := kf h
    exact ⟨k.1, fun hc hs H locs ls hI hS hl => lv_icmp_ne C.1 C.2.1 hd ht (fun w => absurd q w) (fun _ => k.2 hc hs H locs ls hI hS hl)⟩
  · rw [if_neg q] at h
    have k := kt h
    exact ⟨k.1, fun hc hs H locs ls hI hS hl => lv_icmp_ne C.1 C.2.1 hd ht (fun _ => k.2 hc hs H locs ls hI hS hl) (fun w => absurd w q)⟩
theorem g_goto (C : gC X cc nL ret own fr lo) {off : Int} {tgt : Nat} (hd : decode cc pc = .ok (.goto off, 3)) (ht : (pc : Int) + off = (tgt : Int)) (k : gW X G fin z tgt lv st) : gW X G fin z pc lv st := by
  obtain ⟨p, l, e, R, s, m, args, below, meth, c⟩ := X
  exact ⟨k.1, fun hc hs H locs ls hI hS hl => lv_goto C.1 C.2.1 hd ht (k.2 hc hs H locs ls hI hS hl)⟩
theorem g_swOut (C : gC X cc nL ret own fr lo) {dflt low hi : Int} {offs : Array Int} {len : Nat} {x : Int32} {tgt : Nat} (hd : decode cc pc = .ok (.tableswitch dflt low hi offs, len)) (hx : x.toInt < low ∨ hi < x.toInt) (ht : (pc : Int) + dflt = (tgt : Int)) (k : gW X G fin z tgt lv st) : gW X G fin z pc lv (.int x :: st) := by
  obtain ⟨p, l, e, R, s, m, args, below, meth, c⟩ := X
  exact ⟨k.1, fun hc hs H locs ls hI hS hl => lv_tableOut C.1 C.2.1 hd hx ht (k.2 hc hs H locs ls hI hS hl)⟩
theorem g_swIn (C : gC X cc nL ret own fr lo) {dflt low hi off : Int} {offs : Array Int} {len : Nat} {x : Int32} {tgt : Nat} (hd : decode cc pc = .ok (.tableswitch dflt low hi offs, len)) (h1 : ¬ x.toInt < low) (h2 : ¬ hi < x.toInt) (ho : offs[(x.toInt - low).toNat]? = some off) (ht : (pc : Int) + off = (tgt : Int)) (k : gW X G fin z tgt lv st) : gW X G fin z pc lv (.int x :: st) := by
  obtain ⟨p, l, e, R, s, m, args, below, meth, c⟩ := X
  exact ⟨k.1, fun hc hs H locs ls hI hS hl => lv_tableIn C.1 C.2.1 hd h1 h2 ho ht (k.2 hc hs H locs ls hI hS hl)⟩
theorem g_iret (C : gC X cc nL (some .int) own fr lo) (hle : ∀ y : ζ, G.2.2.2.1 y y) {r : Int32} {r0 : Int32 × ζ} (hd : decode cc pc = .ok (.ireturn, 1)) (h : some (r, z) = some r0) : gW X G (.returned (some (.int r0.1)), r0.2) z pc lv [.int r] := by
  obtain ⟨p, l, e, R, s, m, args, below, meth, c⟩ := X
  cases h
  have hlocks : meth.locks = false := C.2.2.2.2.2.1
  exact ⟨hle z, fun hc hs H locs ls hI hS hl => W.to (fun _ => gMQ.of) (W.iret C.1 C.2.1 C.2.2.2.2.2.2.1 (fun t ht hW => ⟨rfl, by rw [ht]; exact hI, hS.F ht⟩) hS.2.2 hd)⟩
theorem g_lret (C : gC X cc nL (some .long) own fr lo) (hle : ∀ y : ζ, G.2.2.2.1 y y) {r : Int64} {r0 : Int64 × ζ} (hd : decode cc pc = .ok (.lreturn, 1)) (h : some (r, z) = some r0) : gW X G (.returned (some (.long r0.1)), r0.2) z pc lv [.long r] := by
  obtain ⟨p, l, e, R, s, m, args, below, meth, c⟩ := X
  cases h
  have hlocks : meth.locks = false := C.2.2.2.2.2.1
  exact ⟨hle z, fun hc hs H locs ls hI hS hl => W.to (fun _ => gMQ.of) (W.lret C.1 C.2.1 C.2.2.2.2.2.2.1 (fun t ht hW => ⟨rfl, by rw [ht]; exact hI, hS.F ht⟩) hS.2.2 hd)⟩
theorem g_zret (C : gC X cc nL (some .boolean) own fr lo) (hle : ∀ y : ζ, G.2.2.2.1 y y) {r : Int32} {r0 : Int32 × ζ} (hd : decode cc pc = .ok (.ireturn, 1)) (h : (if r = 0 ∨ r = 1 then some (r, z) else none) = some r0) : gW X G (.returned (some (.int r0.1)), r0.2) z pc lv [.int r] := by
  obtain ⟨p, l, e, R, s, m, args, below, meth, c⟩ := X
  have hlocks : meth.locks = false := C.2.2.2.2.2.1
  by_cases q : r = 0 ∨ r = 1
  · rw [if_pos q] at h
    cases h
    have hn : narrow .boolean (.int r) = .int r := by rcases q with rfl | rfl <;> rfl
    exact ⟨hle z, fun hc hs H locs ls hI hS hl => W.to (fun _ => gMQ.of) (W.zret C.1 C.2.1 C.2.2.2.2.2.2.1 hn (fun t ht hW => ⟨rfl, by rw [ht]; exact hI, hS.F ht⟩) hS.2.2 hd)⟩
  · rw [if_neg q] at h
    cases h
theorem g_vret (C : gC X cc nL none own fr lo) (hle : ∀ y : ζ, G.2.2.2.1 y y) {r0 : Unit × ζ} (hd : decode cc pc = .ok (.return_, 1)) (h : some ((), z) = some r0) : gW X G (.returned none, r0.2) z pc lv [] := by
  obtain ⟨p, l, e, R, s, m, args, below, meth, c⟩ := X
  cases h
  have hlocks : meth.locks = false := C.2.2.2.2.2.1
  exact ⟨hle z, fun hc hs H locs ls hI hS hl => W.to (fun _ => gMQ.of) (W.vret C.1 C.2.1 C.2.2.2.2.2.2.1 (fun t ht hW => ⟨rfl, by rw [ht]; exact hI, hS.F ht⟩) hS.2.2 hd)⟩
end GR
