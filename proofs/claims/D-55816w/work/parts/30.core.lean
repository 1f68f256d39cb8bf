/-! THE GHOST LAYER: a judgement wp over a ghost heap (addresses to typed cells), that hides the machine; ct: a method's contract -/
set_option maxRecDepth 100000
/-- a cell: an array (kind, length and content) or an object (class, fields) -/
abbrev gC : Type := (Nat × vp_A) ⊕ (Nat × List Value)
abbrev gH : Type := Nat → Option gC
/-- class numbers, slots, array classes, numbers of fields, addresses of what stands at the start -/
abbrev gD : Type := (Nat → ClassId) × (Nat → Nat → Nat) × (Nat → ClassId) × (Nat → Nat) × (Nat → Nat)
/-- launch, numbers, the size of the heap at the start, what stands below it -/
abbrev gE : Type := Launch × gD × Nat × (State → Heap → Prop)
/-- a method: name, locals, answer, handlers -/
abbrev gF : Type := MethodName × Nat × Option FieldType × List (Nat × Nat × Nat × Nat)
/-- an outcome: returned, or threw the object at an address -/
abbrev gR : Type := Option Value ⊕ Nat
/-- a place of an array -/
def g_val (x : (Nat → Int32) ⊕ (Nat → Int64) ⊕ (Nat → UInt32) ⊕ (Nat → UInt64) ⊕ (Nat → Option Nat)) (j : Nat) : Value := match x with
  | .inl f => .int (f j)
  | .inr (.inl f) => .long (f j)
  | .inr (.inr (.inl f)) => .float (f j)
  | .inr (.inr (.inr (.inl f))) => .double (f j)
  | .inr (.inr (.inr (.inr f))) => va_rf (f j)
def g_at (D : gD) (a : Nat) (c : gC) (H : Heap) : Prop := match c with
  | .inl x => ∃ cell : Cell, H[a]? = some cell ∧ cell.cls = D.2.2.1 x.1 ∧ cell.vm ≠ .unknown ∧ (∀ k, cell.vm ≠ .statics k) ∧ cell.slots.size = x.2.1 ∧ ∀ j : Nat, j < x.2.1 → cell.slots[j]? = some (g_val x.2.2 j)
  | .inr o => t_OB a (D.1 o.1) (D.2.2.2.1 o.1) (D.2.1 o.1) H (vp_V o.2)
def g_rep (D : gD) (G : gH) (H : Heap) : Prop := ∀ (a : Nat) (c : gC), G a = some c → g_at D a c H
def g_ok (E : gE) : Prop := ∀ (u U : State) (H H' : Heap), u.WarmedH U.vm → (∀ q : Nat, q < E.2.2.1 → H'[q]? = H[q]?) → E.2.2.2 u H → E.2.2.2 U H'
def g_get : List (Option Value) → Nat → Option Value
  | [], _ => none
  | x :: _, 0 => x
  | _ :: l, n + 1 => g_get l n
def g_set : List (Option Value) → Nat → Value → List (Option Value)
  | [], 0, v => [some v]
  | [], n + 1, v => none :: g_set [] n v
  | _ :: l, 0, v => some v :: l
  | x :: l, n + 1, v => x :: g_set l n v
def g_del : List (Option Value) → Nat → List (Option Value)
  | [], _ => []
  | _ :: l, 0 => none :: l
  | x :: l, n + 1 => x :: g_del l n
/-- no long or double stands just below the place i -/
def g_pre (L : List (Option Value)) (i : Nat) : Bool := match i with
  | 0 => true
  | j + 1 => match g_get L j with
    | none => true
    | some v => v.category != 2
def g_loc (nL : Nat) (L : List (Option Value)) (ls : Array Slot) : Prop := ls.size = nL ∧ lv_wf ls ∧ ∀ (i : Nat) (v : Value), g_get L i = some v → ls[i]? = some (.val v)
def g_W (E : gE) (G : gH) (s : State) (H : Heap) (locs : List Loc) : Prop := g_rep E.2.1 G H ∧ va_S (fun q => E.2.2.1 ≤ q) s.heap H locs ∧ E.2.2.1 ≤ s.heap.size ∧ E.2.2.2 s H
def g_fix (E : gE) (F : gF) (code : ByteArray) (p : Program) (s : State) (m : MethodId) (args : Array Value) (meth : Method) (c : Code) : Prop :=
  p.tables.exec = Jvm.exec ∧ c.code = code ∧ meth.sig.returnType = F.2.2.1 ∧ c.maxLocals = F.2.1 ∧ s.vm.findClass F.1.cls = some m.cls ∧ meth.locks = false ∧ (∀ w ∈ lw_all, w.before args s = true) ∧ meth.name = F.1.name ∧ c.exceptionTable.toList = tableOf F.2.2.2 ∧ g_ok E ∧ E.1.stackTraces = false
def g_std (E : gE) (d kc ks : Nat) (F : gF) (code : ByteArray) (L : List (Option Value)) (G : gH) (p : Program) (R : Room) (s : State) (m : MethodId) (args : Array Value) (meth : Method) (c : Code) (H : Heap) (locs : List Loc) (ls : Array Slot) (cells slots : Nat) : Prop :=
  g_fix E F code p s m args meth c ∧ (d ≤ R.frames ∧ 64 * d + 4096 ≤ R.locals ∧ cells + kc ≤ R.cells ∧ slots + ks ≤ R.slots) ∧ g_W E G s H locs ∧ g_loc F.2.1 L ls
/-- an end: what was promised of the outcome and the ghost heap -/
def g_Q (E : gE) (Q : gR → gH → Prop) (mc ms : Nat) : Array Value → State → Outcome → State → Prop := fun _ s o t =>
  ∃ (L : List Loc) (G : gH), (∀ z ∈ L, E.2.2.1 ≤ z.base) ∧ g_rep E.2.1 G t.heap ∧ va_F (fun q => E.2.2.1 ≤ q) s t ∧ s.WarmedH t.vm ∧ s.sameButNew ({ t with vm := s.vm } : State) L mc ms ∧ ((∃ v, o = .returned v ∧ Q (.inl v) G) ∨ ∃ q, o = .threw q ∧ Q (.inr q) G)
def g_end (E : gE) (Q : gR → gH → Prop) (R : Room) (args : Array Value) (s : State) (below : List Frame) : State → Prop := fun t =>
  ∃ o, t.status = .running ∧ Ended t below o ∧ g_Q E Q R.cells R.slots args s o t
/-- the machine, at pc with the locals L, the stack st, over the ghost heap G, with d calls below it, kc cells and ks slots to make: comes to an end with Q -/
def wp (E : gE) (d kc ks : Nat) (F : gF) (code : ByteArray) (pc : Nat) (L : List (Option Value)) (st : List Value) (G : gH) (Q : gR → gH → Prop) : Prop :=
  ∀ (p : Program) (e : Env) (R : Room) (s : State) (m : MethodId) (args : Array Value) (below : List Frame) (meth : Method) (c : Code) (H : Heap) (locs : List Loc) (ls : Array Slot) (cells slots : Nat),
    g_std E d kc ks F code L G p R s m args meth c H locs ls cells slots → W p E.1 e R s m args below meth c H locs cells slots (g_end E Q R args s below) (F0 m pc ls st)
/-- the same, with q thrown over the frame -/
def wpx (E : gE) (d kc ks : Nat) (F : gF) (code : ByteArray) (pc : Nat) (L : List (Option Value)) (q : Nat) (G : gH) (Q : gR → gH → Prop) : Prop :=
  ∀ (p : Program) (e : Env) (R : Room) (s : State) (m : MethodId) (args : Array Value) (below : List Frame) (meth : Method) (c : Code) (H : Heap) (locs : List Loc) (ls : Array Slot) (cells slots : Nat) (rest : List Value),
    g_std E d kc ks F code L G p R s m args meth c H locs ls cells slots → vx_W p E.1 e R s m args below meth c H locs cells slots (g_end E Q R args s below) (F0 m pc ls rest) q
theorem wp.ap {E : gE} {d kc ks : Nat} {F : gF} {code : ByteArray} {pc : Nat} {L : List (Option Value)} {st : List Value} {G : gH} {Q : gR → gH → Prop} (h : wp E d kc ks F code pc L st G Q) {p : Program} {e : Env} {R : Room} {s : State} {m : MethodId} {args : Array Value} {below : List Frame} {meth : Method} {c : Code} {H : Heap} {locs : List Loc} {ls : Array Slot} {cells slots : Nat} (C : g_std E d kc ks F code L G p R s m args meth c H locs ls cells slots) : W p E.1 e R s m args below meth c H locs cells slots (g_end E Q R args s below) (F0 m pc ls st) := h p e R s m args below meth c H locs ls cells slots C
theorem wp.mk {E : gE} {d kc ks : Nat} {F : gF} {code : ByteArray} {pc : Nat} {L : List (Option Value)} {st : List Value} {G : gH} {Q : gR → gH → Prop} (h : ∀ {p : Program} {e : Env} {R : Room} {s : State} {m : MethodId} {args : Array Value} {below : List Frame} {meth : Method} {c : Code} {H : Heap} {locs : List Loc} {ls : Array Slot} {cells slots : Nat}, g_std E d kc ks F code L G p R s m args meth c H locs ls cells slots → W p E.1 e R s m args below meth c H locs cells slots (g_end E Q R args s below) (F0 m pc ls st)) : wp E d kc ks F code pc L st G Q := fun _ _ _ _ _ _ _ _ _ _ _ _ _ _ C => h C
theorem wpx.ap {E : gE} {d kc ks : Nat} {F : gF} {code : ByteArray} {pc : Nat} {L : List (Option Value)} {q : Nat} {G : gH} {Q : gR → gH → Prop} (h : wpx E d kc ks F code pc L q G Q) {p : Program} {e : Env} {R : Room} {s : State} {m : MethodId} {args : Array Value} {below : List Frame} {meth : Method} {c : Code} {H : Heap} {locs : List Loc} {ls : Array Slot} {cells slots : Nat} {rest : List Value} (C : g_std E d kc ks F code L G p R s m args meth c H locs ls cells slots) : vx_W p E.1 e R s m args below meth c H locs cells slots (g_end E Q R args s below) (F0 m pc ls rest) q := h p e R s m args below meth c H locs ls cells slots rest C
theorem wpx.mk {E : gE} {d kc ks : Nat} {F : gF} {code : ByteArray} {pc : Nat} {L : List (Option Value)} {q : Nat} {G : gH} {Q : gR → gH → Prop} (h : ∀ {p : Program} {e : Env} {R : Room} {s : State} {m : MethodId} {args : Array Value} {below : List Frame} {meth : Method} {c : Code} {H : Heap} {locs : List Loc} {ls : Array Slot} {cells slots : Nat} {rest : List Value}, g_std E d kc ks F code L G p R s m args meth c H locs ls cells slots → vx_W p E.1 e R s m args below meth c H locs cells slots (g_end E Q R args s below) (F0 m pc ls rest) q) : wpx E d kc ks F code pc L q G Q := fun _ _ _ _ _ _ _ _ _ _ _ _ _ _ _ C => h C
def g_rm (d kc ks : Nat) : Room := { frames := d, cells := kc, slots := ks, locals := 64 * d + 4096 }
def g_P (E : gE) (args : List Value) (G : gH) : Array Value → State → Prop := fun v U => v = args.toArray ∧ g_ok E ∧ E.1.stackTraces = false ∧ g_rep E.2.1 G U.heap ∧ E.2.2.1 ≤ U.heap.size ∧ E.2.2.2 U U.heap
/-- the words of a contract -/
def g_ws (F : gF) (code : ByteArray) : List Cond := match F.2.2.2 with
  | [] => Cond.code F.1 code F.2.1 F.2.2.1 :: lw_all
  | h :: t => Cond.codeWith F.1 code F.2.1 F.2.2.1 (h :: t) :: lw_all
/-- a method's contract: with these arguments, over this ghost heap, it comes to an end with Q -/
def ct (E : gE) (d kc ks : Nat) (F : gF) (code : ByteArray) (args : List Value) (G : gH) (Q : gR → gH → Prop) : Prop :=
  MetFree E.1 F.1 (headSpec (g_ws F code) (g_rm d kc ks)) (g_P E args G) (fun _ _ _ _ _ => True) (g_Q E Q kc ks)
section GB
variable {E : gE} {d kc ks : Nat} {F : gF} {code : ByteArray} {L L' : List (Option Value)} {G : gH} {p : Program} {R : Room} {s : State} {m : MethodId} {args : Array Value} {meth : Method} {c : Code} {H : Heap} {locs : List Loc} {ls : Array Slot} {cells slots : Nat}
theorem g_std.hx (C : g_std E d kc ks F code L G p R s m args meth c H locs ls cells slots) : p.tables.exec = Jvm.exec := C.1.1
theorem g_std.hb (C : g_std E d kc ks F code L G p R s m args meth c H locs ls cells slots) : c.code = code := C.1.2.1
theorem g_std.hr (C : g_std E d kc ks F code L G p R s m args meth c H locs ls cells slots) : meth.sig.returnType = F.2.2.1 := C.1.2.2.1
theorem g_std.hml (C : g_std E d kc ks F code L G p R s m args meth c H locs ls cells slots) : c.maxLocals = F.2.1 := C.1.2.2.2.1
theorem g_std.hown (C : g_std E d kc ks F code L G p R s m args meth c H locs ls cells slots) : s.vm.findClass F.1.cls = some m.cls := C.1.2.2.2.2.1
theorem g_std.hlk (C : g_std E d kc ks F code L G p R s m args meth c H locs ls cells slots) : meth.locks = false := C.1.2.2.2.2.2.1
theorem g_std.hts (C : g_std E d kc ks F code L G p R s m args meth c H locs ls cells slots) : ∀ w ∈ lw_all, w.before args s = true := C.1.2.2.2.2.2.2.1
theorem g_std.hnm (C : g_std E d kc ks F code L G p R s m args meth c H locs ls cells slots) : meth.name = F.1.name := C.1.2.2.2.2.2.2.2.1
theorem g_std.htb (C : g_std E d kc ks F code L G p R s m args meth c H locs ls cells slots) : c.exceptionTable.toList = tableOf F.2.2.2 := C.1.2.2.2.2.2.2.2.2.1
theorem g_std.hok (C : g_std E d kc ks F code L G p R s m args meth c H locs ls cells slots) : g_ok E := C.1.2.2.2.2.2.2.2.2.2.1
theorem g_std.hst (C : g_std E d kc ks F code L G p R s m args meth c H locs ls cells slots) : E.1.stackTraces = false := C.1.2.2.2.2.2.2.2.2.2.2
theorem g_std.hd (C : g_std E d kc ks F code L G p R s m args meth c H locs ls cells slots) : d ≤ R.frames := C.2.1.1
theorem g_std.hlo (C : g_std E d kc ks F code L G p R s m args meth c H locs ls cells slots) : 64 * d + 4096 ≤ R.locals := C.2.1.2.1
theorem g_std.hkc (C : g_std E d kc ks F code L G p R s m args meth c H locs ls cells slots) : cells + kc ≤ R.cells := C.2.1.2.2.1
theorem g_std.hks (C : g_std E d kc ks F code L G p R s m args meth c H locs ls cells slots) : slots + ks ≤ R.slots := C.2.1.2.2.2
theorem g_std.hP (C : g_std E d kc ks F code L G p R s m args meth c H locs ls cells slots) : g_rep E.2.1 G H := C.2.2.1.1
theorem g_std.hS (C : g_std E d kc ks F code L G p R s m args meth c H locs ls cells slots) : va_S (fun q => E.2.2.1 ≤ q) s.heap H locs := C.2.2.1.2.1
theorem g_std.hz (C : g_std E d kc ks F code L G p R s m args meth c H locs ls cells slots) : E.2.2.1 ≤ s.heap.size := C.2.2.1.2.2.1
theorem g_std.hX (C : g_std E d kc ks F code L G p R s m args meth c H locs ls cells slots) : E.2.2.2 s H := C.2.2.1.2.2.2
theorem g_std.hL (C : g_std E d kc ks F code L G p R s m args meth c H locs ls cells slots) : g_loc F.2.1 L ls := C.2.2.2
theorem g_std.size (C : g_std E d kc ks F code L G p R s m args meth c H locs ls cells slots) : ls.size = F.2.1 := C.2.2.2.1
theorem g_std.at (C : g_std E d kc ks F code L G p R s m args meth c H locs ls cells slots) {i : Nat} {v : Value} (h : g_get L i = some v) : ls[i]? = some (.val v) := C.2.2.2.2.2 i v h
theorem g_std.loc {ls' : Array Slot} (C : g_std E d kc ks F code L G p R s m args meth c H locs ls cells slots) (h : g_loc F.2.1 L' ls') : g_std E d kc ks F code L' G p R s m args meth c H locs ls' cells slots := ⟨C.1, C.2.1, C.2.2.1, h⟩
theorem g_std.le {d' kc' ks' : Nat} (C : g_std E d kc ks F code L G p R s m args meth c H locs ls cells slots) (h1 : d' ≤ d) (h2 : kc' ≤ kc) (h3 : ks' ≤ ks) : g_std E d' kc' ks' F code L G p R s m args meth c H locs ls cells slots :=
  ⟨C.1, ⟨Nat.le_trans h1 C.hd, by have := C.hlo; omega, by have := C.hkc; omega, by have := C.hks; omega⟩, C.2.2⟩
/-- a write to a cell of the run's own -/
theorem g_std.put {a k : Nat} {x x' : gC} {H1 : Heap} {G' : gH} (C : g_std E d kc ks F code L G p R s m args meth c H locs ls cells slots) (ha : E.2.2.1 ≤ a) (hx : G a = some x) (hx' : G' a = some x') (hG : ∀ q : Nat, q ≠ a → G' q = G q) (z : H1.size = H.size) (oq : ∀ q : Nat, q ≠ a → H1[q]? = H[q]?) (hat : g_at E.2.1 a x' H1) :
    g_std E d kc ks F code L G' p R s m args meth c H1 (locs ++ [⟨a, k⟩]) ls cells slots := by
  refine ⟨C.1, C.2.1, ⟨fun b y hy => ?_, C.hS.put z oq ha, C.hz, ?_⟩, C.hL⟩
  · by_cases hb : b = a
    · subst hb
      rw [hx'] at hy
      cases hy
      exact hat
    · rw [hG b hb] at hy
      have h1 := C.hP b y hy
      cases y with
      | inl w => obtain ⟨cell, e1, e2⟩ := h1; exact ⟨cell, (oq b hb).trans e1, e2⟩
      | inr w => exact t_OB.kept h1 (oq b hb)
  · exact C.hok s s H H1 (State.WarmedH.refl s) (fun q hq => oq q (by omega)) C.hX
theorem g_at.lt {D : gD} {a : Nat} {x : gC} (h : g_at D a x H) : a < H.size := by
  cases x with
  | inl x => obtain ⟨cell, h2, -⟩ := h; exact (Array.getElem?_eq_some_iff.mp h2).1
  | inr o => obtain ⟨cell, h2, -⟩ := h; exact (Array.getElem?_eq_some_iff.mp h2).1
theorem g_at.kept {D : gD} {a : Nat} {x : gC} {H1 : Heap} (h : g_at D a x H) (hq : H1[a]? = H[a]?) : g_at D a x H1 := by
  cases x with
  | inl x => obtain ⟨cell, e1, e2⟩ := h; exact ⟨cell, hq.trans e1, e2⟩
  | inr o => exact t_OB.kept h hq
/-- a new cell at the heap's end -/
theorem g_std.push {kc' ks' n : Nat} {x : gC} {cell : Cell} (C : g_std E d (kc' + 1) (ks' + n) F code L G p R s m args meth c H locs ls cells slots) (hat : g_at E.2.1 H.size x (H.push cell)) :
    G H.size = none ∧ E.2.2.1 ≤ H.size ∧ g_std E d kc' ks' F code L (fun q => if q = H.size then some x else G q) p R s m args meth c (H.push cell) locs ls (cells + 1) (slots + n) := by
  have hlt : ∀ b y, G b = some y → b < H.size := fun b y h => (C.hP b y h).lt
  refine ⟨?_, Nat.le_trans C.hz C.hS.1, C.1, ⟨C.hd, C.hlo, by have := C.hkc; omega, by have := C.hks; omega⟩, ⟨fun b y hy => ?_, ⟨?_, fun q h1 h2 => ?_, C.hS.2.2⟩, C.hz, ?_⟩, C.hL⟩
  · cases h : G H.size with
    | none => rfl
    | some y => exact absurd (hlt _ _ h) (Nat.lt_irrefl _)
  · by_cases hb : b = H.size
    · subst hb
      simp only [if_true] at hy
      cases hy
      exact hat
    · simp only [if_neg hb] at hy
      exact (C.hP b y hy).kept (Array.getElem?_push_lt (hlt b y hy) |>.trans (Array.getElem?_eq_getElem (hlt b y hy)).symm)
  · rw [Array.size_push]; exact Nat.le_succ_of_le C.hS.1
  · have h3 : q < H.size := Nat.lt_of_lt_of_le h1 C.hS.1
    rw [Array.getElem?_push_lt h3, ← Array.getElem?_eq_getElem h3]
    exact C.hS.2.1 q h1 h2
  · refine C.hok s s H _ (State.WarmedH.refl s) (fun q hq => ?_) C.hX
    have h3 : q < H.size := Nat.lt_of_lt_of_le hq (Nat.le_trans C.hz C.hS.1)
    rw [Array.getElem?_push_lt h3, ← Array.getElem?_eq_getElem h3]
end GB
theorem g_get_set {L : List (Option Value)} {i : Nat} {v : Value} : g_get (g_set L i v) i = some v := by
  induction L generalizing i with
  | nil => induction i with
    | zero => rfl
    | succ n ih => exact ih
  | cons x l ih => cases i with
    | zero => rfl
    | succ n => exact ih
theorem g_get_set_ne {L : List (Option Value)} {i j : Nat} {v : Value} (h : j ≠ i) : g_get (g_set L i v) j = g_get L j := by
  induction L generalizing i j with
  | nil => induction i generalizing j with
    | zero => cases j with
      | zero => exact absurd rfl h
      | succ j => cases j <;> rfl
    | succ n ih => cases j with
      | zero => rfl
      | succ j => exact (ih (fun e => h (by rw [e]))).trans (by cases j <;> rfl)
  | cons x l ih => cases i with
    | zero => cases j with
      | zero => exact absurd rfl h
      | succ j => rfl
    | succ n => cases j with
      | zero => rfl
      | succ j => exact ih (fun e => h (by rw [e]))
theorem g_get_del {L : List (Option Value)} {i j : Nat} {v : Value} (h : g_get (g_del L i) j = some v) : j ≠ i ∧ g_get L j = some v := by
  induction L generalizing i j with
  | nil => cases h
  | cons x l ih => cases i with
    | zero => cases j with
      | zero => cases h
      | succ j => exact ⟨by omega, h⟩
    | succ n => cases j with
      | zero => exact ⟨by omega, h⟩
      | succ j => obtain ⟨h1, h2⟩ := ih (i := n) (j := j) h; exact ⟨by omega, h2⟩
def g_al (L : List (Option Value)) : List (Nat × Value) := (List.range L.length).filterMap fun i => (g_get L i).map fun v => (i, v)
theorem g_get_lt {L : List (Option Value)} {i : Nat} {v : Value} (h : g_get L i = some v) : i < L.length := by
  induction L generalizing i with
  | nil => cases h
  | cons x l ih => cases i with
    | zero => exact Nat.zero_lt_succ _
    | succ n => exact Nat.succ_lt_succ (ih h)
theorem g_al_mem {L : List (Option Value)} {i : Nat} {v : Value} : (i, v) ∈ g_al L ↔ g_get L i = some v := by
  unfold g_al
  rw [List.mem_filterMap]
  constructor
  · rintro ⟨j, -, h⟩
    cases h2 : g_get L j with
    | none => rw [h2] at h; cases h
    | some w => rw [h2] at h; cases h; exact h2
  · intro h
    exact ⟨i, List.mem_range.mpr (g_get_lt h), by rw [h]; rfl⟩
theorem g_loc.has {nL : Nat} {L : List (Option Value)} {ls : Array Slot} (h : g_loc nL L ls) : lv_has ls nL (g_al L) := ⟨h.1, h.2.1, fun q hq => h.2.2 q.1 q.2 (g_al_mem.mp hq)⟩
theorem g_loc.st1 {nL i : Nat} {v : Value} {L : List (Option Value)} {ls' : Array Slot} (hp : g_pre L i = true) (h : lv_has ls' nL ((i, v) :: (g_al L).filter (fun q => !(q.1 == i) && !(q.1 + 1 == i && q.2.category == 2)))) : g_loc nL (g_set L i v) ls' := by
  refine ⟨h.1, h.2.1, fun j w hw => ?_⟩
  by_cases hj : j = i
  · subst hj
    rw [g_get_set] at hw
    cases hw
    exact h.2.2 (j, v) List.mem_cons_self
  · rw [g_get_set_ne hj] at hw
    refine h.2.2 (j, w) (List.mem_cons_of_mem _ (List.mem_filter.mpr ⟨g_al_mem.mpr hw, ?_⟩))
    have h2 : ¬ (j + 1 = i ∧ w.category = 2) := by
      rintro ⟨rfl, hc⟩
      simp [g_pre, hw, hc] at hp
    have h3 : (j == i) = false := by simpa using hj
    simp only [h3, Bool.not_false, Bool.true_and, Bool.not_eq_true', Bool.and_eq_false_iff, beq_eq_false_iff_ne]
    by_cases h4 : j + 1 = i
    · exact Or.inr (fun e => h2 ⟨h4, e⟩)
    · exact Or.inl h4
theorem g_loc.st2 {nL i : Nat} {v : Value} {L : List (Option Value)} {ls' : Array Slot} (hp : g_pre L i = true) (h : lv_has ls' nL ((i, v) :: (g_al L).filter (fun q => !(q.1 == i) && (!(q.1 == i + 1) && !(q.1 + 1 == i && q.2.category == 2))))) : g_loc nL (g_del (g_set L i v) (i + 1)) ls' := by
  refine ⟨h.1, h.2.1, fun j w hw => ?_⟩
  obtain ⟨hj1, hw2⟩ := g_get_del hw
  clear hw
  by_cases hj : j = i
  · subst hj
    rw [g_get_set] at hw2
    cases hw2
    exact h.2.2 (j, v) List.mem_cons_self
  · rw [g_get_set_ne hj] at hw2
    refine h.2.2 (j, w) (List.mem_cons_of_mem _ (List.mem_filter.mpr ⟨g_al_mem.mpr hw2, ?_⟩))
    have h2 : ¬ (j + 1 = i ∧ w.category = 2) := by
      rintro ⟨rfl, hc⟩
      simp [g_pre, hw2, hc] at hp
    have h3 : (j == i) = false := by simpa using hj
    have h5 : (j == i + 1) = false := by simpa using hj1
    simp only [h3, h5, Bool.not_false, Bool.true_and, Bool.not_eq_true', Bool.and_eq_false_iff, beq_eq_false_iff_ne]
    by_cases h4 : j + 1 = i
    · exact Or.inr (fun e => h2 ⟨h4, e⟩)
    · exact Or.inl h4
theorem g_loc.sub {nL : Nat} {L L' : List (Option Value)} {ls : Array Slot} (h : g_loc nL L ls) (hs : ∀ i v, g_get L' i = some v → g_get L i = some v) : g_loc nL L' ls := ⟨h.1, h.2.1, fun i v hv => h.2.2 i v (hs i v hv)⟩
