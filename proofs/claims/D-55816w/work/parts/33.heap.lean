/-! the ghost layer: fields, new objects, arrays, casts, throws (printed by wip/tools/heap.py; the proofs follow the kit's va_ rows) -/
set_option maxRecDepth 100000
/-- the ghost heap with the cell c at a -/
def g_up (G : gH) (a : Nat) (c : gC) : gH := fun q => if q = a then some c else G q
theorem g_up_eq {G : gH} {a : Nat} {c : gC} : g_up G a c a = some c := by simp [g_up]
theorem g_up_ne {G : gH} {a b : Nat} {c : gC} (h : b ≠ a) : g_up G a c b = G b := by simp [g_up, h]
theorem g_up_up {G : gH} {a : Nat} {c c' : gC} : g_up (g_up G a c) a c' = g_up G a c' := by funext q; by_cases h : q = a <;> simp [g_up, h]
theorem g_up_comm {G : gH} {a b : Nat} {c c' : gC} (h : a ≠ b) : g_up (g_up G a c) b c' = g_up (g_up G b c') a c := by
  funext q
  by_cases h1 : q = a
  · subst h1; simp [g_up, h]
  · by_cases h2 : q = b
    · subst h2; simp [g_up, h1]
    · simp [g_up, h1, h2]
theorem g_up_self {G : gH} {a : Nat} {c : gC} (h : G a = some c) : g_up G a c = G := by funext q; by_cases h1 : q = a <;> simp [g_up, h1, h]
theorem g_ne {G : gH} {a b : Nat} {c : gC} (h : G a = none) (hb : G b = some c) : b ≠ a := fun e => by rw [e, h] at hb; cases hb
theorem g_ne2 {G : gH} {a b : Nat} {x y : gC} (h : G a = some x) (hb : G b = some y) (hxy : x ≠ y) : a ≠ b := fun e => by rw [e, hb] at h; cases h; exact hxy rfl
/-- the ghost heap grows: what stood there stands there -/
def g_le (G G' : gH) : Prop := ∀ a c, G a = some c → G' a = some c
theorem g_le.rf {G : gH} : g_le G G := fun _ _ h => h
theorem g_le.tr {G G1 G2 : gH} (h : g_le G G1) (h2 : g_le G1 G2) : g_le G G2 := fun a c x => h2 a c (h a c x)
theorem g_le.up {G G1 : gH} {a : Nat} {c : gC} (h : g_le G G1) (ha : G a = none) : g_le G (g_up G1 a c) := fun b x hb => by rw [g_up_ne (g_ne ha hb)]; exact h b x hb
theorem g_le.new {G : gH} {a : Nat} {c : gC} (ha : G a = none) : g_le G (g_up G a c) := g_le.up g_le.rf ha
theorem g_le.none {G G1 : gH} {a : Nat} (h : g_le G G1) (ha : G1 a = none) : G a = none := by
  cases h9 : G a with
  | none => rfl
  | some c => rw [h a c h9] at ha; cases ha
/-- an array of ints (kind 0), bytes (1), chars (2), booleans (3) -/
def gA (t n : Nat) (f : Int → Int) : gC := .inl (t, (n, .inl (fun j => ii_ (f (j : Int)))))
def gJ (n : Nat) (f : Int → Int64) : gC := .inl (4, (n, .inr (.inl (fun j => f (j : Int)))))
def gW (n : Nat) (f : Int → UInt64) : gC := .inl (5, (n, .inr (.inr (.inr (.inl (fun j => f (j : Int)))))))
def gO (t n : Nat) (f : Int → Option Nat) : gC := .inl (t, (n, .inr (.inr (.inr (.inr (fun j => f (j : Int)))))))
def g_fu {α : Type} (f : Int → α) (i : Int) (v : α) : Int → α := fun j => if j = i then v else f j
theorem g_fu_eq {α : Type} {f : Int → α} {i : Int} {v : α} : g_fu f i v i = v := by simp [g_fu]
theorem g_fu_ne {α : Type} {f : Int → α} {i j : Int} {v : α} (h : j ≠ i) : g_fu f i v j = f j := by simp [g_fu, h]
theorem g_isarr {E : gE} {t : Nat} {ty : FieldType} {s : State} {H : Heap} {cell : Cell} (hT : g_ka E t ty) (hX : E.2.2.2 s H) (hc : cell.cls = E.2.1.2.2.1 t) (hn : ∀ k, cell.vm ≠ .statics k) : s.isArrayOf cell ty := by
  obtain ⟨-, k, hk, comp, hkind⟩ := (hT s H hX).1 0 (fun _ => .null)
  exact ⟨hn, k, by rw [hc]; exact hk, comp, hkind⟩
theorem g_in {a : Int} {n : Nat} (h0 : 0 ≤ a) (h1 : a < n) (hn : n ≤ 2147483647) : vp_in (ii_ a) n := by
  have h := ii_cl h0 (by omega)
  intro q
  rcases q with q | q
  · have : ii_ a < ii_ 0 := q
    rw [ii_lt ⟨by omega, by omega⟩ ⟨by decide, by decide⟩] at this
    omega
  · rw [h] at q
    omega
theorem g_cl_int {a : Int} (h0 : 0 ≤ a) (h1 : a ≤ 2147483647) : (((ii_ a).toNatClampNeg : Nat) : Int) = a := by rw [ii_cl h0 h1]; exact Int.toNat_of_nonneg h0
/-- a field's entry of the class 'own': the field k of the class ci, whatever the road -/
def g_fl (E : gE) (own : String) (idx ci k : Nat) (fin : Bool) (ty : FieldType) : Prop := ∃ (Cn ref : String) (T : u_T) (N : Nat) (ty0 : Nat → FieldType), g_kn E ci Cn T N ∧ k < N ∧ (∀ w ∈ u_ws Cn T N, w ∈ lw_all) ∧ (∀ j, j < N → parseFieldDescriptor (T j).2.2.1 = some (ty0 j)) ∧ (∀ a, a < N → ∀ b, b < N → a ≠ b → (T a).2.1 ≠ (T b).2.1) ∧
  (Cond.fieldLink own idx ref (T k).2.1 (T k).2.2.1 ∈ lw_all ∨ ∃ host, g_nw E (.fieldLinkNest own idx ref (T k).2.1 (T k).2.2.1 host)) ∧ (ref = (T k).1 ∨ Cond.sameField ref (T k).1 (T k).2.1 (T k).2.2.1 ∈ lw_all) ∧ (T k).2.2.2 = fin ∧ parseFieldDescriptor (T k).2.2.1 = some ty ∧ (fin = true → (T k).1 = own)
/-- the same of a final field, for its class's constructor -/
def g_flF (E : gE) (own : String) (idx ci k : Nat) (ty : FieldType) : Prop := ∃ (Cn ref : String) (T : u_T) (N : Nat) (ty0 : Nat → FieldType), g_kn E ci Cn T N ∧ k < N ∧ (∀ w ∈ u_ws Cn T N, w ∈ lw_all) ∧ (∀ j, j < N → parseFieldDescriptor (T j).2.2.1 = some (ty0 j)) ∧ (∀ a, a < N → ∀ b, b < N → a ≠ b → (T a).2.1 ≠ (T b).2.1) ∧
  Cond.fieldLink own idx ref (T k).2.1 (T k).2.2.1 ∈ lw_all ∧ (ref = (T k).1 ∨ Cond.sameField ref (T k).1 (T k).2.1 (T k).2.2.1 ∈ lw_all) ∧ (T k).2.2.2 = true ∧ parseFieldDescriptor (T k).2.2.1 = some ty ∧ (T k).1 = own
/-- v may stand in a field of the type ty -/
def g_fit (ty : FieldType) (v : Value) : Prop := narrow ty v = v ∧ fits ty v = true
theorem g_ap {E : gE} {s : State} {args : Array Value} {H : Heap} {ci N : Nat} {Cn : String} {T : u_T} {ty0 : Nat → FieldType} (hts : ∀ w ∈ lw_all, w.before args s = true) (hX : E.2.2.2 s H) (hK : g_kn E ci Cn T N) (hin : ∀ w ∈ u_ws Cn T N, w ∈ lw_all) (hty : ∀ j, j < N → parseFieldDescriptor (T j).2.2.1 = some (ty0 j)) (hnm : ∀ a, a < N → ∀ b, b < N → a ≠ b → (T a).2.1 ≠ (T b).2.1) : ∀ x y, x < N → y < N → x ≠ y → (E.2.1.2.1 ci) x ≠ (E.2.1.2.1 ci) y := by
  refine va_apart (own := Cn) (D := ((fun _ => E.2.1.1 ci), (fun _ => E.2.1.2.1 ci))) (cl := [(Cn, T, N)]) (tys := []) (ci := 0) hts hin ty0 hty hnm ⟨fun c q h => ?_, fun k q h => by simp at h⟩ rfl
  have hz : c < 1 := (List.getElem?_eq_some_iff.mp h).1
  rw [show c = 0 by omega] at h
  cases h
  exact hK.2 s H hX
theorem g_std.sto {E : gE} {d kc ks : Nat} {F : gF} {code : ByteArray} {L : List (Option Value)} {G : gH} {p : Program} {R : Room} {s : State} {m : MethodId} {args : Array Value} {meth : Method} {c : Code} {H H1 : Heap} {locs : List Loc} {ls : Array Slot} {cells slots a t n i : Nat} {v : Value} {cell : Cell} {x x' : (Nat → Int32) ⊕ (Nat → Int64) ⊕ (Nat → UInt32) ⊕ (Nat → UInt64) ⊕ (Nat → Option Nat)}
    (C : g_std E d kc ks F code L G p R s m args meth c H locs ls cells slots) (hz : E.2.2.1 ≤ a) (ha : G a = some (.inl (t, (n, x)))) (hcl : cell.cls = E.2.1.2.2.1 t) (hv1 : cell.vm ≠ .unknown) (hv2 : ∀ k, cell.vm ≠ .statics k) (hsz : cell.slots.size = n) (hel : ∀ j : Nat, j < n → cell.slots[j]? = some (g_val x j)) (hi : i < n)
    (e : H1[a]? = some (cell.setSlot i v)) (z : H1.size = H.size) (oq : ∀ q : Nat, q ≠ a → H1[q]? = H[q]?) (hx' : ∀ j, j < n → g_val x' j = if j = i then v else g_val x j) : g_std E d kc ks F code L (g_up G a (.inl (t, (n, x')))) p R s m args meth c H1 (locs ++ [⟨a, i⟩]) ls cells slots := by
  refine C.put hz ha g_up_eq (fun q hq => g_up_ne hq) z oq ⟨_, e, hcl, hv1, hv2, ?_, fun j hj => ?_⟩
  · show (cell.setSlot i v).slots.size = n
    rw [← hsz]
    simp [Cell.setSlot]
  · show (cell.setSlot i v).slots[j]? = some (g_val x' j)
    rw [hx' j hj]
    by_cases h : j = i
    · subst h
      rw [if_pos rfl]
      simp [Cell.setSlot, hsz, hj]
    · rw [if_neg h, slot_ne cell v (Ne.symm h)]
      exact hel j hj
theorem g_fu_nat {α β : Type} (mk : α → β) {f : Int → α} {i : Int} {v : α} (h0 : 0 ≤ i) (j : Nat) : mk (g_fu f i v (j : Int)) = if j = i.toNat then mk v else mk (f (j : Int)) := by
  by_cases h : j = i.toNat
  · rw [if_pos h, h, Int.toNat_of_nonneg h0, g_fu_eq]
  · rw [if_neg h, g_fu_ne (by omega)]
section GH
variable {E : gE} {d kc ks : Nat} {F : gF} {code : ByteArray} {pc idx : Nat} {L : List (Option Value)} {st : List Value} {G : gH} {Q : gR → gH → Prop} {a ci k t n : Nat}
theorem wp_get {fin : Bool} {ty : FieldType} {fs : List Value} {v : Value} (hd : decode code pc = .ok (.getfield idx, 3)) (hf : g_fl E F.1.cls idx ci k fin ty) (ha : G a = some (.inr (ci, fs))) (hv : fs[k]? = some v) (h : wp E d kc ks F code (pc + 3) L (v :: st) G Q) : wp E d kc ks F code pc L (.ref a :: st) G Q := wp.mk fun {p e R s m args below meth c H locs ls cells slots} C => by
  obtain ⟨Cn, ref, T, N, ty0, hK, hk, hin, hty, hnm, hl, hs, -⟩ := hf
  obtain ⟨cell, q1, q2, q3, q4⟩ := C.hP a _ ha
  obtain ⟨hS, hfc, kC, hkC, hkind⟩ := hK.2 s H C.hX
  obtain ⟨cf, kf, fi, f, hi, hsl⟩ := hS k hk
  have hi2 : s.fieldFound? ref (T k).2.1 (T k).2.2.1 = some (cf, kf, fi, f) := by
    rcases hs with rfl | hs
    · exact hi
    · exact u_same (C.hts _ hs) _ hi
  have hst := (u_facts hfc hkC (u_lays C.hts hin hk) hi).1
  have hread : cell.slots[f.slot]? = some v := by
    rw [hsl]
    rw [hK.1] at q4
    rw [q4 k hk]
    simp [vp_V, hv]
  rcases hl with hl | ⟨host, hl⟩
  · exact W.getf C.hx C.hb C.hown (C.hts _ hl) hi2 hst q1 (by rw [q3]; exact fun h => by cases h) hread rfl rfl hd (h.ap C)
  · exact va_Wgetf C.hx C.hb C.hown (va_Nw.use rfl (hl s H C.hX)) hi2 hst q1 (by rw [q3]; exact fun h => by cases h) hread rfl rfl hd (h.ap C)
theorem wp_put {ty : FieldType} {fs : List Value} {v : Value} (hd : decode code pc = .ok (.putfield idx, 3)) (hf : g_fl E F.1.cls idx ci k false ty) (ha : G a = some (.inr (ci, fs))) (hz : E.2.2.1 ≤ a) (hv : g_fit ty v) (hlen : k < fs.length) (h : wp E d kc ks F code (pc + 3) L st (g_up G a (.inr (ci, fs.set k v))) Q) : wp E d kc ks F code pc L (v :: .ref a :: st) G Q := wp.mk fun {p e R s m args below meth c H locs ls cells slots} C => by
  obtain ⟨Cn, ref, T, N, ty0, hK, hk, hin, hty, hnm, hl, hs, hfin, hty1, -⟩ := hf
  have hap := g_ap C.hts C.hX hK hin hty hnm
  obtain ⟨cell, q1, q2, q3, q4⟩ := C.hP a _ ha
  obtain ⟨hS, hfc, kC, hkC, hkind⟩ := hK.2 s H C.hX
  obtain ⟨cf, kf, fi, f, hi, hsl⟩ := hS k hk
  have hi2 : s.fieldFound? ref (T k).2.1 (T k).2.2.1 = some (cf, kf, fi, f) := by
    rcases hs with rfl | hs
    · exact hi
    · exact u_same (C.hts _ hs) _ hi
  have hlay := C.hts _ (hin _ (u_in_lay hk))
  unfold u_lay at hlay
  rw [if_neg (by rw [hfin]; decide)] at hlay
  have hst := (u_facts hfc hkC (u_lays C.hts hin hk) hi).1
  have h6 := u_store hfc hkC hkind hlay hi hty1 hv.1 hv.2
  rw [hK.1] at q4
  have go : ∀ H' : Heap, H'[a]? = some (cell.setSlot f.slot v) → H'.size = H.size → (∀ q, q ≠ a → H'[q]? = H[q]?) → g_std E d kc ks F code L (g_up G a (.inr (ci, fs.set k v))) p R s m args meth c H' (locs ++ [⟨a, f.slot⟩]) ls cells slots := by
    intro H' e1 e2 e3
    refine C.put hz ha g_up_eq (fun q hq => g_up_ne hq) e2 e3 ?_
    rw [hsl] at e1
    show t_OB a _ _ _ H' _
    rw [hK.1]
    exact t_OB.to (V := updV (vp_V fs) k v) ⟨_, e1, q2, q3, t_set q4 hap hk v⟩ (fun j _ => vp_updV_set hlen v j)
  rcases hl with hl | ⟨host, hl⟩
  · exact W.putK C.hx C.hb (f := f) ⟨C.hown, C.hts _ hl, ⟨_, _, _, hi2⟩, hst⟩ (by rw [q2]; exact h6) q1 q3 (by rw [hsl]; exact k2_hasslot (q4 k hk)) rfl rfl hd fun H' e1 e2 e3 => h.ap (go H' e1 e2 e3)
  · exact va_WputK C.hx C.hb (f := f) C.hown (va_Nw.use rfl (hl s H C.hX)) hi2 hst (by rw [q2]; exact h6) q1 q3 (by rw [hsl]; exact k2_hasslot (q4 k hk)) rfl rfl hd fun H' e1 e2 e3 => h.ap (go H' e1 e2 e3)
/-- a final field, in its class's constructor -/
theorem wp_putF {ty : FieldType} {fs : List Value} {v : Value} (hd : decode code pc = .ok (.putfield idx, 3)) (hf : g_flF E F.1.cls idx ci k ty) (hini : F.1.name = "<init>") (ha : G a = some (.inr (ci, fs))) (hz : E.2.2.1 ≤ a) (hv : g_fit ty v) (hlen : k < fs.length) (h : wp E d kc ks F code (pc + 3) L st (g_up G a (.inr (ci, fs.set k v))) Q) : wp E d kc ks F code pc L (v :: .ref a :: st) G Q := wp.mk fun {p e R s m args below meth c H locs ls cells slots} C => by
  obtain ⟨Cn, ref, T, N, ty0, hK, hk, hin, hty, hnm, hl, hs, hfin, hty1, hown2⟩ := hf
  have hap := g_ap C.hts C.hX hK hin hty hnm
  obtain ⟨cell, q1, q2, q3, q4⟩ := C.hP a _ ha
  obtain ⟨hS, hfc, kC, hkC, hkind⟩ := hK.2 s H C.hX
  obtain ⟨cf, kf, fi, f, hi, hsl⟩ := hS k hk
  have hi2 : s.fieldFound? ref (T k).2.1 (T k).2.2.1 = some (cf, kf, fi, f) := by
    rcases hs with rfl | hs
    · exact hi
    · exact u_same (C.hts _ hs) _ hi
  have hlay := C.hts _ (hin _ (u_in_lay hk))
  unfold u_lay at hlay
  rw [if_pos hfin] at hlay
  have hst := (u_facts hfc hkC (u_lays C.hts hin hk) hi).1
  have hcf : m.cls = cf := by
    obtain ⟨_, _, c', _, _, _, -, -, hf', -, -, -, hown3, -⟩ := Cond.laysFinal_spec hlay
    have e1 : c' = cf := by have := hi.symm.trans hf'; simp at this; exact this.1.symm
    rw [hown2] at hown3
    rw [← e1]; exact Option.some.inj (C.hown.symm.trans hown3)
  have h6 := u_fits hfc hkC hkind (Or.inr hlay) hi hty1 hv.1 hv.2
  rw [hK.1] at q4
  · refine W.putFinK C.hx C.hb C.hown (C.hts _ hl) hi2 hst hcf (C.hnm.trans hini) (by rw [q2]; exact h6) q1 q3 (by rw [hsl]; exact k2_hasslot (q4 k hk)) rfl rfl hd fun H' e1 e2 e3 => h.ap ?_
    refine C.put hz ha g_up_eq (fun q hq => g_up_ne hq) e2 e3 ?_
    rw [hsl] at e1
    show t_OB a _ _ _ H' _
    rw [hK.1]
    exact t_OB.to (V := updV (vp_V fs) k v) ⟨_, e1, q2, q3, t_set q4 hap hk v⟩ (fun j _ => vp_updV_set hlen v j)
/-- what 'new' needs of a class -/
def g_nc (E : gE) (own : String) (idx ci N : Nat) (fs : List Value) : Prop := ∃ (Cn : String) (T : u_T) (ty0 : Nat → FieldType), g_kn E ci Cn T N ∧ (∀ w ∈ u_ws Cn T N, w ∈ lw_all) ∧ (∀ j, j < N → parseFieldDescriptor (T j).2.2.1 = some (ty0 j)) ∧ (∀ j, j < N → defaultValue (ty0 j) = vp_V fs j) ∧ Cond.classLink own idx Cn ∈ lw_all ∧ Cond.instantiable Cn N ∈ lw_all ∧ Cond.initialized Cn ∈ lw_all
theorem wp_new {N : Nat} {fs : List Value} (hd : decode code pc = .ok (.new idx, 3)) (hc : g_nc E F.1.cls idx ci N fs) (h : ∀ a, G a = none → E.2.2.1 ≤ a → wp E d kc ks F code (pc + 3) L (.ref a :: st) (g_up G a (.inr (ci, fs))) Q) : wp E d (kc + 1) (ks + N) F code pc L st G Q := wp.mk fun {p e R s m args below meth c H locs ls cells slots} C => by
  obtain ⟨Cn, T, ty0, hK, hin, hty, hfs, q1, q2, q3⟩ := hc
  have hKn := hK.2 s H C.hX
  refine W.newcK C.hx C.hb C.hown (C.hts _ q1) (C.hts _ q2) (C.hts _ q3) rfl hd (by have := C.hkc; omega) (by have := C.hks; omega) hKn.2.1 rfl fun H1 kC hkC e1 z1 o1 => ?_
  have hlt : ∀ b y, G b = some y → b < H.size := fun b y h => (C.hP b y h).lt
  have hn : G H.size = none := by
    cases h9 : G H.size with
    | none => rfl
    | some y => exact absurd (hlt _ _ h9) (Nat.lt_irrefl _)
  have hz : E.2.2.1 ≤ H.size := Nat.le_trans C.hz C.hS.1
  refine (h H.size hn hz).ap ⟨C.1, ⟨C.hd, C.hlo, by have := C.hkc; omega, by have := C.hks; omega⟩, ⟨fun b y hy => ?_, ⟨by rw [z1]; exact Nat.le_succ_of_le C.hS.1, fun q h1 h2 => (o1 q (Nat.lt_of_lt_of_le h1 C.hS.1)).trans (C.hS.2.1 q h1 h2), C.hS.2.2⟩, C.hz, C.hok s s H H1 (State.WarmedH.refl s) (fun q hq => o1 q (Nat.lt_of_lt_of_le hq hz)) C.hX⟩, C.hL⟩
  by_cases hb : b = H.size
  · subst hb
    rw [g_up_eq] at hy
    cases hy
    show t_OB _ _ _ _ H1 _
    rw [hK.1]
    exact (u_born ty0 C.hts hin hKn hkC e1 hty).to hfs
  · rw [g_up_ne hb] at hy
    exact (C.hP b y hy).kept (o1 b (hlt b y hy))

theorem wp_iald {f : Int → Int} {i : Int} (hT : g_ka E 0 .int) (hd : decode code pc = .ok (.iaload, 1)) (ha : G a = some (gA 0 n f)) (h0 : 0 ≤ i) (h1 : i < n) (hn : n ≤ 2147483647) (h : wp E d kc ks F code (pc + 1) L (.int (ii_ (f i)) :: st) G Q) : wp E d kc ks F code pc L (.int (ii_ i) :: .ref a :: st) G Q := wp.mk fun C => by
  obtain ⟨cell, q1, q2, q3, q4, q5, q6⟩ := C.hP a _ ha
  refine W.iald C.hx C.hb q1 (g_isarr hT C.hX q2 q4) q3 (by rw [q5]; exact g_in h0 h1 hn) (v := .int (ii_ (f i))) ?_ rfl rfl hd (h.ap C)
  have e9 : ((((ii_ i).toNatClampNeg : Nat) : Int)) = i := g_cl_int h0 (by omega)
  rw [q6 _ (by show (ii_ i).toNatClampNeg < n; omega)]
  simp only [g_val, e9]
theorem wp_bald {f : Int → Int} {i : Int} (hT : g_ka E 1 .byte) (hd : decode code pc = .ok (.baload, 1)) (ha : G a = some (gA 1 n f)) (h0 : 0 ≤ i) (h1 : i < n) (hn : n ≤ 2147483647) (h : wp E d kc ks F code (pc + 1) L (.int (ii_ (f i)) :: st) G Q) : wp E d kc ks F code pc L (.int (ii_ i) :: .ref a :: st) G Q := wp.mk fun C => by
  obtain ⟨cell, q1, q2, q3, q4, q5, q6⟩ := C.hP a _ ha
  refine W.bald C.hx C.hb q1 (g_isarr hT C.hX q2 q4) q3 (by rw [q5]; exact g_in h0 h1 hn) (v := .int (ii_ (f i))) ?_ rfl rfl hd (h.ap C)
  have e9 : ((((ii_ i).toNatClampNeg : Nat) : Int)) = i := g_cl_int h0 (by omega)
  rw [q6 _ (by show (ii_ i).toNatClampNeg < n; omega)]
  simp only [g_val, e9]
theorem wp_cald {f : Int → Int} {i : Int} (hT : g_ka E 2 .char) (hd : decode code pc = .ok (.caload, 1)) (ha : G a = some (gA 2 n f)) (h0 : 0 ≤ i) (h1 : i < n) (hn : n ≤ 2147483647) (h : wp E d kc ks F code (pc + 1) L (.int (ii_ (f i)) :: st) G Q) : wp E d kc ks F code pc L (.int (ii_ i) :: .ref a :: st) G Q := wp.mk fun C => by
  obtain ⟨cell, q1, q2, q3, q4, q5, q6⟩ := C.hP a _ ha
  refine W.cald C.hx C.hb q1 (g_isarr hT C.hX q2 q4) q3 (by rw [q5]; exact g_in h0 h1 hn) (v := .int (ii_ (f i))) ?_ rfl rfl hd (h.ap C)
  have e9 : ((((ii_ i).toNatClampNeg : Nat) : Int)) = i := g_cl_int h0 (by omega)
  rw [q6 _ (by show (ii_ i).toNatClampNeg < n; omega)]
  simp only [g_val, e9]
theorem wp_zald {f : Int → Int} {i : Int} (hT : g_ka E 3 .boolean) (hd : decode code pc = .ok (.baload, 1)) (ha : G a = some (gA 3 n f)) (h0 : 0 ≤ i) (h1 : i < n) (hn : n ≤ 2147483647) (h : wp E d kc ks F code (pc + 1) L (.int (ii_ (f i)) :: st) G Q) : wp E d kc ks F code pc L (.int (ii_ i) :: .ref a :: st) G Q := wp.mk fun C => by
  obtain ⟨cell, q1, q2, q3, q4, q5, q6⟩ := C.hP a _ ha
  refine W.zald C.hx C.hb q1 (g_isarr hT C.hX q2 q4) q3 (by rw [q5]; exact g_in h0 h1 hn) (v := .int (ii_ (f i))) ?_ rfl rfl hd (h.ap C)
  have e9 : ((((ii_ i).toNatClampNeg : Nat) : Int)) = i := g_cl_int h0 (by omega)
  rw [q6 _ (by show (ii_ i).toNatClampNeg < n; omega)]
  simp only [g_val, e9]
theorem wp_lald {f : Int → Int64} {i : Int} (hT : g_ka E 4 .long) (hd : decode code pc = .ok (.laload, 1)) (ha : G a = some (gJ n f)) (h0 : 0 ≤ i) (h1 : i < n) (hn : n ≤ 2147483647) (h : wp E d kc ks F code (pc + 1) L (.long (f i) :: st) G Q) : wp E d kc ks F code pc L (.int (ii_ i) :: .ref a :: st) G Q := wp.mk fun C => by
  obtain ⟨cell, q1, q2, q3, q4, q5, q6⟩ := C.hP a _ ha
  refine W.lald C.hx C.hb q1 (g_isarr hT C.hX q2 q4) q3 (by rw [q5]; exact g_in h0 h1 hn) (v := .long (f i)) ?_ rfl rfl hd (h.ap C)
  have e9 : ((((ii_ i).toNatClampNeg : Nat) : Int)) = i := g_cl_int h0 (by omega)
  rw [q6 _ (by show (ii_ i).toNatClampNeg < n; omega)]
  simp only [g_val, e9]
theorem wp_dald {f : Int → UInt64} {i : Int} (hT : g_ka E 5 .double) (hd : decode code pc = .ok (.daload, 1)) (ha : G a = some (gW n f)) (h0 : 0 ≤ i) (h1 : i < n) (hn : n ≤ 2147483647) (h : wp E d kc ks F code (pc + 1) L (.double (f i) :: st) G Q) : wp E d kc ks F code pc L (.int (ii_ i) :: .ref a :: st) G Q := wp.mk fun C => by
  obtain ⟨cell, q1, q2, q3, q4, q5, q6⟩ := C.hP a _ ha
  refine W.dald C.hx C.hb q1 (g_isarr hT C.hX q2 q4) q3 (by rw [q5]; exact g_in h0 h1 hn) (v := .double (f i)) ?_ rfl rfl hd (h.ap C)
  have e9 : ((((ii_ i).toNatClampNeg : Nat) : Int)) = i := g_cl_int h0 (by omega)
  rw [q6 _ (by show (ii_ i).toNatClampNeg < n; omega)]
  simp only [g_val, e9]
theorem wp_alen {x : vp_A} {z : Int} {ty : FieldType} (hT : g_ka E t ty) (hd : decode code pc = .ok (.arraylength, 1)) (ha : G a = some (.inl (t, x))) (hz : (x.1 : Int) = z) (h : wp E d kc ks F code (pc + 1) L (.int (ii_ z) :: st) G Q) : wp E d kc ks F code pc L (.ref a :: st) G Q := wp.mk fun C => by
  obtain ⟨cell, q1, q2, q3, q4, q5, q6⟩ := C.hP a _ ha
  exact W.alen (n := ii_ z) C.hx C.hb q1 (g_isarr hT C.hX q2 q4) (by rw [q5, ← hz] <;> rfl) rfl rfl hd (h.ap C)
theorem wp_aald {f : Int → Option Nat} {i : Int} {Cn : String} (hT : g_ka E t (.object Cn)) (hd : decode code pc = .ok (.aaload, 1)) (ha : G a = some (gO t n f)) (h0 : 0 ≤ i) (h1 : i < n) (hn : n ≤ 2147483647) (h : wp E d kc ks F code (pc + 1) L (va_rf (f i) :: st) G Q) : wp E d kc ks F code pc L (.int (ii_ i) :: .ref a :: st) G Q := wp.mk fun C => by
  obtain ⟨cell, q1, q2, q3, q4, q5, q6⟩ := C.hP a _ ha
  refine W.aald C.hx C.hb q1 (g_isarr hT C.hX q2 q4) rfl q3 (by rw [q5]; exact g_in h0 h1 hn) (v := va_rf (f i)) ?_ rfl rfl hd (h.ap C)
  have e9 : ((((ii_ i).toNatClampNeg : Nat) : Int)) = i := g_cl_int h0 (by omega)
  rw [q6 _ (by show (ii_ i).toNatClampNeg < n; omega)]
  simp only [g_val, e9]
theorem wp_iast {f : Int → Int} {i : Int} {v : Int} (hT : g_ka E 0 .int) (hd : decode code pc = .ok (.iastore, 1)) (ha : G a = some (gA 0 n f)) (hz : E.2.2.1 ≤ a) (h0 : 0 ≤ i) (h1 : i < n) (hn : n ≤ 2147483647) (h : wp E d kc ks F code (pc + 1) L st (g_up G a (gA 0 n (g_fu f i v))) Q) : wp E d kc ks F code pc L (.int (ii_ v) :: .int (ii_ i) :: .ref a :: st) G Q := wp.mk fun {p e R s m args below meth c H locs ls cells slots} C => by
  obtain ⟨cell, q1, q2, q3, q4, q5, q6⟩ := C.hP a _ ha
  refine W.iast C.hx C.hb q1 (g_isarr hT C.hX q2 q4) q3 (by rw [q5]; exact g_in h0 h1 hn) rfl rfl hd fun H1 e z oq => h.ap ?_
  have e8 : (ii_ i).toNatClampNeg = i.toNat := ii_cl h0 (by omega)
  skip
  exact C.sto hz ha q2 q3 q4 q5 q6 (by rw [e8]; omega) e z oq (fun j hj => by rw [e8]; exact g_fu_nat (fun z : Int => Value.int (ii_ z)) h0 j)
theorem wp_bast {f : Int → Int} {i : Int} {v : Int} (hT : g_ka E 1 .byte) (hd : decode code pc = .ok (.bastore, 1)) (ha : G a = some (gA 1 n f)) (hz : E.2.2.1 ≤ a) (h0 : 0 ≤ i) (h1 : i < n) (hn : n ≤ 2147483647) (hv : narrow .byte (.int (ii_ v)) = .int (ii_ v)) (h : wp E d kc ks F code (pc + 1) L st (g_up G a (gA 1 n (g_fu f i v))) Q) : wp E d kc ks F code pc L (.int (ii_ v) :: .int (ii_ i) :: .ref a :: st) G Q := wp.mk fun {p e R s m args below meth c H locs ls cells slots} C => by
  obtain ⟨cell, q1, q2, q3, q4, q5, q6⟩ := C.hP a _ ha
  refine W.bast C.hx C.hb q1 (g_isarr hT C.hX q2 q4) q3 (by rw [q5]; exact g_in h0 h1 hn) rfl rfl hd fun H1 e z oq => h.ap ?_
  have e8 : (ii_ i).toNatClampNeg = i.toNat := ii_cl h0 (by omega)
  rw [hv] at e
  exact C.sto hz ha q2 q3 q4 q5 q6 (by rw [e8]; omega) e z oq (fun j hj => by rw [e8]; exact g_fu_nat (fun z : Int => Value.int (ii_ z)) h0 j)
theorem wp_cast {f : Int → Int} {i : Int} {v : Int} (hT : g_ka E 2 .char) (hd : decode code pc = .ok (.castore, 1)) (ha : G a = some (gA 2 n f)) (hz : E.2.2.1 ≤ a) (h0 : 0 ≤ i) (h1 : i < n) (hn : n ≤ 2147483647) (hv : narrow .char (.int (ii_ v)) = .int (ii_ v)) (h : wp E d kc ks F code (pc + 1) L st (g_up G a (gA 2 n (g_fu f i v))) Q) : wp E d kc ks F code pc L (.int (ii_ v) :: .int (ii_ i) :: .ref a :: st) G Q := wp.mk fun {p e R s m args below meth c H locs ls cells slots} C => by
  obtain ⟨cell, q1, q2, q3, q4, q5, q6⟩ := C.hP a _ ha
  refine W.cast C.hx C.hb q1 (g_isarr hT C.hX q2 q4) q3 (by rw [q5]; exact g_in h0 h1 hn) rfl rfl hd fun H1 e z oq => h.ap ?_
  have e8 : (ii_ i).toNatClampNeg = i.toNat := ii_cl h0 (by omega)
  rw [hv] at e
  exact C.sto hz ha q2 q3 q4 q5 q6 (by rw [e8]; omega) e z oq (fun j hj => by rw [e8]; exact g_fu_nat (fun z : Int => Value.int (ii_ z)) h0 j)
theorem wp_zast {f : Int → Int} {i : Int} {v : Int} (hT : g_ka E 3 .boolean) (hd : decode code pc = .ok (.bastore, 1)) (ha : G a = some (gA 3 n f)) (hz : E.2.2.1 ≤ a) (h0 : 0 ≤ i) (h1 : i < n) (hn : n ≤ 2147483647) (hv : narrow .boolean (.int (ii_ v)) = .int (ii_ v)) (h : wp E d kc ks F code (pc + 1) L st (g_up G a (gA 3 n (g_fu f i v))) Q) : wp E d kc ks F code pc L (.int (ii_ v) :: .int (ii_ i) :: .ref a :: st) G Q := wp.mk fun {p e R s m args below meth c H locs ls cells slots} C => by
  obtain ⟨cell, q1, q2, q3, q4, q5, q6⟩ := C.hP a _ ha
  refine W.zast C.hx C.hb q1 (g_isarr hT C.hX q2 q4) q3 (by rw [q5]; exact g_in h0 h1 hn) rfl rfl hd fun H1 e z oq => h.ap ?_
  have e8 : (ii_ i).toNatClampNeg = i.toNat := ii_cl h0 (by omega)
  rw [hv] at e
  exact C.sto hz ha q2 q3 q4 q5 q6 (by rw [e8]; omega) e z oq (fun j hj => by rw [e8]; exact g_fu_nat (fun z : Int => Value.int (ii_ z)) h0 j)
theorem wp_last {f : Int → Int64} {i : Int} {v : Int64} (hT : g_ka E 4 .long) (hd : decode code pc = .ok (.lastore, 1)) (ha : G a = some (gJ n f)) (hz : E.2.2.1 ≤ a) (h0 : 0 ≤ i) (h1 : i < n) (hn : n ≤ 2147483647) (h : wp E d kc ks F code (pc + 1) L st (g_up G a (gJ n (g_fu f i v))) Q) : wp E d kc ks F code pc L (.long v :: .int (ii_ i) :: .ref a :: st) G Q := wp.mk fun {p e R s m args below meth c H locs ls cells slots} C => by
  obtain ⟨cell, q1, q2, q3, q4, q5, q6⟩ := C.hP a _ ha
  refine W.last C.hx C.hb q1 (g_isarr hT C.hX q2 q4) q3 (by rw [q5]; exact g_in h0 h1 hn) rfl rfl hd fun H1 e z oq => h.ap ?_
  have e8 : (ii_ i).toNatClampNeg = i.toNat := ii_cl h0 (by omega)
  skip
  exact C.sto hz ha q2 q3 q4 q5 q6 (by rw [e8]; omega) e z oq (fun j hj => by rw [e8]; exact g_fu_nat (Value.long) h0 j)
theorem wp_dast {f : Int → UInt64} {i : Int} {v : UInt64} (hT : g_ka E 5 .double) (hd : decode code pc = .ok (.dastore, 1)) (ha : G a = some (gW n f)) (hz : E.2.2.1 ≤ a) (h0 : 0 ≤ i) (h1 : i < n) (hn : n ≤ 2147483647) (h : wp E d kc ks F code (pc + 1) L st (g_up G a (gW n (g_fu f i v))) Q) : wp E d kc ks F code pc L (.double v :: .int (ii_ i) :: .ref a :: st) G Q := wp.mk fun {p e R s m args below meth c H locs ls cells slots} C => by
  obtain ⟨cell, q1, q2, q3, q4, q5, q6⟩ := C.hP a _ ha
  refine W.dast C.hx C.hb q1 (g_isarr hT C.hX q2 q4) q3 (by rw [q5]; exact g_in h0 h1 hn) rfl rfl hd fun H1 e z oq => h.ap ?_
  have e8 : (ii_ i).toNatClampNeg = i.toNat := ii_cl h0 (by omega)
  skip
  exact C.sto hz ha q2 q3 q4 q5 q6 (by rw [e8]; omega) e z oq (fun j hj => by rw [e8]; exact g_fu_nat (Value.double) h0 j)
theorem wp_aastN {f : Int → Option Nat} {i : Int} {Cn : String} (hT : g_ka E t (.object Cn)) (hd : decode code pc = .ok (.aastore, 1)) (ha : G a = some (gO t n f)) (hz : E.2.2.1 ≤ a) (h0 : 0 ≤ i) (h1 : i < n) (hn : n ≤ 2147483647) (h : wp E d kc ks F code (pc + 1) L st (g_up G a (gO t n (g_fu f i none))) Q) : wp E d kc ks F code pc L (.null :: .int (ii_ i) :: .ref a :: st) G Q := wp.mk fun {p e R s m args below meth c H locs ls cells slots} C => by
  obtain ⟨cell, q1, q2, q3, q4, q5, q6⟩ := C.hP a _ ha
  refine va_WaastN (C := Cn) C.hx C.hb q1 (g_isarr hT C.hX q2 q4) q3 (by rw [q5]; exact g_in h0 h1 hn) rfl rfl hd fun H1 e z oq => h.ap ?_
  have e8 : (ii_ i).toNatClampNeg = i.toNat := ii_cl h0 (by omega)
  exact C.sto hz ha q2 q3 q4 q5 q6 (by rw [e8]; omega) e z oq (fun j hj => by rw [e8]; exact g_fu_nat va_rf h0 j)
/-- a reference stored: the class of the value may be cast to the array's -/
theorem wp_aast {f : Int → Option Nat} {i : Int} {Cn Cv : String} {v cv N : Nat} {vs : List Value} {T : u_T} (hT : g_ka E t (.object Cn)) (hca : Cv = Cn ∨ g_nw E (.castable Cv Cn)) (hK : g_kn E cv Cv T N) (hd : decode code pc = .ok (.aastore, 1)) (ha : G a = some (gO t n f)) (hv : G v = some (.inr (cv, vs))) (hz : E.2.2.1 ≤ a) (h0 : 0 ≤ i) (h1 : i < n) (hn : n ≤ 2147483647) (h : wp E d kc ks F code (pc + 1) L st (g_up G a (gO t n (g_fu f i (some v)))) Q) : wp E d kc ks F code pc L (.ref v :: .int (ii_ i) :: .ref a :: st) G Q := wp.mk fun {p e R s m args below meth c H locs ls cells slots} C => by
  have hin := g_in h0 h1 hn
  have hlt : (ii_ i).toNatClampNeg < n := Nat.not_le.mp fun q => hin (Or.inr q)
  have h00 : ¬ ii_ i < 0 := fun q => hin (Or.inl q)
  obtain ⟨cellV, g1, g2, g3, -⟩ := C.hP v _ hv
  have hcls := (hK.2 s H C.hX).2
  obtain ⟨kA, comp, k1, k2, k3, -⟩ := (hT s H C.hX).2
  obtain ⟨kE, hkE, -⟩ := Vm.findClass_spec k3
  obtain ⟨kC, hkC, -⟩ := hcls.2
  have f3 : s.vm.assignable (E.2.1.1 cv) comp = true := by
    rcases hca with rfl | hca
    · have : comp = E.2.1.1 cv := Option.some.inj (k3.symm.trans hcls.1)
      rw [this]
      exact va_assign hcls
    · obtain ⟨c0, t1, f1, f2, f3⟩ := Cond.castable_spec (va_Nw.use (A := args) rfl (hca s H C.hX))
      cases hcls.1.symm.trans f1
      cases k3.symm.trans f2
      exact f3
  obtain ⟨cell, q1, q2, q3, q4, q5, q6⟩ := C.hP a _ ha
  refine W.aast C.hx C.hb q1 q4 q3 (by rw [q2]; exact k1) k2 rfl hkE ⟨h00, by rw [q5]; exact hlt⟩ g1 (fun q h => by rw [g3] at h; cases h) (by rw [g2]; exact hkC) (by rw [g2]; exact f3) rfl rfl hd fun H1 e z oq => h.ap ?_
  have e8 : (ii_ i).toNatClampNeg = i.toNat := ii_cl h0 (by omega)
  exact C.sto hz ha q2 q3 q4 q5 q6 (by rw [e8]; omega) e z oq (fun j hj => by rw [e8]; exact g_fu_nat va_rf h0 j)
/-- new arrays -/
theorem wp_newarr {i : Int} {atype : ArrayType} {x : vp_A} (hT : g_ka E t (newarray.typeOf atype)) (hw : Cond.arrayClass (newarray.typeOf atype) ∈ lw_all) (hd : decode code pc = .ok (.newarray atype, 2)) (hx1 : x.1 = n) (hx : ∀ j, g_val x.2 j = defaultValue (newarray.typeOf atype)) (hi : i = (n : Int)) (hsz : n * componentBytes (newarray.typeOf atype) ≤ 536870912) (hn : n ≤ 2147483647) (h : ∀ a, G a = none → E.2.2.1 ≤ a → wp E d kc ks F code (pc + 2) L (.ref a :: st) (g_up G a (.inl (t, x))) Q) : wp E d (kc + 1) (ks + n) F code pc L (.int (ii_ i) :: st) G Q := wp.mk fun {p e R s m args below meth c H locs ls cells slots} C => by
  subst hi
  have hn0 : ¬ ii_ (n : Int) < 0 := by
    intro q
    have q2 : ii_ (n : Int) < ii_ 0 := q
    rw [ii_lt ⟨by omega, by omega⟩ ⟨by decide, by decide⟩] at q2
    omega
  refine va_newaK C.hx C.hb (C.hts _ hw) rfl hd rfl hn0 (by rw [ii_cl (by omega) (by omega)]; exact Int.toNat_natCast n) hsz (by have := C.hkc; omega) (by have := C.hks; omega) rfl fun H1 cA e1 z1 o1 hAr hNm => ?_
  have hcA : cA = E.2.1.2.2.1 t := by
    have h9 := (hT s H C.hX).2
    have h8 : s.vm.findClass ("[" ++ (newarray.typeOf atype).toString) = some (E.2.1.2.2.1 t) := by cases atype <;> exact h9
    exact Option.some.inj (hNm.symm.trans h8)
  have hlt : ∀ b y, G b = some y → b < H.size := fun b y h => (C.hP b y h).lt
  have hnn : G H.size = none := by
    cases h9 : G H.size with
    | none => rfl
    | some y => exact absurd (hlt _ _ h9) (Nat.lt_irrefl _)
  have hz : E.2.2.1 ≤ H.size := Nat.le_trans C.hz C.hS.1
  refine (h H.size hnn hz).ap ⟨C.1, ⟨C.hd, C.hlo, by have := C.hkc; omega, by have := C.hks; omega⟩, ⟨fun b y hy => ?_, ⟨by rw [z1]; exact Nat.le_succ_of_le C.hS.1, fun q h1 h2 => (o1 q (Nat.lt_of_lt_of_le h1 C.hS.1)).trans (C.hS.2.1 q h1 h2), C.hS.2.2⟩, C.hz, C.hok s s H H1 (State.WarmedH.refl s) (fun q hq => o1 q (Nat.lt_of_lt_of_le hq hz)) C.hX⟩, C.hL⟩
  by_cases hb : b = H.size
  · subst hb
    rw [g_up_eq] at hy
    cases hy
    refine ⟨_, e1, hcA, ?_, ?_, (arrV_size _ _ _).trans hx1.symm, fun j hj => ?_⟩
    · intro q; cases q
    · intro k q; cases q
    · rw [hx]; exact arrV_read _ _ (by rw [← hx1]; exact hj)
  · rw [g_up_ne hb] at hy
    exact (C.hP b y hy).kept (o1 b (hlt b y hy))
theorem wp_newref {i : Int} {Cn : String} (hT : g_ka E t (.object Cn)) (hw : Cond.classLink F.1.cls idx Cn ∈ lw_all) (hover : ∀ s H, E.2.2.2 s H → va_AO Cn s) (hd : decode code pc = .ok (.anewarray idx, 3)) (hi : i = (n : Int)) (hsz : n * 4 ≤ 536870912) (h : ∀ a, G a = none → E.2.2.1 ≤ a → wp E d kc ks F code (pc + 3) L (.ref a :: st) (g_up G a (gO t n (fun _ => none))) Q) : wp E d (kc + 1) (ks + n) F code pc L (.int (ii_ i) :: st) G Q := wp.mk fun {p e R s m args below meth c H locs ls cells slots} C => by
  subst hi
  have hn0 : ¬ ii_ (n : Int) < 0 := by
    intro q
    have q2 : ii_ (n : Int) < ii_ 0 := q
    rw [ii_lt ⟨by omega, by omega⟩ ⟨by decide, by decide⟩] at q2
    omega
  have hcl : (ii_ (n : Int)).toNatClampNeg = n := by rw [ii_cl (by omega) (by omega)]; exact Int.toNat_natCast n
  refine W.anew C.hx C.hb C.hown (C.hts _ hw) (va_AO.use (hover s H C.hX)) rfl hd rfl hn0 (by rw [hcl]; exact hsz) (by have := C.hkc; omega) (by rw [hcl]; have := C.hks; omega) fun cA kA comp f1 f2 f3 f4 => ?_
  rw [hcl]
  generalize hH1 : H.push ({ cls := cA, slots := Array.replicate n .null, vm := .none } : Cell) = H1
  have z1 : H1.size = H.size + 1 := by rw [← hH1, Array.size_push]
  have e1 : H1[H.size]? = some (arrV cA n (fun _ => .null)) := by rw [← hH1, Array.getElem?_push_size, ← arrV_new]
  have o1 : ∀ q : Nat, q < H.size → H1[q]? = H[q]? := fun q hq => by rw [← hH1, Array.getElem?_push, if_neg (Nat.ne_of_lt hq)]
  have hcA : cA = E.2.1.2.2.1 t := by
    obtain ⟨kA9, comp9, g1, g2, g3, g4⟩ := (hT s H C.hX).2
    exact Option.some.inj (f1.symm.trans g4)
  have hlt : ∀ b y, G b = some y → b < H.size := fun b y h => (C.hP b y h).lt
  have hnn : G H.size = none := by
    cases h9 : G H.size with
    | none => rfl
    | some y => exact absurd (hlt _ _ h9) (Nat.lt_irrefl _)
  have hz : E.2.2.1 ≤ H.size := Nat.le_trans C.hz C.hS.1
  refine (h H.size hnn hz).ap ⟨C.1, ⟨C.hd, C.hlo, by have := C.hkc; omega, by have := C.hks; omega⟩, ⟨fun b y hy => ?_, ⟨by rw [z1]; exact Nat.le_succ_of_le C.hS.1, fun q h1 h2 => (o1 q (Nat.lt_of_lt_of_le h1 C.hS.1)).trans (C.hS.2.1 q h1 h2), C.hS.2.2⟩, C.hz, C.hok s s H H1 (State.WarmedH.refl s) (fun q hq => o1 q (Nat.lt_of_lt_of_le hq hz)) C.hX⟩, C.hL⟩
  by_cases hb : b = H.size
  · subst hb
    rw [g_up_eq] at hy
    cases hy
    refine ⟨_, e1, hcA, ?_, ?_, arrV_size _ _ _, fun j hj => ?_⟩
    · intro q; cases q
    · intro k q; cases q
    · exact arrV_read _ _ hj
  · rw [g_up_ne hb] at hy
    exact (C.hP b y hy).kept (o1 b (hlt b y hy))
/-- Object's constructor -/
theorem wp_objInit (hd : decode code pc = .ok (.invokespecial idx, 3)) (hl : Cond.methodLink F.1.cls idx Lib.objectInit ∈ lw_all) (hi : Cond.instanceMethod Lib.objectInit ∈ lw_all) (hc : Cond.code Lib.objectInit ⟨#[0xb1]⟩ 1 none ∈ lw_all) (hw : Nat.ble (st.map fun v => v.category).sum 8 = true) (h : wp E (d + 1) kc ks F code (pc + 3) L st G Q) : wp E (d + 1) kc ks F code pc L (.ref a :: st) G Q := wp.mk fun C => by
  refine W.objInit C.hx C.hb C.hown (C.hts _ hl) (C.hts _ hi) (C.hts _ hc) rfl (C.size.trans C.hml.symm) rfl hd (by have := C.hd; omega) ?_ (h.ap C)
  have h8 := Nat.le_of_ble_eq_true hw
  have := C.hlo
  show 2 * 0 + (st.map fun v => v.category).sum + 12 ≤ _
  omega
/-- casts -/
theorem wp_ccast {Cn nm : String} {T : u_T} {N : Nat} {fs : List Value} (hd : decode code pc = .ok (.checkcast idx, 3)) (hl : Cond.classLink F.1.cls idx nm ∈ lw_all) (hK : g_kn E ci Cn T N) (hc : Cn = nm ∨ g_nw E (.castable Cn nm)) (ha : G a = some (.inr (ci, fs))) (h : wp E d kc ks F code (pc + 3) L (.ref a :: st) G Q) : wp E d kc ks F code pc L (.ref a :: st) G Q := wp.mk fun {p e R s m args below meth c H locs ls cells slots} C => by
  obtain ⟨cell, q1, q2, q3, -⟩ := g_recv C.hP C.hX hK ha
  rcases hc with rfl | hc
  · exact va_castS C.hx C.hb C.hown (C.hts _ hl) (hK.2 s H C.hX).2 ⟨cell, q1, by rw [q2]; rfl, q3⟩ hd (h.ap C)
  · exact va_castY C.hx C.hb C.hown (C.hts _ hl) (hc s H C.hX) ⟨cell, q1, by rw [q2]; rfl, q3⟩ hd (h.ap C)
theorem wp_ccastN (hd : decode code pc = .ok (.checkcast idx, 3)) (h : wp E d kc ks F code (pc + 3) L (.null :: st) G Q) : wp E d kc ks F code pc L (.null :: st) G Q := wp.mk fun C => lv_castN C.hx C.hb hd (h.ap C)
theorem wp_instY {Cn nm : String} {T : u_T} {N : Nat} {fs : List Value} (hd : decode code pc = .ok (.instanceof idx, 3)) (hl : Cond.classLink F.1.cls idx nm ∈ lw_all) (hK : g_kn E ci Cn T N) (hc : Cn = nm ∨ g_nw E (.castable Cn nm)) (ha : G a = some (.inr (ci, fs))) (h : wp E d kc ks F code (pc + 3) L (.int (ii_ 1) :: st) G Q) : wp E d kc ks F code pc L (.ref a :: st) G Q := wp.mk fun {p e R s m args below meth c H locs ls cells slots} C => by
  obtain ⟨cell, q1, q2, q3, -⟩ := g_recv C.hP C.hX hK ha
  rcases hc with rfl | hc
  · exact va_instS C.hx C.hb C.hown (C.hts _ hl) (hK.2 s H C.hX).2 ⟨cell, q1, by rw [q2]; rfl, q3⟩ hd (h.ap C)
  · exact va_instY C.hx C.hb C.hown (C.hts _ hl) (hc s H C.hX) ⟨cell, q1, by rw [q2]; rfl, q3⟩ hd (h.ap C)
theorem wp_instNo {Cn nm : String} {T : u_T} {N : Nat} {fs : List Value} (hd : decode code pc = .ok (.instanceof idx, 3)) (hl : Cond.classLink F.1.cls idx nm ∈ lw_all) (hK : g_kn E ci Cn T N) (hc : ∀ s H, E.2.2.2 s H → va_Nc Cn nm s) (ha : G a = some (.inr (ci, fs))) (h : wp E d kc ks F code (pc + 3) L (.int (ii_ 0) :: st) G Q) : wp E d kc ks F code pc L (.ref a :: st) G Q := wp.mk fun {p e R s m args below meth c H locs ls cells slots} C => by
  obtain ⟨cell, q1, q2, q3, -⟩ := g_recv C.hP C.hX hK ha
  exact va_instNo C.hx C.hb C.hown (C.hts _ hl) (hc s H C.hX) ⟨cell, q1, by rw [q2]; rfl, q3⟩ hd (h.ap C)
/-- throws -/
theorem wp_athrow {q : Nat} (hd : decode code pc = .ok (.athrow, 1)) (h : wpx E d kc ks F code pc L q G Q) : wp E d kc ks F code pc L (.ref q :: st) G Q := wp.mk fun C => vx_athrow C.hx C.hb hd (h.ap C)
/-- no handler at pc -/
def g_free (hh : List (Nat × Nat × Nat × Nat)) (pc : Nat) : Bool := (tableOf hh).all fun x => !covers x pc
theorem wpx_out {q : Nat} (hf : g_free F.2.2.2 pc = true) (hq : Q (.inr q) G) : wpx E d kc ks F code pc L q G Q := wpx.mk fun {p e R s m args below meth c H locs ls cells slots rest} C => by
  intro T hT X
  have hout : ∀ x ∈ c.exceptionTable.toList, covers x pc = false := fun x hx => by
    rw [C.htb] at hx
    have h9 := List.all_eq_true.mp hf x hx
    cases h8 : covers x pc with
    | false => rfl
    | true => rw [h8] at h9; cases h9
  obtain ⟨st1, hrun, hend, hW, hsm⟩ := X.leaveThrown q (g := F0 m pc ls rest) rfl rfl rfl hout C.hlk
  refine ⟨_, st1, .threw q, hrun, hend, locs, G, C.hS.2.2, ?_, ?_, hW, hsm.mono (Nat.le_trans (Nat.le_add_right _ _) C.hkc) (Nat.le_trans (Nat.le_add_right _ _) C.hks), Or.inr ⟨q, rfl, hq⟩⟩
  · show g_rep E.2.1 G T.heap
    rw [hT]; exact C.hP
  · refine ⟨?_, fun z h1 h2 => ?_⟩
    · show s.heap.size ≤ T.heap.size
      rw [hT]; exact C.hS.1
    · show T.heap[z]? = s.heap[z]?
      rw [hT]; exact C.hS.2.1 z h1 h2
/-- the rows of a table that do not take an exception of the class Cn thrown at pc -/
def g_pass (E : gE) (own : String) (Cn : String) (pc : Nat) (zs : List ExceptionTableEntry) : Prop := ∀ z ∈ zs, covers z pc = false ∨ (z.catchType ≠ 0 ∧ ∃ nm : String, Cond.classLink own z.catchType nm ∈ lw_all ∧ ∀ s H, E.2.2.2 s H → va_Nc Cn nm s)
theorem wpx_catch {q N : Nat} {Cn nm : String} {T : u_T} {fs : List Value} (pre suf : List ExceptionTableEntry) (x : ExceptionTableEntry) (ht : tableOf F.2.2.2 = pre ++ x :: suf) (hpre : g_pass E F.1.cls Cn pc pre) (hx : covers x pc = true) (h0 : x.catchType ≠ 0) (hl : Cond.classLink F.1.cls x.catchType nm ∈ lw_all) (hK : g_kn E ci Cn T N) (hc : Cn = nm ∨ g_nw E (.castable Cn nm)) (ha : G q = some (.inr (ci, fs))) (h : wp E d kc ks F code x.handlerPc L [.ref q] G Q) : wpx E d kc ks F code pc L q G Q := wpx.mk fun {p e R s m args below meth c H locs ls cells slots rest} C => by
  obtain ⟨cell, q1, q2, q3, kB, hkB⟩ := g_recv C.hP C.hX hK ha
  have hasg : ∃ t, s.vm.findClass nm = some t ∧ s.vm.assignable cell.cls t = true := by
    rcases hc with rfl | hc
    · exact ⟨cell.cls, q3, by
        have h9 := (hK.2 s H C.hX).2
        have e9 : cell.cls = E.2.1.1 ci := Option.some.inj (q3.symm.trans h9.1)
        rw [e9]; exact va_assign h9⟩
    · obtain ⟨c0, t0, f1, f2, f3⟩ := Cond.castable_spec (va_Nw.use (A := args) rfl (hc s H C.hX))
      cases q3.symm.trans f1
      exact ⟨t0, f2, f3⟩
  obtain ⟨c4, hc4, hasg⟩ := hasg
  intro T hT X
  have hpl : e.platform.magicAccessors = ({} : Platform).magicAccessors := by rw [X.admits.platform]
  obtain ⟨c5, hc5, hcl5⟩ := Cond.classLink_spec C.hown (C.hts _ hl) e.platform hpl
  cases Option.some.inj (hc4.symm.trans hc5)
  obtain ⟨vm', X', st⟩ := X.thenCaughtThrough q (g := F0 m pc ls rest) rfl (Steps.refl _) (by rw [hT]; exact q1) (by rw [q2]; rfl) ⟨kB, hkB⟩ pre x suf (C.htb.trans ht)
    (fun z hz => by
      rcases hpre z hz with h | ⟨hz0, nm1, hl1, hn1⟩
      · exact Or.inl h
      · obtain ⟨c6, hc6, hcl6⟩ := Cond.classLink_spec C.hown (C.hts _ hl1) e.platform hpl
        obtain ⟨a8, b8, h1, h2, h3⟩ := hn1 s H C.hX
        cases Option.some.inj (h1.symm.trans q3)
        cases Option.some.inj (h2.symm.trans hc6)
        exact Or.inr ⟨hz0, _, hcl6, h3⟩) hx (Or.inr ⟨h0, c4, hcl5, hasg⟩)
  obtain ⟨t, a1, b1⟩ := h.ap C (T.setVm vm') hT X'
  exact ⟨t, st.trans a1, b1⟩
/-- the whole table lets it pass -/
theorem wpx_pass {q N : Nat} {Cn : String} {T : u_T} {fs : List Value} (hpass : g_pass E F.1.cls Cn pc (tableOf F.2.2.2)) (hK : g_kn E ci Cn T N) (ha : G q = some (.inr (ci, fs))) (hq : Q (.inr q) G) : wpx E d kc ks F code pc L q G Q := wpx.mk fun {p e R s m args below meth c H locs ls cells slots rest} C => by
  obtain ⟨cell, q1, q2, q3, kB, hkB⟩ := g_recv C.hP C.hX hK ha
  intro T hT X
  have hpl : e.platform.magicAccessors = ({} : Platform).magicAccessors := by rw [X.admits.platform]
  obtain ⟨vm', hW', X', st⟩ := X.outThrough C.hlk q (g := F0 m pc ls rest) rfl rfl rfl (cell := cell) (by rw [hT]; exact q1) (by rw [q2]; rfl) ⟨kB, hkB⟩ (fun z hz => by
      rw [C.htb] at hz
      rcases hpass z hz with h | ⟨hz0, nm, hl1, hn1⟩
      · exact Or.inl h
      · obtain ⟨c6, hc6, hcl6⟩ := Cond.classLink_spec C.hown (C.hts _ hl1) e.platform hpl
        obtain ⟨a8, b8, h1, h2, h3⟩ := hn1 s H C.hX
        cases Option.some.inj (h1.symm.trans q3)
        cases Option.some.inj (h2.symm.trans hc6)
        exact Or.inr ⟨hz0, _, hcl6, h3⟩)
  obtain ⟨g₀, hfr⟩ := X'.frames_eq
  have hend : Ended ((T.setVm vm').setFrames (.throwing q :: below)) below (.threw q) := State.frames_setFrames _ (State.cur_lt_of_frames hfr)
  refine ⟨(T.setVm vm').setFrames (.throwing q :: below), ?_, .threw q, X'.here.running, hend, locs, G, C.hS.2.2, ?_, ?_, (X'.ends _).1, (X'.ends _).2.mono (Nat.le_trans (Nat.le_add_right _ _) C.hkc) (Nat.le_trans (Nat.le_add_right _ _) C.hks), Or.inr ⟨q, rfl, hq⟩⟩
  · rw [X.pushThrowing_eq]
    exact st
  · show g_rep E.2.1 G T.heap
    rw [hT]; exact C.hP
  · refine ⟨?_, fun z h1 h2 => ?_⟩
    · show s.heap.size ≤ T.heap.size
      rw [hT]; exact C.hS.1
    · show T.heap[z]? = s.heap[z]?
      rw [hT]; exact C.hS.2.1 z h1 h2
end GH
