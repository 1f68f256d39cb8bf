/-! statics, Strings of the pool, System.arraycopy, exceptions made by their plain constructor (the proofs follow the kit's rows va_gets, va_ldcS, vk_copyt, vx_make0) -/
set_option maxRecDepth 100000
/-- what a copy leaves: n places of f from sp on, at dp -/
def g_cp {α : Type} (f g : Int → α) (sp dp n : Int) : Int → α := fun j => if dp ≤ j ∧ j < dp + n then f (sp + (j - dp)) else g j
section GN
variable {E : gE} {d kc ks : Nat} {F : gF} {code : ByteArray} {pc idx : Nat} {L : List (Option Value)} {st : List Value} {G : gH} {Q : gR → gH → Prop} {a b t n0 n1 : Nat}
theorem wp_gets {Cn n dsc ref : String} {v : Value} (hE : gEnv E) (hd : decode code pc = .ok (.getstatic idx, 3)) (hm : (Cn, n, dsc, v) ∈ g_stL E.k) (hl : Cond.fieldLink F.1.cls idx ref n dsc ∈ lw_all) (hs : ref = Cn) (h : wp E d kc ks F code (pc + 3) L (v :: st) G Q) : wp E d kc ks F code pc L st G Q := wp.mk fun {p e R s m args below meth c H locs ls cells slots} C => by
  subst hs
  have hX0 : E.2.2.2 s s.heap := C.hok s s H s.heap (State.WarmedH.refl s) (fun q hq => (C.hS.2.1 q (Nat.lt_of_lt_of_le hq C.hz) (Nat.not_le.mpr hq)).symm) C.hX
  have hZ := hE.2.2.2.2.2.2.1 _ hm s s.heap hX0
  exact va_gets C.hx C.hb hZ C.hS C.hown (C.hts _ hl) (fun x hx => hx) hd (h.ap C)
theorem wp_ldcS {tx : String} {i : Nat} (hE : gEnv E) (hd : decode code pc = .ok (.ldc idx, 2)) (hm : (F.1.cls, idx, tx, i) ∈ g_strL) (h : wp E d kc ks F code (pc + 2) L (.ref (E.k (10 + i)) :: st) G Q) : wp E d kc ks F code pc L st G Q := wp.mk fun {p e R s m args below meth c H locs ls cells slots} C =>
  va_ldcS C.hx C.hb C.hown (hE.2.2.2.2.2.2.2.2.1 _ hm s H C.hX) hd (h.ap C)
theorem g_acopy {ty : FieldType} {x y y' : (Nat → Int32) ⊕ (Nat → Int64) ⊕ (Nat → UInt32) ⊕ (Nat → UInt64) ⊕ (Nat → Option Nat)} {sp dp n : Int} (hT : g_ka E t ty) (hd : decode code pc = .ok (.invokestatic idx, 3)) (hl : Cond.methodLink F.1.cls idx arraycopyName ∈ lw_all) (ha : G a = some (.inl (t, (n0, x)))) (hb : G b = some (.inl (t, (n1, y)))) (hz : E.2.2.1 ≤ b) (h1 : 0 ≤ sp) (h2 : 0 ≤ dp) (h3 : 0 ≤ n) (h4 : sp + n ≤ n0) (h5 : dp + n ≤ n1) (hN0 : n0 ≤ 2147483647) (hN1 : n1 ≤ 2147483647)
    (hval : ∀ (s : State) (H : Heap), E.2.2.2 s H → g_rep E.2.1 G H → ∀ j : Nat, j < n.toNat → fits ty (g_val x (sp.toNat + j)) = true ∧ ∀ (comp : ClassId) (kA : Class), s.vm.classes[E.2.1.2.2.1 t]? = some kA → kA.kind = .array comp ty → ∀ U : State, U.heap = H → U.vm.Alike s.vm ∨ s.vm.Alike U.vm → U.takes comp (g_val x (sp.toNat + j)))
    (hy' : ∀ j : Nat, j < n1 → g_val y' j = if dp.toNat ≤ j ∧ j < dp.toNat + n.toNat then g_val x (sp.toNat + (j - dp.toNat)) else g_val y j) (hw : Nat.ble (st.map fun v => v.category).sum 8 = true := by rfl)
    (h : wp E (d + 1) kc ks F code (pc + 3) L st (g_up G b (.inl (t, (n1, y')))) Q) : wp E (d + 1) kc ks F code pc L (.int (ii_ n) :: .int (ii_ dp) :: .ref b :: .int (ii_ sp) :: .ref a :: st) G Q := wp.mk fun {p e R s m args below meth c H locs ls cells slots} C => by
  intro T hTh X
  obtain ⟨cs, a1, a2, a3, a4, a5, a6⟩ := C.hP a _ ha
  obtain ⟨cd, b1, b2, b3, b4, b5, b6⟩ := C.hP b _ hb
  obtain ⟨-, kA, hkA, comp, hkind⟩ := (hT s H C.hX).1 0 (fun _ => .null)
  have hkA : s.vm.classes[E.2.1.2.2.1 t]? = some kA := hkA
  have e1 : (ii_ sp).toNatClampNeg = sp.toNat := ii_cl h1 (by omega)
  have e2 : (ii_ dp).toNatClampNeg = dp.toNat := ii_cl h2 (by omega)
  have e3 : (ii_ n).toNatClampNeg = n.toNat := ii_cl h3 (by omega)
  have i1 : (ii_ sp).toInt = sp := ii_toInt ⟨by omega, by omega⟩
  have i2 : (ii_ dp).toInt = dp := ii_toInt ⟨by omega, by omega⟩
  have i3 : (ii_ n).toInt = n := ii_toInt ⟨by omega, by omega⟩
  have nn : ∀ z : Int, 0 ≤ z → z ≤ 2147483647 → ¬ ii_ z < 0 := by
    intro z z0 z1 q
    have q2 : ii_ z < ii_ 0 := q
    rw [ii_lt ⟨by omega, by omega⟩ ⟨by decide, by decide⟩] at q2
    omega
  have a5' : cs.slots.size = n0 := a5
  have b5' : cd.slots.size = n1 := b5
  have hgetD : ∀ j : Nat, j < n.toNat → cs.slots.getD (sp.toNat + j) .null = g_val x (sp.toNat + j) := by
    intro j hj
    have hj2 : sp.toNat + j < n0 := by omega
    rw [Array.getD_eq_getD_getElem?, a6 _ hj2]
    rfl
  obtain ⟨vm', X', step⟩ := X.arraycopy C.hx C.hown (C.hts _ hl) (C.hts _ q300) (C.hts _ q299) (C.hts _ q113) (src := a) (dst := b) (cs := cs) (cd := cd) (srcPos := ii_ sp) (destPos := ii_ dp) (n := ii_ n) (by rw [hTh]; exact a1) (by rw [hTh]; exact b1)
    a4 b4 a3 b3 (by rw [a2]; exact hkA) (by rw [b2]; exact hkA) hkind hkind (by cases ty <;> simp [refKind]) (nn sp h1 (by omega)) (nn dp h2 (by omega)) (nn n h3 (by omega))
    (by rw [i1, i3, a5']; omega) (by rw [i2, i3, b5']; omega)
    (fun vm₁ hvm j hj => by
      rw [e1]
      rw [e3] at hj
      rw [hgetD j hj]
      obtain ⟨v1, v2⟩ := hval s H C.hX C.hP j hj
      exact ⟨v1, v2 comp kA hkA hkind (T.setVm vm₁) hTh (Or.inr hvm)⟩)
    (g := F0 m pc ls (.int (ii_ n) :: .int (ii_ dp) :: .ref b :: .int (ii_ sp) :: .ref a :: st)) rfl (C.size.trans C.hml.symm) (rest := st) rfl (by rw [C.hb]; exact hd) (by have := C.hd; omega)
    (by
      have h8 := Nat.le_of_ble_eq_true hw
      have h9 := C.hlo
      have h7 : nativeFrameWords "java/lang/System" "arraycopy" 5 ≤ 4000 := by decide +kernel
      show 2 * 0 + (st.map fun v => v.category).sum + _ ≤ _
      omega)
  have hsl : copied cs cd (ii_ sp) (ii_ dp) (ii_ n) = cd.storeRun dp.toNat (cs.stretch sp.toNat n.toNat) := by unfold copied; rw [e1, e2, e3]
  rw [hsl] at X' step
  have hlen : (cs.stretch sp.toNat n.toNat).length = n.toNat := by simp [Cell.stretch]
  obtain ⟨f1, f2, f3, -, -⟩ := cd.storeRun_facts dp.toNat (cs.stretch sp.toNat n.toNat)
  have hlt : b < H.size := (Array.getElem?_eq_some_iff.mp b1).1
  have hheap : ((T.setVm vm').setCell b (cd.storeRun dp.toNat (cs.stretch sp.toNat n.toNat))).heap = H.setIfInBounds b (cd.storeRun dp.toNat (cs.stretch sp.toNat n.toNat)) := by rw [← hTh]; rfl
  have hself : (H.setIfInBounds b (cd.storeRun dp.toNat (cs.stretch sp.toNat n.toNat)))[b]? = some (cd.storeRun dp.toNat (cs.stretch sp.toNat n.toNat)) := by simp [Array.getElem?_setIfInBounds, hlt]
  have oq : ∀ q : Nat, q ≠ b → (H.setIfInBounds b (cd.storeRun dp.toNat (cs.stretch sp.toNat n.toNat)))[q]? = H[q]? := fun q hq => by simp [Array.getElem?_setIfInBounds, Ne.symm hq]
  have hat : g_at E.2.1 b (.inl (t, (n1, y'))) (H.setIfInBounds b (cd.storeRun dp.toNat (cs.stretch sp.toNat n.toNat))) := by
    refine ⟨_, hself, f1.trans b2, by rw [f2]; exact b3, fun k => by rw [f2]; exact b4 k, f3.trans b5, fun j hj => ?_⟩
    have hj' : j < n1 := hj
    rw [cd.storeRun_get _ _ _ (by rw [hlen, b5']; omega), hlen]
    show _ = some (g_val y' j)
    rw [hy' j hj']
    by_cases hin : dp.toNat ≤ j ∧ j < dp.toNat + n.toNat
    · rw [if_pos hin, if_pos hin]
      have hk : j - dp.toNat < n.toNat := by omega
      unfold Cell.stretch
      rw [List.getElem?_map, List.getElem?_range hk]
      show some (cs.slots.getD (sp.toNat + (j - dp.toNat)) .null) = some _
      rw [hgetD _ hk]
    · rw [if_neg hin, if_neg hin]
      exact b6 j hj'
  have C1 := C.put (k := 0) hz hb (G' := g_up G b (.inl (t, (n1, y')))) g_up_eq (fun q hq => g_up_ne hq) (H1 := H.setIfInBounds b (cd.storeRun dp.toNat (cs.stretch sp.toNat n.toNat))) (by simp) oq hat
  have C2 : g_std E (d + 1) kc ks F code L (g_up G b (.inl (t, (n1, y')))) p R s m args meth c (H.setIfInBounds b (cd.storeRun dp.toNat (cs.stretch sp.toNat n.toNat))) (locs ++ (cs.stretch (ii_ sp).toNatClampNeg (ii_ n).toNatClampNeg).zipIdx.map fun q => ⟨b, (ii_ dp).toNatClampNeg + q.2⟩) ls cells slots := by
    refine ⟨C1.1, C1.2.1, ⟨C1.hP, ⟨C1.hS.1, C1.hS.2.1, fun z hz9 => ?_⟩, C1.hz, C1.hX⟩, C1.hL⟩
    rcases List.mem_append.mp hz9 with h9 | h9
    · exact C.hS.2.2 z h9
    · obtain ⟨w, -, hw9⟩ := List.mem_map.mp h9
      rw [← hw9]
      exact hz
  obtain ⟨t2, r1, r2⟩ := h.ap C2 _ hheap X'
  exact ⟨t2, step t2 r1, r2⟩
theorem g_cp_nat {α β : Type} (mk : α → β) {f g : Int → α} {sp dp n : Int} (h1 : 0 ≤ sp) (h2 : 0 ≤ dp) (h3 : 0 ≤ n) (j : Nat) : mk (g_cp f g sp dp n (j : Int)) = if dp.toNat ≤ j ∧ j < dp.toNat + n.toNat then mk (f ((sp.toNat + (j - dp.toNat) : Nat) : Int)) else mk (g (j : Int)) := by
  unfold g_cp
  by_cases h : dp.toNat ≤ j ∧ j < dp.toNat + n.toNat
  · rw [if_pos h, if_pos (by omega)]
    congr 2
    omega
  · rw [if_neg h, if_neg (by omega)]
/-- a copy of ints (t = 0) or booleans, chars, bytes that fit -/
theorem wp_acopyI {ty : FieldType} {f g : Int → Int} {sp dp n : Int} (hT : g_ka E t ty) (hd : decode code pc = .ok (.invokestatic idx, 3)) (hl : Cond.methodLink F.1.cls idx arraycopyName ∈ lw_all) (ha : G a = some (gA t n0 f)) (hb : G b = some (gA t n1 g)) (hz : E.2.2.1 ≤ b) (h1 : 0 ≤ sp) (h2 : 0 ≤ dp) (h3 : 0 ≤ n) (h4 : sp + n ≤ n0) (h5 : dp + n ≤ n1) (hN0 : n0 ≤ 2147483647) (hN1 : n1 ≤ 2147483647)
    (hfit : ∀ j : Int, sp ≤ j → j < sp + n → fits ty (.int (ii_ (f j))) = true)
    (h : wp E (d + 1) kc ks F code (pc + 3) L st (g_up G b (gA t n1 (g_cp f g sp dp n))) Q) (hw : Nat.ble (st.map fun v => v.category).sum 8 = true := by rfl) : wp E (d + 1) kc ks F code pc L (.int (ii_ n) :: .int (ii_ dp) :: .ref b :: .int (ii_ sp) :: .ref a :: st) G Q :=
  g_acopy (y' := .inl (fun j => ii_ (g_cp f g sp dp n (j : Int)))) hT hd hl ha hb hz h1 h2 h3 h4 h5 hN0 hN1 (fun s H hX hP j hj => ⟨hfit _ (by omega) (by omega), fun comp kA _ _ U _ _ => trivial⟩) (fun j hj => g_cp_nat (f := f) (g := g) (fun z : Int => Value.int (ii_ z)) h1 h2 h3 j) hw h
theorem wp_acopyJ {f g : Int → Int64} {sp dp n : Int} (hT : g_ka E 4 .long) (hd : decode code pc = .ok (.invokestatic idx, 3)) (hl : Cond.methodLink F.1.cls idx arraycopyName ∈ lw_all) (ha : G a = some (gJ n0 f)) (hb : G b = some (gJ n1 g)) (hz : E.2.2.1 ≤ b) (h1 : 0 ≤ sp) (h2 : 0 ≤ dp) (h3 : 0 ≤ n) (h4 : sp + n ≤ n0) (h5 : dp + n ≤ n1) (hN0 : n0 ≤ 2147483647) (hN1 : n1 ≤ 2147483647)
    (h : wp E (d + 1) kc ks F code (pc + 3) L st (g_up G b (gJ n1 (g_cp f g sp dp n))) Q) (hw : Nat.ble (st.map fun v => v.category).sum 8 = true := by rfl) : wp E (d + 1) kc ks F code pc L (.int (ii_ n) :: .int (ii_ dp) :: .ref b :: .int (ii_ sp) :: .ref a :: st) G Q :=
  g_acopy (y' := .inr (.inl (fun j => g_cp f g sp dp n (j : Int)))) hT hd hl ha hb hz h1 h2 h3 h4 h5 hN0 hN1 (fun s H hX hP j hj => ⟨rfl, fun comp kA _ _ U _ _ => trivial⟩) (fun j hj => g_cp_nat (f := f) (g := g) Value.long h1 h2 h3 j) hw h
/-- y is an object that may be cast to the class E1 -/
def g_obj (E : gE) (E1 : String) (G : gH) (y : Nat) : Prop := ∃ (ci N : Nat) (fs : List Value) (Cn : String) (T : u_T), G y = some (.inr (ci, fs)) ∧ g_kn E ci Cn T N ∧ (Cn = E1 ∨ g_nw E (.castable Cn E1))
theorem wp_acopyR {E1 : String} {f g : Int → Option Nat} {sp dp n : Int} (hT : g_ka E t (.object E1)) (hd : decode code pc = .ok (.invokestatic idx, 3)) (hl : Cond.methodLink F.1.cls idx arraycopyName ∈ lw_all) (ha : G a = some (gO t n0 f)) (hb : G b = some (gO t n1 g)) (hz : E.2.2.1 ≤ b) (h1 : 0 ≤ sp) (h2 : 0 ≤ dp) (h3 : 0 ≤ n) (h4 : sp + n ≤ n0) (h5 : dp + n ≤ n1) (hN0 : n0 ≤ 2147483647) (hN1 : n1 ≤ 2147483647)
    (hobj : ∀ j : Int, sp ≤ j → j < sp + n → ∀ y, f j = some y → g_obj E E1 G y)
    (h : wp E (d + 1) kc ks F code (pc + 3) L st (g_up G b (gO t n1 (g_cp f g sp dp n))) Q) (hw : Nat.ble (st.map fun v => v.category).sum 8 = true := by rfl) : wp E (d + 1) kc ks F code pc L (.int (ii_ n) :: .int (ii_ dp) :: .ref b :: .int (ii_ sp) :: .ref a :: st) G Q := by
  refine g_acopy (y' := .inr (.inr (.inr (.inr (fun j => g_cp f g sp dp n (j : Int)))))) hT hd hl ha hb hz h1 h2 h3 h4 h5 hN0 hN1 (fun s H hX hP j hj => ⟨?_, fun comp kA hkA hkind U hU hal => ?_⟩) (fun j hj => g_cp_nat (f := f) (g := g) va_rf h1 h2 h3 j) hw h
  · show fits (.object E1) (va_rf (f ((sp.toNat + j : Nat) : Int))) = true
    cases f ((sp.toNat + j : Nat) : Int) <;> rfl
  · show U.takes comp (va_rf (f ((sp.toNat + j : Nat) : Int)))
    cases hf : f ((sp.toNat + j : Nat) : Int) with
    | none => exact trivial
    | some y =>
      obtain ⟨ci, N, fs, Cn, T, q1, q2, q3⟩ := hobj _ (by omega) (by omega) y hf
      obtain ⟨cell, g1, g2, g3, kB, hkB⟩ := g_recv hP hX q2 q1
      obtain ⟨kA2, comp2, k1, k2, k3, -⟩ := (hT s H hX).2
      cases k1.symm.trans hkA
      have hc : comp2 = comp := by have h9 := k2.symm.trans hkind; injection h9 with h9 _
      subst hc
      have hasg : s.vm.assignable cell.cls comp2 = true := by
        rcases q3 with rfl | q3
        · have e9 : cell.cls = comp2 := Option.some.inj (g3.symm.trans k3)
          have h8 := (q2.2 s H hX).2
          have e8 : cell.cls = E.2.1.1 ci := Option.some.inj (g3.symm.trans h8.1)
          rw [← e9, e8]; exact va_assign h8
        · obtain ⟨c0, t1, f1, f2, f3⟩ := Cond.castable_spec (va_Nw.use (A := #[]) rfl (q3 s H hX))
          cases g3.symm.trans f1
          cases k3.symm.trans f2
          exact f3
      obtain ⟨kE, hkE, -⟩ := Vm.findClass_spec k3
      have hA : s.vm.Alike U.vm := hal.elim (fun z => z.symm) id
      obtain ⟨kB', hkB', -⟩ := hA.2.2 _ _ hkB
      obtain ⟨kE', hkE', -⟩ := hA.2.2 _ _ hkE
      refine ⟨cell, by rw [hU]; exact g1, ?_, ⟨kB', hkB'⟩, ⟨kE', hkE'⟩, by rw [hA.assignable]; exact hasg⟩
      intro q h9
      rw [g2] at h9
      cases h9
end GN
