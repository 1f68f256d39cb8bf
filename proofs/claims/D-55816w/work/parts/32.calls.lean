/-! calls in the ghost layer (g_call follows the proof of the kit's vx_back; the fronts follow its call lemmas) -/
set_option maxRecDepth 100000
/-- what must be known of a callee, whatever the call -/
def g_okF (F : gF) (code : ByteArray) : Prop := (match F.2.2.2 with
  | [] => Cond.code F.1 code F.2.1 F.2.2.1
  | h :: t => Cond.codeWith F.1 code F.2.1 F.2.2.1 (h :: t)) ∈ lw_all ∧ Cond.initialized F.1.cls ∈ lw_all ∧ F.2.1 ≤ 40
def g_frt (p : Program) (l : Launch) (e : Env) (R : Room) (s : State) (m : MethodId) (args : Array Value) (below : List Frame) (meth : Method) (c : Code) (H : Heap) (locs : List Loc) (cells slots : Nat) (g : JFrame) (len : Nat) (y : MethodName) (a rest : List Value) : Prop :=
  ∀ T : State, T.heap = H → Stand p l e R s m args below meth c T locs cells slots → ∃ (mk : MethodId) (vm₁ : Vm) (ig : Instr), Stand p l e R s m args below meth c (T.setVm vm₁) locs cells slots ∧ s.methodNamed? y = some mk ∧ decode c.code g.pc = .ok (ig, len) ∧
    ∀ target, Steps p.tables e below (doInvoke e ((T.setVm vm₁).setTop { g with stack := rest }) [] mk a.toArray).1 target → Steps p.tables e below (T.setTop g) target
theorem g_ws_at {F : gF} {code : ByteArray} {s : State} {args : Array Value} (hF : g_okF F code) (hts : ∀ w ∈ lw_all, w.before args s = true) : ∀ w ∈ g_ws F code, ∀ (a' : Array Value) (U : State), s.WarmedH U.vm → w.before a' U = true := by
  intro w hw
  have h1 : w ∈ lw_all := by
    obtain ⟨h9, -, -⟩ := hF
    unfold g_ws at hw
    cases hh : F.2.2.2 with
    | nil =>
      rw [hh] at hw h9
      rcases List.mem_cons.mp hw with h | h
      · rw [h]; exact h9
      · exact h
    | cons x t =>
      rw [hh] at hw h9
      rcases List.mem_cons.mp hw with h | h
      · rw [h]; exact h9
      · exact h
  exact fun a' U hW => word_at hW (lw_self w h1).2 (hts w h1)
theorem g_code_at {F : gF} {code : ByteArray} {s : State} {args : Array Value} (hF : g_okF F code) (hts : ∀ w ∈ lw_all, w.before args s = true) {m : MethodId} (hn : s.methodNamed? F.1 = some m) :
    ∃ meth c, s.vm.method? m = some meth ∧ meth.code = some c ∧ c.maxLocals = F.2.1 ∧ parseMethodDescriptor F.1.desc = some meth.sig := by
  obtain ⟨h9, -, -⟩ := hF
  cases hh : F.2.2.2 with
  | nil =>
    rw [hh] at h9
    obtain ⟨meth, c, h1, h2, -, h4, -, -, -, h5⟩ := Cond.code_spec hn (hts _ h9)
    exact ⟨meth, c, h1, h2, h4, h5⟩
  | cons x t =>
    rw [hh] at h9
    obtain ⟨m9, meth, c, hn9, h1, h2, -, h4, -, -, -, h5⟩ := Cond.codeWith_spec (hts _ h9)
    cases hn.symm.trans hn9
    exact ⟨meth, c, h1, h2, h4, h5⟩
theorem g_named {F : gF} {code : ByteArray} {s : State} {args : Array Value} (hF : g_okF F code) (hts : ∀ w ∈ lw_all, w.before args s = true) : ∃ m, s.methodNamed? F.1 = some m := by
  obtain ⟨h9, -, -⟩ := hF
  cases hh : F.2.2.2 with
  | nil => rw [hh] at h9; exact Cond.code_named (hts _ h9)
  | cons x t =>
    rw [hh] at h9
    obtain ⟨m9, meth, c, hn9, -⟩ := Cond.codeWith_spec (hts _ h9)
    exact ⟨m9, hn9⟩
set_option maxHeartbeats 1000000 in
theorem g_call {E : gE} {d kc1 ks1 kc2 ks2 : Nat} {F F' : gF} {code code' : ByteArray} {pc len : Nat} {L : List (Option Value)} {stk rest a : List Value} {G : gH} {Q Qc : gR → gH → Prop} {p : Program} {e : Env} {R : Room} {s : State} {m : MethodId} {args : Array Value} {below : List Frame} {meth : Method} {c : Code} {H : Heap} {locs : List Loc} {ls : Array Slot} {cells slots : Nat}
    (C : g_std E (d + 1) (kc1 + kc2) (ks1 + ks2) F code L G p R s m args meth c H locs ls cells slots) (hF : g_okF F' code') (hM : ct E d kc1 ks1 F' code' a G Qc) (hfr : g_frt p E.1 e R s m args below meth c H locs cells slots (F0 m pc ls stk) len F'.1 a rest) (hw : (rest.map fun v => v.category).sum ≤ 8)
    (hk : ∀ v G', Qc (.inl v) G' → wp E (d + 1) kc2 ks2 F code (pc + len) L (v.toList ++ rest) G' Q) (hx : ∀ q G', Qc (.inr q) G' → wpx E (d + 1) kc2 ks2 F code pc L q G' Q) :
    W p E.1 e R s m args below meth c H locs cells slots (g_end E Q R args s below) (F0 m pc ls stk) := by
  intro T hT XT
  obtain ⟨mk, vm₁, ig, X, hn0, hdg, hstep⟩ := hfr T hT XT
  have hW9 := X.warmed
  generalize hU : T.setVm vm₁ = U at X hstep hW9
  have hUh : U.heap = H := by rw [← hU]; exact hT
  have hn : U.methodNamed? F'.1 = some mk := X.named hn0
  obtain ⟨methY, cY, hmY0, hcY, hlY, -⟩ := g_code_at hF C.hts hn0
  have hUa := hW9.alike
  have hmY : ∃ methY cY, U.vm.method? mk = some methY ∧ methY.code = some cY ∧ cY.maxLocals = F'.2.1 := ⟨methY, cY, by rw [hUa.method?]; exact hmY0, hcY, hlY⟩
  clear hlY hcY hmY0
  obtain ⟨methY, cY, hmY, hcY, hlY⟩ := hmY
  have h1 : (headSpec (g_ws F' code') (g_rm d kc1 ks1)).pre.before a.toArray U = true := atoms_intro fun w hw => g_ws_at hF C.hts w hw _ _ hW9
  have h3 : (Cond.initialized F'.1.cls).before a.toArray U = true := word_at hW9 (lw_self _ hF.2.1).2 (C.hts _ hF.2.1)
  obtain ⟨kY, hkY, -⟩ := className_of_methodNamed hn
  have hinitY : kY.init = .initialized := Cond.initialized_spec (findClass_of_methodNamed hn) hkY h3
  let g : JFrame := F0 m pc ls rest
  have h : At U g.method c below := X.here
  have hlocals9 : 8 + (F'.2.1 + 11) + (headSpec (g_ws F' code') (g_rm d kc1 ks1)).room.locals ≤ R.locals := by
    have := C.hlo; have := hF.2.2
    show 8 + (F'.2.1 + 11) + (64 * d + 4096) ≤ R.locals
    omega
  have hPc : g_P E a G a.toArray (U.calling g mk a.toArray) := by
    refine ⟨rfl, C.hok, C.hst, ?_, ?_, ?_⟩
    · show g_rep E.2.1 G U.heap
      rw [hUh]; exact C.hP
    · show E.2.2.1 ≤ U.heap.size
      rw [hUh]; exact Nat.le_trans C.hz C.hS.1
    · show E.2.2.2 (U.calling g mk a.toArray) U.heap
      exact C.hok s (U.calling g mk a.toArray) H U.heap hW9 (fun q hq => by rw [hUh]) C.hX
  have happ : (headSpec (g_ws F' code') (g_rm d kc1 ks1)).appliesLoose F'.1 e.platform (U.calling g mk a.toArray) = true :=
    Spec.appliesLoose_calling (g := g) h hdg hn hkY hinitY
      (X.room_calling (g := g) (R' := (headSpec (g_ws F' code') (g_rm d kc1 ks1)).room) (C.size.trans C.hml.symm) hmY hcY (by have := C.hd; exact this) (by
        have h8 : 2 * g.monitorRoom + (g.stack.map fun v => v.category).sum ≤ 8 := by
          show 2 * 0 + (rest.map fun v => v.category).sum ≤ 8
          omega
        rw [hlY]; omega) (by have := C.hkc; show cells + kc1 ≤ R.cells; omega) (by have := C.hks; show slots + ks1 ≤ R.slots; omega)) h1
  obtain ⟨mid, hmid⟩ := h.above
  have hfrm : (U.setTop g).frames = (.java g :: mid) ++ below := by rw [State.frames_setTop' g h.top, hmid]; rfl
  obtain ⟨o, s₂, hsteps, -, hend, hq⟩ := Steps.callFree hM p X.admits X.cas X.clock (acts := []) hfrm happ hPc trivial
  rw [State.frames_setTop' g h.top] at hend
  obtain ⟨g₀, hg0⟩ := Option.isSome_iff_exists.mp h.top
  obtain ⟨r, hr⟩ := State.topJava?_eq_some.mp hg0
  have hr' : (({ U with heap := s₂.heap, slotsUsed := s₂.slotsUsed } : State).setVm s₂.vm).frames = .java g₀ :: r := hr
  have hq' : g_Q E Qc kc1 ks1 a.toArray (U.calling g mk a.toArray) o s₂ := hq
  clear hq
  obtain ⟨L0, G', hLb, hrep, hFr, hW₂, hsm, hres⟩ := hq'
  have hkeep : H.size ≤ s₂.heap.size ∧ ∀ q : Nat, q < H.size → ¬ E.2.2.1 ≤ q → s₂.heap[q]? = H[q]? := by
    obtain ⟨f1, f2⟩ := hFr
    have e9 : (U.calling g mk a.toArray).heap = H := hUh
    rw [e9] at f1 f2
    exact ⟨f1, f2⟩
  have hS' : va_S (fun q => E.2.2.1 ≤ q) s.heap s₂.heap (locs ++ L0) := by
    refine ⟨Nat.le_trans C.hS.1 hkeep.1, fun q q1 q2 => (hkeep.2 q (Nat.lt_of_lt_of_le q1 C.hS.1) q2).trans (C.hS.2.1 q q1 q2), fun z hz => ?_⟩
    rcases List.mem_append.mp hz with h8 | h8
    · exact C.hS.2.2 z h8
    · exact hLb z h8
  have hX' : E.2.2.2 s s₂.heap := C.hok s s H s₂.heap (State.WarmedH.refl s) (fun q hq => hkeep.2 q (Nat.lt_of_lt_of_le hq (Nat.le_trans C.hz C.hS.1)) (Nat.not_le.mpr hq)) C.hX
  have C' : g_std E (d + 1) kc2 ks2 F code L G' p R s m args meth c s₂.heap (locs ++ L0) ls (cells + kc1) (slots + ks1) :=
    ⟨C.1, ⟨C.hd, C.hlo, by have := C.hkc; omega, by have := C.hks; omega⟩, ⟨hrep, hS', C.hz, hX'⟩, C.hL⟩
  obtain ⟨e2, q2, q3, q4, q5, q6⟩ := id hsm
  have e3 : s₂ = ({ (U.calling g mk a.toArray).setFrames s₂.frames with heap := s₂.heap, slotsUsed := s₂.slotsUsed } : State).setVm s₂.vm := by
    have : s₂ = ({ s₂ with vm := (U.calling g mk a.toArray).vm } : State).setVm s₂.vm := rfl
    rw [e2] at this
    exact this
  have hW' : U.WarmedH s₂.vm := hW₂
  have hsame : U.sameButNew ({ U with heap := s₂.heap, slotsUsed := s₂.slotsUsed } : State) L0 kc1 ks1 := by
    refine ⟨?_, q2, q3, q4, q5, q6⟩
    obtain ⟨t, ht, -⟩ := State.frames_cons hr
    show ({ U with heap := s₂.heap, slotsUsed := s₂.slotsUsed } : State) = { U.setFrames U.frames with heap := s₂.heap, slotsUsed := s₂.slotsUsed }
    rw [State.setFrames_self ht]
  have X' : Stand p E.1 e R s m args below meth c (({ U with heap := s₂.heap, slotsUsed := s₂.slotsUsed } : State).setVm s₂.vm) (locs ++ L0) (cells + kc1) (slots + ks1) :=
    ⟨X.admits, X.cas, X.clock, X.frames, X.room, X.hears, X.method, X.code, (X.here.setHeapUsed s₂.heap s₂.slotsUsed).setVm hW'.alike, X.tail, State.WarmedH.trans X.warmed hW', X.limits, X.bytes, X.same.trans (hsame.setVm s.vm)⟩
  rcases hres with ⟨v, rfl, hqc⟩ | ⟨q, rfl, hqc⟩
  · obtain ⟨c₂, i₂, len₂, hc₂, hd₂, hf₂⟩ := hend
    have hcc : c₂ = c := by
      have h1 : s₂.code? g.method = U.code? g.method := by
        rw [State.code?_eq, State.code?_eq, hW'.alike.method?]
      exact Option.some.inj (hc₂.symm.trans (h1.trans h.code))
    subst hcc
    have hlen : len₂ = len := by
      have h9 : decode c₂.code g.pc = .ok (ig, len) := hdg
      rw [h9] at hd₂; cases hd₂; rfl
    subst hlen
    have hs₂ : s₂ = (({ U with heap := s₂.heap, slotsUsed := s₂.slotsUsed } : State).setVm s₂.vm).setTop { g with pc := g.pc + len₂, stack := v.toList ++ g.stack } := by
      refine e3.trans ?_
      rw [hf₂, State.calling_eq h.top, State.setFrames_setFrames, State.setTop_of_frames _ hr', hr]
      rfl
    obtain ⟨t2, a1, b1⟩ := (hk v G' hqc).ap C' (({ U with heap := s₂.heap, slotsUsed := s₂.slotsUsed } : State).setVm s₂.vm) rfl X'
    refine ⟨t2, hstep _ (hsteps.trans ?_), b1⟩
    rw [hs₂]
    exact a1
  · have hf₂ : s₂.frames = .throwing q :: .java g :: U.frames.tail := hend
    have hs₂ : s₂ = ((({ U with heap := s₂.heap, slotsUsed := s₂.slotsUsed } : State).setVm s₂.vm).setTop g).pushFrame (.throwing q) := by
      refine e3.trans ?_
      rw [hf₂, State.calling_eq h.top, State.setFrames_setFrames, State.pushFrame, State.frames_setTop _ hr', State.setTop_of_frames _ hr', State.setFrames_setFrames, hr]
      rfl
    obtain ⟨t2, a1, b1⟩ := (hx q G' hqc).ap (rest := rest) C' (({ U with heap := s₂.heap, slotsUsed := s₂.slotsUsed } : State).setVm s₂.vm) rfl X'
    refine ⟨t2, hstep _ (hsteps.trans ?_), b1⟩
    rw [hs₂]
    exact a1
/-- a call at pc, with the stack stk, of F' with the arguments a: 'rest' stays -/
def g_inv (E : gE) (d : Nat) (F : gF) (code : ByteArray) (pc : Nat) (L : List (Option Value)) (stk : List Value) (G : gH) (F' : gF) (code' : ByteArray) (a rest : List Value) (len : Nat) : Prop :=
  ∀ (kc1 ks1 kc2 ks2 : Nat) (Qc Q : gR → gH → Prop), ct E d kc1 ks1 F' code' a G Qc → (∀ v G', Qc (.inl v) G' → wp E (d + 1) kc2 ks2 F code (pc + len) L (v.toList ++ rest) G' Q) → (∀ q G', Qc (.inr q) G' → wpx E (d + 1) kc2 ks2 F code pc L q G' Q) → wp E (d + 1) (kc1 + kc2) (ks1 + ks2) F code pc L stk G Q
/-- the pure contract: an answer, nothing else -/
def ctp (E : gE) (d : Nat) (F : gF) (code : ByteArray) (a : List Value) (G : gH) (v : Option Value) : Prop := ct E d 0 0 F code a G (fun r G' => r = .inl v ∧ G' = G)
/-- a contract of a method that returns -/
def ctn (E : gE) (d kc ks : Nat) (F : gF) (code : ByteArray) (a : List Value) (G : gH) (P : Option Value → gH → Prop) : Prop := ct E d kc ks F code a G (fun r G' => ∃ v, r = .inl v ∧ P v G')
theorem g_inv.p {E : gE} {d : Nat} {F : gF} {code : ByteArray} {pc : Nat} {L : List (Option Value)} {stk : List Value} {G : gH} {F' : gF} {code' : ByteArray} {a rest : List Value} {len kc ks : Nat} {Q : gR → gH → Prop} {v : Option Value} (h : g_inv E d F code pc L stk G F' code' a rest len) (hc : ctp E d F' code' a G v) (k : wp E (d + 1) kc ks F code (pc + len) L (v.toList ++ rest) G Q) : wp E (d + 1) kc ks F code pc L stk G Q := by
  have h9 : wp E (d + 1) (0 + kc) (0 + ks) F code pc L stk G Q := h _ _ kc ks _ Q hc (fun v' G' hq => by obtain ⟨h1, h2⟩ := hq; cases h1; subst h2; exact k) (fun q G' hq => by obtain ⟨h1, -⟩ := hq; cases h1)
  rwa [Nat.zero_add, Nat.zero_add] at h9
theorem g_inv.n {E : gE} {d : Nat} {F : gF} {code : ByteArray} {pc : Nat} {L : List (Option Value)} {stk : List Value} {G : gH} {F' : gF} {code' : ByteArray} {a rest : List Value} {len kc ks kc1 ks1 : Nat} {Q : gR → gH → Prop} {P : Option Value → gH → Prop} (kc2 ks2 : Nat) (h : g_inv E d F code pc L stk G F' code' a rest len) (hc : ctn E d kc1 ks1 F' code' a G P) (h1 : kc1 + kc2 ≤ kc) (h2 : ks1 + ks2 ≤ ks) (k : ∀ v G', P v G' → wp E (d + 1) kc2 ks2 F code (pc + len) L (v.toList ++ rest) G' Q) : wp E (d + 1) kc ks F code pc L stk G Q :=
  wp_le (Nat.le_refl _) h1 h2 (h _ _ kc2 ks2 _ Q hc (fun v' G' hq => by obtain ⟨w, h3, h4⟩ := hq; cases h3; exact k _ _ h4) (fun q G' hq => by obtain ⟨w, h3, h4⟩ := hq; cases h3))
theorem g_inv.x {E : gE} {d : Nat} {F : gF} {code : ByteArray} {pc : Nat} {L : List (Option Value)} {stk : List Value} {G : gH} {F' : gF} {code' : ByteArray} {a rest : List Value} {len kc ks kc1 ks1 : Nat} {Q Qc : gR → gH → Prop} (kc2 ks2 : Nat) (h : g_inv E d F code pc L stk G F' code' a rest len) (hc : ct E d kc1 ks1 F' code' a G Qc) (h1 : kc1 + kc2 ≤ kc) (h2 : ks1 + ks2 ≤ ks) (k : ∀ v G', Qc (.inl v) G' → wp E (d + 1) kc2 ks2 F code (pc + len) L (v.toList ++ rest) G' Q) (kx : ∀ q G', Qc (.inr q) G' → wpx E (d + 1) kc2 ks2 F code pc L q G' Q) : wp E (d + 1) kc ks F code pc L stk G Q :=
  wp_le (Nat.le_refl _) h1 h2 (h _ _ kc2 ks2 _ Q hc k kx)
/-- class number ci is the class C, with the fields T -/
def g_kn (E : gE) (ci : Nat) (C : String) (T : u_T) (N : Nat) : Prop := E.2.1.2.2.2.1 ci = N ∧ ∀ s H, E.2.2.2 s H → u_Kn s C T N (E.2.1.1 ci) (E.2.1.2.1 ci)
def g_ka (E : gE) (t : Nat) (ty : FieldType) : Prop := ∀ s H, E.2.2.2 s H → ArrOfT s (E.2.1.2.2.1 t) ty ∧ va_RA s (E.2.1.2.2.1 t) ty
def g_nw (E : gE) (w : Cond) : Prop := ∀ s H, E.2.2.2 s H → va_Nw w s
/-- two method descriptors of n parameters -/
def g_par (y : MethodName) (n : Nat) : Prop := (y.cls ≠ "java/lang/invoke/MethodHandle" ∧ y.cls ≠ "java/lang/invoke/VarHandle") ∧ (parseMethodDescriptor y.desc).map (fun d => d.parameters.length) = some n
theorem g_par.len {y : MethodName} {n : Nat} (h : g_par y n) {a : List Value} (ha : a.length = n) : ∀ sig, parseMethodDescriptor y.desc = some sig → a.length = sig.parameters.length := fun sig hs => by
  have h2 := h.2
  rw [hs] at h2
  exact ha.trans (Option.some.inj h2).symm
section GI
variable {E : gE} {d : Nat} {F F' : gF} {code code' : ByteArray} {pc idx n : Nat} {L : List (Option Value)} {stk As rest fs : List Value} {G : gH} {b ci N : Nat} {Cn : String} {T : u_T}
/-- a static call -/
theorem wp_S (hd : decode code pc = .ok (.invokestatic idx, 3)) (hF : g_okF F' code') (hl : Cond.methodLink F.1.cls idx F'.1 ∈ lw_all) (hs : Cond.static F'.1 ∈ lw_all) (hp : g_par F'.1 n) (hn : As.length = n) (hst : stk = As.reverse ++ rest) (hw : Nat.ble (rest.map fun v => v.category).sum 8 = true) : g_inv E d F code pc L stk G F' code' As rest 3 := by
  intro kc1 ks1 kc2 ks2 Qc Q hM hk hx
  refine wp.mk fun {p e R s m args below meth c H locs ls cells slots} C => ?_
  refine g_call C hF hM (fun T hT X => ?_) (Nat.le_of_ble_eq_true hw) hk hx
  obtain ⟨mk, hnamed⟩ := g_named hF C.hts
  obtain ⟨methM, cM, hmethM, -, -, hsigM⟩ := g_code_at hF C.hts hnamed
  have hstatic : methM.isStatic = true := Cond.static_spec hnamed hmethM (C.hts _ hs)
  obtain ⟨kP, hkP, -⟩ := className_of_methodNamed hnamed
  have hinitP : kP.init = .initialized := Cond.initialized_spec (findClass_of_methodNamed hnamed) hkP (C.hts _ hF.2.1)
  obtain ⟨vm₁, X₁, hstep₁⟩ := X.invokestatic C.hx C.hown (C.hts _ hl) hnamed hmethM hstatic hkP hinitP hp.1 (g := F0 m pc ls stk) rfl (argsL := As) (rest := rest) (hp.len hn _ hsigM) hst (by rw [C.hb]; exact hd)
  exact ⟨mk, vm₁, _, X₁, hnamed, by rw [C.hb]; exact hd, fun target h => hstep₁ _ fun acts => by rw [doInvoke_state]; exact h⟩
/-- a static call of a nest mate's -/
theorem wp_SN {host : String} (hd : decode code pc = .ok (.invokestatic idx, 3)) (hF : g_okF F' code') (hl : g_nw E (.methodLinkNest F.1.cls idx F'.1 host)) (hs : Cond.static F'.1 ∈ lw_all) (hp : g_par F'.1 n) (hn : As.length = n) (hst : stk = As.reverse ++ rest) (hw : Nat.ble (rest.map fun v => v.category).sum 8 = true) : g_inv E d F code pc L stk G F' code' As rest 3 := by
  intro kc1 ks1 kc2 ks2 Qc Q hM hk hx
  refine wp.mk fun {p e R s m args below meth c H locs ls cells slots} C => ?_
  refine g_call C hF hM (fun T hT X => ?_) (Nat.le_of_ble_eq_true hw) hk hx
  obtain ⟨mk, hnamed⟩ := g_named hF C.hts
  obtain ⟨methM, cM, hmethM, -, -, hsigM⟩ := g_code_at hF C.hts hnamed
  have hstatic : methM.isStatic = true := Cond.static_spec hnamed hmethM (C.hts _ hs)
  obtain ⟨kP, hkP, -⟩ := className_of_methodNamed hnamed
  have hinitP : kP.init = .initialized := Cond.initialized_spec (findClass_of_methodNamed hnamed) hkP (C.hts _ hF.2.1)
  obtain ⟨vm₁, X₁, hstep₁⟩ := X.invokestaticNest C.hx C.hown (va_Nw.use rfl (hl s H C.hX)) hnamed hmethM hstatic hkP hinitP hp.1 (g := F0 m pc ls stk) rfl (argsL := As) (rest := rest) (hp.len hn _ hsigM) hst (by rw [C.hb]; exact hd)
  exact ⟨mk, vm₁, _, X₁, hnamed, by rw [C.hb]; exact hd, fun target h => hstep₁ _ fun acts => by rw [doInvoke_state]; exact h⟩
theorem g_recv {E : gE} {G : gH} {s : State} {H : Heap} {b ci N : Nat} {fs : List Value} {Cn : String} {T : u_T} (hP : g_rep E.2.1 G H) (hX : E.2.2.2 s H) (hK : g_kn E ci Cn T N) (hb : G b = some (.inr (ci, fs))) : ∃ cell : Cell, H[b]? = some cell ∧ cell.vm = .none ∧ s.vm.findClass Cn = some cell.cls ∧ ∃ kB : Class, s.vm.classes[cell.cls]? = some kB := by
  obtain ⟨cell, h1, h2, h3, -⟩ := hP b _ hb
  obtain ⟨-, hK2, kC, hkC, -⟩ := hK.2 s H hX
  exact ⟨cell, h1, h3, by rw [h2]; exact hK2, kC, by rw [h2]; exact hkC⟩
/-- a call through an object of the class itself -/
theorem wp_V (hd : decode code pc = .ok (.invokevirtual idx, 3)) (hF : g_okF F' code') (hl : Cond.methodLink F.1.cls idx F'.1 ∈ lw_all) (hi : Cond.instanceMethod F'.1 ∈ lw_all) (hs : Cond.selects Cn F'.1 F'.1 ∈ lw_all) (hp : g_par F'.1 n) (hK : g_kn E ci Cn T N) (hb : G b = some (.inr (ci, fs))) (hn : As.length = n) (hst : stk = As.reverse ++ .ref b :: rest) (hw : Nat.ble (rest.map fun v => v.category).sum 8 = true) : g_inv E d F code pc L stk G F' code' (.ref b :: As) rest 3 := by
  intro kc1 ks1 kc2 ks2 Qc Q hM hk hx
  refine wp.mk fun {p e R s m args below meth c H locs ls cells slots} C => ?_
  refine g_call C hF hM (fun T hT X => ?_) (Nat.le_of_ble_eq_true hw) hk hx
  obtain ⟨mk, methM, hnamed, hmethM, hstM, habM⟩ := Cond.instanceMethod_spec (C.hts _ hi)
  obtain ⟨methM', cM, hmethM', -, -, hsigM⟩ := g_code_at hF C.hts hnamed
  cases hmethM.symm.trans hmethM'
  obtain ⟨cellB, hcB, hvB, hclB, -⟩ := g_recv C.hP C.hX hK hb
  obtain ⟨c2, r2, m2, q1, q2, q3, q4, kP, hkP, hkPi⟩ := Cond.selects_spec (C.hts _ hs)
  cases hclB.symm.trans q1
  cases (State.methodFound?_of_named hnamed hp.1).symm.trans q2
  cases hnamed.symm.trans q3
  have hselP : selectMethod e.platform s.vm cellB.cls mk = .method mk := by rw [Launch.admits_selectMethod X.admits]; exact q4
  obtain ⟨vm₁, X₁, hstep₁⟩ := X.invokevirtual C.hx C.hown (C.hts _ hl) hnamed hmethM hstM hkP hkPi hp.1 (a := b) (cell := cellB) (by rw [hT]; exact hcB)
    (fun z h => by rw [hvB] at h; cases h) hselP hmethM habM hkP hkPi (g := F0 m pc ls stk) rfl (argsL := As) (rest := rest) (hp.len hn _ hsigM) hst (by rw [C.hb]; exact hd)
  exact ⟨mk, vm₁, _, X₁, hnamed, by rw [C.hb]; exact hd, fun target h => hstep₁ _ fun acts => by rw [doInvoke_state]; exact h⟩
theorem wp_VN {host : String} (hd : decode code pc = .ok (.invokevirtual idx, 3)) (hF : g_okF F' code') (hl : g_nw E (.methodLinkNest F.1.cls idx F'.1 host)) (hi : Cond.instanceMethod F'.1 ∈ lw_all) (hs : Cond.selects Cn F'.1 F'.1 ∈ lw_all) (hp : g_par F'.1 n) (hK : g_kn E ci Cn T N) (hb : G b = some (.inr (ci, fs))) (hn : As.length = n) (hst : stk = As.reverse ++ .ref b :: rest) (hw : Nat.ble (rest.map fun v => v.category).sum 8 = true) : g_inv E d F code pc L stk G F' code' (.ref b :: As) rest 3 := by
  intro kc1 ks1 kc2 ks2 Qc Q hM hk hx
  refine wp.mk fun {p e R s m args below meth c H locs ls cells slots} C => ?_
  refine g_call C hF hM (fun T hT X => ?_) (Nat.le_of_ble_eq_true hw) hk hx
  obtain ⟨mk, methM, hnamed, hmethM, hstM, habM⟩ := Cond.instanceMethod_spec (C.hts _ hi)
  obtain ⟨methM', cM, hmethM', -, -, hsigM⟩ := g_code_at hF C.hts hnamed
  cases hmethM.symm.trans hmethM'
  obtain ⟨cellB, hcB, hvB, hclB, -⟩ := g_recv C.hP C.hX hK hb
  obtain ⟨c2, r2, m2, q1, q2, q3, q4, kP, hkP, hkPi⟩ := Cond.selects_spec (C.hts _ hs)
  cases hclB.symm.trans q1
  cases (State.methodFound?_of_named hnamed hp.1).symm.trans q2
  cases hnamed.symm.trans q3
  have hselP : selectMethod e.platform s.vm cellB.cls mk = .method mk := by rw [Launch.admits_selectMethod X.admits]; exact q4
  obtain ⟨vm₁, X₁, hstep₁⟩ := X.invokevirtualNest C.hx C.hown (va_Nw.use rfl (hl s H C.hX)) hnamed hmethM hstM hkP hkPi hp.1 (a := b) (cell := cellB) (by rw [hT]; exact hcB)
    (fun z h => by rw [hvB] at h; cases h) hselP hmethM habM hkP hkPi (g := F0 m pc ls stk) rfl (argsL := As) (rest := rest) (hp.len hn _ hsigM) hst (by rw [C.hb]; exact hd)
  exact ⟨mk, vm₁, _, X₁, hnamed, by rw [C.hb]; exact hd, fun target h => hstep₁ _ fun acts => by rw [doInvoke_state]; exact h⟩
/-- a call by a name x that the class inherits or overrides: y runs; its owner declares x -/
theorem wp_VU {owner : String} {x : MethodName} (hd : decode code pc = .ok (.invokevirtual idx, 3)) (hF : g_okF F' code') (hl : Cond.methodLink F.1.cls idx x ∈ lw_all) (hsame : Cond.sameMethod x.cls owner x.name x.desc ∈ lw_all) (hdec : g_nw E (.declares ⟨owner, x.name, x.desc⟩) ∨ ∃ (b9 : ByteArray) (m9 : Nat) (r9 : Option FieldType), Cond.instanceMethod ⟨owner, x.name, x.desc⟩ ∈ lw_all ∧ Cond.code ⟨owner, x.name, x.desc⟩ b9 m9 r9 ∈ lw_all) (hi : Cond.instanceMethod F'.1 ∈ lw_all) (hs : Cond.selects Cn x F'.1 ∈ lw_all) (hp : g_par ⟨owner, x.name, x.desc⟩ n) (hK : g_kn E ci Cn T N) (hb : G b = some (.inr (ci, fs))) (hn : As.length = n) (hst : stk = As.reverse ++ .ref b :: rest) (hw : Nat.ble (rest.map fun v => v.category).sum 8 = true) : g_inv E d F code pc L stk G F' code' (.ref b :: As) rest 3 := by
  intro kc1 ks1 kc2 ks2 Qc Q hM hk hx
  refine wp.mk fun {p e R s m args below meth c H locs ls cells slots} C => ?_
  refine g_call C hF hM (fun T hT X => ?_) (Nat.le_of_ble_eq_true hw) hk hx
  have hd0 : va_Decl s ⟨owner, x.name, x.desc⟩ := by
    rcases hdec with h9 | ⟨b9, m9, r9, h9, h8⟩
    · exact va_Decl.abs (h9 s H C.hX)
    · exact va_Decl.of (C.hts _ h9) (C.hts _ h8)
  obtain ⟨r0, r, hn0, hrm, hstR, hsigR⟩ := hd0
  obtain ⟨cn, ck, r1, hcn, hck, hni, hf, hn1⟩ := Cond.sameMethod_found (C.hts _ hsame)
  cases hn0.symm.trans hn1
  obtain ⟨mk, methM, hnamed, hmethM, -, habM⟩ := Cond.instanceMethod_spec (C.hts _ hi)
  obtain ⟨cellB, hcB, hvB, hclB, -⟩ := g_recv C.hP C.hX hK hb
  obtain ⟨c2, r2, m2, q1, q2, q3, q4, kP, hkP, hkPi⟩ := Cond.selects_spec (C.hts _ hs)
  cases hclB.symm.trans q1
  cases hf.symm.trans q2
  cases hnamed.symm.trans q3
  have hselP : selectMethod e.platform s.vm cellB.cls r0 = .method mk := by rw [Launch.admits_selectMethod X.admits]; exact q4
  obtain ⟨vm₁, X₁, hstep₁⟩ := X.invokevirtualUp C.hx C.hown (C.hts _ hl) (C.hts _ hsame) hp.1 hn0 hrm hstR (a := b) (cell := cellB) (by rw [hT]; exact hcB)
    (fun z h => by rw [hvB] at h; cases h) hselP hmethM habM hkP hkPi (g := F0 m pc ls stk) rfl (argsL := As) (rest := rest) (hp.len hn _ hsigR) hst (by rw [C.hb]; exact hd)
  exact ⟨mk, vm₁, _, X₁, hnamed, by rw [C.hb]; exact hd, fun target h => hstep₁ _ fun acts => by rw [doInvoke_state]; exact h⟩
/-- super.y() -/
theorem wp_SU (hd : decode code pc = .ok (.invokespecial idx, 3)) (hF : g_okF F' code') (hl : Cond.methodLink F.1.cls idx F'.1 ∈ lw_all) (hsame : Cond.sameMethod F'.1.cls F'.1.cls F'.1.name F'.1.desc ∈ lw_all) (hsup : Cond.superclass F.1.cls F'.1.cls ∈ lw_all) (hi : Cond.instanceMethod F'.1 ∈ lw_all) (hno : F'.1.name ≠ "<init>") (hp : g_par F'.1 n) (hK : g_kn E ci Cn T N) (hb : G b = some (.inr (ci, fs))) (hn : As.length = n) (hst : stk = As.reverse ++ .ref b :: rest) (hw : Nat.ble (rest.map fun v => v.category).sum 8 = true) : g_inv E d F code pc L stk G F' code' (.ref b :: As) rest 3 := by
  intro kc1 ks1 kc2 ks2 Qc Q hM hk hx
  refine wp.mk fun {p e R s m args below meth c H locs ls cells slots} C => ?_
  refine g_call C hF hM (fun T hT X => ?_) (Nat.le_of_ble_eq_true hw) hk hx
  obtain ⟨mk, methM, hnamed, hmethM, hstM, habM⟩ := Cond.instanceMethod_spec (C.hts _ hi)
  obtain ⟨methM', cM, hmethM', -, -, hsigM⟩ := g_code_at hF C.hts hnamed
  cases hmethM.symm.trans hmethM'
  obtain ⟨cellB, hcB, hvB, hclB, kB, hkB⟩ := g_recv C.hP C.hX hK hb
  obtain ⟨ps, dk, kp, hps, hdk, hkp, hsuper, -, -, hnid⟩ := Cond.superclass_spec C.hown (C.hts _ hsup)
  have hn0 : s.methodNamed? ⟨F'.1.cls, F'.1.name, F'.1.desc⟩ = some mk := hnamed
  have hpm : ps = mk.cls := Option.some.inj (hps.symm.trans (findClass_of_methodNamed hnamed))
  have hsub : s.vm.isSubclass ps mk.cls = true := by rw [hpm]; simp [Vm.isSubclass, Vm.isSubclassAux]
  obtain ⟨vm₁, X₁, hstep₁⟩ := X.invokespecialUp C.hx C.hown (C.hts _ hl) (C.hts _ hsame) hn0 hmethM hstM habM hno hdk hnid hps hsuper hsub (a := b) (cell := cellB) (by rw [hT]; exact hcB)
    (fun z h => by rw [hvB] at h; cases h) hkB (g := F0 m pc ls stk) rfl (argsL := As) (rest := rest) (hp.len hn _ hsigM) hst (by rw [C.hb]; exact hd)
  exact ⟨mk, vm₁, _, X₁, hnamed, by rw [C.hb]; exact hd, fun target h => hstep₁ _ (by rw [doInvoke_state]; exact h)⟩
/-- a constructor's call -/
theorem wp_I (hd : decode code pc = .ok (.invokespecial idx, 3)) (hF : g_okF F' code') (hcw : Cond.code F'.1 code' F'.2.1 none ∈ lw_all) (hl : Cond.methodLink F.1.cls idx F'.1 ∈ lw_all) (hi : Cond.instanceMethod F'.1 ∈ lw_all) (hy1 : F'.1.name = "<init>") (hp : g_par F'.1 n) (hn : As.length = n) (hst : stk = As.reverse ++ .ref b :: rest) (hw : Nat.ble (rest.map fun v => v.category).sum 8 = true) : g_inv E d F code pc L stk G F' code' (.ref b :: As) rest 3 := by
  intro kc1 ks1 kc2 ks2 Qc Q hM hk hx
  refine wp.mk fun {p e R s m args below meth c H locs ls cells slots} C => ?_
  refine g_call C hF hM (fun T hT X => ?_) (Nat.le_of_ble_eq_true hw) hk hx
  have hpl : e.platform.magicAccessors = ({} : Platform).magicAccessors := by rw [X.admits.platform]
  obtain ⟨mk, methM, cM, kP, vm₁, hnamed, hmethM, hcodeM, -, hlocalsM, -, hkP, -, hW₁, hstep₁⟩ := Steps.initColdArgs (e := e) X.here C.hx X.warmed hpl C.hown hy1 hp.1 (C.hts _ hl) (C.hts _ hi) (C.hts _ hcw) (f := F0 m pc ls stk) (rest := rest) rfl (hp.len hn) hst (by rw [C.hb]; exact hd)
  exact ⟨mk, vm₁, _, X.noted hW₁, hnamed, by rw [C.hb]; exact hd, fun target h => hstep₁ _ fun acts => by rw [doInvoke_state]; exact h⟩
theorem wp_IN {host : String} (hd : decode code pc = .ok (.invokespecial idx, 3)) (hF : g_okF F' code') (hcw : Cond.code F'.1 code' F'.2.1 none ∈ lw_all) (hl : g_nw E (.methodLinkNest F.1.cls idx F'.1 host)) (hi : Cond.instanceMethod F'.1 ∈ lw_all) (hy1 : F'.1.name = "<init>") (hp : g_par F'.1 n) (hn : As.length = n) (hst : stk = As.reverse ++ .ref b :: rest) (hw : Nat.ble (rest.map fun v => v.category).sum 8 = true) : g_inv E d F code pc L stk G F' code' (.ref b :: As) rest 3 := by
  intro kc1 ks1 kc2 ks2 Qc Q hM hk hx
  refine wp.mk fun {p e R s m args below meth c H locs ls cells slots} C => ?_
  refine g_call C hF hM (fun T hT X => ?_) (Nat.le_of_ble_eq_true hw) hk hx
  have hpl : e.platform.magicAccessors = ({} : Platform).magicAccessors := by rw [X.admits.platform]
  obtain ⟨mk, methM, cM, kP, vm₁, hnamed, hmethM, hcodeM, -, hlocalsM, -, hkP, -, hW₁, hstep₁⟩ := Steps.initColdArgsNest (e := e) X.here C.hx X.warmed hpl C.hown hy1 hp.1 (va_Nw.use rfl (hl s H C.hX)) (C.hts _ hi) (C.hts _ hcw) (f := F0 m pc ls stk) (rest := rest) rfl (hp.len hn) hst (by rw [C.hb]; exact hd)
  exact ⟨mk, vm₁, _, X.noted hW₁, hnamed, by rw [C.hb]; exact hd, fun target h => hstep₁ _ fun acts => by rw [doInvoke_state]; exact h⟩
/-- a call through an interface's name x of an object of the class Cn, whose y runs -/
theorem wp_F {x : MethodName} {count : Nat} (hd : decode code pc = .ok (.invokeinterface idx count, 5)) (hF : g_okF F' code') (hl : Cond.methodLink F.1.cls idx x ∈ lw_all) (hdec : g_nw E (.declares x)) (hface : g_nw E (.interfaceMethod x.cls x.cls x.name x.desc)) (hs : Cond.selects Cn x F'.1 ∈ lw_all) (hi : Cond.instanceMethod F'.1 ∈ lw_all) (hpub : g_nw E (.publicMethod F'.1)) (hunh : g_nw E (.unhidden Cn x.name x.desc)) (hcast : g_nw E (.castable Cn x.cls)) (hp : g_par x n) (hK : g_kn E ci Cn T N) (hb : G b = some (.inr (ci, fs))) (hn : As.length = n) (hst : stk = As.reverse ++ .ref b :: rest) (hw : Nat.ble (rest.map fun v => v.category).sum 8 = true) : g_inv E d F code pc L stk G F' code' (.ref b :: As) rest 5 := by
  intro kc1 ks1 kc2 ks2 Qc Q hM hk hx
  refine wp.mk fun {p e R s m args below meth c H locs ls cells slots} C => ?_
  refine g_call C hF hM (fun T hT X => ?_) (Nat.le_of_ble_eq_true hw) hk hx
  obtain ⟨r0, r, hn0, hrm, hstR, hsigR⟩ := Cond.declares_spec (va_Nw.use (A := args) rfl (hdec s H C.hX))
  obtain ⟨cL, kL, r1, hcL, hkL, hiL, hfoundL, hn1⟩ := Cond.interfaceMethod_spec (va_Nw.use (A := args) rfl (hface s H C.hX))
  cases hn0.symm.trans hn1
  have hr0cls : r0.cls = cL := Option.some.inj ((findClass_of_methodNamed hn0).symm.trans hcL)
  obtain ⟨hnameR, hdescR⟩ := name_of_methodNamed hn0 hrm
  obtain ⟨mk, methM, hnamed, hmethM, -, habM⟩ := Cond.instanceMethod_spec (C.hts _ hi)
  obtain ⟨cellB, hcB, hvB, hclB, kB, hkB⟩ := g_recv C.hP C.hX hK hb
  obtain ⟨c2, r2, m2, q1, q2, q3, q4, -⟩ := Cond.selects_spec (C.hts _ hs)
  cases hclB.symm.trans q1
  cases hfoundL.symm.trans q2
  cases hnamed.symm.trans q3
  have hselP : selectMethod e.platform s.vm cellB.cls r0 = .method mk := by rw [Launch.admits_selectMethod X.admits]; exact q4
  have hpubM : hasFlag methM.accessFlags Acc.public_ = true := Cond.publicMethod_spec hnamed hmethM (va_Nw.use (A := args) rfl (hpub s H C.hX))
  have hway : ((cellB.cls :: s.vm.superclasses cellB.cls).any fun k => (declaredIn s.vm r.name r.desc k).any fun (_, z) => z.isPrivate || z.isStatic) = false := by
    rw [hnameR, hdescR]; exact Cond.unhidden_spec hclB (va_Nw.use (A := args) rfl (hunh s H C.hX))
  obtain ⟨c3, t3, w1, w2, w3⟩ := Cond.castable_spec (va_Nw.use (A := args) rfl (hcast s H C.hX))
  cases hclB.symm.trans w1
  cases hcL.symm.trans w2
  obtain ⟨vm₁, X₁, hstep₁⟩ := X.invokeinterface C.hx C.hown (C.hts _ hl) hn0 hrm hstR (by rw [hr0cls]; exact hkL) hiL hp.1 (a := b) (cell := cellB) (kcell := kB) (by rw [hT]; exact hcB)
    (fun z h => by rw [hvB] at h; cases h) hkB (by rw [hr0cls]; exact w3) hselP hmethM hway hpubM habM (g := F0 m pc ls stk) rfl (argsL := As) (rest := rest) (hp.len hn _ hsigR) hst (by rw [C.hb]; exact hd)
  exact ⟨mk, vm₁, _, X₁, hnamed, by rw [C.hb]; exact hd, fun target h => hstep₁ _ fun acts => by rw [doInvoke_state]; exact h⟩
end GI
