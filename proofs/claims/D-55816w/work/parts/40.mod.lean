/-! THE MODEL: its picture: one object, ten arrays; A i: the content of the array i, v j: the number j (printed) -/
set_option maxRecDepth 100000
def mF (ad : Nat → Nat) (v : Nat → Int) : List Value := [.ref (ad 0), .ref (ad 1), .ref (ad 2), .int (ii_ (v 0)), .ref (ad 3), .int (ii_ (v 1)), .int (ii_ (v 2)), .ref (ad 4), .ref (ad 5), .int (ii_ (v 3)), .ref (ad 6), .int (ii_ (v 4)), .ref (ad 7), .int (ii_ (v 5)), .ref (ad 8), .int (ii_ (v 6)), .int (ii_ (v 7)), .int (ii_ (v 8)), .int (ii_ (v 9)), .int (ii_ (v 10)), .ref (ad 9), .int (ii_ (v 11))]
def mT (i : Nat) : Nat := match i with
  | 0 => 0
  | 1 => 0
  | 2 => 0
  | 3 => 0
  | 4 => 0
  | 5 => 3
  | 6 => 0
  | 7 => 2
  | 8 => 2
  | 9 => 0
  | _ => 0
def mN (i : Nat) : Nat := match i with
  | 0 => 275
  | 1 => 275
  | 2 => 275
  | 3 => 2200
  | 4 => 4
  | 5 => 13
  | 6 => 13
  | 7 => 60
  | 8 => 60
  | 9 => 360
  | _ => 0
def mIx (ad : Nat → Nat) (q : Nat) : Nat → Option Nat
  | 0 => none
  | n + 1 => if q = ad n then some n else mIx ad q n
/-- the ghost heap G with the model's cells -/
def mG (G : gH) (m : Nat) (ad : Nat → Nat) (A : Nat → Int → Int) (v : Nat → Int) : gH := fun q => if q = m then some (.inr (4, mF ad v)) else match mIx ad q 10 with
  | some i => some (gA (mT i) (mN i) (A i))
  | none => G q
def mOK (E : gE) (m : Nat) (ad : Nat → Nat) : Prop := E.2.2.1 ≤ m ∧ ∀ i, i < 10 → E.2.2.1 ≤ ad i ∧ ad i ≠ m ∧ ∀ j, j < 10 → i ≠ j → ad i ≠ ad j
/-- the function A with f at i -/
def mu_ {α : Type} (A : Nat → α) (i : Nat) (f : α) : Nat → α := fun k => if k = i then f else A k
theorem mu_eq {α : Type} {A : Nat → α} {i : Nat} {f : α} : mu_ A i f i = f := by simp [mu_]
theorem mu_ne {α : Type} {A : Nat → α} {i j : Nat} {f : α} (h : j ≠ i) : mu_ A i f j = A j := by simp [mu_, h]
theorem mu_self {α : Type} {A : Nat → α} {i : Nat} : mu_ A i (A i) = A := by funext k; by_cases h : k = i <;> simp [mu_, h]
theorem mu_mu {α : Type} {A : Nat → α} {i : Nat} {f g : α} : mu_ (mu_ A i f) i g = mu_ A i g := by funext k; by_cases h : k = i <;> simp [mu_, h]
theorem mIx_some {ad : Nat → Nat} {q : Nat} : ∀ {n i : Nat}, mIx ad q n = some i → i < n ∧ q = ad i := by
  intro n
  induction n with
  | zero => intro i h; cases h
  | succ n ih =>
    intro i h
    unfold mIx at h
    by_cases hq : q = ad n
    · rw [if_pos hq] at h; cases h; exact ⟨Nat.lt_succ_self _, hq⟩
    · rw [if_neg hq] at h; obtain ⟨h1, h2⟩ := ih h; exact ⟨Nat.lt_succ_of_lt h1, h2⟩
theorem mIx_of {ad : Nat → Nat} (hd : ∀ i, i < 10 → ∀ j, j < 10 → i ≠ j → ad i ≠ ad j) : ∀ (n : Nat), n ≤ 10 → ∀ i, i < n → mIx ad (ad i) n = some i := by
  intro n
  induction n with
  | zero => intro _ i h; omega
  | succ n ih =>
    intro hn i hi
    unfold mIx
    by_cases h : i = n
    · rw [h, if_pos rfl]
    · rw [if_neg (hd i (by omega) n (by omega) h)]
      exact ih (by omega) i (by omega)
section MG
variable {E : gE} {G : gH} {m : Nat} {ad : Nat → Nat} {A : Nat → Int → Int} {v : Nat → Int}
theorem mG_m : mG G m ad A v m = some (.inr (4, mF ad v)) := by simp [mG]
theorem mG_a (hM : mOK E m ad) (i : Nat) (hi : i < 10) : mG G m ad A v (ad i) = some (gA (mT i) (mN i) (A i)) := by
  unfold mG
  rw [if_neg (hM.2 i hi).2.1, mIx_of (fun i hi j hj h => (hM.2 i hi).2.2 j hj h) 10 (Nat.le_refl _) i hi]
theorem mG_off {q : Nat} (h : q ≠ m) (h2 : ∀ i, i < 10 → q ≠ ad i) : mG G m ad A v q = G q := by
  unfold mG
  rw [if_neg h]
  cases h9 : mIx ad q 10 with
  | none => rfl
  | some i => obtain ⟨h3, h4⟩ := mIx_some h9; exact absurd h4 (h2 i h3)
theorem mG_up_a (hM : mOK E m ad) (i : Nat) (hi : i < 10) (f : Int → Int) : g_up (mG G m ad A v) (ad i) (gA (mT i) (mN i) f) = mG G m ad (mu_ A i f) v := by
  funext q
  by_cases hq : q = ad i
  · subst hq
    rw [g_up_eq, mG_a hM i hi, mu_eq]
  · rw [g_up_ne hq]
    unfold mG
    by_cases hm : q = m
    · rw [if_pos hm, if_pos hm]
    · rw [if_neg hm, if_neg hm]
      cases h9 : mIx ad q 10 with
      | none => rfl
      | some j =>
        obtain ⟨h3, h4⟩ := mIx_some h9
        show some _ = some _
        rw [mu_ne (fun e => hq (by rw [h4, e]))]
theorem mG_up_m {w : Nat → Int} {fs : List Value} (h : fs = mF ad w) : g_up (mG G m ad A v) m (.inr (4, fs)) = mG G m ad A w := by
  subst h
  funext q
  by_cases hq : q = m
  · subst hq; rw [g_up_eq, mG_m]
  · rw [g_up_ne hq]
    unfold mG
    rw [if_neg hq, if_neg hq]
end MG
theorem g_nz {b : Int} (h : b = 0 ∨ b = 1) : narrow .boolean (.int (ii_ b)) = .int (ii_ b) := by rcases h with rfl | rfl <;> rfl
theorem ii_toNat {z : Int} (h0 : 0 ≤ z) (h1 : z < 65536) : (ii_ z).toUInt32.toNat = z.toNat := by
  obtain ⟨n, rfl⟩ := Int.eq_ofNat_of_zero_le h0
  have h9 : ii_ ((n : Nat) : Int) = nI n := rfl
  rw [h9]
  have h2 : (nI n).toBitVec.toNat = n := pk_tn (by omega)
  show (nI n).toBitVec.toNat = _
  rw [h2]
  rfl
theorem g_nc2 {b : Int} (h0 : 0 ≤ b) (h1 : b < 65536) : narrow .char (.int (ii_ b)) = .int (ii_ b) := by
  have h9 : narrow .char (.int (ii_ b)) = .int (vp_nar .char (ii_ b)) := rfl
  rw [h9, vp_nar_char]
  congr 1
  have h3 := ii_toNat h0 h1
  have h5 : (ii_ b).toUInt32.toUInt16.toUInt32 = (ii_ b).toUInt32 := UInt32.toNat_inj.mp (by
    have h6 : (ii_ b).toUInt32.toUInt16.toUInt32.toNat = (ii_ b).toUInt32.toNat % 65536 := by simp
    rw [h6, h3]
    omega)
  rw [h5]
  rfl
theorem narrow_byte_ok : ∀ n : Fin 128, narrow .byte (.int (nI n.val)) = .int (nI n.val) := by decide +kernel
theorem g_nb {b : Int} (h0 : 0 ≤ b) (h1 : b < 128) : narrow .byte (.int (ii_ b)) = .int (ii_ b) := by
  obtain ⟨n, rfl⟩ := Int.eq_ofNat_of_zero_le h0
  exact narrow_byte_ok ⟨n, by omega⟩
section MW
variable {E : gE} {d kc ks : Nat} {F : gF} {code : ByteArray} {pc : Nat} {L : List (Option Value)} {st : List Value} {G : gH} {Q : gR → gH → Prop} {m : Nat} {ad : Nat → Nat} {A : Nat → Int → Int} {v : Nat → Int}
theorem mG_a0 (hM : mOK E m ad) : mG G m ad A v (ad 0) = some (gA 0 275 (A 0)) := mG_a hM 0 (by decide)
theorem mG_s0 {f : Int → Int} (hM : mOK E m ad) : g_up (mG G m ad A v) (ad 0) (gA 0 275 f) = mG G m ad (mu_ A 0 f) v := mG_up_a hM 0 (by decide) f
theorem wpm_ld0 {i : Int} (hE : gEnv E) (hM : mOK E m ad) (hd : decode code pc = .ok (.iaload, 1)) (h0 : 0 ≤ i) (h1 : i < 275) (h : wp E d kc ks F code (pc + 1) L (.int (ii_ (A 0 i)) :: st) (mG G m ad A v) Q) : wp E d kc ks F code pc L (.int (ii_ i) :: .ref (ad 0) :: st) (mG G m ad A v) Q := wp_iald (ka_0 hE) hd (mG_a0 hM) h0 h1 (by decide) h
theorem wpm_st0 {i x : Int} (hE : gEnv E) (hM : mOK E m ad) (hd : decode code pc = .ok (.iastore, 1)) (h0 : 0 ≤ i) (h1 : i < 275) (h : wp E d kc ks F code (pc + 1) L st (mG G m ad (mu_ A 0 (g_fu (A 0) i x)) v) Q) : wp E d kc ks F code pc L (.int (ii_ x) :: .int (ii_ i) :: .ref (ad 0) :: st) (mG G m ad A v) Q := wp_iast (ka_0 hE) hd (mG_a0 hM) (hM.2 0 (by decide)).1 h0 h1 (by decide) (by rw [mG_s0 hM]; exact h)
theorem mG_a1 (hM : mOK E m ad) : mG G m ad A v (ad 1) = some (gA 0 275 (A 1)) := mG_a hM 1 (by decide)
theorem mG_s1 {f : Int → Int} (hM : mOK E m ad) : g_up (mG G m ad A v) (ad 1) (gA 0 275 f) = mG G m ad (mu_ A 1 f) v := mG_up_a hM 1 (by decide) f
theorem wpm_ld1 {i : Int} (hE : gEnv E) (hM : mOK E m ad) (hd : decode code pc = .ok (.iaload, 1)) (h0 : 0 ≤ i) (h1 : i < 275) (h : wp E d kc ks F code (pc + 1) L (.int (ii_ (A 1 i)) :: st) (mG G m ad A v) Q) : wp E d kc ks F code pc L (.int (ii_ i) :: .ref (ad 1) :: st) (mG G m ad A v) Q := wp_iald (ka_0 hE) hd (mG_a1 hM) h0 h1 (by decide) h
theorem wpm_st1 {i x : Int} (hE : gEnv E) (hM : mOK E m ad) (hd : decode code pc = .ok (.iastore, 1)) (h0 : 0 ≤ i) (h1 : i < 275) (h : wp E d kc ks F code (pc + 1) L st (mG G m ad (mu_ A 1 (g_fu (A 1) i x)) v) Q) : wp E d kc ks F code pc L (.int (ii_ x) :: .int (ii_ i) :: .ref (ad 1) :: st) (mG G m ad A v) Q := wp_iast (ka_0 hE) hd (mG_a1 hM) (hM.2 1 (by decide)).1 h0 h1 (by decide) (by rw [mG_s1 hM]; exact h)
theorem mG_a2 (hM : mOK E m ad) : mG G m ad A v (ad 2) = some (gA 0 275 (A 2)) := mG_a hM 2 (by decide)
theorem mG_s2 {f : Int → Int} (hM : mOK E m ad) : g_up (mG G m ad A v) (ad 2) (gA 0 275 f) = mG G m ad (mu_ A 2 f) v := mG_up_a hM 2 (by decide) f
theorem wpm_ld2 {i : Int} (hE : gEnv E) (hM : mOK E m ad) (hd : decode code pc = .ok (.iaload, 1)) (h0 : 0 ≤ i) (h1 : i < 275) (h : wp E d kc ks F code (pc + 1) L (.int (ii_ (A 2 i)) :: st) (mG G m ad A v) Q) : wp E d kc ks F code pc L (.int (ii_ i) :: .ref (ad 2) :: st) (mG G m ad A v) Q := wp_iald (ka_0 hE) hd (mG_a2 hM) h0 h1 (by decide) h
theorem wpm_st2 {i x : Int} (hE : gEnv E) (hM : mOK E m ad) (hd : decode code pc = .ok (.iastore, 1)) (h0 : 0 ≤ i) (h1 : i < 275) (h : wp E d kc ks F code (pc + 1) L st (mG G m ad (mu_ A 2 (g_fu (A 2) i x)) v) Q) : wp E d kc ks F code pc L (.int (ii_ x) :: .int (ii_ i) :: .ref (ad 2) :: st) (mG G m ad A v) Q := wp_iast (ka_0 hE) hd (mG_a2 hM) (hM.2 2 (by decide)).1 h0 h1 (by decide) (by rw [mG_s2 hM]; exact h)
theorem mG_a3 (hM : mOK E m ad) : mG G m ad A v (ad 3) = some (gA 0 2200 (A 3)) := mG_a hM 3 (by decide)
theorem mG_s3 {f : Int → Int} (hM : mOK E m ad) : g_up (mG G m ad A v) (ad 3) (gA 0 2200 f) = mG G m ad (mu_ A 3 f) v := mG_up_a hM 3 (by decide) f
theorem wpm_ld3 {i : Int} (hE : gEnv E) (hM : mOK E m ad) (hd : decode code pc = .ok (.iaload, 1)) (h0 : 0 ≤ i) (h1 : i < 2200) (h : wp E d kc ks F code (pc + 1) L (.int (ii_ (A 3 i)) :: st) (mG G m ad A v) Q) : wp E d kc ks F code pc L (.int (ii_ i) :: .ref (ad 3) :: st) (mG G m ad A v) Q := wp_iald (ka_0 hE) hd (mG_a3 hM) h0 h1 (by decide) h
theorem wpm_st3 {i x : Int} (hE : gEnv E) (hM : mOK E m ad) (hd : decode code pc = .ok (.iastore, 1)) (h0 : 0 ≤ i) (h1 : i < 2200) (h : wp E d kc ks F code (pc + 1) L st (mG G m ad (mu_ A 3 (g_fu (A 3) i x)) v) Q) : wp E d kc ks F code pc L (.int (ii_ x) :: .int (ii_ i) :: .ref (ad 3) :: st) (mG G m ad A v) Q := wp_iast (ka_0 hE) hd (mG_a3 hM) (hM.2 3 (by decide)).1 h0 h1 (by decide) (by rw [mG_s3 hM]; exact h)
theorem mG_a4 (hM : mOK E m ad) : mG G m ad A v (ad 4) = some (gA 0 4 (A 4)) := mG_a hM 4 (by decide)
theorem mG_s4 {f : Int → Int} (hM : mOK E m ad) : g_up (mG G m ad A v) (ad 4) (gA 0 4 f) = mG G m ad (mu_ A 4 f) v := mG_up_a hM 4 (by decide) f
theorem wpm_ld4 {i : Int} (hE : gEnv E) (hM : mOK E m ad) (hd : decode code pc = .ok (.iaload, 1)) (h0 : 0 ≤ i) (h1 : i < 4) (h : wp E d kc ks F code (pc + 1) L (.int (ii_ (A 4 i)) :: st) (mG G m ad A v) Q) : wp E d kc ks F code pc L (.int (ii_ i) :: .ref (ad 4) :: st) (mG G m ad A v) Q := wp_iald (ka_0 hE) hd (mG_a4 hM) h0 h1 (by decide) h
theorem wpm_st4 {i x : Int} (hE : gEnv E) (hM : mOK E m ad) (hd : decode code pc = .ok (.iastore, 1)) (h0 : 0 ≤ i) (h1 : i < 4) (h : wp E d kc ks F code (pc + 1) L st (mG G m ad (mu_ A 4 (g_fu (A 4) i x)) v) Q) : wp E d kc ks F code pc L (.int (ii_ x) :: .int (ii_ i) :: .ref (ad 4) :: st) (mG G m ad A v) Q := wp_iast (ka_0 hE) hd (mG_a4 hM) (hM.2 4 (by decide)).1 h0 h1 (by decide) (by rw [mG_s4 hM]; exact h)
theorem mG_a5 (hM : mOK E m ad) : mG G m ad A v (ad 5) = some (gA 3 13 (A 5)) := mG_a hM 5 (by decide)
theorem mG_s5 {f : Int → Int} (hM : mOK E m ad) : g_up (mG G m ad A v) (ad 5) (gA 3 13 f) = mG G m ad (mu_ A 5 f) v := mG_up_a hM 5 (by decide) f
theorem wpm_ld5 {i : Int} (hE : gEnv E) (hM : mOK E m ad) (hd : decode code pc = .ok (.baload, 1)) (h0 : 0 ≤ i) (h1 : i < 13) (h : wp E d kc ks F code (pc + 1) L (.int (ii_ (A 5 i)) :: st) (mG G m ad A v) Q) : wp E d kc ks F code pc L (.int (ii_ i) :: .ref (ad 5) :: st) (mG G m ad A v) Q := wp_zald (ka_3 hE) hd (mG_a5 hM) h0 h1 (by decide) h
theorem wpm_st5 {i x : Int} (hE : gEnv E) (hM : mOK E m ad) (hd : decode code pc = .ok (.bastore, 1)) (h0 : 0 ≤ i) (h1 : i < 13) (hn : narrow .boolean (.int (ii_ x)) = .int (ii_ x)) (h : wp E d kc ks F code (pc + 1) L st (mG G m ad (mu_ A 5 (g_fu (A 5) i x)) v) Q) : wp E d kc ks F code pc L (.int (ii_ x) :: .int (ii_ i) :: .ref (ad 5) :: st) (mG G m ad A v) Q := wp_zast (ka_3 hE) hd (mG_a5 hM) (hM.2 5 (by decide)).1 h0 h1 (by decide) hn (by rw [mG_s5 hM]; exact h)
theorem mG_a6 (hM : mOK E m ad) : mG G m ad A v (ad 6) = some (gA 0 13 (A 6)) := mG_a hM 6 (by decide)
theorem mG_s6 {f : Int → Int} (hM : mOK E m ad) : g_up (mG G m ad A v) (ad 6) (gA 0 13 f) = mG G m ad (mu_ A 6 f) v := mG_up_a hM 6 (by decide) f
theorem wpm_ld6 {i : Int} (hE : gEnv E) (hM : mOK E m ad) (hd : decode code pc = .ok (.iaload, 1)) (h0 : 0 ≤ i) (h1 : i < 13) (h : wp E d kc ks F code (pc + 1) L (.int (ii_ (A 6 i)) :: st) (mG G m ad A v) Q) : wp E d kc ks F code pc L (.int (ii_ i) :: .ref (ad 6) :: st) (mG G m ad A v) Q := wp_iald (ka_0 hE) hd (mG_a6 hM) h0 h1 (by decide) h
theorem wpm_st6 {i x : Int} (hE : gEnv E) (hM : mOK E m ad) (hd : decode code pc = .ok (.iastore, 1)) (h0 : 0 ≤ i) (h1 : i < 13) (h : wp E d kc ks F code (pc + 1) L st (mG G m ad (mu_ A 6 (g_fu (A 6) i x)) v) Q) : wp E d kc ks F code pc L (.int (ii_ x) :: .int (ii_ i) :: .ref (ad 6) :: st) (mG G m ad A v) Q := wp_iast (ka_0 hE) hd (mG_a6 hM) (hM.2 6 (by decide)).1 h0 h1 (by decide) (by rw [mG_s6 hM]; exact h)
theorem mG_a7 (hM : mOK E m ad) : mG G m ad A v (ad 7) = some (gA 2 60 (A 7)) := mG_a hM 7 (by decide)
theorem mG_s7 {f : Int → Int} (hM : mOK E m ad) : g_up (mG G m ad A v) (ad 7) (gA 2 60 f) = mG G m ad (mu_ A 7 f) v := mG_up_a hM 7 (by decide) f
theorem wpm_ld7 {i : Int} (hE : gEnv E) (hM : mOK E m ad) (hd : decode code pc = .ok (.caload, 1)) (h0 : 0 ≤ i) (h1 : i < 60) (h : wp E d kc ks F code (pc + 1) L (.int (ii_ (A 7 i)) :: st) (mG G m ad A v) Q) : wp E d kc ks F code pc L (.int (ii_ i) :: .ref (ad 7) :: st) (mG G m ad A v) Q := wp_cald (ka_2 hE) hd (mG_a7 hM) h0 h1 (by decide) h
theorem wpm_st7 {i x : Int} (hE : gEnv E) (hM : mOK E m ad) (hd : decode code pc = .ok (.castore, 1)) (h0 : 0 ≤ i) (h1 : i < 60) (hn : narrow .char (.int (ii_ x)) = .int (ii_ x)) (h : wp E d kc ks F code (pc + 1) L st (mG G m ad (mu_ A 7 (g_fu (A 7) i x)) v) Q) : wp E d kc ks F code pc L (.int (ii_ x) :: .int (ii_ i) :: .ref (ad 7) :: st) (mG G m ad A v) Q := wp_cast (ka_2 hE) hd (mG_a7 hM) (hM.2 7 (by decide)).1 h0 h1 (by decide) hn (by rw [mG_s7 hM]; exact h)
theorem mG_a8 (hM : mOK E m ad) : mG G m ad A v (ad 8) = some (gA 2 60 (A 8)) := mG_a hM 8 (by decide)
theorem mG_s8 {f : Int → Int} (hM : mOK E m ad) : g_up (mG G m ad A v) (ad 8) (gA 2 60 f) = mG G m ad (mu_ A 8 f) v := mG_up_a hM 8 (by decide) f
theorem wpm_ld8 {i : Int} (hE : gEnv E) (hM : mOK E m ad) (hd : decode code pc = .ok (.caload, 1)) (h0 : 0 ≤ i) (h1 : i < 60) (h : wp E d kc ks F code (pc + 1) L (.int (ii_ (A 8 i)) :: st) (mG G m ad A v) Q) : wp E d kc ks F code pc L (.int (ii_ i) :: .ref (ad 8) :: st) (mG G m ad A v) Q := wp_cald (ka_2 hE) hd (mG_a8 hM) h0 h1 (by decide) h
theorem wpm_st8 {i x : Int} (hE : gEnv E) (hM : mOK E m ad) (hd : decode code pc = .ok (.castore, 1)) (h0 : 0 ≤ i) (h1 : i < 60) (hn : narrow .char (.int (ii_ x)) = .int (ii_ x)) (h : wp E d kc ks F code (pc + 1) L st (mG G m ad (mu_ A 8 (g_fu (A 8) i x)) v) Q) : wp E d kc ks F code pc L (.int (ii_ x) :: .int (ii_ i) :: .ref (ad 8) :: st) (mG G m ad A v) Q := wp_cast (ka_2 hE) hd (mG_a8 hM) (hM.2 8 (by decide)).1 h0 h1 (by decide) hn (by rw [mG_s8 hM]; exact h)
theorem mG_a9 (hM : mOK E m ad) : mG G m ad A v (ad 9) = some (gA 0 360 (A 9)) := mG_a hM 9 (by decide)
theorem mG_s9 {f : Int → Int} (hM : mOK E m ad) : g_up (mG G m ad A v) (ad 9) (gA 0 360 f) = mG G m ad (mu_ A 9 f) v := mG_up_a hM 9 (by decide) f
theorem wpm_ld9 {i : Int} (hE : gEnv E) (hM : mOK E m ad) (hd : decode code pc = .ok (.iaload, 1)) (h0 : 0 ≤ i) (h1 : i < 360) (h : wp E d kc ks F code (pc + 1) L (.int (ii_ (A 9 i)) :: st) (mG G m ad A v) Q) : wp E d kc ks F code pc L (.int (ii_ i) :: .ref (ad 9) :: st) (mG G m ad A v) Q := wp_iald (ka_0 hE) hd (mG_a9 hM) h0 h1 (by decide) h
theorem wpm_st9 {i x : Int} (hE : gEnv E) (hM : mOK E m ad) (hd : decode code pc = .ok (.iastore, 1)) (h0 : 0 ≤ i) (h1 : i < 360) (h : wp E d kc ks F code (pc + 1) L st (mG G m ad (mu_ A 9 (g_fu (A 9) i x)) v) Q) : wp E d kc ks F code pc L (.int (ii_ x) :: .int (ii_ i) :: .ref (ad 9) :: st) (mG G m ad A v) Q := wp_iast (ka_0 hE) hd (mG_a9 hM) (hM.2 9 (by decide)).1 h0 h1 (by decide) (by rw [mG_s9 hM]; exact h)
theorem mF_0 {z : Int} : (mF ad v).set 3 (.int (ii_ z)) = mF ad (mu_ v 0 z) := rfl
theorem wpm_put0 {z : Int} (hE : gEnv E) (hM : mOK E m ad) (hd : decode code pc = .ok (.putfield 290, 3)) (hf : g_fit .boolean (.int (ii_ z))) (h : wp E d kc ks F code (pc + 3) L st (mG G m ad A (mu_ v 0 z)) Q) (ho : F.1.cls = RX4 := by rfl) : wp E d kc ks F code pc L (.int (ii_ z) :: .ref m :: st) (mG G m ad A v) Q := wp_put hd (by rw [ho]; exact fl_X4_290_X4 hE) mG_m hM.1 hf (by show 3 < 22; decide) (by rw [mG_up_m mF_0]; exact h)
theorem mF_1 {z : Int} : (mF ad v).set 5 (.int (ii_ z)) = mF ad (mu_ v 1 z) := rfl
theorem wpm_put1 {z : Int} (hE : gEnv E) (hM : mOK E m ad) (hd : decode code pc = .ok (.putfield 55, 3)) (hf : g_fit .int (.int (ii_ z))) (h : wp E d kc ks F code (pc + 3) L st (mG G m ad A (mu_ v 1 z)) Q) (ho : F.1.cls = RX4 := by rfl) : wp E d kc ks F code pc L (.int (ii_ z) :: .ref m :: st) (mG G m ad A v) Q := wp_put hd (by rw [ho]; exact fl_X4_55_X4 hE) mG_m hM.1 hf (by show 5 < 22; decide) (by rw [mG_up_m mF_1]; exact h)
theorem mF_2 {z : Int} : (mF ad v).set 6 (.int (ii_ z)) = mF ad (mu_ v 2 z) := rfl
theorem wpm_put2 {z : Int} (hE : gEnv E) (hM : mOK E m ad) (hd : decode code pc = .ok (.putfield 52, 3)) (hf : g_fit .int (.int (ii_ z))) (h : wp E d kc ks F code (pc + 3) L st (mG G m ad A (mu_ v 2 z)) Q) (ho : F.1.cls = RX4 := by rfl) : wp E d kc ks F code pc L (.int (ii_ z) :: .ref m :: st) (mG G m ad A v) Q := wp_put hd (by rw [ho]; exact fl_X4_52_X4 hE) mG_m hM.1 hf (by show 6 < 22; decide) (by rw [mG_up_m mF_2]; exact h)
theorem mF_3 {z : Int} : (mF ad v).set 9 (.int (ii_ z)) = mF ad (mu_ v 3 z) := rfl
theorem wpm_put3 {z : Int} (hE : gEnv E) (hM : mOK E m ad) (hd : decode code pc = .ok (.putfield 146, 3)) (hf : g_fit .int (.int (ii_ z))) (h : wp E d kc ks F code (pc + 3) L st (mG G m ad A (mu_ v 3 z)) Q) (ho : F.1.cls = RX4 := by rfl) : wp E d kc ks F code pc L (.int (ii_ z) :: .ref m :: st) (mG G m ad A v) Q := wp_put hd (by rw [ho]; exact fl_X4_146_X4 hE) mG_m hM.1 hf (by show 9 < 22; decide) (by rw [mG_up_m mF_3]; exact h)
theorem mF_4 {z : Int} : (mF ad v).set 11 (.int (ii_ z)) = mF ad (mu_ v 4 z) := rfl
theorem wpm_put4 {z : Int} (hE : gEnv E) (hM : mOK E m ad) (hd : decode code pc = .ok (.putfield 175, 3)) (hf : g_fit .int (.int (ii_ z))) (h : wp E d kc ks F code (pc + 3) L st (mG G m ad A (mu_ v 4 z)) Q) (ho : F.1.cls = RX4 := by rfl) : wp E d kc ks F code pc L (.int (ii_ z) :: .ref m :: st) (mG G m ad A v) Q := wp_put hd (by rw [ho]; exact fl_X4_175_X4 hE) mG_m hM.1 hf (by show 11 < 22; decide) (by rw [mG_up_m mF_4]; exact h)
theorem mF_5 {z : Int} : (mF ad v).set 13 (.int (ii_ z)) = mF ad (mu_ v 5 z) := rfl
theorem wpm_put5 {z : Int} (hE : gEnv E) (hM : mOK E m ad) (hd : decode code pc = .ok (.putfield 221, 3)) (hf : g_fit .int (.int (ii_ z))) (h : wp E d kc ks F code (pc + 3) L st (mG G m ad A (mu_ v 5 z)) Q) (ho : F.1.cls = RX4 := by rfl) : wp E d kc ks F code pc L (.int (ii_ z) :: .ref m :: st) (mG G m ad A v) Q := wp_put hd (by rw [ho]; exact fl_X4_221_X4 hE) mG_m hM.1 hf (by show 13 < 22; decide) (by rw [mG_up_m mF_5]; exact h)
theorem mF_6 {z : Int} : (mF ad v).set 15 (.int (ii_ z)) = mF ad (mu_ v 6 z) := rfl
theorem wpm_put6 {z : Int} (hE : gEnv E) (hM : mOK E m ad) (hd : decode code pc = .ok (.putfield 246, 3)) (hf : g_fit .int (.int (ii_ z))) (h : wp E d kc ks F code (pc + 3) L st (mG G m ad A (mu_ v 6 z)) Q) (ho : F.1.cls = RX4 := by rfl) : wp E d kc ks F code pc L (.int (ii_ z) :: .ref m :: st) (mG G m ad A v) Q := wp_put hd (by rw [ho]; exact fl_X4_246_X4 hE) mG_m hM.1 hf (by show 15 < 22; decide) (by rw [mG_up_m mF_6]; exact h)
theorem mF_7 {z : Int} : (mF ad v).set 16 (.int (ii_ z)) = mF ad (mu_ v 7 z) := rfl
theorem wpm_put7 {z : Int} (hE : gEnv E) (hM : mOK E m ad) (hd : decode code pc = .ok (.putfield 255, 3)) (hf : g_fit .int (.int (ii_ z))) (h : wp E d kc ks F code (pc + 3) L st (mG G m ad A (mu_ v 7 z)) Q) (ho : F.1.cls = RX4 := by rfl) : wp E d kc ks F code pc L (.int (ii_ z) :: .ref m :: st) (mG G m ad A v) Q := wp_put hd (by rw [ho]; exact fl_X4_255_X4 hE) mG_m hM.1 hf (by show 16 < 22; decide) (by rw [mG_up_m mF_7]; exact h)
theorem mF_8 {z : Int} : (mF ad v).set 17 (.int (ii_ z)) = mF ad (mu_ v 8 z) := rfl
theorem wpm_put8 {z : Int} (hE : gEnv E) (hM : mOK E m ad) (hd : decode code pc = .ok (.putfield 251, 3)) (hf : g_fit .boolean (.int (ii_ z))) (h : wp E d kc ks F code (pc + 3) L st (mG G m ad A (mu_ v 8 z)) Q) (ho : F.1.cls = RX4 := by rfl) : wp E d kc ks F code pc L (.int (ii_ z) :: .ref m :: st) (mG G m ad A v) Q := wp_put hd (by rw [ho]; exact fl_X4_251_X4 hE) mG_m hM.1 hf (by show 17 < 22; decide) (by rw [mG_up_m mF_8]; exact h)
theorem mF_9 {z : Int} : (mF ad v).set 18 (.int (ii_ z)) = mF ad (mu_ v 9 z) := rfl
theorem wpm_put9 {z : Int} (hE : gEnv E) (hM : mOK E m ad) (hd : decode code pc = .ok (.putfield 39, 3)) (hf : g_fit .int (.int (ii_ z))) (h : wp E d kc ks F code (pc + 3) L st (mG G m ad A (mu_ v 9 z)) Q) (ho : F.1.cls = RX4 := by rfl) : wp E d kc ks F code pc L (.int (ii_ z) :: .ref m :: st) (mG G m ad A v) Q := wp_put hd (by rw [ho]; exact fl_X4_39_X4 hE) mG_m hM.1 hf (by show 18 < 22; decide) (by rw [mG_up_m mF_9]; exact h)
theorem mF_10 {z : Int} : (mF ad v).set 19 (.int (ii_ z)) = mF ad (mu_ v 10 z) := rfl
theorem wpm_put10 {z : Int} (hE : gEnv E) (hM : mOK E m ad) (hd : decode code pc = .ok (.putfield 43, 3)) (hf : g_fit .int (.int (ii_ z))) (h : wp E d kc ks F code (pc + 3) L st (mG G m ad A (mu_ v 10 z)) Q) (ho : F.1.cls = RX4 := by rfl) : wp E d kc ks F code pc L (.int (ii_ z) :: .ref m :: st) (mG G m ad A v) Q := wp_put hd (by rw [ho]; exact fl_X4_43_X4 hE) mG_m hM.1 hf (by show 19 < 22; decide) (by rw [mG_up_m mF_10]; exact h)
theorem mF_11 {z : Int} : (mF ad v).set 21 (.int (ii_ z)) = mF ad (mu_ v 11 z) := rfl
theorem wpm_put11 {z : Int} (hE : gEnv E) (hM : mOK E m ad) (hd : decode code pc = .ok (.putfield 275, 3)) (hf : g_fit .int (.int (ii_ z))) (h : wp E d kc ks F code (pc + 3) L st (mG G m ad A (mu_ v 11 z)) Q) (ho : F.1.cls = RX4 := by rfl) : wp E d kc ks F code pc L (.int (ii_ z) :: .ref m :: st) (mG G m ad A v) Q := wp_put hd (by rw [ho]; exact fl_X4_275_X4 hE) mG_m hM.1 hf (by show 21 < 22; decide) (by rw [mG_up_m mF_11]; exact h)
/-- a contract of the model's: the answer, the arrays and the numbers behind it -/
def mc_ (E : gE) (d : Nat) (F : gF) (code : ByteArray) (as : List Value) (G : gH) (m : Nat) (ad : Nat → Nat) (A : Nat → Int → Int) (v : Nat → Int) (r : Option Value) (A' : Nat → Int → Int) (v' : Nat → Int) : Prop := ct E d 0 0 F code (.ref m :: as) (mG G m ad A v) (fun r' G' => r' = .inl r ∧ G' = mG G m ad A' v')
theorem g_inv.mc {F' : gF} {code' : ByteArray} {a rest stk : List Value} {len : Nat} {A' : Nat → Int → Int} {v' : Nat → Int} {r : Option Value} (h : g_inv E d F code pc L stk (mG G m ad A v) F' code' (.ref m :: a) rest len) (hc : mc_ E d F' code' a G m ad A v r A' v') (k : wp E (d + 1) kc ks F code (pc + len) L (r.toList ++ rest) (mG G m ad A' v') Q) : wp E (d + 1) kc ks F code pc L stk (mG G m ad A v) Q := by
  have h9 : wp E (d + 1) (0 + kc) (0 + ks) F code pc L stk (mG G m ad A v) Q := h _ _ kc ks _ Q hc (fun v' G' hq => by obtain ⟨h1, h2⟩ := hq; cases h1; subst h2; exact k) (fun q G' hq => by obtain ⟨h1, -⟩ := hq; cases h1)
  rwa [Nat.zero_add, Nat.zero_add] at h9
end MW
