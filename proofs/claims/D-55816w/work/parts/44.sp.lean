/-! folds, recursions over pages, merges; what the model's numbers mean -/
set_option maxRecDepth 100000
def fo_ {α : Type} (g : Int → α → α) (a : α) : Nat → α
  | 0 => a
  | n + 1 => g n (fo_ g a n)
/-- the fold over 0, 1, .. k - 1 -/
def fk_ {α : Type} (g : Int → α → α) (a : α) (k : Int) : α := fo_ g a k.toNat
theorem fk_0 {α : Type} {g : Int → α → α} {a : α} : fk_ g a 0 = a := rfl
theorem fk_s {α : Type} {g : Int → α → α} {a : α} {k : Int} (h : 0 ≤ k) : fk_ g a (k + 1) = g k (fk_ g a k) := by
  unfold fk_
  obtain ⟨n, rfl⟩ := Int.eq_ofNat_of_zero_le h
  show fo_ g a ((n : Int) + 1).toNat = _
  rw [show ((n : Int) + 1).toNat = n + 1 by omega]
  show g n _ = g n _
  rfl
theorem fk_ind {α : Type} {g : Int → α → α} {a : α} {n : Int} (P : Int → α → Prop) (h0 : P 0 a) (hs : ∀ k x, 0 ≤ k → k < n → P k x → P (k + 1) (g k x)) : 0 ≤ n → P n (fk_ g a n) := by
  intro hn
  have h : ∀ m : Nat, (m : Int) ≤ n → P m (fk_ g a m) := by
    intro m
    induction m with
    | zero => intro _; exact h0
    | succ m ih =>
      intro hm
      show P ((m : Int) + 1) (fk_ g a ((m : Int) + 1))
      rw [fk_s (by omega)]
      exact hs _ _ (by omega) (by omega) (ih (by omega))
  have h9 := h n.toNat (by omega)
  rwa [show ((n.toNat : Nat) : Int) = n by omega] at h9
theorem fk_c {α : Type} {g h : Int → α → α} {a : α} {n : Int} (hc : ∀ k x, 0 ≤ k → k < n → g k x = h k x) : fk_ g a n = fk_ h a n := by
  by_cases hn : 0 ≤ n
  · exact fk_ind (fun k x => x = fk_ h a k) rfl (fun k x h0 h1 e => by rw [fk_s h0, ← e]; exact hc k x h0 h1) hn
  · unfold fk_; rw [show n.toNat = 0 by omega]; rfl
/-- recursions over pages -/
def rc_ (f : (Int → Int → Int) → Int → Int → Int) : Nat → Int → Int → Int
  | 0 => fun _ _ => 0
  | n + 1 => f (rc_ f n)
def fx_ (f : (Int → Int → Int) → Int → Int → Int) (mu : Int → Int) (p g : Int) : Int := rc_ f ((mu p).toNat + 1) p g
def fxc (f : (Int → Int → Int) → Int → Int → Int) (mu : Int → Int) : Prop := ∀ p g R R', (∀ p' g', mu p' < mu p → 0 ≤ mu p' → R p' g' = R' p' g') → f R p g = f R' p g
theorem rc_st {f : (Int → Int → Int) → Int → Int → Int} {mu : Int → Int} (h : fxc f mu) : ∀ (n : Nat) (p g : Int), mu p < n + 1 → rc_ f (n + 1) p g = rc_ f (n + 2) p g := by
  intro n
  induction n with
  | zero => intro p g hp; exact h p g _ _ (fun p' g' h1 h2 => by omega)
  | succ n ih => intro p g hp; exact h p g _ _ (fun p' g' h1 h2 => ih p' g' (by omega))
theorem rc_st2 {f : (Int → Int → Int) → Int → Int → Int} {mu : Int → Int} (h : fxc f mu) (n : Nat) (p g : Int) (hp : mu p < n + 1) : ∀ k : Nat, rc_ f (n + 1) p g = rc_ f (n + k + 1) p g := by
  intro k
  induction k with
  | zero => rfl
  | succ k ih => rw [ih]; exact rc_st h (n + k) p g (by omega)
theorem rc_fx {f : (Int → Int → Int) → Int → Int → Int} {mu : Int → Int} (h : fxc f mu) (n : Nat) (p g : Int) (hp : mu p < n + 1) : rc_ f (n + 1) p g = fx_ f mu p g := by
  unfold fx_
  have h1 := rc_st2 h (mu p).toNat p g (by omega) (n - (mu p).toNat)
  rw [h1, show (mu p).toNat + (n - (mu p).toNat) + 1 = n + 1 by omega]
theorem fx_eq {f : (Int → Int → Int) → Int → Int → Int} {mu : Int → Int} (h : fxc f mu) (p g : Int) : fx_ f mu p g = f (fx_ f mu) p g := by
  show f (rc_ f (mu p).toNat) p g = _
  refine h p g _ _ (fun p' g' h1 h2 => ?_)
  have h3 := rc_fx h ((mu p).toNat - 1) p' g' (by omega)
  rwa [show (mu p).toNat - 1 + 1 = (mu p).toNat by omega] at h3
section MR
variable {E : gE} {d kc ks : Nat} {F : gF} {code : ByteArray} {pc : Nat} {L : List (Option Value)} {st : List Value} {G : gH} {Q : gR → gH → Prop}
/-- two ways join, with a truth on the stack -/
theorem wp_mrg (pc' : Nat) (P : Prop) [Decidable P] (h : (P → wp E d kc ks F code pc' L (.int (ii_ 1) :: st) G Q) → (¬ P → wp E d kc ks F code pc' L (.int (ii_ 0) :: st) G Q) → wp E d kc ks F code pc L st G Q) (k : wp E d kc ks F code pc' L (.int (ii_ (bi_ P)) :: st) G Q) : wp E d kc ks F code pc L st G Q := h (fun hp => by rwa [bi_t hp] at k) (fun hp => by rwa [bi_f hp] at k)
/-- two ways join, with a number on the stack -/
theorem wp_mri (pc' : Nat) (t : Int) (h : (∀ z, z = t → wp E d kc ks F code pc' L (.int (ii_ z) :: st) G Q) → wp E d kc ks F code pc L st G Q) (k : wp E d kc ks F code pc' L (.int (ii_ t) :: st) G Q) : wp E d kc ks F code pc L st G Q := h (fun z hz => by rwa [hz])
end MR
/-- the state's bounds -/
def s_mid (s : Int → Int) (p : Int) : Prop := 1 ≤ s p ∧ s p ≤ s (p + 1) ∧ s (p + 1) ≤ 60 ∧ 0 ≤ s (p + 2) ∧ s (p + 2) ≤ 7 ∧ 0 ≤ s (p + 3) ∧ s (p + 3) ≤ 7
def sI (K : Int) (s : Int → Int) : Prop := (0 ≤ s 0) ∧ (s 0 ≤ 6) ∧ (0 ≤ s 1) ∧ (s 1 ≤ 12) ∧ (0 ≤ s 2) ∧ (s 2 ≤ K) ∧ (1 ≤ s 3) ∧ (s 3 ≤ 9) ∧ (∀ k, 4 ≤ k → k < 9 → 0 ≤ s k ∧ s k ≤ K) ∧ (∀ r, 0 ≤ r → r < 5 → 0 ≤ s (9 + 3 * r) ∧ s (9 + 3 * r) ≤ 9) ∧ (∀ r, 0 ≤ r → r < 5 → 0 ≤ s (9 + 3 * r + 1) ∧ s (9 + 3 * r + 1) ≤ K ∧ 0 ≤ s (9 + 3 * r + 2) ∧ s (9 + 3 * r + 2) ≤ K) ∧ (∀ a, 0 ≤ a → a < 4 → 0 ≤ s (24 + 18 * a + 0) ∧ s (24 + 18 * a + 0) ≤ 4) ∧ (∀ a, 0 ≤ a → a < 4 → 0 ≤ s (24 + 18 * a + 1) ∧ s (24 + 18 * a + 1) ≤ K) ∧ (∀ a j, 0 ≤ a → a < 4 → 0 ≤ j → j < s (24 + 18 * a + 0) → s_mid s (24 + 18 * a + (2 + 4 * j))) ∧ (∀ b, 0 ≤ b → b < s 0 → 10 ≤ s (96 + 6 * b + 0) ∧ s (96 + 6 * b + 0) ≤ 60 ∧ 2 ≤ s (96 + 6 * b + 1) ∧ s (96 + 6 * b + 1) ≤ s (96 + 6 * b + 2) ∧ s (96 + 6 * b + 2) < s (96 + 6 * b + 0)) ∧ (∀ b, 0 ≤ b → b < s 0 → 0 ≤ s (96 + 6 * b + 3) ∧ s (96 + 6 * b + 3) ≤ 7 ∧ 0 ≤ s (96 + 6 * b + 4) ∧ s (96 + 6 * b + 4) ≤ 7) ∧ (∀ b, 0 ≤ b → b < s 0 → s (96 + 6 * b + 5) = 0 ∨ s (96 + 6 * b + 5) = 1) ∧ (∀ i, 0 ≤ i → i < s 1 → 1 ≤ s (132 + 11 * i + 0) ∧ s (132 + 11 * i + 0) ≤ s (132 + 11 * i + 1) ∧ s (132 + 11 * i + 1) ≤ 60) ∧ (∀ i, 0 ≤ i → i < s 1 → 0 ≤ s (132 + 11 * i + 2) ∧ s (132 + 11 * i + 2) ≤ 7 ∧ 0 ≤ s (132 + 11 * i + 3) ∧ s (132 + 11 * i + 3) ≤ 7) ∧ (∀ i, 0 ≤ i → i < s 1 → 0 ≤ s (132 + 11 * i + 4) ∧ s (132 + 11 * i + 4) ≤ 3) ∧ (∀ i, 0 ≤ i → i < s 1 → s (132 + 11 * i + 5) = -1 ∨ s (132 + 11 * i + 5) = 0 ∨ s (132 + 11 * i + 5) = 1) ∧ (∀ i r, 0 ≤ i → i < s 1 → 0 ≤ r → r < 5 → s (132 + 11 * i + (6 + r)) = -1 ∨ s (132 + 11 * i + (6 + r)) = 0 ∨ s (132 + 11 * i + (6 + r)) = 1)
theorem sI.n0 {K : Int} {s : Int → Int} (h : sI K s) : 0 ≤ s 0 := h.1
theorem sI.n1 {K : Int} {s : Int → Int} (h : sI K s) : s 0 ≤ 6 := h.2.1
theorem sI.m0 {K : Int} {s : Int → Int} (h : sI K s) : 0 ≤ s 1 := h.2.2.1
theorem sI.m1 {K : Int} {s : Int → Int} (h : sI K s) : s 1 ≤ 12 := h.2.2.2.1
theorem sI.c0 {K : Int} {s : Int → Int} (h : sI K s) : 0 ≤ s 2 := h.2.2.2.2.1
theorem sI.c1 {K : Int} {s : Int → Int} (h : sI K s) : s 2 ≤ K := h.2.2.2.2.2.1
theorem sI.p0 {K : Int} {s : Int → Int} (h : sI K s) : 1 ≤ s 3 := h.2.2.2.2.2.2.1
theorem sI.p1 {K : Int} {s : Int → Int} (h : sI K s) : s 3 ≤ 9 := h.2.2.2.2.2.2.2.1
theorem sI.k0 {K : Int} {s : Int → Int} (h : sI K s) : ∀ k, 4 ≤ k → k < 9 → 0 ≤ s k ∧ s k ≤ K := h.2.2.2.2.2.2.2.2.1
theorem sI.r0 {K : Int} {s : Int → Int} (h : sI K s) : ∀ r, 0 ≤ r → r < 5 → 0 ≤ s (9 + 3 * r) ∧ s (9 + 3 * r) ≤ 9 := h.2.2.2.2.2.2.2.2.2.1
theorem sI.r1 {K : Int} {s : Int → Int} (h : sI K s) : ∀ r, 0 ≤ r → r < 5 → 0 ≤ s (9 + 3 * r + 1) ∧ s (9 + 3 * r + 1) ≤ K ∧ 0 ≤ s (9 + 3 * r + 2) ∧ s (9 + 3 * r + 2) ≤ K := h.2.2.2.2.2.2.2.2.2.2.1
theorem sI.a0 {K : Int} {s : Int → Int} (h : sI K s) : ∀ a, 0 ≤ a → a < 4 → 0 ≤ s (24 + 18 * a + 0) ∧ s (24 + 18 * a + 0) ≤ 4 := h.2.2.2.2.2.2.2.2.2.2.2.1
theorem sI.a1 {K : Int} {s : Int → Int} (h : sI K s) : ∀ a, 0 ≤ a → a < 4 → 0 ≤ s (24 + 18 * a + 1) ∧ s (24 + 18 * a + 1) ≤ K := h.2.2.2.2.2.2.2.2.2.2.2.2.1
theorem sI.a2 {K : Int} {s : Int → Int} (h : sI K s) : ∀ a j, 0 ≤ a → a < 4 → 0 ≤ j → j < s (24 + 18 * a + 0) → s_mid s (24 + 18 * a + (2 + 4 * j)) := h.2.2.2.2.2.2.2.2.2.2.2.2.2.1
theorem sI.b0 {K : Int} {s : Int → Int} (h : sI K s) : ∀ b, 0 ≤ b → b < s 0 → 10 ≤ s (96 + 6 * b + 0) ∧ s (96 + 6 * b + 0) ≤ 60 ∧ 2 ≤ s (96 + 6 * b + 1) ∧ s (96 + 6 * b + 1) ≤ s (96 + 6 * b + 2) ∧ s (96 + 6 * b + 2) < s (96 + 6 * b + 0) := h.2.2.2.2.2.2.2.2.2.2.2.2.2.2.1
theorem sI.b1 {K : Int} {s : Int → Int} (h : sI K s) : ∀ b, 0 ≤ b → b < s 0 → 0 ≤ s (96 + 6 * b + 3) ∧ s (96 + 6 * b + 3) ≤ 7 ∧ 0 ≤ s (96 + 6 * b + 4) ∧ s (96 + 6 * b + 4) ≤ 7 := h.2.2.2.2.2.2.2.2.2.2.2.2.2.2.2.1
theorem sI.b5 {K : Int} {s : Int → Int} (h : sI K s) : ∀ b, 0 ≤ b → b < s 0 → s (96 + 6 * b + 5) = 0 ∨ s (96 + 6 * b + 5) = 1 := h.2.2.2.2.2.2.2.2.2.2.2.2.2.2.2.2.1
theorem sI.s0 {K : Int} {s : Int → Int} (h : sI K s) : ∀ i, 0 ≤ i → i < s 1 → 1 ≤ s (132 + 11 * i + 0) ∧ s (132 + 11 * i + 0) ≤ s (132 + 11 * i + 1) ∧ s (132 + 11 * i + 1) ≤ 60 := h.2.2.2.2.2.2.2.2.2.2.2.2.2.2.2.2.2.1
theorem sI.s2 {K : Int} {s : Int → Int} (h : sI K s) : ∀ i, 0 ≤ i → i < s 1 → 0 ≤ s (132 + 11 * i + 2) ∧ s (132 + 11 * i + 2) ≤ 7 ∧ 0 ≤ s (132 + 11 * i + 3) ∧ s (132 + 11 * i + 3) ≤ 7 := h.2.2.2.2.2.2.2.2.2.2.2.2.2.2.2.2.2.2.1
theorem sI.s4 {K : Int} {s : Int → Int} (h : sI K s) : ∀ i, 0 ≤ i → i < s 1 → 0 ≤ s (132 + 11 * i + 4) ∧ s (132 + 11 * i + 4) ≤ 3 := h.2.2.2.2.2.2.2.2.2.2.2.2.2.2.2.2.2.2.2.1
theorem sI.s5 {K : Int} {s : Int → Int} (h : sI K s) : ∀ i, 0 ≤ i → i < s 1 → s (132 + 11 * i + 5) = -1 ∨ s (132 + 11 * i + 5) = 0 ∨ s (132 + 11 * i + 5) = 1 := h.2.2.2.2.2.2.2.2.2.2.2.2.2.2.2.2.2.2.2.2.1
theorem sI.s6 {K : Int} {s : Int → Int} (h : sI K s) : ∀ i r, 0 ≤ i → i < s 1 → 0 ≤ r → r < 5 → s (132 + 11 * i + (6 + r)) = -1 ∨ s (132 + 11 * i + (6 + r)) = 0 ∨ s (132 + 11 * i + (6 + r)) = 1 := h.2.2.2.2.2.2.2.2.2.2.2.2.2.2.2.2.2.2.2.2.2
/-- the weight of a scrap -/
def wr (s : Int → Int) (i r : Int) : Int := if s (132 + 11 * i + (6 + r)) < 0 then 0 else if s (132 + 11 * i + (6 + r)) = 1 then s (9 + 3 * r) else -(s (9 + 3 * r))
def wt (s : Int → Int) (i : Int) : Int := fk_ (fun r x => x + wr s i r) 0 5
/-- what is asked of the readers -/
def rI (s : Int → Int) : Prop := ∀ r, 0 ≤ r → r < 5 → 0 ≤ s (9 + 3 * r) ∧ s (9 + 3 * r) ≤ 9
theorem sI.rI {K : Int} {s : Int → Int} (h : sI K s) : rI s := h.r0
theorem wt_b {s : Int → Int} {i : Int} (h : rI s) : -45 ≤ wt s i ∧ wt s i ≤ 45 := by
  have h9 := fk_ind (g := fun r x => x + wr s i r) (a := 0) (n := 5) (fun k x => -(9 * k) ≤ x ∧ x ≤ 9 * k) (by omega) (fun k x h0 h1 hx => by
    have h2 := h k h0 h1
    show -(9 * (k + 1)) ≤ x + wr s i k ∧ x + wr s i k ≤ 9 * (k + 1)
    unfold wr
    split
    · omega
    · split <;> omega) (by decide)
  exact h9
abbrev cn (s : Int → Int) (i : Int) : Prop := s (132 + 11 * i + 5) = 1 ∨ s (132 + 11 * i + 5) < 0 ∧ 0 ≤ wt s i
/-- whether a scrap goes on -/
abbrev go (s U : Int → Int) (b p g i : Int) : Prop := (¬ U i = 0 ∧ s (132 + 11 * i + 0) = p ∧ s (132 + 11 * i + 2) = g) ∧ s (132 + 11 * i + 1) ≤ s (96 + 6 * b + 2)
abbrev en (s : Int → Int) (b i : Int) : Prop := s (132 + 11 * i + 1) = s (96 + 6 * b + 2) ∧ s (132 + 11 * i + 3) = s (96 + 6 * b + 4)
abbrev bk (s U : Int → Int) (b p g i : Int) : Prop := (¬ U i = 0 ∧ s (132 + 11 * i + 1) = p ∧ s (132 + 11 * i + 3) = g) ∧ s (96 + 6 * b + 1) ≤ s (132 + 11 * i + 0)
/-- how many pages are ahead -/
def mu1 (s : Int → Int) (b p : Int) : Int := s (96 + 6 * b + 2) + 1 - p
def mu2 (s : Int → Int) (b p : Int) : Int := p + 1 - s (96 + 6 * b + 1)
/-- the first m scraps have pages -/
def pgs (s : Int → Int) (m : Int) : Prop := ∀ i, 0 ≤ i → i < m → s (132 + 11 * i + 0) ≤ s (132 + 11 * i + 1)
def cfF (s U : Int → Int) (m b : Int) (R : Int → Int → Int) (p g : Int) : Int := min 999 (fk_ (fun i x => if go s U b p g i then x + (if en s b i then 1 else R (s (132 + 11 * i + 1) + 1) (s (132 + 11 * i + 3))) else x) 0 m)
def cf (s U : Int → Int) (m b : Int) : Int → Int → Int := fx_ (cfF s U m b) (mu1 s b)
theorem cf_c {s U : Int → Int} {m b : Int} (h : pgs s m) : fxc (cfF s U m b) (mu1 s b) := by
  intro p g R R' hr
  unfold cfF
  congr 1
  refine fk_c (fun i x h0 h1 => ?_)
  by_cases hg : go s U b p g i
  · simp only [if_pos hg]
    by_cases he : en s b i
    · simp only [if_pos he]
    · simp only [if_neg he]
      have h3 := h i h0 h1
      obtain ⟨⟨-, h4, -⟩, h5⟩ := hg
      rw [hr _ _ (by unfold mu1; omega) (by unfold mu1; omega)]
  · simp only [if_neg hg]
theorem cf_eq {s U : Int → Int} {m b : Int} (h : pgs s m) (p g : Int) : cf s U m b p g = cfF s U m b (cf s U m b) p g := fx_eq (cf_c h) p g
def wiF (s : Int → Int) (b : Int) (R : Int → Int → Int) (i : Int) : Int := if en s b i then 1 else 1 + R (s (132 + 11 * i + 1) + 1) (s (132 + 11 * i + 3))
def fwF (s U : Int → Int) (m b : Int) (R : Int → Int → Int) (p g : Int) : Int := fk_ (fun i x => if go s U b p g i then min x (wiF s b R i) else x) 100 m
def fw (s U : Int → Int) (m b : Int) : Int → Int → Int := fx_ (fwF s U m b) (mu1 s b)
theorem fw_c {s U : Int → Int} {m b : Int} (h : pgs s m) : fxc (fwF s U m b) (mu1 s b) := by
  intro p g R R' hr
  unfold fwF
  refine fk_c (fun i x h0 h1 => ?_)
  by_cases hg : go s U b p g i
  · simp only [if_pos hg, wiF]
    by_cases he : en s b i
    · simp only [if_pos he]
    · simp only [if_neg he]
      have h3 := h i h0 h1
      obtain ⟨⟨-, h4, -⟩, h5⟩ := hg
      rw [hr _ _ (by unfold mu1; omega) (by unfold mu1; omega)]
  · simp only [if_neg hg]
theorem fw_eq {s U : Int → Int} {m b : Int} (h : pgs s m) (p g : Int) : fw s U m b p g = fwF s U m b (fw s U m b) p g := fx_eq (fw_c h) p g
/-- the farthest pages -/
def lrF (s U : Int → Int) (m b : Int) (R : Int → Int → Int) (p g : Int) : Int := fk_ (fun i x => if go s U b p g i then max x (R (s (132 + 11 * i + 1) + 1) (s (132 + 11 * i + 3))) else x) (p - 1) m
def lr (s U : Int → Int) (m b : Int) : Int → Int → Int := fx_ (lrF s U m b) (mu1 s b)
theorem lr_c {s U : Int → Int} {m b : Int} (h : pgs s m) : fxc (lrF s U m b) (mu1 s b) := by
  intro p g R R' hr
  unfold lrF
  refine fk_c (fun i x h0 h1 => ?_)
  by_cases hg : go s U b p g i
  · simp only [if_pos hg]
    have h3 := h i h0 h1
    obtain ⟨⟨-, h4, -⟩, h5⟩ := hg
    rw [hr _ _ (by unfold mu1; omega) (by unfold mu1; omega)]
  · simp only [if_neg hg]
theorem lr_eq {s U : Int → Int} {m b : Int} (h : pgs s m) (p g : Int) : lr s U m b p g = lrF s U m b (lr s U m b) p g := fx_eq (lr_c h) p g
def rrF (s U : Int → Int) (m b : Int) (R : Int → Int → Int) (p g : Int) : Int := fk_ (fun i x => if bk s U b p g i then min x (R (s (132 + 11 * i + 0) - 1) (s (132 + 11 * i + 2))) else x) (p + 1) m
def rr (s U : Int → Int) (m b : Int) : Int → Int → Int := fx_ (rrF s U m b) (mu2 s b)
theorem rr_c {s U : Int → Int} {m b : Int} (h : pgs s m) : fxc (rrF s U m b) (mu2 s b) := by
  intro p g R R' hr
  unfold rrF
  refine fk_c (fun i x h0 h1 => ?_)
  by_cases hg : bk s U b p g i
  · simp only [if_pos hg]
    have h3 := h i h0 h1
    obtain ⟨⟨-, h4, -⟩, h5⟩ := hg
    rw [hr _ _ (by unfold mu2; omega) (by unfold mu2; omega)]
  · simp only [if_neg hg]
theorem rr_eq {s U : Int → Int} {m b : Int} (h : pgs s m) (p g : Int) : rr s U m b p g = rrF s U m b (rr s U m b) p g := fx_eq (rr_c h) p g
