/-! the model's small methods -/
set_option maxRecDepth 100000
def bi_ (p : Prop) [Decidable p] : Int := if p then 1 else 0
theorem bi_t {p : Prop} [Decidable p] (h : p) : bi_ p = 1 := if_pos h
theorem bi_f {p : Prop} [Decidable p] (h : ¬ p) : bi_ p = 0 := if_neg h
theorem bi_01 {p : Prop} [Decidable p] : bi_ p = 0 ∨ bi_ p = 1 := by unfold bi_; split <;> simp
theorem bi_rg {p : Prop} [Decidable p] : rg_ (bi_ p) := by unfold bi_; split <;> exact ⟨by decide, by decide⟩
theorem bi_0 {p : Prop} [Decidable p] : bi_ p = 0 ↔ ¬ p := by unfold bi_; split <;> simp [*]
theorem bi_n0 {p : Prop} [Decidable p] : ¬ bi_ p = 0 ↔ p := by unfold bi_; split <;> simp [*]
section MA
variable {E : gE} {d : Nat} {G : gH} {m : Nat} {ad : Nat → Nat} {A : Nat → Int → Int} {v : Nat → Int}
theorem pX4_in {a b c : Int} (ha : rg_ a) (hb : rg_ b) (hc : rg_ c) : ctp E d FX4_in cX4_in [.int (ii_ a), .int (ii_ b), .int (ii_ c)] G (some (.int (ii_ (bi_ (b ≤ a ∧ a ≤ c))))) := by
  refine ct_of (by decide) (Nat.le_of_ble_eq_true rfl) ?_
  show wp _ _ _ _ _ _ 0 [some _, some _, some _] [] _ _
  refine wp_iload_n dX4_in_0 rfl ?_
  refine wp_iload_n dX4_in_1 rfl ?_
  refine wp_icmp_lt (t := 14) dX4_in_2 rfl ha hb (fun h1 => ?_) (fun h1 => ?_)
  · rw [bi_f (by omega)]
    refine wp_iconst dX4_in_14 ?_
    refine wp_ireturn dX4_in_15 rfl (g_nz (by omega)) ?_
    exact ⟨rfl, rfl⟩
  · refine wp_iload_n dX4_in_5 rfl ?_
    refine wp_iload_n dX4_in_6 rfl ?_
    refine wp_icmp_gt (t := 14) dX4_in_7 rfl ha hc (fun h2 => ?_) (fun h2 => ?_)
    · rw [bi_f (by omega)]
      refine wp_iconst dX4_in_14 ?_
      refine wp_ireturn dX4_in_15 rfl (g_nz (by omega)) ?_
      exact ⟨rfl, rfl⟩
    · rw [bi_t (by omega)]
      refine wp_iconst dX4_in_10 ?_
      refine wp_goto (t := 15) dX4_in_11 rfl ?_
      refine wp_ireturn dX4_in_15 rfl (g_nz (by omega)) ?_
      exact ⟨rfl, rfl⟩
theorem pX4_at {a b : Int} : ctp E d FX4_at cX4_at [.int (ii_ a), .int (ii_ b)] G (some (.int (ii_ (132 + 11 * a + b)))) := by
  refine ct_of (by decide) (Nat.le_of_ble_eq_true rfl) ?_
  show wp _ _ _ _ _ _ 0 [some _, some _] [] _ _
  refine wp_sipush dX4_at_0 (by decide) ?_
  refine wp_bipush dX4_at_3 (by decide) ?_
  refine wp_iload_n dX4_at_5 rfl ?_
  refine wp_imul dX4_at_6 ?_
  refine wp_iadd dX4_at_7 ?_
  refine wp_iload_n dX4_at_8 rfl ?_
  refine wp_iadd dX4_at_9 ?_
  refine wp_ireturn dX4_at_10 rfl rfl ?_
  exact ⟨rfl, rfl⟩
theorem pX4_atAttic {a b : Int} : ctp E d FX4_atAttic cX4_atAttic [.int (ii_ a), .int (ii_ b)] G (some (.int (ii_ (24 + 18 * a + b)))) := by
  refine ct_of (by decide) (Nat.le_of_ble_eq_true rfl) ?_
  show wp _ _ _ _ _ _ 0 [some _, some _] [] _ _
  refine wp_bipush dX4_atAttic_0 (by decide) ?_
  refine wp_bipush dX4_atAttic_2 (by decide) ?_
  refine wp_iload_n dX4_atAttic_4 rfl ?_
  refine wp_imul dX4_atAttic_5 ?_
  refine wp_iadd dX4_atAttic_6 ?_
  refine wp_iload_n dX4_atAttic_7 rfl ?_
  refine wp_iadd dX4_atAttic_8 ?_
  refine wp_ireturn dX4_atAttic_9 rfl rfl ?_
  exact ⟨rfl, rfl⟩
theorem pX4_isAttic {a : Int} (hE : gEnv E) (ha : rg_ a) : ctp E (d + 1) FX4_isAttic cX4_isAttic [.int (ii_ a)] G (some (.int (ii_ (bi_ (0 ≤ a ∧ a ≤ 3))))) := by
  refine ct_of (by decide) (Nat.le_of_ble_eq_true rfl) ?_
  show wp _ _ _ _ _ _ 0 [some _] [] _ _
  refine wp_iload_n dX4_isAttic_0 rfl ?_
  refine wp_iconst dX4_isAttic_1 ?_
  refine wp_iconst dX4_isAttic_2 ?_
  refine (iv_X4_64 hE dX4_isAttic_3).p (pX4_in ha ⟨by decide, by decide⟩ ⟨by decide, by decide⟩) ?_
  refine wp_ireturn dX4_isAttic_6 rfl (g_nz bi_01) ?_
  exact ⟨rfl, rfl⟩
theorem pX4_isReader {a : Int} (hE : gEnv E) (ha : rg_ a) : ctp E (d + 1) FX4_isReader cX4_isReader [.int (ii_ a)] G (some (.int (ii_ (bi_ (0 ≤ a ∧ a ≤ 4))))) := by
  refine ct_of (by decide) (Nat.le_of_ble_eq_true rfl) ?_
  show wp _ _ _ _ _ _ 0 [some _] [] _ _
  refine wp_iload_n dX4_isReader_0 rfl ?_
  refine wp_iconst dX4_isReader_1 ?_
  refine wp_iconst dX4_isReader_2 ?_
  refine (iv_X4_64 hE dX4_isReader_3).p (pX4_in ha ⟨by decide, by decide⟩ ⟨by decide, by decide⟩) ?_
  refine wp_ireturn dX4_isReader_6 rfl (g_nz bi_01) ?_
  exact ⟨rfl, rfl⟩
theorem pX4_ofBook {a b : Int} (hE : gEnv E) (hM : mOK E m ad) (h0 : 0 ≤ a) (h1 : a < 6) (h2 : 0 ≤ b) (h3 : b < 6) : ctp E d FX4_ofBook cX4_ofBook [.ref m, .int (ii_ a), .int (ii_ b)] (mG G m ad A v) (some (.int (ii_ (A 0 (96 + 6 * a + b))))) := by
  refine ct_of (by decide) (Nat.le_of_ble_eq_true rfl) ?_
  show wp _ _ _ _ _ _ 0 [some _, some _, some _] [] _ _
  refine wp_aload_n dX4_ofBook_0 rfl ?_
  refine wp_get dX4_ofBook_1 (fl_X4_9_X4 hE) mG_m (by rfl) ?_
  refine wp_bipush dX4_ofBook_4 (by decide) ?_
  refine wp_bipush dX4_ofBook_6 (by decide) ?_
  refine wp_iload_n dX4_ofBook_8 rfl ?_
  refine wp_imul dX4_ofBook_9 ?_
  refine wp_iadd dX4_ofBook_10 ?_
  refine wp_iload_n dX4_ofBook_11 rfl ?_
  refine wp_iadd dX4_ofBook_12 ?_
  refine wpm_ld0 hE hM dX4_ofBook_13 (by omega) (by omega) ?_
  refine wp_ireturn dX4_ofBook_14 rfl rfl ?_
  exact ⟨rfl, rfl⟩
theorem pX4_trust {a : Int} (hE : gEnv E) (hM : mOK E m ad) (h0 : 0 ≤ a) (h1 : a < 5) : ctp E d FX4_trust cX4_trust [.ref m, .int (ii_ a)] (mG G m ad A v) (some (.int (ii_ (A 0 (9 + 3 * a))))) := by
  refine ct_of (by decide) (Nat.le_of_ble_eq_true rfl) ?_
  show wp _ _ _ _ _ _ 0 [some _, some _] [] _ _
  refine wp_aload_n dX4_trust_0 rfl ?_
  refine wp_get dX4_trust_1 (fl_X4_9_X4 hE) mG_m (by rfl) ?_
  refine wp_bipush dX4_trust_4 (by decide) ?_
  refine wp_iconst dX4_trust_6 ?_
  refine wp_iload_n dX4_trust_7 rfl ?_
  refine wp_imul dX4_trust_8 ?_
  refine wp_iadd dX4_trust_9 ?_
  refine wpm_ld0 hE hM dX4_trust_10 (by omega) (by omega) ?_
  refine wp_ireturn dX4_trust_11 rfl rfl ?_
  exact ⟨rfl, rfl⟩
theorem pX4_isBook {a : Int} (hE : gEnv E) (hM : mOK E m ad) (ha : rg_ a) (h0 : 0 ≤ A 0 0) (h1 : A 0 0 ≤ 6) : ctp E (d + 1) FX4_isBook cX4_isBook [.ref m, .int (ii_ a)] (mG G m ad A v) (some (.int (ii_ (bi_ (0 ≤ a ∧ a ≤ A 0 0 - 1))))) := by
  refine ct_of (by decide) (Nat.le_of_ble_eq_true rfl) ?_
  show wp _ _ _ _ _ _ 0 [some _, some _] [] _ _
  refine wp_iload_n dX4_isBook_0 rfl ?_
  refine wp_iconst dX4_isBook_1 ?_
  refine wp_aload_n dX4_isBook_2 rfl ?_
  refine wp_get dX4_isBook_3 (fl_X4_9_X4 hE) mG_m (by rfl) ?_
  refine wp_iconst dX4_isBook_6 ?_
  refine wpm_ld0 hE hM dX4_isBook_7 (by omega) (by omega) ?_
  refine wp_iconst dX4_isBook_8 ?_
  refine wp_isub dX4_isBook_9 ?_
  refine (iv_X4_64 hE dX4_isBook_10).p (pX4_in ha ⟨by decide, by decide⟩ ⟨by omega, by omega⟩) ?_
  refine wp_ireturn dX4_isBook_13 rfl (g_nz bi_01) ?_
  exact ⟨rfl, rfl⟩
theorem pX4_isScrap {a : Int} (hE : gEnv E) (hM : mOK E m ad) (ha : rg_ a) (h0 : 0 ≤ A 0 1) (h1 : A 0 1 ≤ 12) : ctp E (d + 1) FX4_isScrap cX4_isScrap [.ref m, .int (ii_ a)] (mG G m ad A v) (some (.int (ii_ (bi_ (0 ≤ a ∧ a ≤ A 0 1 - 1))))) := by
  refine ct_of (by decide) (Nat.le_of_ble_eq_true rfl) ?_
  show wp _ _ _ _ _ _ 0 [some _, some _] [] _ _
  refine wp_iload_n dX4_isScrap_0 rfl ?_
  refine wp_iconst dX4_isScrap_1 ?_
  refine wp_aload_n dX4_isScrap_2 rfl ?_
  refine wp_get dX4_isScrap_3 (fl_X4_9_X4 hE) mG_m (by rfl) ?_
  refine wp_iconst dX4_isScrap_6 ?_
  refine wpm_ld0 hE hM dX4_isScrap_7 (by omega) (by omega) ?_
  refine wp_iconst dX4_isScrap_8 ?_
  refine wp_isub dX4_isScrap_9 ?_
  refine (iv_X4_64 hE dX4_isScrap_10).p (pX4_in ha ⟨by decide, by decide⟩ ⟨by omega, by omega⟩) ?_
  refine wp_ireturn dX4_isScrap_13 rfl (g_nz bi_01) ?_
  exact ⟨rfl, rfl⟩
theorem pX4_areSigns {a b : Int} (hE : gEnv E) (ha : rg_ a) (hb : rg_ b) : ctp E (d + 1) FX4_areSigns cX4_areSigns [.int (ii_ a), .int (ii_ b)] G (some (.int (ii_ (bi_ ((0 ≤ a ∧ a ≤ 7) ∧ 0 ≤ b ∧ b ≤ 7))))) := by
  refine ct_of (by decide) (Nat.le_of_ble_eq_true rfl) ?_
  show wp _ _ _ _ _ _ 0 [some _, some _] [] _ _
  refine wp_iload_n dX4_areSigns_0 rfl ?_
  refine wp_iconst dX4_areSigns_1 ?_
  refine wp_bipush dX4_areSigns_2 (by decide) ?_
  refine (iv_X4_64 hE dX4_areSigns_4).p (pX4_in ha ⟨by decide, by decide⟩ ⟨by decide, by decide⟩) ?_
  refine wp_if_eq (t := 24) dX4_areSigns_7 rfl bi_rg (fun h1 => ?_) (fun h1 => ?_)
  · rw [bi_f (by rw [bi_0] at h1; omega)]
    refine wp_iconst dX4_areSigns_24 ?_
    refine wp_ireturn dX4_areSigns_25 rfl (g_nz (by omega)) ?_
    exact ⟨rfl, rfl⟩
  · rw [bi_n0] at h1
    refine wp_iload_n dX4_areSigns_10 rfl ?_
    refine wp_iconst dX4_areSigns_11 ?_
    refine wp_bipush dX4_areSigns_12 (by decide) ?_
    refine (iv_X4_64 hE dX4_areSigns_14).p (pX4_in hb ⟨by decide, by decide⟩ ⟨by decide, by decide⟩) ?_
    refine wp_if_eq (t := 24) dX4_areSigns_17 rfl bi_rg (fun h2 => ?_) (fun h2 => ?_)
    · rw [bi_f (by rw [bi_0] at h2; omega)]
      refine wp_iconst dX4_areSigns_24 ?_
      refine wp_ireturn dX4_areSigns_25 rfl (g_nz (by omega)) ?_
      exact ⟨rfl, rfl⟩
    · rw [bi_n0] at h2
      rw [bi_t ⟨h1, h2⟩]
      refine wp_iconst dX4_areSigns_20 ?_
      refine wp_goto (t := 25) dX4_areSigns_21 rfl ?_
      refine wp_ireturn dX4_areSigns_25 rfl (g_nz (by omega)) ?_
      exact ⟨rfl, rfl⟩
end MA
