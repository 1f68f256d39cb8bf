/-! the model: empties, clear, refusal, undo, snapshot, restore, the constructor -/
set_option maxRecDepth 100000
/-- the first n places 0 -/
def ez_ (f : Int → Int) (n : Int) : Int → Int := fun j => if 0 ≤ j ∧ j < n then 0 else f j
theorem ez_0 (f : Int → Int) : ez_ f 0 = f := by funext j; unfold ez_; rw [if_neg (by omega)]
theorem ez_s (f : Int → Int) {n : Int} (h : 0 ≤ n) : g_fu (ez_ f n) n 0 = ez_ f (n + 1) := by
  funext j
  simp only [ez_, g_fu]
  repeat' split
  all_goals first | rfl | (exfalso; omega)
/-- the trust of the first n readers 5 -/
def et_ (f : Int → Int) (n : Int) : Int → Int := fun j => if 9 ≤ j ∧ j < 9 + 3 * n ∧ j % 3 = 0 then 5 else f j
theorem et_0 (f : Int → Int) : et_ f 0 = f := by funext j; unfold et_; rw [if_neg (by omega)]
theorem et_s (f : Int → Int) {n : Int} (h : 0 ≤ n) : g_fu (et_ f n) (9 + 3 * n) 5 = et_ f (n + 1) := by
  funext j
  simp only [et_, g_fu]
  repeat' split
  all_goals first | rfl | (exfalso; omega)
/-- an empty office -/
def em_ (f : Int → Int) : Int → Int := et_ (g_fu (ez_ f 275) 3 3) 5
section MC
variable {E : gE} {d : Nat} {G : gH} {m : Nat} {ad : Nat → Nat} {A : Nat → Int → Int} {v : Nat → Int}
theorem mX4_empties (hE : gEnv E) (hM : mOK E m ad) : mc_ E d FX4_empties cX4_empties [] G m ad A v none (mu_ A 0 (em_ (A 0))) v := by
  refine ct_of (by decide) (Nat.le_of_ble_eq_true rfl) ?_
  show wp _ _ _ _ _ _ 0 [some _] [] _ _
  refine wp_iconst dX4_empties_0 ?_
  refine wp_istore_n dX4_empties_1 (Nat.le_of_ble_eq_true rfl) rfl ?_
  have l2 : ∀ (n : Nat) (k : Int), 0 ≤ k → k + n = 5 → wp E d 0 0 FX4_empties cX4_empties 31 [some (.ref m), some (.int (ii_ k))] [] (mG G m ad (mu_ A 0 (et_ (g_fu (ez_ (A 0) 275) 3 3) k)) v) (fun r' G' => r' = .inl none ∧ G' = mG G m ad (mu_ A 0 (em_ (A 0))) v) := by
    intro n
    induction n with
    | zero =>
      intro k h0 h1
      have hk : k = 5 := by omega
      subst hk
      refine wp_iload_n dX4_empties_31 rfl ?_
      refine wp_iconst dX4_empties_32 ?_
      refine wp_icmp_geT (t := 54) dX4_empties_33 rfl ⟨by omega, by omega⟩ ⟨by omega, by omega⟩ (by omega) ?_
      refine wp_return dX4_empties_54 rfl ?_
      exact ⟨rfl, rfl⟩
    | succ n ih =>
      intro k h0 h1
      refine wp_iload_n dX4_empties_31 rfl ?_
      refine wp_iconst dX4_empties_32 ?_
      refine wp_icmp_geF (t := 54) dX4_empties_33 rfl ⟨by omega, by omega⟩ ⟨by omega, by omega⟩ (by omega) ?_
      refine wp_aload_n dX4_empties_36 rfl ?_
      refine wp_get dX4_empties_37 (fl_X4_9_X4 hE) mG_m (by rfl) ?_
      refine wp_bipush dX4_empties_40 (by decide) ?_
      refine wp_iconst dX4_empties_42 ?_
      refine wp_iload_n dX4_empties_43 rfl ?_
      refine wp_imul dX4_empties_44 ?_
      refine wp_iadd dX4_empties_45 ?_
      refine wp_iconst dX4_empties_46 ?_
      refine wpm_st0 hE hM dX4_empties_47 (by omega) (by omega) ?_
      rw [mu_mu, mu_eq, et_s _ h0]
      refine wp_iinc dX4_empties_48 rfl (Nat.le_of_ble_eq_true rfl) rfl ?_
      refine wp_goto (t := 31) dX4_empties_51 rfl ?_
      exact ih (k + 1) (by omega) (by omega)
  have l1 : ∀ (n : Nat) (k : Int), 0 ≤ k → k + n = 275 → wp E d 0 0 FX4_empties cX4_empties 2 [some (.ref m), some (.int (ii_ k))] [] (mG G m ad (mu_ A 0 (ez_ (A 0) k)) v) (fun r' G' => r' = .inl none ∧ G' = mG G m ad (mu_ A 0 (em_ (A 0))) v) := by
    intro n
    induction n with
    | zero =>
      intro k h0 h1
      have hk : k = 275 := by omega
      subst hk
      refine wp_iload_n dX4_empties_2 rfl ?_
      refine wp_sipush dX4_empties_3 (by decide) ?_
      refine wp_icmp_geT (t := 22) dX4_empties_6 rfl ⟨by omega, by omega⟩ ⟨by omega, by omega⟩ (by omega) ?_
      refine wp_aload_n dX4_empties_22 rfl ?_
      refine wp_get dX4_empties_23 (fl_X4_9_X4 hE) mG_m (by rfl) ?_
      refine wp_iconst dX4_empties_26 ?_
      refine wp_iconst dX4_empties_27 ?_
      refine wpm_st0 hE hM dX4_empties_28 (by omega) (by omega) ?_
      refine wp_iconst dX4_empties_29 ?_
      refine wp_istore_n dX4_empties_30 (Nat.le_of_ble_eq_true rfl) rfl ?_
      rw [mu_mu, mu_eq]
      have h9 := l2 5 0 (by decide) (by decide)
      rw [et_0] at h9
      exact h9
    | succ n ih =>
      intro k h0 h1
      refine wp_iload_n dX4_empties_2 rfl ?_
      refine wp_sipush dX4_empties_3 (by decide) ?_
      refine wp_icmp_geF (t := 22) dX4_empties_6 rfl ⟨by omega, by omega⟩ ⟨by omega, by omega⟩ (by omega) ?_
      refine wp_aload_n dX4_empties_9 rfl ?_
      refine wp_get dX4_empties_10 (fl_X4_9_X4 hE) mG_m (by rfl) ?_
      refine wp_iload_n dX4_empties_13 rfl ?_
      refine wp_iconst dX4_empties_14 ?_
      refine wpm_st0 hE hM dX4_empties_15 (by omega) (by omega) ?_
      rw [mu_mu, mu_eq, ez_s _ h0]
      refine wp_iinc dX4_empties_16 rfl (Nat.le_of_ble_eq_true rfl) rfl ?_
      refine wp_goto (t := 2) dX4_empties_19 rfl ?_
      exact ih (k + 1) (by omega) (by omega)
  have h9 := l1 275 0 (by decide) (by decide)
  rw [ez_0, mu_self] at h9
  exact h9
theorem mX4_clear (hE : gEnv E) (hM : mOK E m ad) : mc_ E (d + 1) FX4_clear cX4_clear [] G m ad A v (some (.int (ii_ (A 0 0)))) (mu_ A 0 (em_ (A 0))) (mu_ (mu_ v 2 0) 1 0) := by
  refine ct_of (by decide) (Nat.le_of_ble_eq_true rfl) ?_
  show wp _ _ _ _ _ _ 0 [some _] [] _ _
  refine wp_aload_n dX4_clear_0 rfl ?_
  refine wp_iconst dX4_clear_1 ?_
  refine wpm_put2 hE hM dX4_clear_2 ⟨rfl, rfl⟩ ?_
  refine wp_aload_n dX4_clear_5 rfl ?_
  refine wp_get dX4_clear_6 (fl_X4_9_X4 hE) mG_m (by rfl) ?_
  refine wp_iconst dX4_clear_9 ?_
  refine wpm_ld0 hE hM dX4_clear_10 (by omega) (by omega) ?_
  refine wp_istore_n dX4_clear_11 (Nat.le_of_ble_eq_true rfl) rfl ?_
  refine wp_aload_n dX4_clear_12 rfl ?_
  refine (iv_X4_49_X4 hE dX4_clear_13 mG_m).mc (mX4_empties hE hM) ?_
  refine wp_aload_n dX4_clear_16 rfl ?_
  refine wp_iconst dX4_clear_17 ?_
  refine wpm_put1 hE hM dX4_clear_18 ⟨rfl, rfl⟩ ?_
  refine wp_iload_n dX4_clear_21 rfl ?_
  refine wp_ireturn dX4_clear_22 rfl rfl ?_
  exact ⟨rfl, rfl⟩
theorem mX4_undo (hE : gEnv E) (hM : mOK E m ad) (h0 : 0 ≤ v 1) (h1 : v 1 ≤ 8) : mc_ E (d + 1) FX4_undo cX4_undo [] G m ad A v (some (.int (ii_ (if v 1 = 0 then 0 else v 1 - 1)))) (if v 1 = 0 then A else mu_ A 0 (g_cp (A 3) (A 0) (275 * (v 1 - 1)) 0 275)) (if v 1 = 0 then mu_ v 2 1 else mu_ (mu_ v 2 0) 1 (v 1 - 1)) := by
  refine ct_of (by decide) (Nat.le_of_ble_eq_true rfl) ?_
  show wp _ _ _ _ _ _ 0 [some _] [] _ _
  refine wp_aload_n dX4_undo_0 rfl ?_
  refine wp_aload_n dX4_undo_1 rfl ?_
  refine wp_get dX4_undo_2 (fl_X4_55_X4 hE) mG_m (by rfl) ?_
  refine wp_if_ne (t := 12) dX4_undo_5 rfl ⟨by omega, by omega⟩ (fun hc => ?_) (fun hc => ?_)
  · simp only [if_neg hc]
    refine wp_iconst dX4_undo_12 ?_
    refine wpm_put2 hE hM dX4_undo_13 ⟨rfl, rfl⟩ ?_
    refine wp_aload_n dX4_undo_16 rfl ?_
    refine wp_get dX4_undo_17 (fl_X4_52_X4 hE) mG_m (by rfl) ?_
    rw [mu_eq]
    refine wp_if_leT (t := 25) dX4_undo_20 rfl ⟨by omega, by omega⟩ (by omega) ?_
    refine wp_aload_n dX4_undo_25 rfl ?_
    refine wp_dup dX4_undo_26 rfl ?_
    refine wp_get dX4_undo_27 (fl_X4_55_X4 hE) mG_m (by rfl) ?_
    refine wp_iconst dX4_undo_30 ?_
    refine wp_isub dX4_undo_31 ?_
    refine wpm_put1 hE hM dX4_undo_32 ⟨rfl, rfl⟩ ?_
    refine wp_aload_n dX4_undo_35 rfl ?_
    refine wp_get dX4_undo_36 (fl_X4_19_X4 hE) mG_m (by rfl) ?_
    refine wp_sipush dX4_undo_39 (by decide) ?_
    refine wp_aload_n dX4_undo_42 rfl ?_
    refine wp_get dX4_undo_43 (fl_X4_55_X4 hE) mG_m (by rfl) ?_
    refine wp_imul dX4_undo_46 ?_
    refine wp_aload_n dX4_undo_47 rfl ?_
    refine wp_get dX4_undo_48 (fl_X4_9_X4 hE) mG_m (by rfl) ?_
    refine wp_iconst dX4_undo_51 ?_
    refine wp_sipush dX4_undo_52 (by decide) ?_
    rw [mu_eq, mu_ne (show (1 : Nat) ≠ 2 by decide)]
    refine wp_acopyI (ka_0 hE) dX4_undo_55 q2738 (mG_a3 hM) (mG_a0 hM) (hM.2 0 (by decide)).1 (by omega) (by decide) (by decide) (by omega) (by decide) (by decide) (by decide) (fun _ _ _ => rfl) ?_
    rw [mG_s0 hM]
    refine wp_aload_n dX4_undo_58 rfl ?_
    refine wp_get dX4_undo_59 (fl_X4_55_X4 hE) mG_m (by rfl) ?_
    refine wp_ireturn dX4_undo_62 rfl rfl ?_
    exact ⟨by rw [mu_eq], rfl⟩
  · simp only [if_pos hc]
    refine wp_iconst dX4_undo_8 ?_
    refine wp_goto (t := 13) dX4_undo_9 rfl ?_
    refine wpm_put2 hE hM dX4_undo_13 ⟨rfl, rfl⟩ ?_
    refine wp_aload_n dX4_undo_16 rfl ?_
    refine wp_get dX4_undo_17 (fl_X4_52_X4 hE) mG_m (by rfl) ?_
    rw [mu_eq]
    refine wp_if_leF (t := 25) dX4_undo_20 rfl ⟨by omega, by omega⟩ (by omega) ?_
    refine wp_iconst dX4_undo_23 ?_
    refine wp_ireturn dX4_undo_24 rfl rfl ?_
    exact ⟨rfl, rfl⟩
theorem mX4_snapshot (hE : gEnv E) (hM : mOK E m ad) : mc_ E (d + 1) FX4_snapshot cX4_snapshot [] G m ad A v (some (.int (ii_ (A 0 0)))) (mu_ A 2 (g_cp (A 0) (A 2) 0 0 275)) (mu_ (mu_ v 2 0) 0 1) := by
  refine ct_of (by decide) (Nat.le_of_ble_eq_true rfl) ?_
  show wp _ _ _ _ _ _ 0 [some _] [] _ _
  refine wp_aload_n dX4_snapshot_0 rfl ?_
  refine wp_iconst dX4_snapshot_1 ?_
  refine wpm_put2 hE hM dX4_snapshot_2 ⟨rfl, rfl⟩ ?_
  refine wp_aload_n dX4_snapshot_5 rfl ?_
  refine wp_get dX4_snapshot_6 (fl_X4_9_X4 hE) mG_m (by rfl) ?_
  refine wp_iconst dX4_snapshot_9 ?_
  refine wp_aload_n dX4_snapshot_10 rfl ?_
  refine wp_get dX4_snapshot_11 (fl_X4_16_X4 hE) mG_m (by rfl) ?_
  refine wp_iconst dX4_snapshot_14 ?_
  refine wp_sipush dX4_snapshot_15 (by decide) ?_
  refine wp_acopyI (ka_0 hE) dX4_snapshot_18 q2738 (mG_a0 hM) (mG_a2 hM) (hM.2 2 (by decide)).1 (by decide) (by decide) (by decide) (by decide) (by decide) (by decide) (by decide) (fun _ _ _ => rfl) ?_
  rw [mG_s2 hM]
  refine wp_aload_n dX4_snapshot_21 rfl ?_
  refine wp_iconst dX4_snapshot_22 ?_
  refine wpm_put0 hE hM dX4_snapshot_23 ⟨g_nz (by omega), rfl⟩ ?_
  refine wp_aload_n dX4_snapshot_26 rfl ?_
  refine wp_get dX4_snapshot_27 (fl_X4_9_X4 hE) mG_m (by rfl) ?_
  refine wp_iconst dX4_snapshot_30 ?_
  refine wpm_ld0 hE hM dX4_snapshot_31 (by omega) (by omega) ?_
  refine wp_ireturn dX4_snapshot_32 rfl rfl ?_
  exact ⟨rfl, rfl⟩
theorem mX4_restore (hE : gEnv E) (hM : mOK E m ad) (h0 : rg_ (v 0)) : mc_ E (d + 1) FX4_restore cX4_restore [] G m ad A v (some (.int (ii_ (if v 0 = 0 then 0 else A 2 0)))) (if v 0 = 0 then A else mu_ A 0 (g_cp (A 2) (A 0) 0 0 275)) (if v 0 = 0 then mu_ v 2 1 else mu_ (mu_ v 2 0) 1 0) := by
  refine ct_of (by decide) (Nat.le_of_ble_eq_true rfl) ?_
  show wp _ _ _ _ _ _ 0 [some _] [] _ _
  refine wp_aload_n dX4_restore_0 rfl ?_
  refine wp_aload_n dX4_restore_1 rfl ?_
  refine wp_get dX4_restore_2 (fl_X4_290_X4 hE) mG_m (by rfl) ?_
  refine wp_if_eq (t := 12) dX4_restore_5 rfl h0 (fun hc => ?_) (fun hc => ?_)
  · simp only [if_pos hc]
    refine wp_iconst dX4_restore_12 ?_
    refine wpm_put2 hE hM dX4_restore_13 ⟨rfl, rfl⟩ ?_
    refine wp_aload_n dX4_restore_16 rfl ?_
    refine wp_get dX4_restore_17 (fl_X4_52_X4 hE) mG_m (by rfl) ?_
    rw [mu_eq]
    refine wp_if_leF (t := 25) dX4_restore_20 rfl ⟨by omega, by omega⟩ (by omega) ?_
    refine wp_iconst dX4_restore_23 ?_
    refine wp_ireturn dX4_restore_24 rfl rfl ?_
    exact ⟨rfl, rfl⟩
  · simp only [if_neg hc]
    refine wp_iconst dX4_restore_8 ?_
    refine wp_goto (t := 13) dX4_restore_9 rfl ?_
    refine wpm_put2 hE hM dX4_restore_13 ⟨rfl, rfl⟩ ?_
    refine wp_aload_n dX4_restore_16 rfl ?_
    refine wp_get dX4_restore_17 (fl_X4_52_X4 hE) mG_m (by rfl) ?_
    rw [mu_eq]
    refine wp_if_leT (t := 25) dX4_restore_20 rfl ⟨by omega, by omega⟩ (by omega) ?_
    refine wp_aload_n dX4_restore_25 rfl ?_
    refine wp_get dX4_restore_26 (fl_X4_16_X4 hE) mG_m (by rfl) ?_
    refine wp_iconst dX4_restore_29 ?_
    refine wp_aload_n dX4_restore_30 rfl ?_
    refine wp_get dX4_restore_31 (fl_X4_9_X4 hE) mG_m (by rfl) ?_
    refine wp_iconst dX4_restore_34 ?_
    refine wp_sipush dX4_restore_35 (by decide) ?_
    refine wp_acopyI (ka_0 hE) dX4_restore_38 q2738 (mG_a2 hM) (mG_a0 hM) (hM.2 0 (by decide)).1 (by decide) (by decide) (by decide) (by decide) (by decide) (by decide) (by decide) (fun _ _ _ => rfl) ?_
    rw [mG_s0 hM]
    refine wp_aload_n dX4_restore_41 rfl ?_
    refine wp_iconst dX4_restore_42 ?_
    refine wpm_put1 hE hM dX4_restore_43 ⟨rfl, rfl⟩ ?_
    refine wp_aload_n dX4_restore_46 rfl ?_
    refine wp_get dX4_restore_47 (fl_X4_9_X4 hE) mG_m (by rfl) ?_
    refine wp_iconst dX4_restore_50 ?_
    refine wpm_ld0 hE hM dX4_restore_51 (by omega) (by omega) ?_
    refine wp_ireturn dX4_restore_52 rfl rfl ?_
    exact ⟨rfl, rfl⟩
theorem mX4_errorPosition (hE : gEnv E) (hM : mOK E m ad) (h0 : rg_ (v 9)) : mc_ E d FX4_errorPosition cX4_errorPosition [] G m ad A v (some (.int (ii_ (if v 9 < 0 then 0 else v 9)))) A (mu_ v 2 (if v 9 < 0 then 1 else 0)) := by
  refine ct_of (by decide) (Nat.le_of_ble_eq_true rfl) ?_
  show wp _ _ _ _ _ _ 0 [some _] [] _ _
  refine wp_aload_n dX4_errorPosition_0 rfl ?_
  refine wp_aload_n dX4_errorPosition_1 rfl ?_
  refine wp_get dX4_errorPosition_2 (fl_X4_39_X4 hE) mG_m (by rfl) ?_
  refine wp_if_ge (t := 12) dX4_errorPosition_5 rfl h0 (fun hc => ?_) (fun hc => ?_)
  · have hn : ¬ v 9 < 0 := by omega
    simp only [if_neg hn]
    refine wp_iconst dX4_errorPosition_12 ?_
    refine wpm_put2 hE hM dX4_errorPosition_13 ⟨rfl, rfl⟩ ?_
    refine wp_aload_n dX4_errorPosition_16 rfl ?_
    refine wp_get dX4_errorPosition_17 (fl_X4_52_X4 hE) mG_m (by rfl) ?_
    rw [mu_eq]
    refine wp_if_leT (t := 27) dX4_errorPosition_20 rfl ⟨by omega, by omega⟩ (by omega) ?_
    refine wp_aload_n dX4_errorPosition_27 rfl ?_
    refine wp_get dX4_errorPosition_28 (fl_X4_39_X4 hE) mG_m (by rfl) ?_
    refine wp_ireturn dX4_errorPosition_31 rfl rfl ?_
    exact ⟨by rw [mu_ne (show (9 : Nat) ≠ 2 by decide)], rfl⟩
  · have hn : v 9 < 0 := by omega
    simp only [if_pos hn]
    refine wp_iconst dX4_errorPosition_8 ?_
    refine wp_goto (t := 13) dX4_errorPosition_9 rfl ?_
    refine wpm_put2 hE hM dX4_errorPosition_13 ⟨rfl, rfl⟩ ?_
    refine wp_aload_n dX4_errorPosition_16 rfl ?_
    refine wp_get dX4_errorPosition_17 (fl_X4_52_X4 hE) mG_m (by rfl) ?_
    rw [mu_eq]
    refine wp_if_leF (t := 27) dX4_errorPosition_20 rfl ⟨by omega, by omega⟩ (by omega) ?_
    refine wp_iconst dX4_errorPosition_23 ?_
    refine wp_goto (t := 31) dX4_errorPosition_24 rfl ?_
    refine wp_ireturn dX4_errorPosition_31 rfl rfl ?_
    exact ⟨rfl, rfl⟩
theorem mX4_refusedItem (hE : gEnv E) (hM : mOK E m ad) (h0 : rg_ (v 10)) : mc_ E d FX4_refusedItem cX4_refusedItem [] G m ad A v (some (.int (ii_ (if v 10 < 0 then 0 else v 10)))) A (mu_ v 2 (if v 10 < 0 then 1 else 0)) := by
  refine ct_of (by decide) (Nat.le_of_ble_eq_true rfl) ?_
  show wp _ _ _ _ _ _ 0 [some _] [] _ _
  refine wp_aload_n dX4_refusedItem_0 rfl ?_
  refine wp_aload_n dX4_refusedItem_1 rfl ?_
  refine wp_get dX4_refusedItem_2 (fl_X4_43_X4 hE) mG_m (by rfl) ?_
  refine wp_if_ge (t := 12) dX4_refusedItem_5 rfl h0 (fun hc => ?_) (fun hc => ?_)
  · have hn : ¬ v 10 < 0 := by omega
    simp only [if_neg hn]
    refine wp_iconst dX4_refusedItem_12 ?_
    refine wpm_put2 hE hM dX4_refusedItem_13 ⟨rfl, rfl⟩ ?_
    refine wp_aload_n dX4_refusedItem_16 rfl ?_
    refine wp_get dX4_refusedItem_17 (fl_X4_52_X4 hE) mG_m (by rfl) ?_
    rw [mu_eq]
    refine wp_if_leT (t := 27) dX4_refusedItem_20 rfl ⟨by omega, by omega⟩ (by omega) ?_
    refine wp_aload_n dX4_refusedItem_27 rfl ?_
    refine wp_get dX4_refusedItem_28 (fl_X4_43_X4 hE) mG_m (by rfl) ?_
    refine wp_ireturn dX4_refusedItem_31 rfl rfl ?_
    exact ⟨by rw [mu_ne (show (10 : Nat) ≠ 2 by decide)], rfl⟩
  · have hn : v 10 < 0 := by omega
    simp only [if_pos hn]
    refine wp_iconst dX4_refusedItem_8 ?_
    refine wp_goto (t := 13) dX4_refusedItem_9 rfl ?_
    refine wpm_put2 hE hM dX4_refusedItem_13 ⟨rfl, rfl⟩ ?_
    refine wp_aload_n dX4_refusedItem_16 rfl ?_
    refine wp_get dX4_refusedItem_17 (fl_X4_52_X4 hE) mG_m (by rfl) ?_
    rw [mu_eq]
    refine wp_if_leF (t := 27) dX4_refusedItem_20 rfl ⟨by omega, by omega⟩ (by omega) ?_
    refine wp_iconst dX4_refusedItem_23 ?_
    refine wp_goto (t := 31) dX4_refusedItem_24 rfl ?_
    refine wp_ireturn dX4_refusedItem_31 rfl rfl ?_
    exact ⟨rfl, rfl⟩
/-- the answer to refusal: which exception, which number -/
def rt_ (g : Int → Int) (c : Int) : Int := if g 0 = 0 then 1 else if c = 1 ∧ g 2 = 0 then 2 else 0
theorem mX4_refusal {c e : Int} (hE : gEnv E) (hM : mOK E m ad) (hc : c = 0 ∨ c = 1) (he : e = 0 ∨ e = 1) (h0 : rg_ (A 4 0)) (h2 : rg_ (A 4 2)) : mc_ E d FX4_refusal cX4_refusal [.int (ii_ c), .int (ii_ e)] G m ad A v (some (.int (ii_ (if rt_ (A 4) c = 0 then A 4 (2 * c + e) else 0)))) A (mu_ v 2 (rt_ (A 4) c)) := by
  refine ct_of (by decide) (Nat.le_of_ble_eq_true rfl) ?_
  show wp _ _ _ _ _ _ 0 [some _, some _, some _] [] _ _
  have hk : ∀ t : Int, rt_ (A 4) c = t → (t = 0 ∨ t = 1 ∨ t = 2) → wp E d 0 0 FX4_refusal cX4_refusal 32 [some (.ref m), some (.int (ii_ c)), some (.int (ii_ e))] [.int (ii_ t), .ref m] (mG G m ad A v) (fun r' G' => r' = .inl (some (.int (ii_ (if rt_ (A 4) c = 0 then A 4 (2 * c + e) else 0)))) ∧ G' = mG G m ad A (mu_ v 2 (rt_ (A 4) c))) := by
    intro t ht ht2
    rw [ht]
    refine wpm_put2 hE hM dX4_refusal_32 ⟨rfl, rfl⟩ ?_
    refine wp_aload_n dX4_refusal_35 rfl ?_
    refine wp_get dX4_refusal_36 (fl_X4_52_X4 hE) mG_m (by rfl) ?_
    rw [mu_eq]
    refine wp_if_le (t := 46) dX4_refusal_39 rfl ⟨by omega, by omega⟩ (fun h9 => ?_) (fun h9 => ?_)
    · have hn : t = 0 := by omega
      simp only [if_pos hn]
      refine wp_aload_n dX4_refusal_46 rfl ?_
      refine wp_get dX4_refusal_47 (fl_X4_22_X4 hE) mG_m (by rfl) ?_
      refine wp_iload_n dX4_refusal_50 rfl ?_
      refine wp_if_eq (t := 58) dX4_refusal_51 rfl ⟨by omega, by omega⟩ (fun h8 => ?_) (fun h8 => ?_)
      · refine wp_iconst dX4_refusal_58 ?_
        refine wp_iload_n dX4_refusal_59 rfl ?_
        refine wp_if_eq (t := 67) dX4_refusal_60 rfl ⟨by omega, by omega⟩ (fun h7 => ?_) (fun h7 => ?_)
        · refine wp_iconst dX4_refusal_67 ?_
          refine wp_iadd dX4_refusal_68 ?_
          refine wpm_ld4 hE hM dX4_refusal_69 (by omega) (by omega) ?_
          refine wp_ireturn dX4_refusal_70 rfl rfl ?_
          exact ⟨by rw [h8, h7]; rfl, rfl⟩
        · refine wp_iconst dX4_refusal_63 ?_
          refine wp_goto (t := 68) dX4_refusal_64 rfl ?_
          refine wp_iadd dX4_refusal_68 ?_
          refine wpm_ld4 hE hM dX4_refusal_69 (by omega) (by omega) ?_
          refine wp_ireturn dX4_refusal_70 rfl rfl ?_
          have e1 : c = 0 := h8
          have e2 : e = 1 := by omega
          exact ⟨by rw [e1, e2]; rfl, rfl⟩
      · refine wp_iconst dX4_refusal_54 ?_
        refine wp_goto (t := 59) dX4_refusal_55 rfl ?_
        refine wp_iload_n dX4_refusal_59 rfl ?_
        have e1 : c = 1 := by omega
        refine wp_if_eq (t := 67) dX4_refusal_60 rfl ⟨by omega, by omega⟩ (fun h7 => ?_) (fun h7 => ?_)
        · refine wp_iconst dX4_refusal_67 ?_
          refine wp_iadd dX4_refusal_68 ?_
          refine wpm_ld4 hE hM dX4_refusal_69 (by omega) (by omega) ?_
          refine wp_ireturn dX4_refusal_70 rfl rfl ?_
          exact ⟨by rw [e1, h7]; rfl, rfl⟩
        · refine wp_iconst dX4_refusal_63 ?_
          refine wp_goto (t := 68) dX4_refusal_64 rfl ?_
          refine wp_iadd dX4_refusal_68 ?_
          refine wpm_ld4 hE hM dX4_refusal_69 (by omega) (by omega) ?_
          refine wp_ireturn dX4_refusal_70 rfl rfl ?_
          have e2 : e = 1 := by omega
          exact ⟨by rw [e1, e2]; rfl, rfl⟩
    · have hn : ¬ t = 0 := by omega
      simp only [if_neg hn]
      refine wp_iconst dX4_refusal_42 ?_
      refine wp_goto (t := 70) dX4_refusal_43 rfl ?_
      refine wp_ireturn dX4_refusal_70 rfl rfl ?_
      exact ⟨rfl, rfl⟩
  refine wp_aload_n dX4_refusal_0 rfl ?_
  refine wp_aload_n dX4_refusal_1 rfl ?_
  refine wp_get dX4_refusal_2 (fl_X4_22_X4 hE) mG_m (by rfl) ?_
  refine wp_iconst dX4_refusal_5 ?_
  refine wpm_ld4 hE hM dX4_refusal_6 (by omega) (by omega) ?_
  refine wp_if_ne (t := 14) dX4_refusal_7 rfl h0 (fun h1 => ?_) (fun h1 => ?_)
  · refine wp_iload_n dX4_refusal_14 rfl ?_
    refine wp_if_eq (t := 31) dX4_refusal_15 rfl ⟨by omega, by omega⟩ (fun h3 => ?_) (fun h3 => ?_)
    · refine wp_iconst dX4_refusal_31 ?_
      exact hk 0 (by unfold rt_; rw [if_neg h1, if_neg (by omega)]) (Or.inl rfl)
    · refine wp_aload_n dX4_refusal_18 rfl ?_
      refine wp_get dX4_refusal_19 (fl_X4_22_X4 hE) mG_m (by rfl) ?_
      refine wp_iconst dX4_refusal_22 ?_
      refine wpm_ld4 hE hM dX4_refusal_23 (by omega) (by omega) ?_
      refine wp_if_ne (t := 31) dX4_refusal_24 rfl h2 (fun h4 => ?_) (fun h4 => ?_)
      · refine wp_iconst dX4_refusal_31 ?_
        exact hk 0 (by unfold rt_; rw [if_neg h1, if_neg (by omega)]) (Or.inl rfl)
      · refine wp_iconst dX4_refusal_27 ?_
        refine wp_goto (t := 32) dX4_refusal_28 rfl ?_
        exact hk 2 (by unfold rt_; rw [if_neg h1, if_pos (by omega)]) (Or.inr (Or.inr rfl))
  · refine wp_iconst dX4_refusal_10 ?_
    refine wp_goto (t := 32) dX4_refusal_11 rfl ?_
    exact hk 1 (by unfold rt_; rw [if_pos h1]) (Or.inr (Or.inl rfl))
end MC
