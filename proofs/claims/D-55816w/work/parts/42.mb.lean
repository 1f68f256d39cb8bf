/-! the model: keep, ends, fails, refuse, empties, clear, refusal, undo, snapshot, restore -/
set_option maxRecDepth 100000
/-- the array of a refusal -/
def rf_ (g : Int → Int) (a b : Int) : Int → Int := g_fu (g_fu (g_fu (g_fu g 0 a) 1 b) 2 0) 3 0
section MB
variable {E : gE} {d : Nat} {G : gH} {m : Nat} {ad : Nat → Nat} {A : Nat → Int → Int} {v : Nat → Int}
theorem pX4_thrown (hE : gEnv E) : ctp E d FX4_thrown cX4_thrown [.ref m] (mG G m ad A v) (some (.int (ii_ (v 2)))) := by
  refine ct_of (by decide) (Nat.le_of_ble_eq_true rfl) ?_
  show wp _ _ _ _ _ _ 0 [some _] [] _ _
  refine wp_aload_n dX4_thrown_0 rfl ?_
  refine wp_get dX4_thrown_1 (fl_X4_52_X4 hE) mG_m (by rfl) ?_
  refine wp_ireturn dX4_thrown_4 rfl rfl ?_
  exact ⟨rfl, rfl⟩
theorem mX4_fails {k : Int} (hE : gEnv E) (hM : mOK E m ad) : mc_ E d FX4_fails cX4_fails [.int (ii_ k)] G m ad A v (some (.int (ii_ 0))) A (mu_ v 2 k) := by
  refine ct_of (by decide) (Nat.le_of_ble_eq_true rfl) ?_
  show wp _ _ _ _ _ _ 0 [some _, some _] [] _ _
  refine wp_aload_n dX4_fails_0 rfl ?_
  refine wp_iload_n dX4_fails_1 rfl ?_
  refine wpm_put2 hE hM dX4_fails_2 ⟨rfl, rfl⟩ ?_
  refine wp_iconst dX4_fails_5 ?_
  refine wp_ireturn dX4_fails_6 rfl rfl ?_
  exact ⟨rfl, rfl⟩
theorem mX4_refuse {k a b : Int} (hE : gEnv E) (hM : mOK E m ad) : mc_ E d FX4_refuse cX4_refuse [.int (ii_ k), .int (ii_ a), .int (ii_ b)] G m ad A v (some (.int (ii_ 0))) (mu_ A 4 (rf_ (A 4) a b)) (mu_ v 2 k) := by
  refine ct_of (by decide) (Nat.le_of_ble_eq_true rfl) ?_
  show wp _ _ _ _ _ _ 0 [some _, some _, some _, some _] [] _ _
  refine wp_aload_n dX4_refuse_0 rfl ?_
  refine wp_iload_n dX4_refuse_1 rfl ?_
  refine wpm_put2 hE hM dX4_refuse_2 ⟨rfl, rfl⟩ ?_
  refine wp_aload_n dX4_refuse_5 rfl ?_
  refine wp_get dX4_refuse_6 (fl_X4_22_X4 hE) mG_m (by rfl) ?_
  refine wp_iconst dX4_refuse_9 ?_
  refine wp_iload_n dX4_refuse_10 rfl ?_
  refine wpm_st4 hE hM dX4_refuse_11 (by omega) (by omega) ?_
  refine wp_aload_n dX4_refuse_12 rfl ?_
  refine wp_get dX4_refuse_13 (fl_X4_22_X4 hE) mG_m (by rfl) ?_
  refine wp_iconst dX4_refuse_16 ?_
  refine wp_iload_n dX4_refuse_17 rfl ?_
  refine wpm_st4 hE hM dX4_refuse_18 (by omega) (by omega) ?_
  refine wp_aload_n dX4_refuse_19 rfl ?_
  refine wp_get dX4_refuse_20 (fl_X4_22_X4 hE) mG_m (by rfl) ?_
  refine wp_iconst dX4_refuse_23 ?_
  refine wp_iconst dX4_refuse_24 ?_
  refine wpm_st4 hE hM dX4_refuse_25 (by omega) (by omega) ?_
  refine wp_aload_n dX4_refuse_26 rfl ?_
  refine wp_get dX4_refuse_27 (fl_X4_22_X4 hE) mG_m (by rfl) ?_
  refine wp_iconst dX4_refuse_30 ?_
  refine wp_iconst dX4_refuse_31 ?_
  refine wpm_st4 hE hM dX4_refuse_32 (by omega) (by omega) ?_
  refine wp_iconst dX4_refuse_33 ?_
  refine wp_ireturn dX4_refuse_34 rfl rfl ?_
  exact ⟨rfl, by simp only [mu_mu, mu_eq, rf_]⟩
theorem mX4_keep (hE : gEnv E) (hM : mOK E m ad) : mc_ E (d + 1) FX4_keep cX4_keep [] G m ad A v none (mu_ A 1 (g_cp (A 0) (A 1) 0 0 275)) (mu_ v 2 0) := by
  refine ct_of (by decide) (Nat.le_of_ble_eq_true rfl) ?_
  show wp _ _ _ _ _ _ 0 [some _] [] _ _
  refine wp_aload_n dX4_keep_0 rfl ?_
  refine wp_iconst dX4_keep_1 ?_
  refine wpm_put2 hE hM dX4_keep_2 ⟨rfl, rfl⟩ ?_
  refine wp_aload_n dX4_keep_5 rfl ?_
  refine wp_get dX4_keep_6 (fl_X4_9_X4 hE) mG_m (by rfl) ?_
  refine wp_iconst dX4_keep_9 ?_
  refine wp_aload_n dX4_keep_10 rfl ?_
  refine wp_get dX4_keep_11 (fl_X4_13_X4 hE) mG_m (by rfl) ?_
  refine wp_iconst dX4_keep_14 ?_
  refine wp_sipush dX4_keep_15 (by decide) ?_
  refine wp_acopyI (ka_0 hE) dX4_keep_18 q2738 (mG_a0 hM) (mG_a1 hM) (hM.2 1 (by decide)).1 (by decide) (by decide) (by decide) (by decide) (by decide) (by decide) (by decide) (fun _ _ _ => rfl) ?_
  rw [mG_s1 hM]
  refine wp_return dX4_keep_21 rfl ?_
  exact ⟨rfl, rfl⟩
/-- what ends a call: the answer, arrays and numbers -/
def mEA (A : Nat → Int → Int) (v : Nat → Int) : Nat → Int → Int := if v 2 > 0 then mu_ A 0 (g_cp (A 1) (A 0) 0 0 275) else if v 1 = 8 then mu_ A 3 (g_cp (A 1) (g_cp (A 3) (A 3) 275 0 1925) 0 (275 * 7) 275) else mu_ A 3 (g_cp (A 1) (A 3) 0 (275 * v 1) 275)
def mEV (v : Nat → Int) : Nat → Int := if v 2 > 0 then v else if v 1 = 8 then v else mu_ v 1 (v 1 + 1)
def mER (v : Nat → Int) (r : Int) : Int := if v 2 > 0 then 0 else r
theorem mX4_ends {r : Int} (hE : gEnv E) (hM : mOK E m ad) (ht : rg_ (v 2)) (h0 : 0 ≤ v 1) (h1 : v 1 ≤ 8) : mc_ E (d + 1) FX4_ends cX4_ends [.int (ii_ r)] G m ad A v (some (.int (ii_ (mER v r)))) (mEA A v) (mEV v) := by
  unfold mEA mEV mER
  refine ct_of (by decide) (Nat.le_of_ble_eq_true rfl) ?_
  show wp _ _ _ _ _ _ 0 [some _, some _] [] _ _
  refine wp_aload_n dX4_ends_0 rfl ?_
  refine wp_get dX4_ends_1 (fl_X4_52_X4 hE) mG_m (by rfl) ?_
  refine wp_if_le (t := 25) dX4_ends_4 rfl ht (fun hc => ?_) (fun hc => ?_)
  · have hn : ¬ v 2 > 0 := by omega
    simp only [if_neg hn]
    refine wp_aload_n dX4_ends_25 rfl ?_
    refine wp_get dX4_ends_26 (fl_X4_55_X4 hE) mG_m (by rfl) ?_
    refine wp_bipush dX4_ends_29 (by decide) ?_
    refine wp_icmp_ne (t := 62) dX4_ends_31 rfl ⟨by omega, by omega⟩ ⟨by omega, by omega⟩ (fun hp => ?_) (fun hp => ?_)
    · simp only [if_neg hp]
      refine wp_aload_n dX4_ends_62 rfl ?_
      refine wp_get dX4_ends_63 (fl_X4_13_X4 hE) mG_m (by rfl) ?_
      refine wp_iconst dX4_ends_66 ?_
      refine wp_aload_n dX4_ends_67 rfl ?_
      refine wp_get dX4_ends_68 (fl_X4_19_X4 hE) mG_m (by rfl) ?_
      refine wp_sipush dX4_ends_71 (by decide) ?_
      refine wp_aload_n dX4_ends_74 rfl ?_
      refine wp_get dX4_ends_75 (fl_X4_55_X4 hE) mG_m (by rfl) ?_
      refine wp_imul dX4_ends_78 ?_
      refine wp_sipush dX4_ends_79 (by decide) ?_
      refine wp_acopyI (ka_0 hE) dX4_ends_82 q2738 (mG_a1 hM) (mG_a3 hM) (hM.2 3 (by decide)).1 (by decide) (by omega) (by decide) (by decide) (by omega) (by decide) (by decide) (fun _ _ _ => rfl) ?_
      rw [mG_s3 hM]
      refine wp_aload_n dX4_ends_85 rfl ?_
      refine wp_dup dX4_ends_86 rfl ?_
      refine wp_get dX4_ends_87 (fl_X4_55_X4 hE) mG_m (by rfl) ?_
      refine wp_iconst dX4_ends_90 ?_
      refine wp_iadd dX4_ends_91 ?_
      refine wpm_put1 hE hM dX4_ends_92 ⟨rfl, rfl⟩ ?_
      refine wp_iload_n dX4_ends_95 rfl ?_
      refine wp_ireturn dX4_ends_96 rfl rfl ?_
      exact ⟨rfl, rfl⟩
    · simp only [if_pos hp]
      refine wp_aload_n dX4_ends_34 rfl ?_
      refine wp_get dX4_ends_35 (fl_X4_19_X4 hE) mG_m (by rfl) ?_
      refine wp_sipush dX4_ends_38 (by decide) ?_
      refine wp_aload_n dX4_ends_41 rfl ?_
      refine wp_get dX4_ends_42 (fl_X4_19_X4 hE) mG_m (by rfl) ?_
      refine wp_iconst dX4_ends_45 ?_
      refine wp_sipush dX4_ends_46 (by decide) ?_
      refine wp_acopyI (ka_0 hE) dX4_ends_49 q2738 (mG_a3 hM) (mG_a3 hM) (hM.2 3 (by decide)).1 (by decide) (by decide) (by decide) (by decide) (by decide) (by decide) (by decide) (fun _ _ _ => rfl) ?_
      rw [mG_s3 hM]
      refine wp_aload_n dX4_ends_52 rfl ?_
      refine wp_dup dX4_ends_53 rfl ?_
      refine wp_get dX4_ends_54 (fl_X4_55_X4 hE) mG_m (by rfl) ?_
      refine wp_iconst dX4_ends_57 ?_
      refine wp_isub dX4_ends_58 ?_
      refine wpm_put1 hE hM dX4_ends_59 ⟨rfl, rfl⟩ ?_
      refine wp_aload_n dX4_ends_62 rfl ?_
      refine wp_get dX4_ends_63 (fl_X4_13_X4 hE) mG_m (by rfl) ?_
      refine wp_iconst dX4_ends_66 ?_
      refine wp_aload_n dX4_ends_67 rfl ?_
      refine wp_get dX4_ends_68 (fl_X4_19_X4 hE) mG_m (by rfl) ?_
      refine wp_sipush dX4_ends_71 (by decide) ?_
      refine wp_aload_n dX4_ends_74 rfl ?_
      refine wp_get dX4_ends_75 (fl_X4_55_X4 hE) mG_m (by rfl) ?_
      refine wp_imul dX4_ends_78 ?_
      refine wp_sipush dX4_ends_79 (by decide) ?_
      rw [mu_eq, hp]
      refine wp_acopyI (ka_0 hE) dX4_ends_82 q2738 (mG_a1 hM) (mG_a3 hM) (hM.2 3 (by decide)).1 (by decide) (by decide) (by decide) (by decide) (by decide) (by decide) (by decide) (fun _ _ _ => rfl) ?_
      rw [mG_s3 hM]
      refine wp_aload_n dX4_ends_85 rfl ?_
      refine wp_dup dX4_ends_86 rfl ?_
      refine wp_get dX4_ends_87 (fl_X4_55_X4 hE) mG_m (by rfl) ?_
      refine wp_iconst dX4_ends_90 ?_
      refine wp_iadd dX4_ends_91 ?_
      refine wpm_put1 hE hM dX4_ends_92 ⟨rfl, rfl⟩ ?_
      refine wp_iload_n dX4_ends_95 rfl ?_
      refine wp_ireturn dX4_ends_96 rfl rfl ?_
      refine ⟨rfl, ?_⟩
      rw [mu_mu, mu_mu, mu_eq, mu_eq]
      rw [mu_ne (show (1 : Nat) ≠ 3 by decide)]
      congr 1
      funext k
      by_cases hk : k = 1
      · subst hk; rw [mu_eq, hp]; rfl
      · rw [mu_ne hk]
  · have hn : v 2 > 0 := by omega
    simp only [if_pos hn]
    refine wp_aload_n dX4_ends_7 rfl ?_
    refine wp_get dX4_ends_8 (fl_X4_13_X4 hE) mG_m (by rfl) ?_
    refine wp_iconst dX4_ends_11 ?_
    refine wp_aload_n dX4_ends_12 rfl ?_
    refine wp_get dX4_ends_13 (fl_X4_9_X4 hE) mG_m (by rfl) ?_
    refine wp_iconst dX4_ends_16 ?_
    refine wp_sipush dX4_ends_17 (by decide) ?_
    refine wp_acopyI (ka_0 hE) dX4_ends_20 q2738 (mG_a1 hM) (mG_a0 hM) (hM.2 0 (by decide)).1 (by decide) (by decide) (by decide) (by decide) (by decide) (by decide) (by decide) (fun _ _ _ => rfl) ?_
    rw [mG_s0 hM]
    refine wp_iconst dX4_ends_23 ?_
    refine wp_ireturn dX4_ends_24 rfl rfl ?_
    exact ⟨rfl, rfl⟩
end MB
