/-! ===== the model: errands, an hour ===== -/
/-- bits of a set of people, of spots -/
def pop (m : Nat) : Int := ((List.range 9).countP (fun k => m.testBit k) : Nat)
theorem pop_sb {m k : Nat} (hm : m < 512) (hk : k < 9) (h : m.testBit k = false) : pop (sb m k) = pop m + 1 := by
  have key : ∀ (m : Fin 512) (k : Fin 9), m.val.testBit k.val = false → pop (sb m.val k.val) = pop m.val + 1 := by decide +kernel
  exact key ⟨m, hm⟩ ⟨k, hk⟩ h
theorem pop_b {m : Nat} : 0 ≤ pop m ∧ pop m ≤ 9 := by
  unfold pop
  have := List.countP_le_length (p := fun k => m.testBit k) (l := List.range 9)
  simp only [List.length_range] at this
  omega
/-- whether an errand is done now -/
def sp_at (f : Nat → Int) (p : Nat) : Bool := decide (f (16 + p) = f (35 + p)) && decide (f 26 ≤ f (21 + p))
theorem sp_at_iff {f : Nat → Int} {p : Nat} : sp_at f p = true ↔ f (16 + p) = f (35 + p) ∧ f 26 ≤ f (21 + p) := by simp [sp_at]
def sp_es (f : Nat → Int) : Nat → Nat
  | 0 => (f 28).toNat
  | p + 1 => if sp_at f p then sb (sp_es f p) p else sp_es f p
/-- who has done its errand, hence -/
def sp_eset (f : Nat → Int) : Nat := sp_es f (f 3).toNat
theorem sp_es_b {f : Nat → Int} (h : 0 ≤ f 28 ∧ f 28 ≤ 31) : ∀ p, p ≤ 5 → sp_es f p < 32
  | 0, _ => by unfold sp_es; omega
  | p + 1, hp => by
    have := sp_es_b h p (by omega)
    unfold sp_es
    split
    · exact sb_lt5 this (by omega)
    · exact this
section M35
variable {l : Launch} {g : ab_G} {M : ab_M} {Q : Option Value → ab_M → Prop}
theorem errs_loop {d : Nat} {B : Int} (hS : ab_SI M) (hR : sp_ok B (ai M 155)) (hQ : ∀ M', fr (fun a k => a = 155 ∧ k = 28) M M' → ai M' 155 = up (ai M 155) 28 (sp_eset (ai M 155)) → Q (some (.int (zi (pop (sp_eset (ai M 155)) - pop (ai M 155 28).toNat)))) M') :
    ∀ (n p : Nat) (M' : ab_M), (p : Int) + n = ai M 155 3 → fr (fun a k => a = 155 ∧ k = 28) M M' → ai M' 155 = up (ai M 155) 28 (sp_es (ai M 155) p) →
    ab_Wp l g (d + 2) 8 false cX9_doesErrands 3 4 [some (.ref 154), some (.int (zi (pop (sp_es (ai M 155) p) - pop (ai M 155 28).toNat))), some (.int (zi (p : Nat)))] [] M' (fun v M' => ab_rk (some .int) v ∧ Q v M') := by
  obtain ⟨hG, hW, hP, -, -, -, hgo, hby, h26, h27, h28, -, hat, -⟩ := hR
  intro n
  induction n with
  | zero =>
    intro p M' hp hM hr
    have hS' := hM.si hS
    have hk : ai M 155 3 ≤ (p : Int) := by omega
    have e3 : ai M' 155 3 = ai M 155 3 := by rw [hr, up_n (by omega)]
    refine ab_go [(), (), (), (), (), (), (), (), (), (), (), (), (), (), (), (), (), (), (), (), (), (), (), (), (), (), (), (), (), (), (), (), (), (), (), (), (), (), (), (), (), (), (), (), (), (), (), (), (), (), (), ()] (fun p => p == 4) ?_
    simp (disch := omega) only [or_false, false_or, or_true, true_or, or_self, cond_false, cond_true, Bool.or_false, Bool.false_or, Bool.or_self, Bool.or_true, Bool.true_or, true_and, and_true, and_self, not_true_eq_false, not_false_eq_true, List.length_cons, List.length_nil, sz_i, sz_l, sz_r, sz_n, sz_q, sz_0, Option.toList_some, Option.toList_none, List.cons_append, List.nil_append, Nat.reduceAdd, Nat.reduceSub, Nat.reduceMul, Nat.reduceLT, Nat.reduceLeDiff, Nat.reduceEqDiff, Nat.reduceBEq, Int.reduceAdd, Int.reduceToNat, Int.reduceLE, Int.reduceNeg, Int.cast_ofNat_Int, en_l, en_i, en_r, en_n, en_q, en_0, en_s, I_wI, I_wL, I_wR, I_rI, I_rL, I_nw, L_wI, L_wL, L_wR, L_rI, L_rL, L_nw, R_wI, R_wL, R_wR, R_rI, R_rL, R_nw, h_wI, h_wL, h_wR, h_rI, h_rL, h_nw, z_wI, z_wL, z_wR, z_rI, z_rL, z_nw, zi_toInt, zl_toInt, al_wI, al_wR, al_rI, al_wL, al_rL, al_nw, ai_wI, ai_wL, ai_wR, ai_rI, ai_rL, ai_nw, zi_neg, zl_neg, zi_ai, zl_al, tn1, tn2, Int.toNat_natCast, zi_add, zi_sub, zi_mul, zi_rm, zi_div, zi_lt, zi_le, zi_eq, zi_cl, zi_in, zi_l, zl_i, zl_add, zl_sub, zl_mul, zl_lt, zl_le, zl_eq, zl_rm, zl_div, I_ai, L_al, z0, z1, w0, w1, lg_lt', lg_gt', lg_ge', lg_le', lg_eq', ab_b_0, Int.reduceMul, Int.reduceSub, Int.reduceLT, Int.reduceEq, Int.reduceToNat, if_true, if_false, ite_true, ite_false, and_false, false_and, ge_iff_le, gt_iff_lt, ex_iconst, ofi, ex_istore_1, lI_z, lI_s, st1_z, st1_u, st1_i, st1_r, st1_n, st1_q, st1_l1, st1_l2, ex_istore_2, ex_iload_2, ex_aload_0, lA_r, lA_n, lA_q, lA_s, ex_getfield, ab_obj, gv_0, gv_1, gv_2, gv_3, rf_s, rf_n, fd_8_13_8, ex_iaload, ex_ic_ge, ex_bipush, bp_28, ex_i2l, ex_is2 ab_ls_8_260 ab_ln_8_260, ex_if_ne, z0, bp_16, ex_iadd, bp_35, ex_ic_ne, bp_26, bp_21, ex_ic_le, ex_goto, ex_dup2, ex_ishl, ex_ior, ex_iastore, ab_arr, ex_iinc, ex_iload_1, ex_iret, rk_i, rk_l, rk_z, rk_z0', rk_z1', rk_v, rk_r, rk_n, rk_q, vc_s dX9_doesErrands_0, vc_s dX9_doesErrands_1, vc_s dX9_doesErrands_2, vc_s dX9_doesErrands_3, vc_s dX9_doesErrands_4, vc_s dX9_doesErrands_5, vc_s dX9_doesErrands_6, vc_s dX9_doesErrands_9, vc_s dX9_doesErrands_10, vc_s dX9_doesErrands_11, vc_s dX9_doesErrands_14, vc_s dX9_doesErrands_15, vc_s dX9_doesErrands_18, vc_s dX9_doesErrands_20, vc_s dX9_doesErrands_21, vc_s dX9_doesErrands_22, vc_s dX9_doesErrands_23, vc_s dX9_doesErrands_26, vc_s dX9_doesErrands_29, vc_s dX9_doesErrands_30, vc_s dX9_doesErrands_33, vc_s dX9_doesErrands_35, vc_s dX9_doesErrands_36, vc_s dX9_doesErrands_37, vc_s dX9_doesErrands_38, vc_s dX9_doesErrands_39, vc_s dX9_doesErrands_42, vc_s dX9_doesErrands_44, vc_s dX9_doesErrands_45, vc_s dX9_doesErrands_46, vc_s dX9_doesErrands_47, vc_s dX9_doesErrands_50, vc_s dX9_doesErrands_51, vc_s dX9_doesErrands_54, vc_s dX9_doesErrands_56, vc_s dX9_doesErrands_57, vc_s dX9_doesErrands_58, vc_s dX9_doesErrands_61, vc_s dX9_doesErrands_63, vc_s dX9_doesErrands_64, vc_s dX9_doesErrands_65, vc_s dX9_doesErrands_66, vc_s dX9_doesErrands_69, vc_s dX9_doesErrands_72, vc_s dX9_doesErrands_73, vc_s dX9_doesErrands_76, vc_s dX9_doesErrands_78, vc_s dX9_doesErrands_79, vc_s dX9_doesErrands_80, vc_s dX9_doesErrands_81, vc_s dX9_doesErrands_82, vc_s dX9_doesErrands_83, vc_s dX9_doesErrands_84, vc_s dX9_doesErrands_85, vc_s dX9_doesErrands_88, vc_s dX9_doesErrands_91, vc_s dX9_doesErrands_94, vc_s dX9_doesErrands_95, si_h hS', sT_154, sT_155, sr_154_1 hS', e3, hk, forall_const, true_implies, false_implies, not_true_eq_false, not_false_eq_true, Classical.not_not]
    have ep : p = (ai M 155 3).toNat := by omega
    subst ep
    exact hQ M' hM hr
  | succ n ih =>
    intro p M' hp hM hr
    have hS' := hM.si hS
    have hk : ¬ ai M 155 3 ≤ (p : Int) := by omega
    have e : ∀ j, j ≠ 28 → ai M' 155 j = ai M 155 j := fun j hj => by rw [hr, up_n hj]
    have e3 := e 3 (by omega)
    have e16 := e (16 + p) (by omega)
    have e35 := e (35 + p) (by omega)
    have e26 := e 26 (by omega)
    have e21 := e (21 + p) (by omega)
    have e28 : ai M' 155 28 = (sp_es (ai M 155) p : Nat) := by rw [hr, up_e]
    have hb := sp_es_b h28 p (by omega)
    have hgo := hgo p (by omega)
    have hby := hby p (by omega)
    have hat := hat p (by omega)
    have en : (p : Int) + 1 = ((p + 1 : Nat) : Int) := by omega
    have hpop := pop_b (m := sp_es (ai M 155) p)
    have hpop2 := pop_b (m := (ai M 155 28).toNat)
    have h31 := ai_hi M 155 26
    refine ab_go [(), (), (), (), (), (), (), (), (), (), (), (), (), (), (), (), (), (), (), (), (), (), (), (), (), (), (), (), (), (), (), (), (), (), (), (), (), (), (), (), (), (), (), (), (), (), (), (), (), (), (), ()] (fun p => p == 4) ?_
    simp (disch := omega) only [or_false, false_or, or_true, true_or, or_self, cond_false, cond_true, Bool.or_false, Bool.false_or, Bool.or_self, Bool.or_true, Bool.true_or, true_and, and_true, and_self, not_true_eq_false, not_false_eq_true, List.length_cons, List.length_nil, sz_i, sz_l, sz_r, sz_n, sz_q, sz_0, Option.toList_some, Option.toList_none, List.cons_append, List.nil_append, Nat.reduceAdd, Nat.reduceSub, Nat.reduceMul, Nat.reduceLT, Nat.reduceLeDiff, Nat.reduceEqDiff, Nat.reduceBEq, Int.reduceAdd, Int.reduceToNat, Int.reduceLE, Int.reduceNeg, Int.cast_ofNat_Int, en_l, en_i, en_r, en_n, en_q, en_0, en_s, I_wI, I_wL, I_wR, I_rI, I_rL, I_nw, L_wI, L_wL, L_wR, L_rI, L_rL, L_nw, R_wI, R_wL, R_wR, R_rI, R_rL, R_nw, h_wI, h_wL, h_wR, h_rI, h_rL, h_nw, z_wI, z_wL, z_wR, z_rI, z_rL, z_nw, zi_toInt, zl_toInt, al_wI, al_wR, al_rI, al_wL, al_rL, al_nw, ai_wI, ai_wL, ai_wR, ai_rI, ai_rL, ai_nw, zi_neg, zl_neg, zi_ai, zl_al, tn1, tn2, Int.toNat_natCast, zi_add, zi_sub, zi_mul, zi_rm, zi_div, zi_lt, zi_le, zi_eq, zi_cl, zi_in, zi_l, zl_i, zl_add, zl_sub, zl_mul, zl_lt, zl_le, zl_eq, zl_rm, zl_div, I_ai, L_al, z0, z1, w0, w1, lg_lt', lg_gt', lg_ge', lg_le', lg_eq', ab_b_0, Int.reduceMul, Int.reduceSub, Int.reduceLT, Int.reduceEq, Int.reduceToNat, if_true, if_false, ite_true, ite_false, and_false, false_and, ge_iff_le, gt_iff_lt, ex_iconst, ofi, ex_istore_1, lI_z, lI_s, st1_z, st1_u, st1_i, st1_r, st1_n, st1_q, st1_l1, st1_l2, ex_istore_2, ex_iload_2, ex_aload_0, lA_r, lA_n, lA_q, lA_s, ex_getfield, ab_obj, gv_0, gv_1, gv_2, gv_3, rf_s, rf_n, fd_8_13_8, ex_iaload, ex_ic_ge, ex_bipush, bp_28, ex_i2l, ex_is2 ab_ls_8_260 ab_ln_8_260, ex_if_ne, z0, bp_16, ex_iadd, bp_35, ex_ic_ne, bp_26, bp_21, ex_ic_le, ex_goto, ex_dup2, ex_ishl, ex_ior, ex_iastore, ab_arr, ex_iinc, ex_iload_1, ex_iret, rk_i, rk_l, rk_z, rk_z0', rk_z1', rk_v, rk_r, rk_n, rk_q, vc_s dX9_doesErrands_0, vc_s dX9_doesErrands_1, vc_s dX9_doesErrands_2, vc_s dX9_doesErrands_3, vc_s dX9_doesErrands_4, vc_s dX9_doesErrands_5, vc_s dX9_doesErrands_6, vc_s dX9_doesErrands_9, vc_s dX9_doesErrands_10, vc_s dX9_doesErrands_11, vc_s dX9_doesErrands_14, vc_s dX9_doesErrands_15, vc_s dX9_doesErrands_18, vc_s dX9_doesErrands_20, vc_s dX9_doesErrands_21, vc_s dX9_doesErrands_22, vc_s dX9_doesErrands_23, vc_s dX9_doesErrands_26, vc_s dX9_doesErrands_29, vc_s dX9_doesErrands_30, vc_s dX9_doesErrands_33, vc_s dX9_doesErrands_35, vc_s dX9_doesErrands_36, vc_s dX9_doesErrands_37, vc_s dX9_doesErrands_38, vc_s dX9_doesErrands_39, vc_s dX9_doesErrands_42, vc_s dX9_doesErrands_44, vc_s dX9_doesErrands_45, vc_s dX9_doesErrands_46, vc_s dX9_doesErrands_47, vc_s dX9_doesErrands_50, vc_s dX9_doesErrands_51, vc_s dX9_doesErrands_54, vc_s dX9_doesErrands_56, vc_s dX9_doesErrands_57, vc_s dX9_doesErrands_58, vc_s dX9_doesErrands_61, vc_s dX9_doesErrands_63, vc_s dX9_doesErrands_64, vc_s dX9_doesErrands_65, vc_s dX9_doesErrands_66, vc_s dX9_doesErrands_69, vc_s dX9_doesErrands_72, vc_s dX9_doesErrands_73, vc_s dX9_doesErrands_76, vc_s dX9_doesErrands_78, vc_s dX9_doesErrands_79, vc_s dX9_doesErrands_80, vc_s dX9_doesErrands_81, vc_s dX9_doesErrands_82, vc_s dX9_doesErrands_83, vc_s dX9_doesErrands_84, vc_s dX9_doesErrands_85, vc_s dX9_doesErrands_88, vc_s dX9_doesErrands_91, vc_s dX9_doesErrands_94, vc_s dX9_doesErrands_95, si_h hS', sT_154, sT_155, sr_154_1 hS', e3, e28, hk, forall_const, true_implies, false_implies, not_true_eq_false, not_false_eq_true, Classical.not_not]
    refine isIn_w (by omega) (by omega) ?_
    simp (disch := omega) only [or_false, false_or, or_true, true_or, or_self, cond_false, cond_true, Bool.or_false, Bool.false_or, Bool.or_self, Bool.or_true, Bool.true_or, true_and, and_true, and_self, not_true_eq_false, not_false_eq_true, List.length_cons, List.length_nil, sz_i, sz_l, sz_r, sz_n, sz_q, sz_0, Option.toList_some, Option.toList_none, List.cons_append, List.nil_append, Nat.reduceAdd, Nat.reduceSub, Nat.reduceMul, Nat.reduceLT, Nat.reduceLeDiff, Nat.reduceEqDiff, Nat.reduceBEq, Int.reduceAdd, Int.reduceToNat, Int.reduceLE, Int.reduceNeg, Int.cast_ofNat_Int, en_l, en_i, en_r, en_n, en_q, en_0, en_s, I_wI, I_wL, I_wR, I_rI, I_rL, I_nw, L_wI, L_wL, L_wR, L_rI, L_rL, L_nw, R_wI, R_wL, R_wR, R_rI, R_rL, R_nw, h_wI, h_wL, h_wR, h_rI, h_rL, h_nw, z_wI, z_wL, z_wR, z_rI, z_rL, z_nw, zi_toInt, zl_toInt, al_wI, al_wR, al_rI, al_wL, al_rL, al_nw, ai_wI, ai_wL, ai_wR, ai_rI, ai_rL, ai_nw, zi_neg, zl_neg, zi_ai, zl_al, tn1, tn2, Int.toNat_natCast, zi_add, zi_sub, zi_mul, zi_rm, zi_div, zi_lt, zi_le, zi_eq, zi_cl, zi_in, zi_l, zl_i, zl_add, zl_sub, zl_mul, zl_lt, zl_le, zl_eq, zl_rm, zl_div, I_ai, L_al, z0, z1, w0, w1, lg_lt', lg_gt', lg_ge', lg_le', lg_eq', ab_b_0, Int.reduceMul, Int.reduceSub, Int.reduceLT, Int.reduceEq, Int.reduceToNat, if_true, if_false, ite_true, ite_false, and_false, false_and, ge_iff_le, gt_iff_lt, ex_iconst, ofi, ex_istore_1, lI_z, lI_s, st1_z, st1_u, st1_i, st1_r, st1_n, st1_q, st1_l1, st1_l2, ex_istore_2, ex_iload_2, ex_aload_0, lA_r, lA_n, lA_q, lA_s, ex_getfield, ab_obj, gv_0, gv_1, gv_2, gv_3, rf_s, rf_n, fd_8_13_8, ex_iaload, ex_ic_ge, ex_bipush, bp_28, ex_i2l, ex_is2 ab_ls_8_260 ab_ln_8_260, ex_if_ne, z0, bp_16, ex_iadd, bp_35, ex_ic_ne, bp_26, bp_21, ex_ic_le, ex_goto, ex_dup2, ex_ishl, ex_ior, ex_iastore, ab_arr, ex_iinc, ex_iload_1, ex_iret, rk_i, rk_l, rk_z, rk_z0', rk_z1', rk_v, rk_r, rk_n, rk_q, vc_s dX9_doesErrands_0, vc_s dX9_doesErrands_1, vc_s dX9_doesErrands_2, vc_s dX9_doesErrands_3, vc_s dX9_doesErrands_4, vc_s dX9_doesErrands_5, vc_s dX9_doesErrands_6, vc_s dX9_doesErrands_9, vc_s dX9_doesErrands_10, vc_s dX9_doesErrands_11, vc_s dX9_doesErrands_14, vc_s dX9_doesErrands_15, vc_s dX9_doesErrands_18, vc_s dX9_doesErrands_20, vc_s dX9_doesErrands_21, vc_s dX9_doesErrands_22, vc_s dX9_doesErrands_23, vc_s dX9_doesErrands_26, vc_s dX9_doesErrands_29, vc_s dX9_doesErrands_30, vc_s dX9_doesErrands_33, vc_s dX9_doesErrands_35, vc_s dX9_doesErrands_36, vc_s dX9_doesErrands_37, vc_s dX9_doesErrands_38, vc_s dX9_doesErrands_39, vc_s dX9_doesErrands_42, vc_s dX9_doesErrands_44, vc_s dX9_doesErrands_45, vc_s dX9_doesErrands_46, vc_s dX9_doesErrands_47, vc_s dX9_doesErrands_50, vc_s dX9_doesErrands_51, vc_s dX9_doesErrands_54, vc_s dX9_doesErrands_56, vc_s dX9_doesErrands_57, vc_s dX9_doesErrands_58, vc_s dX9_doesErrands_61, vc_s dX9_doesErrands_63, vc_s dX9_doesErrands_64, vc_s dX9_doesErrands_65, vc_s dX9_doesErrands_66, vc_s dX9_doesErrands_69, vc_s dX9_doesErrands_72, vc_s dX9_doesErrands_73, vc_s dX9_doesErrands_76, vc_s dX9_doesErrands_78, vc_s dX9_doesErrands_79, vc_s dX9_doesErrands_80, vc_s dX9_doesErrands_81, vc_s dX9_doesErrands_82, vc_s dX9_doesErrands_83, vc_s dX9_doesErrands_84, vc_s dX9_doesErrands_85, vc_s dX9_doesErrands_88, vc_s dX9_doesErrands_91, vc_s dX9_doesErrands_94, vc_s dX9_doesErrands_95, si_h hS', sT_154, sT_155, sr_154_1 hS', e3, e16, e35, e26, e21, e28, hk, zi_1shl, zi_sb, en]
    have same : sp_es (ai M 155) (p + 1) = sp_es (ai M 155) p → ab_Wp l g (d + 1 + 1) 8 false cX9_doesErrands 3 4 [some (.ref 154), some (.int (zi (pop (sp_es (ai M 155) p) - pop (ai M 155 28).toNat))), some (.int (zi ((p + 1 : Nat) : Int)))] [] M' (fun v M' => ab_rk (some .int) v ∧ Q v M') := by
      intro q
      have := ih (p + 1) M' (by omega) hM (by rw [q]; exact hr)
      rw [q] at this
      exact this
    refine ⟨fun c => same ?_, fun c => ⟨by omega, by omega, fun c2 => same ?_, fun c2 => ⟨by omega, fun c3 => ?_, fun c3 => same ?_⟩⟩⟩
    · have c := Classical.not_not.mp c
      show (if sp_at _ _ = true then _ else _) = _
      split
      · exact sb_has c
      · rfl
    · exact if_neg (fun q => c2 (sp_at_iff.mp q).1)
    · have q : sp_es (ai M 155) (p + 1) = sb (sp_es (ai M 155) p) p := if_pos (sp_at_iff.mpr ⟨Classical.not_not.mp c2, c3⟩)
      have h5 := sb_lt5 hb (show p < 5 by omega)
      have q2 := pop_sb (show sp_es (ai M 155) p < 512 by omega) (show p < 9 by omega) (by simpa using c)
      have := ih (p + 1) (ab_wI M' 155 28 (zi (sb (sp_es (ai M 155) p) p : Nat))) (by omega) (hM.trans (fr.wI ⟨rfl, rfl⟩)) (by rw [row_wI (by omega) (by omega), hr, q]; funext j; unfold up; split <;> rfl)
      rw [q, q2] at this
      have e9 : pop (sp_es (ai M 155) p) + 1 - pop (ai M 155 28).toNat = pop (sp_es (ai M 155) p) - pop (ai M 155 28).toNat + 1 := by omega
      rw [e9] at this
      exact this
    · exact if_neg (fun q => c3 (sp_at_iff.mp q).2)
theorem doesErrands_w {d : Nat} {B : Int} (hS : ab_SI M) (hR : sp_ok B (ai M 155)) (hQ : ∀ M', fr (fun a k => a = 155 ∧ k = 28) M M' → ai M' 155 = up (ai M 155) 28 (sp_eset (ai M 155)) → Q (some (.int (zi (pop (sp_eset (ai M 155)) - pop (ai M 155 28).toNat)))) M') : ab_Cw l g (d + 2) mX9_doesErrands [.ref 154] M Q := by
  have h28 := hR.2.2.2.2.2.2.2.2.2.2.1
  have hP := hR.2.2.1
  have := errs_loop (l := l) (g := g) (d := d) hS hR hQ (ai M 155 3).toNat 0 M (by omega) fr.rfl' (by funext j; unfold up sp_es; split <;> (try subst j); omega; rfl)
  refine ab_cw me_144 rfl (by decide) (fun h => by cases h) rfl (Nat.le_of_ble_eq_true rfl) ?_
  refine ab_go [(), (), (), (), ()] (fun p => p == 4) ?_
  simp (disch := omega) only [or_false, false_or, or_true, true_or, or_self, cond_false, cond_true, Bool.or_false, Bool.false_or, Bool.or_self, Bool.or_true, Bool.true_or, true_and, and_true, and_self, not_true_eq_false, not_false_eq_true, List.length_cons, List.length_nil, sz_i, sz_l, sz_r, sz_n, sz_q, sz_0, Option.toList_some, Option.toList_none, List.cons_append, List.nil_append, Nat.reduceAdd, Nat.reduceSub, Nat.reduceMul, Nat.reduceLT, Nat.reduceLeDiff, Nat.reduceEqDiff, Nat.reduceBEq, Int.reduceAdd, Int.reduceToNat, Int.reduceLE, Int.reduceNeg, Int.cast_ofNat_Int, en_l, en_i, en_r, en_n, en_q, en_0, en_s, I_wI, I_wL, I_wR, I_rI, I_rL, I_nw, L_wI, L_wL, L_wR, L_rI, L_rL, L_nw, R_wI, R_wL, R_wR, R_rI, R_rL, R_nw, h_wI, h_wL, h_wR, h_rI, h_rL, h_nw, z_wI, z_wL, z_wR, z_rI, z_rL, z_nw, zi_toInt, zl_toInt, al_wI, al_wR, al_rI, al_wL, al_rL, al_nw, ai_wI, ai_wL, ai_wR, ai_rI, ai_rL, ai_nw, zi_neg, zl_neg, zi_ai, zl_al, tn1, tn2, Int.toNat_natCast, zi_add, zi_sub, zi_mul, zi_rm, zi_div, zi_lt, zi_le, zi_eq, zi_cl, zi_in, zi_l, zl_i, zl_add, zl_sub, zl_mul, zl_lt, zl_le, zl_eq, zl_rm, zl_div, I_ai, L_al, z0, z1, w0, w1, lg_lt', lg_gt', lg_ge', lg_le', lg_eq', ab_b_0, Int.reduceMul, Int.reduceSub, Int.reduceLT, Int.reduceEq, Int.reduceToNat, if_true, if_false, ite_true, ite_false, and_false, false_and, ge_iff_le, gt_iff_lt, ex_iconst, ofi, ex_istore_1, lI_z, lI_s, st1_z, st1_u, st1_i, st1_r, st1_n, st1_q, st1_l1, st1_l2, ex_istore_2, ex_iload_2, ex_aload_0, lA_r, lA_n, lA_q, lA_s, ex_getfield, ab_obj, gv_0, gv_1, gv_2, gv_3, rf_s, rf_n, fd_8_13_8, ex_iaload, ex_ic_ge, ex_bipush, bp_28, ex_i2l, ex_is2 ab_ls_8_260 ab_ln_8_260, ex_if_ne, z0, bp_16, ex_iadd, bp_35, ex_ic_ne, bp_26, bp_21, ex_ic_le, ex_goto, ex_dup2, ex_ishl, ex_ior, ex_iastore, ab_arr, ex_iinc, ex_iload_1, ex_iret, rk_i, rk_l, rk_z, rk_z0', rk_z1', rk_v, rk_r, rk_n, rk_q, vc_s dX9_doesErrands_0, vc_s dX9_doesErrands_1, vc_s dX9_doesErrands_2, vc_s dX9_doesErrands_3, vc_s dX9_doesErrands_4, vc_s dX9_doesErrands_5, vc_s dX9_doesErrands_6, vc_s dX9_doesErrands_9, vc_s dX9_doesErrands_10, vc_s dX9_doesErrands_11, vc_s dX9_doesErrands_14, vc_s dX9_doesErrands_15, vc_s dX9_doesErrands_18, vc_s dX9_doesErrands_20, vc_s dX9_doesErrands_21, vc_s dX9_doesErrands_22, vc_s dX9_doesErrands_23, vc_s dX9_doesErrands_26, vc_s dX9_doesErrands_29, vc_s dX9_doesErrands_30, vc_s dX9_doesErrands_33, vc_s dX9_doesErrands_35, vc_s dX9_doesErrands_36, vc_s dX9_doesErrands_37, vc_s dX9_doesErrands_38, vc_s dX9_doesErrands_39, vc_s dX9_doesErrands_42, vc_s dX9_doesErrands_44, vc_s dX9_doesErrands_45, vc_s dX9_doesErrands_46, vc_s dX9_doesErrands_47, vc_s dX9_doesErrands_50, vc_s dX9_doesErrands_51, vc_s dX9_doesErrands_54, vc_s dX9_doesErrands_56, vc_s dX9_doesErrands_57, vc_s dX9_doesErrands_58, vc_s dX9_doesErrands_61, vc_s dX9_doesErrands_63, vc_s dX9_doesErrands_64, vc_s dX9_doesErrands_65, vc_s dX9_doesErrands_66, vc_s dX9_doesErrands_69, vc_s dX9_doesErrands_72, vc_s dX9_doesErrands_73, vc_s dX9_doesErrands_76, vc_s dX9_doesErrands_78, vc_s dX9_doesErrands_79, vc_s dX9_doesErrands_80, vc_s dX9_doesErrands_81, vc_s dX9_doesErrands_82, vc_s dX9_doesErrands_83, vc_s dX9_doesErrands_84, vc_s dX9_doesErrands_85, vc_s dX9_doesErrands_88, vc_s dX9_doesErrands_91, vc_s dX9_doesErrands_94, vc_s dX9_doesErrands_95]
  have e0 : pop (sp_es (ai M 155) 0) - pop (ai M 155 28).toNat = 0 := by unfold sp_es; omega
  rw [e0] at this
  exact this
/-! an hour -/
noncomputable def sp_move (f : Nat → Int) (p : Nat) : Nat → Int := up (if sp_told f p (f (40 + p)) = 0 then up f (35 + p) (sp_leads f (f (35 + p)) (f (40 + p)) (sp_span f (f 26))) else f) (40 + p) 0
noncomputable def sp_moves (f : Nat → Int) : Nat → (Nat → Int)
  | 0 => f
  | p + 1 => sp_move (sp_moves f p) p
def sp_tick (f : Nat → Int) : Nat → Int := if 0 < f 27 then up (up f 26 (f 26 + 1)) 27 (f 27 - 1) else up f 26 (f 26 + 1)
noncomputable def sp_hr1 (f : Nat → Int) : Nat → Int := sp_tick (sp_moves f (f 3).toNat)
/-- an hour later -/
noncomputable def sp_hour (f : Nat → Int) : Nat → Int := up (sp_hr1 f) 28 (sp_eset (sp_hr1 f))
noncomputable def sp_hourN (f : Nat → Int) : Int := pop (sp_eset (sp_hr1 f)) - pop (f 28).toNat
end M35
