/-! ===== the class: states ===== -/
def isSt (a : Nat) : Prop := a = 80 ∨ a = 84 ∨ (90 ≤ a ∧ a ≤ 150 ∧ a % 4 = 2 ∧ (a ≤ 126 ∨ 146 ≤ a))
def StS (M : ab_M) (a : Nat) : Prop := ab_h M a = some (6, 7) ∧ ab_R M a 0 = some (a + 1) ∧ ab_h M (a + 1) = some (64, 6) ∧ ab_R M a 1 = some (a + 2) ∧ ab_h M (a + 2) = some (64, 5) ∧ ab_R M a 2 = some (a + 3) ∧ ab_h M (a + 3) = some (64, 5) ∧ ab_R M a 6 = some 64
theorem StS_of {M : ab_M} {a : Nat} (hS : ab_SI M) (h : isSt a) : StS M a := by
  have hh : ∀ a, 64 ≤ a → a < 179 → ab_h M a = ab_sT a := hS.2.1
  have k : a = 80 ∨ a = 84 ∨ a = 90 ∨ a = 94 ∨ a = 98 ∨ a = 102 ∨ a = 106 ∨ a = 110 ∨ a = 114 ∨ a = 118 ∨ a = 122 ∨ a = 126 ∨ a = 146 ∨ a = 150 := by unfold isSt at h; omega
  unfold StS
  rw [hh a (by omega) (by omega), hh (a + 1) (by omega) (by omega), hh (a + 2) (by omega) (by omega), hh (a + 3) (by omega) (by omega)]
  rcases k with rfl | rfl | rfl | rfl | rfl | rfl | rfl | rfl | rfl | rfl | rfl | rfl | rfl | rfl
  · exact ⟨rfl, sr_80_0 hS, rfl, sr_80_1 hS, rfl, sr_80_2 hS, rfl, sr_80_6 hS⟩
  · exact ⟨rfl, sr_84_0 hS, rfl, sr_84_1 hS, rfl, sr_84_2 hS, rfl, sr_84_6 hS⟩
  · exact ⟨rfl, sr_90_0 hS, rfl, sr_90_1 hS, rfl, sr_90_2 hS, rfl, sr_90_6 hS⟩
  · exact ⟨rfl, sr_94_0 hS, rfl, sr_94_1 hS, rfl, sr_94_2 hS, rfl, sr_94_6 hS⟩
  · exact ⟨rfl, sr_98_0 hS, rfl, sr_98_1 hS, rfl, sr_98_2 hS, rfl, sr_98_6 hS⟩
  · exact ⟨rfl, sr_102_0 hS, rfl, sr_102_1 hS, rfl, sr_102_2 hS, rfl, sr_102_6 hS⟩
  · exact ⟨rfl, sr_106_0 hS, rfl, sr_106_1 hS, rfl, sr_106_2 hS, rfl, sr_106_6 hS⟩
  · exact ⟨rfl, sr_110_0 hS, rfl, sr_110_1 hS, rfl, sr_110_2 hS, rfl, sr_110_6 hS⟩
  · exact ⟨rfl, sr_114_0 hS, rfl, sr_114_1 hS, rfl, sr_114_2 hS, rfl, sr_114_6 hS⟩
  · exact ⟨rfl, sr_118_0 hS, rfl, sr_118_1 hS, rfl, sr_118_2 hS, rfl, sr_118_6 hS⟩
  · exact ⟨rfl, sr_122_0 hS, rfl, sr_122_1 hS, rfl, sr_122_2 hS, rfl, sr_122_6 hS⟩
  · exact ⟨rfl, sr_126_0 hS, rfl, sr_126_1 hS, rfl, sr_126_2 hS, rfl, sr_126_6 hS⟩
  · exact ⟨rfl, sr_146_0 hS, rfl, sr_146_1 hS, rfl, sr_146_2 hS, rfl, sr_146_6 hS⟩
  · exact ⟨rfl, sr_150_0 hS, rfl, sr_150_1 hS, rfl, sr_150_2 hS, rfl, sr_150_6 hS⟩
/-- where a state's row lies -/
def l1 (j : Nat) : Nat := if j < 29 then 0 else if j < 35 then 1 else if j < 40 then 2 else 3
def l2 (j : Nat) : Nat := if j = 26 then 5 else if j = 27 then 4 else if j = 28 then 3 else if j < 35 then j - 29 else if j < 40 then j - 35 else j - 40
theorem l_inj : ∀ i, i < 45 → ∀ j, j < 45 → 26 ≤ i → 26 ≤ j → l1 i = l1 j → l2 i = l2 j → i = j := by decide +kernel
theorem l_le : ∀ j, l1 j ≤ 3 := by
  intro j
  unfold l1
  (repeat' split) <;> omega
theorem l_pl : ∀ k, k < 6 → l1 (29 + k) = 1 ∧ l2 (29 + k) = k := by decide
theorem l_at : ∀ k, k < 5 → l1 (35 + k) = 2 ∧ l2 (35 + k) = k := by decide
theorem l_tl : ∀ k, k < 5 → l1 (40 + k) = 3 ∧ l2 (40 + k) = k := by decide
/-- the state at a holds what the row f says -/
def StV (M : ab_M) (a : Nat) (f : Nat → Int) : Prop := ∀ j, 26 ≤ j → j < 45 → ai M (a + l1 j) (l2 j) = f j
section STV
variable {M M' : ab_M} {a : Nat} {f f' : Nat → Int}
theorem StV.pl (h : StV M a f) {k : Nat} (hk : k < 6) : ai M (a + 1) k = f (29 + k) := by
  have := h (29 + k) (by omega) (by omega)
  rwa [(l_pl k hk).1, (l_pl k hk).2] at this
theorem StV.at (h : StV M a f) {k : Nat} (hk : k < 5) : ai M (a + 2) k = f (35 + k) := by
  have := h (35 + k) (by omega) (by omega)
  rwa [(l_at k hk).1, (l_at k hk).2] at this
theorem StV.tl (h : StV M a f) {k : Nat} (hk : k < 5) : ai M (a + 3) k = f (40 + k) := by
  have := h (40 + k) (by omega) (by omega)
  rwa [(l_tl k hk).1, (l_tl k hk).2] at this
theorem StV.hr (h : StV M a f) : ai M a 5 = f 26 := h 26 (by omega) (by omega)
theorem StV.fg (h : StV M a f) : ai M a 4 = f 27 := h 27 (by omega) (by omega)
theorem StV.dn (h : StV M a f) : ai M a 3 = f 28 := h 28 (by omega) (by omega)
theorem StV.of (h26 : ai M a 5 = f 26) (h27 : ai M a 4 = f 27) (h28 : ai M a 3 = f 28) (hp : ∀ k, k < 6 → ai M (a + 1) k = f (29 + k)) (ha : ∀ k, k < 5 → ai M (a + 2) k = f (35 + k)) (ht : ∀ k, k < 5 → ai M (a + 3) k = f (40 + k)) : StV M a f := by
  intro j h1 h2
  by_cases c1 : j < 29
  · rcases (show j = 26 ∨ j = 27 ∨ j = 28 by omega) with rfl | rfl | rfl
    · exact h26
    · exact h27
    · exact h28
  · by_cases c2 : j < 35
    · obtain ⟨k, rfl⟩ : ∃ k, j = 29 + k := ⟨j - 29, by omega⟩
      rw [(l_pl k (by omega)).1, (l_pl k (by omega)).2]
      exact hp k (by omega)
    · by_cases c3 : j < 40
      · obtain ⟨k, rfl⟩ : ∃ k, j = 35 + k := ⟨j - 35, by omega⟩
        rw [(l_at k (by omega)).1, (l_at k (by omega)).2]
        exact ha k (by omega)
      · obtain ⟨k, rfl⟩ : ∃ k, j = 40 + k := ⟨j - 40, by omega⟩
        rw [(l_tl k (by omega)).1, (l_tl k (by omega)).2]
        exact ht k (by omega)
theorem StV.fr {S : Nat → Nat → Prop} (h : StV M a f) (hM : fr S M M') (hs : ∀ x k, S x k → x < a ∨ a + 3 < x) : StV M' a f := by
  intro j h1 h2
  rw [hM.ai (fun q => by have := hs _ _ q; have := l_le j; omega)]
  exact h j h1 h2
theorem StV.row (h : StV M a f) (e : ∀ j, 26 ≤ j → j < 45 → f' j = f j) : StV M a f' := by
  intro j h1 h2
  rw [e j h1 h2]
  exact h j h1 h2
theorem StV.put (h : StV M a f) {i x k : Nat} {v : Int} (h1 : 26 ≤ i) (h2 : i < 45) (e1 : x = a + l1 i) (e2 : k = l2 i) (v0 : -2147483648 ≤ v) (v1 : v ≤ 2147483647) : StV (ab_wI M x k (zi v)) a (up f i v) := by
  subst e1 e2
  intro j h3 h4
  rw [ai_wI]
  by_cases c : j = i
  · subst c
    rw [if_pos ⟨rfl, rfl⟩, up_e, zi_toInt v0 v1]
  · rw [if_neg (fun q => c (l_inj j h4 i h2 h3 h1 (by omega) q.2)), up_n c]
    exact h j h3 h4
theorem StV.putAt (h : StV M a f) {k : Nat} {v : Int} (hk : k < 5) (v0 : -2147483648 ≤ v) (v1 : v ≤ 2147483647) : StV (ab_wI M (a + 2) k (zi v)) a (up f (35 + k) v) := h.put (by omega) (by omega) (by rw [(l_at k hk).1]) (by rw [(l_at k hk).2]) v0 v1
theorem StV.putTl (h : StV M a f) {k : Nat} {v : Int} (hk : k < 5) (v0 : -2147483648 ≤ v) (v1 : v ≤ 2147483647) : StV (ab_wI M (a + 3) k (zi v)) a (up f (40 + k) v) := h.put (by omega) (by omega) (by rw [(l_tl k hk).1]) (by rw [(l_tl k hk).2]) v0 v1
theorem StV.putPl (h : StV M a f) {k : Nat} {v : Int} (hk : k < 6) (v0 : -2147483648 ≤ v) (v1 : v ≤ 2147483647) : StV (ab_wI M (a + 1) k (zi v)) a (up f (29 + k) v) := h.put (by omega) (by omega) (by rw [(l_pl k hk).1]) (by rw [(l_pl k hk).2]) v0 v1
theorem StV.putHr (h : StV M a f) {v : Int} (v0 : -2147483648 ≤ v) (v1 : v ≤ 2147483647) : StV (ab_wI M a 5 (zi v)) a (up f 26 v) := h.put (by omega) (by omega) rfl rfl v0 v1
theorem StV.putFg (h : StV M a f) {v : Int} (v0 : -2147483648 ≤ v) (v1 : v ≤ 2147483647) : StV (ab_wI M a 4 (zi v)) a (up f 27 v) := h.put (by omega) (by omega) rfl rfl v0 v1
theorem StV.putDn (h : StV M a f) {v : Int} (v0 : -2147483648 ≤ v) (v1 : v ≤ 2147483647) : StV (ab_wI M a 3 (zi v)) a (up f 28 v) := h.put (by omega) (by omega) rfl rfl v0 v1
end STV
theorem ai_cp {M : ab_M} {b k n : Nat} {q : Nat → Int32} (hk : k < n) : (va_cpy (ab_I M b) q 0 0 n k).toInt = ai M b k := by
  unfold va_cpy
  rw [if_pos ⟨Nat.zero_le _, by omega⟩, Nat.zero_add, Nat.sub_zero]
  rfl
/-- what a state's own work writes -/
def SS (a w : Nat) : Nat → Nat → Prop := fun x _ => x = w ∨ (a ≤ x ∧ x ≤ a + 3)
section M66
variable {l : Launch} {g : ab_G} {M : ab_M} {Q : Option Value → ab_M → Prop}
theorem be_w {d a b : Nat} (hS : ab_SI M) (ha : isSt a) (hb : isSt b) (hn : a ≠ b) (hQ : ∀ M', fr (fun x _ => a ≤ x ∧ x ≤ a + 3) M M' → (∀ f, StV M b f → StV M' a f) → Q (some (.ref a)) M') : ab_Cw l g (d + 1) mX7_be [.ref a, .ref b] M Q := by
  obtain ⟨x0, x1, x2, x3, x4, x5, x6, -⟩ := StS_of hS ha
  obtain ⟨y0, y1, y2, y3, y4, y5, y6, -⟩ := StS_of hS hb
  unfold isSt at ha hb
  have n1 : ¬ b = a + 1 := by omega
  have n2 : ¬ b = a + 2 := by omega
  have n3 : ¬ b = a + 3 := by omega
  refine ab_cw me_106 rfl (by decide) (fun h => by cases h) rfl (Nat.le_of_ble_eq_true rfl) ?_
  refine ab_go [(), (), (), (), (), (), (), (), (), (), (), (), (), (), (), (), (), (), (), (), (), (), (), (), (), (), (), (), (), (), (), (), (), (), (), (), (), (), ()] (fun _ => false) ?_
  simp (disch := omega) only [or_false, false_or, or_true, true_or, or_self, cond_false, cond_true, Bool.or_false, Bool.false_or, Bool.or_self, Bool.or_true, Bool.true_or, true_and, and_true, and_self, not_true_eq_false, not_false_eq_true, List.length_cons, List.length_nil, sz_i, sz_l, sz_r, sz_n, sz_q, sz_0, Option.toList_some, Option.toList_none, List.cons_append, List.nil_append, Nat.reduceAdd, Nat.reduceSub, Nat.reduceMul, Nat.reduceLT, Nat.reduceLeDiff, Nat.reduceEqDiff, Nat.reduceBEq, Int.reduceAdd, Int.reduceToNat, Int.reduceLE, Int.reduceNeg, Int.cast_ofNat_Int, en_l, en_i, en_r, en_n, en_q, en_0, en_s, I_wI, I_wL, I_wR, I_rI, I_rL, I_nw, L_wI, L_wL, L_wR, L_rI, L_rL, L_nw, R_wI, R_wL, R_wR, R_rI, R_rL, R_nw, h_wI, h_wL, h_wR, h_rI, h_rL, h_nw, z_wI, z_wL, z_wR, z_rI, z_rL, z_nw, zi_toInt, zl_toInt, al_wI, al_wR, al_rI, al_wL, al_rL, al_nw, ai_wI, ai_wL, ai_wR, ai_rI, ai_rL, ai_nw, zi_neg, zl_neg, zi_ai, zl_al, tn1, tn2, Int.toNat_natCast, zi_add, zi_sub, zi_mul, zi_rm, zi_div, zi_lt, zi_le, zi_eq, zi_cl, zi_in, zi_l, zl_i, zl_add, zl_sub, zl_mul, zl_lt, zl_le, zl_eq, zl_rm, zl_div, I_ai, L_al, z0, z1, w0, w1, lg_lt', lg_gt', lg_ge', lg_le', lg_eq', ab_b_0, Int.reduceMul, Int.reduceSub, Int.reduceLT, Int.reduceEq, Int.reduceToNat, if_true, if_false, ite_true, ite_false, and_false, false_and, ge_iff_le, gt_iff_lt, ex_aload_1, lA_r, lA_n, lA_q, lA_s, ex_getfield, ab_obj, gv_0, gv_1, gv_2, gv_3, rf_s, rf_n, fd_6_15_6, ex_iconst, ofi, ex_aload_0, ex_bipush, bp_6, ex_ac ab_lc_6_25 (by decide +kernel), fd_6_19_6, fd_6_22_6, fd_6_31_6, ex_putfield, fin_6_3, pf_0, pf_1, pf_2r, pf_2n, pf_2q, pf_3, Bool.false_eq_true, false_implies, fd_6_35_6, fin_6_4, fd_6_38_6, fin_6_5, ex_aret, rk_i, rk_l, rk_z, rk_z0', rk_z1', rk_v, rk_r, rk_n, rk_q, rv_r, rv_n, ab_rv_rf, Option.isSome_some, vc_s dX7_be_0, vc_s dX7_be_1, vc_s dX7_be_4, vc_s dX7_be_5, vc_s dX7_be_6, vc_s dX7_be_9, vc_s dX7_be_10, vc_s dX7_be_12, vc_s dX7_be_15, vc_s dX7_be_16, vc_s dX7_be_19, vc_s dX7_be_20, vc_s dX7_be_21, vc_s dX7_be_24, vc_s dX7_be_25, vc_s dX7_be_26, vc_s dX7_be_29, vc_s dX7_be_30, vc_s dX7_be_33, vc_s dX7_be_34, vc_s dX7_be_35, vc_s dX7_be_38, vc_s dX7_be_39, vc_s dX7_be_40, vc_s dX7_be_43, vc_s dX7_be_44, vc_s dX7_be_45, vc_s dX7_be_48, vc_s dX7_be_51, vc_s dX7_be_52, vc_s dX7_be_53, vc_s dX7_be_56, vc_s dX7_be_59, vc_s dX7_be_60, vc_s dX7_be_61, vc_s dX7_be_64, vc_s dX7_be_67, vc_s dX7_be_68, x0, x1, x2, x3, x4, x5, x6, y0, y1, y2, y3, y4, y5, y6, n1, n2, n3, Bool.false_eq_true, forall_const, true_implies, false_implies, not_true_eq_false, not_false_eq_true, Classical.not_not, sT_80, sT_81, sT_82, sT_83, sT_84, sT_85, sT_86, sT_87, si_h hS, sr_80_0 hS, sr_84_0 hS, sr_80_1 hS, sr_84_1 hS, sr_80_2 hS, sr_84_2 hS]
  refine hQ _ ?_ ?_
  · refine ((((((fr.rI ?_).trans (fr.rI ?_)).trans (fr.rI ?_)).trans (fr.wI ?_)).trans (fr.wI ?_)).trans (fr.wI ?_)) <;> first | (intro k; omega) | omega
  · intro f hf
    refine StV.of ?_ ?_ ?_ (fun k hk => ?_) (fun k hk => ?_) (fun k hk => ?_)
    · simp only [ai_wI, ai_rI]
      simp
      rw [← hf.hr]; exact zi_ai ..
    · simp only [ai_wI, ai_rI]
      simp
      rw [← hf.fg]; exact zi_ai ..
    · simp only [ai_wI, ai_rI]
      simp
      rw [← hf.dn]; exact zi_ai ..
    · rw [ai_wI, if_neg (by omega), ai_wI, if_neg (by omega), ai_wI, if_neg (by omega), ai_rI, if_neg (by omega), ai_rI, if_neg (by omega), ai_rI, if_pos rfl, ai_cp hk]
      exact hf.pl hk
    · rw [ai_wI, if_neg (by omega), ai_wI, if_neg (by omega), ai_wI, if_neg (by omega), ai_rI, if_neg (by omega), ai_rI, if_pos rfl, ai_cp hk, ai_rI, if_neg (by omega)]
      exact hf.at hk
    · rw [ai_wI, if_neg (by omega), ai_wI, if_neg (by omega), ai_wI, if_neg (by omega), ai_rI, if_pos rfl, ai_cp hk, ai_rI, if_neg (by omega), ai_rI, if_neg (by omega)]
      exact hf.tl hk
theorem lies_w {d a r w : Nat} {f : Nat → Int} {B : Int} (h : CR M r w f) (hR : sp_ok B f) (hB : B ≤ 900000) (ha : isSt a) (hV : StV M a f) {n : Int} (n0 : 0 ≤ n) (n1 : n ≤ 1000) (hQ : Q (some (.int (zi (sp_span f (f 26 + n))))) M) : ab_Cw l g (d + 1) mX7_lies [.ref a, .int (zi n)] M Q := by
  obtain ⟨hS, h0, ⟨r1, -, -, -, -, ⟨-, i2, -⟩, -⟩, -⟩ := h
  obtain ⟨x0, x1, x2, -, -, -, -, x7⟩ := StS_of hS ha
  have v6 := hV.hr
  have hw := hR.w
  have hh := hR.hr
  have m1 := Int.emod_nonneg (f 26 + n) (show f 2 ≠ 0 by omega)
  have m2 := Int.emod_lt_of_pos (f 26 + n) (show 0 < f 2 by omega)
  have v := hV.pl (k := ((f 26 + n) % f 2).toNat) (by omega)
  refine ab_cw me_104 rfl (by decide) (fun h => by cases h) rfl (Nat.le_of_ble_eq_true rfl) ?_
  refine ab_go [(), (), (), (), (), (), (), (), (), (), (), (), (), ()] (fun _ => false) ?_
  simp (disch := omega) only [or_false, false_or, or_true, true_or, or_self, cond_false, cond_true, Bool.or_false, Bool.false_or, Bool.or_self, Bool.or_true, Bool.true_or, true_and, and_true, and_self, not_true_eq_false, not_false_eq_true, List.length_cons, List.length_nil, sz_i, sz_l, sz_r, sz_n, sz_q, sz_0, Option.toList_some, Option.toList_none, List.cons_append, List.nil_append, Nat.reduceAdd, Nat.reduceSub, Nat.reduceMul, Nat.reduceLT, Nat.reduceLeDiff, Nat.reduceEqDiff, Nat.reduceBEq, Int.reduceAdd, Int.reduceToNat, Int.reduceLE, Int.reduceNeg, Int.cast_ofNat_Int, en_l, en_i, en_r, en_n, en_q, en_0, en_s, I_wI, I_wL, I_wR, I_rI, I_rL, I_nw, L_wI, L_wL, L_wR, L_rI, L_rL, L_nw, R_wI, R_wL, R_wR, R_rI, R_rL, R_nw, h_wI, h_wL, h_wR, h_rI, h_rL, h_nw, z_wI, z_wL, z_wR, z_rI, z_rL, z_nw, zi_toInt, zl_toInt, al_wI, al_wR, al_rI, al_wL, al_rL, al_nw, ai_wI, ai_wL, ai_wR, ai_rI, ai_rL, ai_nw, zi_neg, zl_neg, zi_ai, zl_al, tn1, tn2, Int.toNat_natCast, zi_add, zi_sub, zi_mul, zi_rm, zi_div, zi_lt, zi_le, zi_eq, zi_cl, zi_in, zi_l, zl_i, zl_add, zl_sub, zl_mul, zl_lt, zl_le, zl_eq, zl_rm, zl_div, I_ai, L_al, z0, z1, w0, w1, lg_lt', lg_gt', lg_ge', lg_le', lg_eq', ab_b_0, Int.reduceMul, Int.reduceSub, Int.reduceLT, Int.reduceEq, Int.reduceToNat, if_true, if_false, ite_true, ite_false, and_false, false_and, ge_iff_le, gt_iff_lt, ex_aload_0, lA_r, lA_n, lA_q, lA_s, ex_getfield, ab_obj, gv_0, gv_1, gv_2, gv_3, rf_s, rf_n, fd_6_15_6, fd_6_38_6, ex_iload_1, lI_z, lI_s, ex_iadd, fd_6_3_6, fd_6_41_0, fd_6_62_1, ex_irem, ex_iaload, ex_iret, rk_i, rk_l, rk_z, rk_z0', rk_z1', rk_v, rk_r, rk_n, rk_q, vc_s dX7_lies_0, vc_s dX7_lies_1, vc_s dX7_lies_4, vc_s dX7_lies_5, vc_s dX7_lies_8, vc_s dX7_lies_9, vc_s dX7_lies_10, vc_s dX7_lies_11, vc_s dX7_lies_14, vc_s dX7_lies_17, vc_s dX7_lies_20, vc_s dX7_lies_21, vc_s dX7_lies_22, x0, x1, x2, x7, h0, r1, i2, v6, v, sT_64, sT_80, sT_81, sT_84, sT_85]
  repeat (refine And.intro (by omega) ?_)
  exact hQ
theorem sees_w {d a r w : Nat} {f : Nat → Int} {B : Int} (h : CR M r w f) (hR : sp_ok B f) (hB : B ≤ 900000) (ha : isSt a) (hV : StV M a f) (hQ : ∀ M', fr (fun x k => x = a ∧ k = 3) M M' → StV M' a (up f 28 (sp_eset f)) → Q none M') : ab_Cw l g (d + 1) mX7_sees [.ref a] M Q := by
  obtain ⟨hS, h0, ⟨r1, -, -, ⟨a3, g1, g2, g3⟩, ⟨a4, b1, b2, b3⟩, ⟨-, -, i3, -⟩, -⟩, -, hF, -⟩ := h
  obtain ⟨x0, x1, x2, x3, x4, x5, x6, x7⟩ := StS_of hS ha
  have hp := hR.p
  have hh := hR.hr
  have ha' := ha
  unfold isSt at ha'
  have f3 := hF.2.2 3 a3 (by omega) g1
  have f4 := hF.2.2 4 a4 (by omega) b1
  have f1 := hF.1
  refine ab_cw me_103 rfl (by decide) (fun h => by cases h) rfl (Nat.le_of_ble_eq_true rfl) ?_
  refine ab_go [(), (), ()] (fun p => p == 2) ?_
  simp (disch := omega) only [or_false, false_or, or_true, true_or, or_self, cond_false, cond_true, Bool.or_false, Bool.false_or, Bool.or_self, Bool.or_true, Bool.true_or, true_and, and_true, and_self, not_true_eq_false, not_false_eq_true, List.length_cons, List.length_nil, sz_i, sz_l, sz_r, sz_n, sz_q, sz_0, Option.toList_some, Option.toList_none, List.cons_append, List.nil_append, Nat.reduceAdd, Nat.reduceSub, Nat.reduceMul, Nat.reduceLT, Nat.reduceLeDiff, Nat.reduceEqDiff, Nat.reduceBEq, Int.reduceAdd, Int.reduceToNat, Int.reduceLE, Int.reduceNeg, Int.cast_ofNat_Int, en_l, en_i, en_r, en_n, en_q, en_0, en_s, I_wI, I_wL, I_wR, I_rI, I_rL, I_nw, L_wI, L_wL, L_wR, L_rI, L_rL, L_nw, R_wI, R_wL, R_wR, R_rI, R_rL, R_nw, h_wI, h_wL, h_wR, h_rI, h_rL, h_nw, z_wI, z_wL, z_wR, z_rI, z_rL, z_nw, zi_toInt, zl_toInt, al_wI, al_wR, al_rI, al_wL, al_rL, al_nw, ai_wI, ai_wL, ai_wR, ai_rI, ai_rL, ai_nw, zi_neg, zl_neg, zi_ai, zl_al, tn1, tn2, Int.toNat_natCast, zi_add, zi_sub, zi_mul, zi_rm, zi_div, zi_lt, zi_le, zi_eq, zi_cl, zi_in, zi_l, zl_i, zl_add, zl_sub, zl_mul, zl_lt, zl_le, zl_eq, zl_rm, zl_div, I_ai, L_al, z0, z1, w0, w1, lg_lt', lg_gt', lg_ge', lg_le', lg_eq', ab_b_0, Int.reduceMul, Int.reduceSub, Int.reduceLT, Int.reduceEq, Int.reduceToNat, if_true, if_false, ite_true, ite_false, and_false, false_and, ge_iff_le, gt_iff_lt, ex_iconst, ofi, ex_istore_1, lI_z, lI_s, st1_z, st1_u, st1_i, st1_r, st1_n, st1_q, st1_l1, st1_l2, ex_iload_1, ex_aload_0, lA_r, lA_n, lA_q, lA_s, ex_getfield, ab_obj, gv_0, gv_1, gv_2, gv_3, rf_s, rf_n, fd_6_3_6, fd_6_41_0, fd_6_53_1, ex_ic_ge, ex_dup_i, ex_dup_r, ex_dup_n, fd_6_31_6, fd_6_56_1, ex_iaload, fd_6_19_6, ex_ic_ne, fd_6_38_6, fd_6_59_1, ex_ic_gt, ex_ishl, ex_goto, ex_ior, ex_putfield, fin_6_3, pf_0, pf_1, pf_2r, pf_2n, pf_2q, pf_3, Bool.false_eq_true, false_implies, ex_iinc, ex_ret, rk_i, rk_l, rk_z, rk_z0', rk_z1', rk_v, rk_r, rk_n, rk_q, vc_s dX7_sees_0, vc_s dX7_sees_1, vc_s dX7_sees_2, vc_s dX7_sees_3, vc_s dX7_sees_4, vc_s dX7_sees_7, vc_s dX7_sees_10, vc_s dX7_sees_13, vc_s dX7_sees_16, vc_s dX7_sees_17, vc_s dX7_sees_18, vc_s dX7_sees_21, vc_s dX7_sees_22, vc_s dX7_sees_25, vc_s dX7_sees_28, vc_s dX7_sees_31, vc_s dX7_sees_32, vc_s dX7_sees_33, vc_s dX7_sees_34, vc_s dX7_sees_37, vc_s dX7_sees_38, vc_s dX7_sees_39, vc_s dX7_sees_42, vc_s dX7_sees_43, vc_s dX7_sees_46, vc_s dX7_sees_47, vc_s dX7_sees_50, vc_s dX7_sees_53, vc_s dX7_sees_56, vc_s dX7_sees_57, vc_s dX7_sees_58, vc_s dX7_sees_61, vc_s dX7_sees_62, vc_s dX7_sees_63, vc_s dX7_sees_64, vc_s dX7_sees_67, vc_s dX7_sees_68, vc_s dX7_sees_69, vc_s dX7_sees_72, vc_s dX7_sees_75, vc_s dX7_sees_78, sT_64, sT_80, sT_82, sT_84, sT_86]
  refine upto (α := ab_M) (N := (f 3).toNat) (I := fun k M' => fr (fun x k => x = a ∧ k = 3) M M' ∧ StV M' a (up f 28 (sp_es f k)))
    (G := fun k M' => ab_Wp l g (d + 1) 6 false cX7_sees 2 2 [some (.ref a), some (.int (zi (k : Nat)))] [] M' (fun v M' => ab_rk none v ∧ Q v M')) ?_ ?_ (k := 0) (x := M) (Nat.zero_le _) ⟨fr.rfl', hV.row (fun j h1 h2 => ?_)⟩
  · rintro M' ⟨hM, hv⟩
    have hS' := hM.si hS
    have hge : f 3 ≤ (((f 3).toNat : Nat) : Int) := by omega
    have e0 : ab_R M' 64 0 = some r := by rw [hM.R]; exact h0
    have e1 : ab_h M' r = some (1, 14) := by rw [hM.h]; exact r1
    have e3 : ai M' r 8 = f 3 := by rw [hM.ai (by omega)]; exact i3
    have y0 : ab_h M' a = some (6, 7) := by rw [hM.h]; exact x0
    have y7 : ab_R M' a 6 = some 64 := by rw [hM.R]; exact x7
    refine ab_go [(), (), (), (), (), (), (), (), (), (), (), (), (), (), (), (), (), (), (), (), (), (), (), (), (), (), (), (), (), (), (), (), (), (), (), (), (), ()] (fun p => p == 2) ?_
    simp (disch := omega) only [or_false, false_or, or_true, true_or, or_self, cond_false, cond_true, Bool.or_false, Bool.false_or, Bool.or_self, Bool.or_true, Bool.true_or, true_and, and_true, and_self, not_true_eq_false, not_false_eq_true, List.length_cons, List.length_nil, sz_i, sz_l, sz_r, sz_n, sz_q, sz_0, Option.toList_some, Option.toList_none, List.cons_append, List.nil_append, Nat.reduceAdd, Nat.reduceSub, Nat.reduceMul, Nat.reduceLT, Nat.reduceLeDiff, Nat.reduceEqDiff, Nat.reduceBEq, Int.reduceAdd, Int.reduceToNat, Int.reduceLE, Int.reduceNeg, Int.cast_ofNat_Int, en_l, en_i, en_r, en_n, en_q, en_0, en_s, I_wI, I_wL, I_wR, I_rI, I_rL, I_nw, L_wI, L_wL, L_wR, L_rI, L_rL, L_nw, R_wI, R_wL, R_wR, R_rI, R_rL, R_nw, h_wI, h_wL, h_wR, h_rI, h_rL, h_nw, z_wI, z_wL, z_wR, z_rI, z_rL, z_nw, zi_toInt, zl_toInt, al_wI, al_wR, al_rI, al_wL, al_rL, al_nw, ai_wI, ai_wL, ai_wR, ai_rI, ai_rL, ai_nw, zi_neg, zl_neg, zi_ai, zl_al, tn1, tn2, Int.toNat_natCast, zi_add, zi_sub, zi_mul, zi_rm, zi_div, zi_lt, zi_le, zi_eq, zi_cl, zi_in, zi_l, zl_i, zl_add, zl_sub, zl_mul, zl_lt, zl_le, zl_eq, zl_rm, zl_div, I_ai, L_al, z0, z1, w0, w1, lg_lt', lg_gt', lg_ge', lg_le', lg_eq', ab_b_0, Int.reduceMul, Int.reduceSub, Int.reduceLT, Int.reduceEq, Int.reduceToNat, if_true, if_false, ite_true, ite_false, and_false, false_and, ge_iff_le, gt_iff_lt, ex_iconst, ofi, ex_istore_1, lI_z, lI_s, st1_z, st1_u, st1_i, st1_r, st1_n, st1_q, st1_l1, st1_l2, ex_iload_1, ex_aload_0, lA_r, lA_n, lA_q, lA_s, ex_getfield, ab_obj, gv_0, gv_1, gv_2, gv_3, rf_s, rf_n, fd_6_3_6, fd_6_41_0, fd_6_53_1, ex_ic_ge, ex_dup_i, ex_dup_r, ex_dup_n, fd_6_31_6, fd_6_56_1, ex_iaload, fd_6_19_6, ex_ic_ne, fd_6_38_6, fd_6_59_1, ex_ic_gt, ex_ishl, ex_goto, ex_ior, ex_putfield, fin_6_3, pf_0, pf_1, pf_2r, pf_2n, pf_2q, pf_3, Bool.false_eq_true, false_implies, ex_iinc, ex_ret, rk_i, rk_l, rk_z, rk_z0', rk_z1', rk_v, rk_r, rk_n, rk_q, vc_s dX7_sees_0, vc_s dX7_sees_1, vc_s dX7_sees_2, vc_s dX7_sees_3, vc_s dX7_sees_4, vc_s dX7_sees_7, vc_s dX7_sees_10, vc_s dX7_sees_13, vc_s dX7_sees_16, vc_s dX7_sees_17, vc_s dX7_sees_18, vc_s dX7_sees_21, vc_s dX7_sees_22, vc_s dX7_sees_25, vc_s dX7_sees_28, vc_s dX7_sees_31, vc_s dX7_sees_32, vc_s dX7_sees_33, vc_s dX7_sees_34, vc_s dX7_sees_37, vc_s dX7_sees_38, vc_s dX7_sees_39, vc_s dX7_sees_42, vc_s dX7_sees_43, vc_s dX7_sees_46, vc_s dX7_sees_47, vc_s dX7_sees_50, vc_s dX7_sees_53, vc_s dX7_sees_56, vc_s dX7_sees_57, vc_s dX7_sees_58, vc_s dX7_sees_61, vc_s dX7_sees_62, vc_s dX7_sees_63, vc_s dX7_sees_64, vc_s dX7_sees_67, vc_s dX7_sees_68, vc_s dX7_sees_69, vc_s dX7_sees_72, vc_s dX7_sees_75, vc_s dX7_sees_78, y0, y7, e0, e1, e3, hge, Bool.false_eq_true, forall_const, true_implies, false_implies, not_true_eq_false, not_false_eq_true, Classical.not_not, sT_64, sT_80, sT_82, sT_84, sT_86, si_h hS', sr_80_6 hS', sr_84_6 hS', sr_80_1 hS', sr_84_1 hS']
    exact hQ M' hM hv
  · rintro k M' hk ⟨hM, hv⟩ ih
    have hS' := hM.si hS
    have hlt : ¬ f 3 ≤ (k : Int) := by omega
    have en : (k : Int) + 1 = ((k + 1 : Nat) : Int) := by omega
    have e0 : ab_R M' 64 0 = some r := by rw [hM.R]; exact h0
    have e1 : ab_h M' r = some (1, 14) := by rw [hM.h]; exact r1
    have e3 : ai M' r 8 = f 3 := by rw [hM.ai (by omega)]; exact i3
    have y0 : ab_h M' a = some (6, 7) := by rw [hM.h]; exact x0
    have y7 : ab_R M' a 6 = some 64 := by rw [hM.R]; exact x7
    have y3 : ab_R M' a 1 = some (a + 2) := by rw [hM.R]; exact x3
    have y4 : ab_h M' (a + 2) = some (64, 5) := by rw [hM.h]; exact x4
    have z1' : ab_R M' r 3 = some a3 := by rw [hM.R]; exact g1
    have z2 : ab_h M' a3 = some (64, 5) := by rw [hM.h]; exact g2
    have z3 : ai M' a3 k = f (16 + k) := by rw [hM.ai (by omega)]; exact g3 k (by omega)
    have z4 : ab_R M' r 4 = some a4 := by rw [hM.R]; exact b1
    have z5 : ab_h M' a4 = some (64, 5) := by rw [hM.h]; exact b2
    have z6 : ai M' a4 k = f (21 + k) := by rw [hM.ai (by omega)]; exact b3 k (by omega)
    have u2 : ai M' (a + 2) k = f (35 + k) := by rw [hv.at (by omega), up_n (by omega)]
    have u4 : ai M' a 3 = (sp_es f k : Nat) := by rw [hv.dn, up_e]
    have u6 : ai M' a 5 = f 26 := by rw [hv.hr, up_n (by omega)]
    have bg := hR.to k (by omega)
    have ba := hR.at' k (by omega)
    have bb := hR.by' k (by omega)
    have bgg := hR.g
    have hb := sp_es_b hR.rd k (by omega)
    have step : ∀ m : Nat, m < 32 → sp_es f (k + 1) = m → ab_Wp l g (d + 1) 6 false cX7_sees 2 2 [some (.ref a), some (.int (zi ((k + 1 : Nat) : Int)))] [] (ab_wI M' a 3 (zi (m : Nat))) (fun v M' => ab_rk none v ∧ Q v M') := by
      intro m hm em
      refine ih _ ⟨hM.trans (fr.wI ⟨rfl, rfl⟩), ?_⟩
      rw [em]
      have := hv.putDn (v := (m : Nat)) (by omega) (by omega)
      rwa [up_up] at this
    by_cases c1 : f (16 + k) = f (35 + k)
    · by_cases c2 : f 26 ≤ f (21 + k)
      · have c2' : ¬ f (21 + k) < f 26 := by omega
        have h5 := sb_lt5 hb (show k < 5 by omega)
        refine ab_go [(), (), (), (), (), (), (), (), (), (), (), (), (), (), (), (), (), (), (), (), (), (), (), (), (), (), (), (), (), (), (), (), (), (), (), (), (), ()] (fun p => p == 2) ?_
        simp (disch := omega) only [or_false, false_or, or_true, true_or, or_self, cond_false, cond_true, Bool.or_false, Bool.false_or, Bool.or_self, Bool.or_true, Bool.true_or, true_and, and_true, and_self, not_true_eq_false, not_false_eq_true, List.length_cons, List.length_nil, sz_i, sz_l, sz_r, sz_n, sz_q, sz_0, Option.toList_some, Option.toList_none, List.cons_append, List.nil_append, Nat.reduceAdd, Nat.reduceSub, Nat.reduceMul, Nat.reduceLT, Nat.reduceLeDiff, Nat.reduceEqDiff, Nat.reduceBEq, Int.reduceAdd, Int.reduceToNat, Int.reduceLE, Int.reduceNeg, Int.cast_ofNat_Int, en_l, en_i, en_r, en_n, en_q, en_0, en_s, I_wI, I_wL, I_wR, I_rI, I_rL, I_nw, L_wI, L_wL, L_wR, L_rI, L_rL, L_nw, R_wI, R_wL, R_wR, R_rI, R_rL, R_nw, h_wI, h_wL, h_wR, h_rI, h_rL, h_nw, z_wI, z_wL, z_wR, z_rI, z_rL, z_nw, zi_toInt, zl_toInt, al_wI, al_wR, al_rI, al_wL, al_rL, al_nw, ai_wI, ai_wL, ai_wR, ai_rI, ai_rL, ai_nw, zi_neg, zl_neg, zi_ai, zl_al, tn1, tn2, Int.toNat_natCast, zi_add, zi_sub, zi_mul, zi_rm, zi_div, zi_lt, zi_le, zi_eq, zi_cl, zi_in, zi_l, zl_i, zl_add, zl_sub, zl_mul, zl_lt, zl_le, zl_eq, zl_rm, zl_div, I_ai, L_al, z0, z1, w0, w1, lg_lt', lg_gt', lg_ge', lg_le', lg_eq', ab_b_0, Int.reduceMul, Int.reduceSub, Int.reduceLT, Int.reduceEq, Int.reduceToNat, if_true, if_false, ite_true, ite_false, and_false, false_and, ge_iff_le, gt_iff_lt, ex_iconst, ofi, ex_istore_1, lI_z, lI_s, st1_z, st1_u, st1_i, st1_r, st1_n, st1_q, st1_l1, st1_l2, ex_iload_1, ex_aload_0, lA_r, lA_n, lA_q, lA_s, ex_getfield, ab_obj, gv_0, gv_1, gv_2, gv_3, rf_s, rf_n, fd_6_3_6, fd_6_41_0, fd_6_53_1, ex_ic_ge, ex_dup_i, ex_dup_r, ex_dup_n, fd_6_31_6, fd_6_56_1, ex_iaload, fd_6_19_6, ex_ic_ne, fd_6_38_6, fd_6_59_1, ex_ic_gt, ex_ishl, ex_goto, ex_ior, ex_putfield, fin_6_3, pf_0, pf_1, pf_2r, pf_2n, pf_2q, pf_3, Bool.false_eq_true, false_implies, ex_iinc, ex_ret, rk_i, rk_l, rk_z, rk_z0', rk_z1', rk_v, rk_r, rk_n, rk_q, vc_s dX7_sees_0, vc_s dX7_sees_1, vc_s dX7_sees_2, vc_s dX7_sees_3, vc_s dX7_sees_4, vc_s dX7_sees_7, vc_s dX7_sees_10, vc_s dX7_sees_13, vc_s dX7_sees_16, vc_s dX7_sees_17, vc_s dX7_sees_18, vc_s dX7_sees_21, vc_s dX7_sees_22, vc_s dX7_sees_25, vc_s dX7_sees_28, vc_s dX7_sees_31, vc_s dX7_sees_32, vc_s dX7_sees_33, vc_s dX7_sees_34, vc_s dX7_sees_37, vc_s dX7_sees_38, vc_s dX7_sees_39, vc_s dX7_sees_42, vc_s dX7_sees_43, vc_s dX7_sees_46, vc_s dX7_sees_47, vc_s dX7_sees_50, vc_s dX7_sees_53, vc_s dX7_sees_56, vc_s dX7_sees_57, vc_s dX7_sees_58, vc_s dX7_sees_61, vc_s dX7_sees_62, vc_s dX7_sees_63, vc_s dX7_sees_64, vc_s dX7_sees_67, vc_s dX7_sees_68, vc_s dX7_sees_69, vc_s dX7_sees_72, vc_s dX7_sees_75, vc_s dX7_sees_78, y0, y7, y3, y4, e0, e1, e3, z1', z2, z3, z4, z5, z6, u2, u4, u6, hlt, c1, c2', Bool.false_eq_true, forall_const, true_implies, false_implies, not_true_eq_false, not_false_eq_true, Classical.not_not, zi_1shl, zi_sb, en, sT_64, sT_80, sT_82, sT_84, sT_86, si_h hS', sr_80_6 hS', sr_84_6 hS', sr_80_1 hS', sr_84_1 hS']
        repeat (refine And.intro (by omega) ?_)
        exact step _ h5 (if_pos (sp_at_iff.mpr ⟨c1, c2⟩))
      · have c2' : f (21 + k) < f 26 := by omega
        refine ab_go [(), (), (), (), (), (), (), (), (), (), (), (), (), (), (), (), (), (), (), (), (), (), (), (), (), (), (), (), (), (), (), (), (), (), (), (), (), ()] (fun p => p == 2) ?_
        simp (disch := omega) only [or_false, false_or, or_true, true_or, or_self, cond_false, cond_true, Bool.or_false, Bool.false_or, Bool.or_self, Bool.or_true, Bool.true_or, true_and, and_true, and_self, not_true_eq_false, not_false_eq_true, List.length_cons, List.length_nil, sz_i, sz_l, sz_r, sz_n, sz_q, sz_0, Option.toList_some, Option.toList_none, List.cons_append, List.nil_append, Nat.reduceAdd, Nat.reduceSub, Nat.reduceMul, Nat.reduceLT, Nat.reduceLeDiff, Nat.reduceEqDiff, Nat.reduceBEq, Int.reduceAdd, Int.reduceToNat, Int.reduceLE, Int.reduceNeg, Int.cast_ofNat_Int, en_l, en_i, en_r, en_n, en_q, en_0, en_s, I_wI, I_wL, I_wR, I_rI, I_rL, I_nw, L_wI, L_wL, L_wR, L_rI, L_rL, L_nw, R_wI, R_wL, R_wR, R_rI, R_rL, R_nw, h_wI, h_wL, h_wR, h_rI, h_rL, h_nw, z_wI, z_wL, z_wR, z_rI, z_rL, z_nw, zi_toInt, zl_toInt, al_wI, al_wR, al_rI, al_wL, al_rL, al_nw, ai_wI, ai_wL, ai_wR, ai_rI, ai_rL, ai_nw, zi_neg, zl_neg, zi_ai, zl_al, tn1, tn2, Int.toNat_natCast, zi_add, zi_sub, zi_mul, zi_rm, zi_div, zi_lt, zi_le, zi_eq, zi_cl, zi_in, zi_l, zl_i, zl_add, zl_sub, zl_mul, zl_lt, zl_le, zl_eq, zl_rm, zl_div, I_ai, L_al, z0, z1, w0, w1, lg_lt', lg_gt', lg_ge', lg_le', lg_eq', ab_b_0, Int.reduceMul, Int.reduceSub, Int.reduceLT, Int.reduceEq, Int.reduceToNat, if_true, if_false, ite_true, ite_false, and_false, false_and, ge_iff_le, gt_iff_lt, ex_iconst, ofi, ex_istore_1, lI_z, lI_s, st1_z, st1_u, st1_i, st1_r, st1_n, st1_q, st1_l1, st1_l2, ex_iload_1, ex_aload_0, lA_r, lA_n, lA_q, lA_s, ex_getfield, ab_obj, gv_0, gv_1, gv_2, gv_3, rf_s, rf_n, fd_6_3_6, fd_6_41_0, fd_6_53_1, ex_ic_ge, ex_dup_i, ex_dup_r, ex_dup_n, fd_6_31_6, fd_6_56_1, ex_iaload, fd_6_19_6, ex_ic_ne, fd_6_38_6, fd_6_59_1, ex_ic_gt, ex_ishl, ex_goto, ex_ior, ex_putfield, fin_6_3, pf_0, pf_1, pf_2r, pf_2n, pf_2q, pf_3, Bool.false_eq_true, false_implies, ex_iinc, ex_ret, rk_i, rk_l, rk_z, rk_z0', rk_z1', rk_v, rk_r, rk_n, rk_q, vc_s dX7_sees_0, vc_s dX7_sees_1, vc_s dX7_sees_2, vc_s dX7_sees_3, vc_s dX7_sees_4, vc_s dX7_sees_7, vc_s dX7_sees_10, vc_s dX7_sees_13, vc_s dX7_sees_16, vc_s dX7_sees_17, vc_s dX7_sees_18, vc_s dX7_sees_21, vc_s dX7_sees_22, vc_s dX7_sees_25, vc_s dX7_sees_28, vc_s dX7_sees_31, vc_s dX7_sees_32, vc_s dX7_sees_33, vc_s dX7_sees_34, vc_s dX7_sees_37, vc_s dX7_sees_38, vc_s dX7_sees_39, vc_s dX7_sees_42, vc_s dX7_sees_43, vc_s dX7_sees_46, vc_s dX7_sees_47, vc_s dX7_sees_50, vc_s dX7_sees_53, vc_s dX7_sees_56, vc_s dX7_sees_57, vc_s dX7_sees_58, vc_s dX7_sees_61, vc_s dX7_sees_62, vc_s dX7_sees_63, vc_s dX7_sees_64, vc_s dX7_sees_67, vc_s dX7_sees_68, vc_s dX7_sees_69, vc_s dX7_sees_72, vc_s dX7_sees_75, vc_s dX7_sees_78, y0, y7, y3, y4, e0, e1, e3, z1', z2, z3, z4, z5, z6, u2, u4, u6, hlt, c1, c2', Bool.false_eq_true, forall_const, true_implies, false_implies, not_true_eq_false, not_false_eq_true, Classical.not_not, or_0, en, sT_64, sT_80, sT_82, sT_84, sT_86, si_h hS', sr_80_6 hS', sr_84_6 hS', sr_80_1 hS', sr_84_1 hS']
        repeat (refine And.intro (by omega) ?_)
        exact step _ hb (if_neg (fun q => c2 (sp_at_iff.mp q).2))
    · refine ab_go [(), (), (), (), (), (), (), (), (), (), (), (), (), (), (), (), (), (), (), (), (), (), (), (), (), (), (), (), (), (), (), (), (), (), (), (), (), ()] (fun p => p == 2) ?_
      simp (disch := omega) only [or_false, false_or, or_true, true_or, or_self, cond_false, cond_true, Bool.or_false, Bool.false_or, Bool.or_self, Bool.or_true, Bool.true_or, true_and, and_true, and_self, not_true_eq_false, not_false_eq_true, List.length_cons, List.length_nil, sz_i, sz_l, sz_r, sz_n, sz_q, sz_0, Option.toList_some, Option.toList_none, List.cons_append, List.nil_append, Nat.reduceAdd, Nat.reduceSub, Nat.reduceMul, Nat.reduceLT, Nat.reduceLeDiff, Nat.reduceEqDiff, Nat.reduceBEq, Int.reduceAdd, Int.reduceToNat, Int.reduceLE, Int.reduceNeg, Int.cast_ofNat_Int, en_l, en_i, en_r, en_n, en_q, en_0, en_s, I_wI, I_wL, I_wR, I_rI, I_rL, I_nw, L_wI, L_wL, L_wR, L_rI, L_rL, L_nw, R_wI, R_wL, R_wR, R_rI, R_rL, R_nw, h_wI, h_wL, h_wR, h_rI, h_rL, h_nw, z_wI, z_wL, z_wR, z_rI, z_rL, z_nw, zi_toInt, zl_toInt, al_wI, al_wR, al_rI, al_wL, al_rL, al_nw, ai_wI, ai_wL, ai_wR, ai_rI, ai_rL, ai_nw, zi_neg, zl_neg, zi_ai, zl_al, tn1, tn2, Int.toNat_natCast, zi_add, zi_sub, zi_mul, zi_rm, zi_div, zi_lt, zi_le, zi_eq, zi_cl, zi_in, zi_l, zl_i, zl_add, zl_sub, zl_mul, zl_lt, zl_le, zl_eq, zl_rm, zl_div, I_ai, L_al, z0, z1, w0, w1, lg_lt', lg_gt', lg_ge', lg_le', lg_eq', ab_b_0, Int.reduceMul, Int.reduceSub, Int.reduceLT, Int.reduceEq, Int.reduceToNat, if_true, if_false, ite_true, ite_false, and_false, false_and, ge_iff_le, gt_iff_lt, ex_iconst, ofi, ex_istore_1, lI_z, lI_s, st1_z, st1_u, st1_i, st1_r, st1_n, st1_q, st1_l1, st1_l2, ex_iload_1, ex_aload_0, lA_r, lA_n, lA_q, lA_s, ex_getfield, ab_obj, gv_0, gv_1, gv_2, gv_3, rf_s, rf_n, fd_6_3_6, fd_6_41_0, fd_6_53_1, ex_ic_ge, ex_dup_i, ex_dup_r, ex_dup_n, fd_6_31_6, fd_6_56_1, ex_iaload, fd_6_19_6, ex_ic_ne, fd_6_38_6, fd_6_59_1, ex_ic_gt, ex_ishl, ex_goto, ex_ior, ex_putfield, fin_6_3, pf_0, pf_1, pf_2r, pf_2n, pf_2q, pf_3, Bool.false_eq_true, false_implies, ex_iinc, ex_ret, rk_i, rk_l, rk_z, rk_z0', rk_z1', rk_v, rk_r, rk_n, rk_q, vc_s dX7_sees_0, vc_s dX7_sees_1, vc_s dX7_sees_2, vc_s dX7_sees_3, vc_s dX7_sees_4, vc_s dX7_sees_7, vc_s dX7_sees_10, vc_s dX7_sees_13, vc_s dX7_sees_16, vc_s dX7_sees_17, vc_s dX7_sees_18, vc_s dX7_sees_21, vc_s dX7_sees_22, vc_s dX7_sees_25, vc_s dX7_sees_28, vc_s dX7_sees_31, vc_s dX7_sees_32, vc_s dX7_sees_33, vc_s dX7_sees_34, vc_s dX7_sees_37, vc_s dX7_sees_38, vc_s dX7_sees_39, vc_s dX7_sees_42, vc_s dX7_sees_43, vc_s dX7_sees_46, vc_s dX7_sees_47, vc_s dX7_sees_50, vc_s dX7_sees_53, vc_s dX7_sees_56, vc_s dX7_sees_57, vc_s dX7_sees_58, vc_s dX7_sees_61, vc_s dX7_sees_62, vc_s dX7_sees_63, vc_s dX7_sees_64, vc_s dX7_sees_67, vc_s dX7_sees_68, vc_s dX7_sees_69, vc_s dX7_sees_72, vc_s dX7_sees_75, vc_s dX7_sees_78, y0, y7, y3, y4, e0, e1, e3, z1', z2, z3, z4, z5, z6, u2, u4, u6, hlt, c1, Bool.false_eq_true, forall_const, true_implies, false_implies, not_true_eq_false, not_false_eq_true, Classical.not_not, or_0, en, sT_64, sT_80, sT_82, sT_84, sT_86, si_h hS', sr_80_6 hS', sr_84_6 hS', sr_80_1 hS', sr_84_1 hS']
      repeat (refine And.intro (by omega) ?_)
      exact step _ hb (if_neg (fun q => c1 (sp_at_iff.mp q).1))
  · unfold up sp_es
    have := hR.rd
    split
    · subst j; omega
    · rfl
end M66
