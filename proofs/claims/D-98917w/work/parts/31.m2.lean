/-! ===== laws: codes, what they reckon ===== -/
def sp_clamp (v : Int) : Int := if 1000000 < v then 1000000 else if v < -1000000 then -1000000 else v
def sp_btw (c a b : Int) : Int :=
  if c = 3003 then bt (a = b) else if c = 3004 then bt (a < b) else if c = 3005 then bt (b < a)
  else if c = 3007 then bt (a = 1 ∧ b = 1) else if c = 3008 then bt (a = 1 ∨ b = 1)
  else sp_clamp (if c = 3000 then a + b else if c = 3001 then a - b else a * b)
/-- a code over the numbers reckoned so far, the latest first -/
def sp_ev1 (w : Nat → Int) (st : List Int) (c : Int) : List Int :=
  if c < 1000 then c :: st else if c < 3000 then w (c - 1000).toNat :: st
  else if c = 3006 then (match st with
    | a :: t => (1 - a) :: t
    | [] => [])
  else (match st with
    | b :: a :: t => sp_btw c a b :: t
    | t => t)
def sp_evs (w : Nat → Int) (cs : List Int) (st : List Int) : List Int := cs.foldl (sp_ev1 w) st
/-- kinds: true a truth, false a number -/
def sp_ty1 (c : Int) (ks : List Bool) : Option (List Bool) :=
  if c < 1000 then (if 0 ≤ c then some (false :: ks) else none)
  else if c < 3000 then (if c < 1006 then some (false :: ks) else none)
  else if c = 3006 then (match ks with
    | true :: t => some (true :: t)
    | _ => none)
  else if c = 3003 ∨ c = 3004 ∨ c = 3005 then (match ks with
    | false :: false :: t => some (true :: t)
    | _ => none)
  else if c = 3007 ∨ c = 3008 then (match ks with
    | true :: true :: t => some (true :: t)
    | _ => none)
  else if c = 3000 ∨ c = 3001 ∨ c = 3002 then (match ks with
    | false :: false :: t => some (false :: t)
    | _ => none)
  else none
def sp_ty (cs : List Int) (ks : List Bool) : Option (List Bool) := match cs with
  | [] => some ks
  | c :: t => (sp_ty1 c ks).bind (sp_ty t)
/-- a number of a kind -/
def sp_kv (k : Bool) (v : Int) : Prop := if k then v = 0 ∨ v = 1 else -1000000 ≤ v ∧ v ≤ 1000000
def sp_kvs (ks : List Bool) (st : List Int) : Prop := match ks, st with
  | [], [] => True
  | k :: ks, v :: st => sp_kv k v ∧ sp_kvs ks st
  | _, _ => False
theorem sp_kvs_len : ∀ (ks : List Bool) (st : List Int), sp_kvs ks st → ks.length = st.length
  | [], [], _ => rfl
  | k :: ks, v :: st, h => by simp [sp_kvs_len ks st h.2]
theorem sp_clamp_b (v : Int) : -1000000 ≤ sp_clamp v ∧ sp_clamp v ≤ 1000000 := by
  unfold sp_clamp
  repeat' split
  all_goals omega
theorem bt_01 (p : Prop) [Decidable p] : bt p = 0 ∨ bt p = 1 := by
  unfold bt
  split <;> simp
/-- a code keeps kinds -/
theorem sp_ev1_ok {w : Nat → Int} (hw : ∀ i, i < 6 → -1000000 ≤ w i ∧ w i ≤ 1000000) {c : Int} {ks ks' : List Bool} {st : List Int} (hk : sp_kvs ks st) (h : sp_ty1 c ks = some ks') : sp_kvs ks' (sp_ev1 w st c) := by
  unfold sp_ty1 at h
  unfold sp_ev1
  split at h
  · rename_i h1
    split at h
    · cases h
      rw [if_pos h1]
      exact ⟨by unfold sp_kv; simp; omega, hk⟩
    · cases h
  · rename_i h1
    rw [if_neg h1]
    split at h
    · rename_i h2
      rw [if_pos h2]
      split at h
      · cases h
        exact ⟨by unfold sp_kv; simp; exact hw _ (by omega), hk⟩
      · cases h
    · rename_i h2
      rw [if_neg h2]
      split at h
      · rename_i h3
        rw [if_pos h3]
        split at h
        · cases h
          match st, hk with
          | v :: st, hk =>
            refine ⟨?_, hk.2⟩
            have := hk.1
            unfold sp_kv at this ⊢
            simp at this ⊢
            omega
        · cases h
      · rename_i h3
        rw [if_neg h3]
        split at h
        · rename_i h4
          split at h
          · cases h
            match st, hk with
            | b :: a :: st, hk =>
              refine ⟨?_, hk.2.2⟩
              show sp_kv true (sp_btw c a b)
              unfold sp_kv sp_btw
              simp only [if_true]
              rcases h4 with rfl | rfl | rfl <;> simp <;> exact bt_01 _
          · cases h
        · split at h
          · rename_i h5
            split at h
            · cases h
              match st, hk with
              | b :: a :: st, hk =>
                refine ⟨?_, hk.2.2⟩
                show sp_kv true (sp_btw c a b)
                unfold sp_kv sp_btw
                simp only [if_true]
                rcases h5 with rfl | rfl <;> simp <;> exact bt_01 _
            · cases h
          · split at h
            · rename_i h6
              split at h
              · cases h
                match st, hk with
                | b :: a :: st, hk =>
                  refine ⟨?_, hk.2.2⟩
                  show sp_kv false (sp_btw c a b)
                  unfold sp_kv sp_btw
                  simp only [Bool.false_eq_true, if_false]
                  rw [if_neg (by omega), if_neg (by omega), if_neg (by omega), if_neg (by omega), if_neg (by omega)]
                  exact sp_clamp_b _
              · cases h
            · cases h
theorem sp_ty1_cases {c : Int} {ks ks' : List Bool} (h : sp_ty1 c ks = some ks') : (0 ≤ c ∧ c < 1000 ∧ ks' = false :: ks) ∨ (1000 ≤ c ∧ c < 1006 ∧ ks' = false :: ks) ∨ (c = 3006 ∧ ∃ t, ks = true :: t ∧ ks' = true :: t) ∨ (3000 ≤ c ∧ c ≤ 3008 ∧ c ≠ 3006 ∧ ∃ k1 k2 k3 t, ks = k2 :: k1 :: t ∧ ks' = k3 :: t ∧ (c = 3007 ∨ c = 3008 → k1 = true ∧ k2 = true)) := by
  unfold sp_ty1 at h
  split at h
  · split at h
    · cases h; exact Or.inl ⟨by omega, by omega, rfl⟩
    · cases h
  · split at h
    · split at h
      · cases h; exact Or.inr (Or.inl ⟨by omega, by omega, rfl⟩)
      · cases h
    · split at h
      · split at h
        · cases h; exact Or.inr (Or.inr (Or.inl ⟨by omega, _, rfl, rfl⟩))
        · cases h
      · refine Or.inr (Or.inr (Or.inr ?_))
        split at h
        · split at h
          · cases h; exact ⟨by omega, by omega, by omega, _, _, _, _, rfl, rfl, fun q => by omega⟩
          · cases h
        · split at h
          · split at h
            · cases h; exact ⟨by omega, by omega, by omega, _, _, _, _, rfl, rfl, fun q => ⟨rfl, rfl⟩⟩
            · cases h
          · split at h
            · split at h
              · cases h; exact ⟨by omega, by omega, by omega, _, _, _, _, rfl, rfl, fun q => by omega⟩
              · cases h
            · cases h
/-- a law's codes in a row -/
def sp_codes (f : Nat → Int) (law : Nat) : List Int := (List.range (f (9 + law)).toNat).map (fun k => f (237 + (f (7 + law)).toNat + k))
def sp_wd (f : Nat → Int) (p gap hour fog side : Int) (i : Nat) : Int := match i with
  | 0 => gap
  | 1 => hour
  | 2 => p
  | 3 => f (11 + p.toNat)
  | 4 => fog
  | _ => side
def sp_lets (f : Nat → Int) (law : Nat) (p gap hour fog side : Int) : Prop := if f (5 + law) = 0 then law = 0 ∨ fog = 0 else sp_evs (sp_wd f p gap hour fog side) (sp_codes f law) [] = [1]
noncomputable def sp_letsD (f : Nat → Int) (law : Nat) (p gap hour fog side : Int) : Decidable (sp_lets f law p gap hour fog side) := Classical.propDecidable _
/-- a law of a row is well told -/
def sp_lok (f : Nat → Int) (law : Nat) : Prop := f (5 + law) = 0 ∨ (f (5 + law) = 1 ∧ 0 ≤ f (9 + law) ∧ 0 ≤ f (7 + law) ∧ f (7 + law) + f (9 + law) ≤ 900 ∧ sp_ty (sp_codes f law) [] = some [true] ∧ (law = 1 → ∀ c ∈ sp_codes f law, c ≠ 1005))
section M31
variable {l : Launch} {g : ab_G} {M : ab_M} {Q : Option Value → ab_M → Prop}
theorem between_w {d : Nat} {c a b : Int} {k1 k2 : Bool} (hc0 : 3000 ≤ c) (hc1 : c ≤ 3008) (hn : c ≠ 3006) (ha : sp_kv k1 a) (hb : sp_kv k2 b) (hl : c = 3007 ∨ c = 3008 → k1 = true ∧ k2 = true) (hQ : Q (some (.int (zi (sp_btw c a b)))) M) : ab_Cw l g (d + 1) mX9_between [.int (zi c), .int (zi a), .int (zi b)] M Q := by
  refine ab_cw me_157 rfl (by decide) (fun h => by cases h) rfl (Nat.le_of_ble_eq_true rfl) ?_
  have ha' : -1000000 ≤ a ∧ a ≤ 1000000 := by
    unfold sp_kv at ha
    split at ha <;> omega
  have hb' : -1000000 ≤ b ∧ b ≤ 1000000 := by
    unfold sp_kv at hb
    split at hb <;> omega
  have hab := mul_bd (n := 1000000) ha'.1 ha'.2 hb'.1 hb'.2
  have hand : c = 3007 ∨ c = 3008 → (a = 0 ∨ a = 1) ∧ (b = 0 ∨ b = 1) := by
    intro h
    obtain ⟨rfl, rfl⟩ := hl h
    exact ⟨ha, hb⟩
  refine ab_go [(), (), (), (), (), (), (), (), (), (), (), (), (), (), (), (), (), (), (), (), (), (), (), (), (), (), (), ()] (fun _ => false) ?_
  simp (disch := omega) only [or_false, false_or, or_true, true_or, or_self, cond_false, cond_true, Bool.or_false, Bool.false_or, Bool.or_self, Bool.or_true, Bool.true_or, true_and, and_true, and_self, not_true_eq_false, not_false_eq_true, List.length_cons, List.length_nil, sz_i, sz_l, sz_r, sz_n, sz_q, sz_0, Option.toList_some, Option.toList_none, List.cons_append, List.nil_append, Nat.reduceAdd, Nat.reduceSub, Nat.reduceMul, Nat.reduceLT, Nat.reduceLeDiff, Nat.reduceEqDiff, Nat.reduceBEq, Int.reduceAdd, Int.reduceToNat, Int.reduceLE, Int.reduceNeg, Int.cast_ofNat_Int, en_l, en_i, en_r, en_n, en_q, en_0, en_s, I_wI, I_wL, I_wR, I_rI, I_rL, I_nw, L_wI, L_wL, L_wR, L_rI, L_rL, L_nw, R_wI, R_wL, R_wR, R_rI, R_rL, R_nw, h_wI, h_wL, h_wR, h_rI, h_rL, h_nw, z_wI, z_wL, z_wR, z_rI, z_rL, z_nw, zi_toInt, zl_toInt, al_wI, al_wR, al_rI, al_wL, al_rL, al_nw, ai_wI, ai_wL, ai_wR, ai_rI, ai_rL, ai_nw, zi_neg, zl_neg, zi_ai, zl_al, tn1, tn2, Int.toNat_natCast, zi_add, zi_sub, zi_mul, zi_rm, zi_div, zi_lt, zi_le, zi_eq, zi_cl, zi_in, zi_l, zl_i, zl_add, zl_sub, zl_mul, zl_lt, zl_le, zl_eq, zl_rm, zl_div, I_ai, L_al, z0, z1, w0, w1, lg_lt', lg_gt', lg_ge', lg_le', lg_eq', ab_b_0, Int.reduceMul, Int.reduceSub, Int.reduceLT, Int.reduceEq, Int.reduceToNat, if_true, if_false, ite_true, ite_false, and_false, false_and, ge_iff_le, gt_iff_lt, ex_iload_0, lI_z, lI_s, ex_tsw, ab_jp, ab_sw, List.size_toArray, ex_iload_1, ex_iload_2, ex_ic_ne, ex_iconst, ofi, ex_goto, ex_iret, rk_i, rk_l, rk_z, rk_z0', rk_z1', rk_v, rk_r, rk_n, rk_q, ex_ic_ge, ex_ic_le, ex_iand, ex_ior, ex_sipush, sp_3000, ex_i2l, ex_ladd, sp_3001, ex_lsub, ex_lmul, ex_lstore_3, st2_z, st2_u, st2_i, st2_r, st2_l1, st2_l2, ex_lload_3, lL_z, lL_s, ex_ldc2, ab_kl_8_227, kl_1000000, ex_lcmp, ex_if_le, z0, ab_kl_8_229, kl_m1000000, ex_if_ge, ex_l2i, vc_s dX9_between_0, vc_s dX9_between_1, vc_s dX9_between_40, vc_s dX9_between_41, vc_s dX9_between_42, vc_s dX9_between_45, vc_s dX9_between_46, vc_s dX9_between_49, vc_s dX9_between_50, vc_s dX9_between_51, vc_s dX9_between_52, vc_s dX9_between_53, vc_s dX9_between_56, vc_s dX9_between_57, vc_s dX9_between_60, vc_s dX9_between_61, vc_s dX9_between_62, vc_s dX9_between_63, vc_s dX9_between_64, vc_s dX9_between_67, vc_s dX9_between_68, vc_s dX9_between_71, vc_s dX9_between_72, vc_s dX9_between_73, vc_s dX9_between_74, vc_s dX9_between_75, vc_s dX9_between_76, vc_s dX9_between_77, vc_s dX9_between_78, vc_s dX9_between_79, vc_s dX9_between_80, vc_s dX9_between_81, vc_s dX9_between_82, vc_s dX9_between_85, vc_s dX9_between_88, vc_s dX9_between_89, vc_s dX9_between_90, vc_s dX9_between_91, vc_s dX9_between_92, vc_s dX9_between_93, vc_s dX9_between_96, vc_s dX9_between_97, vc_s dX9_between_100, vc_s dX9_between_103, vc_s dX9_between_104, vc_s dX9_between_105, vc_s dX9_between_106, vc_s dX9_between_107, vc_s dX9_between_108, vc_s dX9_between_111, vc_s dX9_between_112, vc_s dX9_between_113, vc_s dX9_between_114, vc_s dX9_between_115, vc_s dX9_between_116, vc_s dX9_between_117, vc_s dX9_between_118, vc_s dX9_between_121, vc_s dX9_between_122, vc_s dX9_between_125, vc_s dX9_between_128, vc_s dX9_between_131, vc_s dX9_between_132, vc_s dX9_between_135, vc_s dX9_between_136, vc_s dX9_between_139, vc_s dX9_between_142, vc_s dX9_between_145, vc_s dX9_between_146, vc_s dX9_between_147, zi_toInt]
  repeat' first | apply And.intro | intro
  all_goals first
    | omega
    | exact qz (by unfold sp_btw sp_clamp bt; (repeat' split) <;> omega) hQ
    | (rename_i hc; subst hc; obtain ⟨h1 | h1, h2 | h2⟩ := hand (by omega) <;> subst h1 <;> subst h2 <;> exact hQ)
end M31
