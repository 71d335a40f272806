/-! ===== arraycopy; every instruction ===== -/
section ABY
variable {l : Launch} {g : ab_G} {d own : Nat} {ini : Bool} {cc : ByteArray} {nL pc : Nat} {L : List (Option Value)} {st r : List Value} {M M1 M' : ab_M} {v w : Option Value}
/-- a step that writes one cell, with the room at hand -/
theorem ab_writeX {a : Nat} (ha : 64 ≤ a) {st1 : List Value} {pc1 : Nat} (hz : ab_z M1 = ab_z M) (hs : ab_s M1 = ab_s M) (hh : ab_h M1 = ab_h M) (hI0 : ab_I M1 0 = ab_I M 0) (ho : ∀ b, b ≠ a → ab_ce g M1 b = ab_ce g M b) (hsh : ∃ x, ab_h M a = some x ∧ x.1 ≠ 63)
    (h : ∀ {p : Program} {e : Env} {R : Room} {s : State} {m : MethodId} {args : Array Value} {below : List Frame} {meth : Method} {c : Code} {Q : State → Prop} {H : Heap} {locs : List Loc} {ls : Array Slot} {cells slots : Nat} (q0 : Nat), p.tables.exec = Jvm.exec → c.code = cc → c.maxLocals = ls.size → s.vm.findClass (ab_nm own) = some m.cls → d ≤ R.frames ∧ 64 * d ≤ R.locals → (∀ w ∈ lw_all, w.before args s = true) → ab_E g s → ab_P g M H → va_S (ab_A g) H H locs → (ab_W g M)[q0]? = some (ab_ph g a, ab_ce g M a) →
      (∀ (H1 : Heap) (locs1 : List Loc), va_P g.2.2.1 vwCl ((ab_W g M).set q0 (ab_ph g a, ab_ce g M1 a)) H1 → va_S (ab_A g) H H1 locs1 → W p l e R s m args below meth c H1 locs1 cells slots Q (F0 m pc1 ls (st1.map (ab_cv g)))) →
      W p l e R s m args below meth c H locs cells slots Q (F0 m pc ls (st.map (ab_cv g))))
    (k : ab_Rn l g d own ini cc nL pc1 L st1 M1 v M') : ab_Rn l g d own ini cc nL pc L st M v M' := by
  refine ab_step (Nat.le_of_eq hz.symm) (Nat.le_of_eq hs.symm) ?_ k
  intro p e R s m args below meth c Q c0 l0 X _ _ H locs ls cells slots S kk
  obtain ⟨hx, hb, hml, hi, hown, ht, hE, hdl, hc0⟩ := X
  obtain ⟨hP, hS, hl, hcz, hsl⟩ := S
  obtain ⟨⟨cx, nx⟩, hx1, hx2⟩ := hsh
  have hlt : a < ab_z M := by
    rcases hP.2.2.1 a cx nx hx1 with q | q
    · exact absurd q.1 hx2
    · exact q.2.2
  obtain ⟨q0, hq0⟩ := ab_W_get (g := g) hx1 ha hlt
  refine h q0 hx hb (hml.trans hl.1.symm) hown hdl ht hE hP ⟨Nat.le_refl _, fun _ _ _ => rfl, hS.2.2⟩ hq0 fun H1 locs1 hP1 hS1 => ab_size fun hsz => ?_
  rw [ab_W_set ha hq0 hz hh ho] at hP1
  refine kk H1 locs1 ls cells slots ⟨⟨by rw [hz]; exact hP.1, ?_, ?_, hP1⟩, ⟨Nat.le_trans hS.1 hS1.1, fun q h1 h2 => (hS1.2.1 q (Nat.lt_of_lt_of_le h1 hS.1) h2).trans (hS.2.1 q h1 h2), hS1.2.2⟩, hl, by rw [hz]; exact hcz, by rw [hs]; exact hsl⟩
  · have e1 := hP.2.1
    have e2 := hS1.1
    have e3 := hP.1
    rw [hz]
    omega
  · rw [hh, hI0, hz]
    exact hP.2.2.1
theorem o_copyI {idx a b n0 n1 : Nat} {sp dp len : Int32} (h : ab_lc own idx = some 0) (ha : 64 ≤ a) (hb' : ab_h M b = some (64, n0)) (ha' : ab_h M a = some (64, n1)) (hr : ab_sz r ≤ 8) (h1 : ¬ sp < 0) (h2 : ¬ dp < 0) (h3 : ¬ len < 0) (h4 : sp.toNatClampNeg + len.toNatClampNeg ≤ n0) (h5 : dp.toNatClampNeg + len.toNatClampNeg ≤ n1) (hd : decode cc pc = .ok (.invokestatic idx, 3))
    (kk : ab_Rn l g (d + 1) own ini cc nL (pc + 3) L r (ab_rI M a (va_cpy (ab_I M b) (ab_I M a) sp.toNatClampNeg dp.toNatClampNeg len.toNatClampNeg)) v M') : ab_Rn l g (d + 1) own ini cc nL pc L (.int len :: .int dp :: .ref a :: .int sp :: .ref b :: r) M v M' := by
  refine ab_writeX (M1 := ab_rI M a (va_cpy (ab_I M b) (ab_I M a) sp.toNatClampNeg dp.toNatClampNeg len.toNatClampNeg)) ha rfl rfl rfl (ab_c_ne _ _ (by omega)) (fun x hx => ab_ce_eq rfl (ab_c_ne _ _ hx) rfl rfl) ⟨_, ha', fun q => by simp at q⟩ (fun q1 hx hb hml ho hdl ht hE hP hS hq1 k1 => ?_) kk
  obtain ⟨q0, hq0⟩ := ab_arr_at (t := 0) hP hb'
  rw [ab_ce_arr (t := 0) ha'] at hq1
  have e : ab_I (ab_rI M a (va_cpy (ab_I M b) (ab_I M a) sp.toNatClampNeg dp.toNatClampNeg len.toNatClampNeg)) a = va_cpy (ab_I M b) (ab_I M a) sp.toNatClampNeg dp.toNatClampNeg len.toNatClampNeg := ab_c_self _ _ _
  rw [ab_ce_arr (t := 0) (M := ab_rI M a _) ha', e] at k1
  have hsum := ab_cat_sum r hr
  rw [← ab_cat_map (g := g) r] at hsum
  have hfw : nativeFrameWords "java/lang/System" "arraycopy" 5 = 7 := by decide +kernel
  exact va_copyi hx hb hml ho (ht _ (ab_lc_all _ (ab_find2 h))) (ht _ q369) (ht _ q368) (ht _ q146) hE.1 hP.2.2.2 (ab_Dd g M) hS q0 q1 0 0 hq0 hq1 (ab_tys_at g (by decide)) (ab_tys_at g (by decide)) rfl h1 h2 h3 h4 h5 (fun _ _ => rfl) (by omega) (by rw [hfw]; omega) hd (fun H1 locs1 a1 _ a3 => k1 H1 locs1 a1 a3)
theorem o_copyL {idx a b n0 n1 : Nat} {sp dp len : Int32} (h : ab_lc own idx = some 0) (ha : 64 ≤ a) (hb' : ab_h M b = some (68, n0)) (ha' : ab_h M a = some (68, n1)) (hr : ab_sz r ≤ 8) (h1 : ¬ sp < 0) (h2 : ¬ dp < 0) (h3 : ¬ len < 0) (h4 : sp.toNatClampNeg + len.toNatClampNeg ≤ n0) (h5 : dp.toNatClampNeg + len.toNatClampNeg ≤ n1) (hd : decode cc pc = .ok (.invokestatic idx, 3))
    (kk : ab_Rn l g (d + 1) own ini cc nL (pc + 3) L r (ab_rL M a (va_cpy (ab_L M b) (ab_L M a) sp.toNatClampNeg dp.toNatClampNeg len.toNatClampNeg)) v M') : ab_Rn l g (d + 1) own ini cc nL pc L (.int len :: .int dp :: .ref a :: .int sp :: .ref b :: r) M v M' := by
  refine ab_writeX (M1 := ab_rL M a (va_cpy (ab_L M b) (ab_L M a) sp.toNatClampNeg dp.toNatClampNeg len.toNatClampNeg)) ha rfl rfl rfl rfl (fun x hx => ab_ce_eq rfl rfl (ab_c_ne _ _ hx) rfl) ⟨_, ha', fun q => by simp at q⟩ (fun q1 hx hb hml ho hdl ht hE hP hS hq1 k1 => ?_) kk
  obtain ⟨q0, hq0⟩ := ab_arr_at (t := 4) hP hb'
  rw [ab_ce_arr (t := 4) ha'] at hq1
  have e : ab_L (ab_rL M a (va_cpy (ab_L M b) (ab_L M a) sp.toNatClampNeg dp.toNatClampNeg len.toNatClampNeg)) a = va_cpy (ab_L M b) (ab_L M a) sp.toNatClampNeg dp.toNatClampNeg len.toNatClampNeg := ab_c_self _ _ _
  rw [ab_ce_arr (t := 4) (M := ab_rL M a _) ha', e] at k1
  have hsum := ab_cat_sum r hr
  rw [← ab_cat_map (g := g) r] at hsum
  have hfw : nativeFrameWords "java/lang/System" "arraycopy" 5 = 7 := by decide +kernel
  exact va_copyl hx hb hml ho (ht _ (ab_lc_all _ (ab_find2 h))) (ht _ q369) (ht _ q368) (ht _ q146) hE.1 hP.2.2.2 (ab_Dd g M) hS q0 q1 4 4 hq0 hq1 (ab_tys_at g (by decide)) (ab_tys_at g (by decide)) rfl h1 h2 h3 h4 h5 (fun _ _ => rfl) (by omega) (by rw [hfw]; omega) hd (fun H1 locs1 a1 _ a3 => k1 H1 locs1 a1 a3)
theorem o_ret {i : Instr} (hd : decode cc pc = .ok (i, 1)) (hv : ab_ri v i) : ab_Rn l g d own ini cc nL pc L v.toList M v M :=
  ⟨Nat.le_refl _, Nat.le_refl _, fun p e R s m args below meth c Q c0 l0 X _ _ hret H locs ls cells slots S => hret H locs ls L cells slots pc i S hd hv⟩
/-- every address that holds something lies high, once the memory is held -/
theorem ab_lift {a c n : Nat} (hh : ab_h M a = some (c, n)) (hc : c ≠ 63) (k : 64 ≤ a → ab_Rn l g d own ini cc nL pc L st M v M') (hm : ab_z M ≤ ab_z M' ∧ ab_s M ≤ ab_s M') : ab_Rn l g d own ini cc nL pc L st M v M' := by
  by_cases h : 64 ≤ a
  · exact k h
  · refine ⟨hm.1, hm.2, fun p e R s m args below meth cd Q c0 l0 X _ _ _ H locs ls cells slots S => ?_⟩
    exact absurd (ab_hi S.1 hh hc).1 h
theorem ab_em {c A B G : Prop} (ht : c → A) (hf : ¬ c → B) (h1 : c → A → G) (h2 : ¬ c → B → G) : G := (Classical.em c).elim (fun z => h1 z (ht z)) (fun z => h2 z (hf z))
theorem ab_sw_ok {K : Nat → Prop} {x : Int32} : ∀ (offs : List Int) (lo : Int), ab_sw K pc x lo offs → ∀ (i : Nat) (o : Int), offs[i]? = some o → x.toInt = lo + i → ab_jp K pc o
  | [], lo, _, i, o, h, _ => by simp at h
  | a :: t, lo, hs, i, o, h, hx => by
    cases i with
    | zero =>
      simp at h
      subst h
      exact hs.1 (by simpa using hx)
    | succ i => exact ab_sw_ok t (lo + 1) hs.2 i o (by simpa using h) (by omega)
set_option maxHeartbeats 4000000 in
/-- EVERY INSTRUCTION: what ab_ex says is enough -/
theorem ab_ok {Q : Option Value → ab_M → Prop} {i : Instr} {n : Nat} (hd : decode cc pc = .ok (i, n))
    {K : Nat → List (Option Value) → List Value → ab_M → Prop} (hK : ∀ pc L st M, K pc L st M → ab_Wp l g (d + 1) own ini cc nL pc L st M Q)
    (h : ab_ex own ini K (fun mid as M Q' => ab_Cw l g d mid as M Q') Q pc i n L st M) : ab_Wp l g (d + 1) own ini cc nL pc L st M Q := by
  unfold ab_ex at h
  cases i with
  | iconst x =>
    obtain ⟨rfl, h9⟩ := h
    obtain ⟨v, M1, k, q⟩ := hK _ _ _ _ h9
    exact ⟨v, M1, o_iconst hd k, q⟩
  | bipush x =>
    obtain ⟨rfl, h9⟩ := h
    obtain ⟨v, M1, k, q⟩ := hK _ _ _ _ h9
    exact ⟨v, M1, o_bipush hd k, q⟩
  | sipush x =>
    obtain ⟨rfl, h9⟩ := h
    obtain ⟨v, M1, k, q⟩ := hK _ _ _ _ h9
    exact ⟨v, M1, o_sipush hd k, q⟩
  | lconst x =>
    obtain ⟨rfl, h9⟩ := h
    obtain ⟨v, M1, k, q⟩ := hK _ _ _ _ h9
    exact ⟨v, M1, o_lconst hd k, q⟩
  | aconst_null =>
    obtain ⟨rfl, h9⟩ := h
    obtain ⟨v, M1, k, q⟩ := hK _ _ _ _ h9
    exact ⟨v, M1, o_null hd k, q⟩
  | ldc idx =>
    obtain ⟨rfl, h⟩ := h
    split at h
    · rename_i x hx
      obtain ⟨v, M1, k, q⟩ := hK _ _ _ _ (h)
      exact ⟨v, M1, o_ldc hx hd k, q⟩
    · split at h
      · rename_i x hx
        obtain ⟨v, M1, k, q⟩ := hK _ _ _ _ (h)
        exact ⟨v, M1, o_ldcS hx hd k, q⟩
      · exact h.elim
  | ldc_w idx =>
    obtain ⟨rfl, h⟩ := h
    split at h
    · rename_i x hx
      obtain ⟨v, M1, k, q⟩ := hK _ _ _ _ (h)
      exact ⟨v, M1, o_ldcw hx hd k, q⟩
    · exact h.elim
  | ldc2_w idx =>
    obtain ⟨rfl, h⟩ := h
    split at h
    · rename_i x hx
      obtain ⟨v, M1, k, q⟩ := hK _ _ _ _ (h)
      exact ⟨v, M1, o_ldc2 hx hd k, q⟩
    · exact h.elim
  | iload_n k0 =>
    obtain ⟨rfl, h⟩ := h
    split at h
    · rename_i x hx
      obtain ⟨v, M1, k, q⟩ := hK _ _ _ _ (h)
      exact ⟨v, M1, o_iload_n hx hd k, q⟩
    · exact h.elim
  | iload k0 =>
    obtain ⟨rfl, h⟩ := h
    split at h
    · rename_i x hx
      obtain ⟨v, M1, k, q⟩ := hK _ _ _ _ (h)
      exact ⟨v, M1, o_iload hx hd k, q⟩
    · exact h.elim
  | lload_n k0 =>
    obtain ⟨rfl, h⟩ := h
    split at h
    · rename_i x hx
      obtain ⟨v, M1, k, q⟩ := hK _ _ _ _ (h)
      exact ⟨v, M1, o_lload_n hx hd k, q⟩
    · exact h.elim
  | lload k0 =>
    obtain ⟨rfl, h⟩ := h
    split at h
    · rename_i x hx
      obtain ⟨v, M1, k, q⟩ := hK _ _ _ _ (h)
      exact ⟨v, M1, o_lload hx hd k, q⟩
    · exact h.elim
  | aload_n k0 =>
    obtain ⟨rfl, h⟩ := h
    split at h
    · rename_i x hx
      obtain ⟨hw, h9⟩ := h
      obtain ⟨v, M1, k, q⟩ := hK _ _ _ _ h9
      exact ⟨v, M1, o_aload_n hx hw hd k, q⟩
    · exact h.elim
  | aload k0 =>
    obtain ⟨rfl, h⟩ := h
    split at h
    · rename_i x hx
      obtain ⟨hw, h9⟩ := h
      obtain ⟨v, M1, k, q⟩ := hK _ _ _ _ h9
      exact ⟨v, M1, o_aload hx hw hd k, q⟩
    · exact h.elim
  | istore_n k0 =>
    obtain ⟨rfl, h⟩ := h
    split at h
    · rename_i x r
      obtain ⟨hn, h9⟩ := h
      obtain ⟨v, M1, k, q⟩ := hK _ _ _ _ h9
      exact ⟨v, M1, o_istore_n hn hd k, q⟩
    · exact h.elim
  | istore k0 =>
    obtain ⟨rfl, h⟩ := h
    split at h
    · rename_i x r
      obtain ⟨hn, h9⟩ := h
      obtain ⟨v, M1, k, q⟩ := hK _ _ _ _ h9
      exact ⟨v, M1, o_istore hn hd k, q⟩
    · exact h.elim
  | lstore_n k0 =>
    obtain ⟨rfl, h⟩ := h
    split at h
    · rename_i x r
      obtain ⟨hn, h9⟩ := h
      obtain ⟨v, M1, k, q⟩ := hK _ _ _ _ h9
      exact ⟨v, M1, o_lstore_n hn hd k, q⟩
    · exact h.elim
  | lstore k0 =>
    obtain ⟨rfl, h⟩ := h
    split at h
    · rename_i x r
      obtain ⟨hn, h9⟩ := h
      obtain ⟨v, M1, k, q⟩ := hK _ _ _ _ h9
      exact ⟨v, M1, o_lstore hn hd k, q⟩
    · exact h.elim
  | astore_n k0 =>
    obtain ⟨rfl, h⟩ := h
    split at h
    · rename_i x r
      obtain ⟨hw, hn, h9⟩ := h
      obtain ⟨v, M1, k, q⟩ := hK _ _ _ _ h9
      exact ⟨v, M1, o_astore_n hw hn hd k, q⟩
    · exact h.elim
  | astore k0 =>
    obtain ⟨rfl, h⟩ := h
    split at h
    · rename_i x r
      obtain ⟨hw, hn, h9⟩ := h
      obtain ⟨v, M1, k, q⟩ := hK _ _ _ _ h9
      exact ⟨v, M1, o_astore hw hn hd k, q⟩
    · exact h.elim
  | iinc k0 c0 =>
    obtain ⟨rfl, h⟩ := h
    split at h
    · rename_i x hx
      obtain ⟨v, M1, k, q⟩ := hK _ _ _ _ (h)
      exact ⟨v, M1, o_iinc hx hd k, q⟩
    · exact h.elim
  | iadd =>
    obtain ⟨rfl, h⟩ := h
    split at h
    · obtain ⟨v, M1, k, q⟩ := hK _ _ _ _ (h)
      exact ⟨v, M1, o_iadd hd k, q⟩
    · exact h.elim
  | isub =>
    obtain ⟨rfl, h⟩ := h
    split at h
    · obtain ⟨v, M1, k, q⟩ := hK _ _ _ _ (h)
      exact ⟨v, M1, o_isub hd k, q⟩
    · exact h.elim
  | imul =>
    obtain ⟨rfl, h⟩ := h
    split at h
    · obtain ⟨v, M1, k, q⟩ := hK _ _ _ _ (h)
      exact ⟨v, M1, o_imul hd k, q⟩
    · exact h.elim
  | iand =>
    obtain ⟨rfl, h⟩ := h
    split at h
    · obtain ⟨v, M1, k, q⟩ := hK _ _ _ _ (h)
      exact ⟨v, M1, o_iand hd k, q⟩
    · exact h.elim
  | ior =>
    obtain ⟨rfl, h⟩ := h
    split at h
    · obtain ⟨v, M1, k, q⟩ := hK _ _ _ _ (h)
      exact ⟨v, M1, o_ior hd k, q⟩
    · exact h.elim
  | ixor =>
    obtain ⟨rfl, h⟩ := h
    split at h
    · obtain ⟨v, M1, k, q⟩ := hK _ _ _ _ (h)
      exact ⟨v, M1, o_ixor hd k, q⟩
    · exact h.elim
  | ishl =>
    obtain ⟨rfl, h⟩ := h
    split at h
    · obtain ⟨v, M1, k, q⟩ := hK _ _ _ _ (h)
      exact ⟨v, M1, o_ishl hd k, q⟩
    · exact h.elim
  | ishr =>
    obtain ⟨rfl, h⟩ := h
    split at h
    · obtain ⟨v, M1, k, q⟩ := hK _ _ _ _ (h)
      exact ⟨v, M1, o_ishr hd k, q⟩
    · exact h.elim
  | iushr =>
    obtain ⟨rfl, h⟩ := h
    split at h
    · obtain ⟨v, M1, k, q⟩ := hK _ _ _ _ (h)
      exact ⟨v, M1, o_iushr hd k, q⟩
    · exact h.elim
  | ladd =>
    obtain ⟨rfl, h⟩ := h
    split at h
    · obtain ⟨v, M1, k, q⟩ := hK _ _ _ _ (h)
      exact ⟨v, M1, o_ladd hd k, q⟩
    · exact h.elim
  | lsub =>
    obtain ⟨rfl, h⟩ := h
    split at h
    · obtain ⟨v, M1, k, q⟩ := hK _ _ _ _ (h)
      exact ⟨v, M1, o_lsub hd k, q⟩
    · exact h.elim
  | lmul =>
    obtain ⟨rfl, h⟩ := h
    split at h
    · obtain ⟨v, M1, k, q⟩ := hK _ _ _ _ (h)
      exact ⟨v, M1, o_lmul hd k, q⟩
    · exact h.elim
  | land =>
    obtain ⟨rfl, h⟩ := h
    split at h
    · obtain ⟨v, M1, k, q⟩ := hK _ _ _ _ (h)
      exact ⟨v, M1, o_land hd k, q⟩
    · exact h.elim
  | lor =>
    obtain ⟨rfl, h⟩ := h
    split at h
    · obtain ⟨v, M1, k, q⟩ := hK _ _ _ _ (h)
      exact ⟨v, M1, o_lor hd k, q⟩
    · exact h.elim
  | lshl =>
    obtain ⟨rfl, h⟩ := h
    split at h
    · obtain ⟨v, M1, k, q⟩ := hK _ _ _ _ (h)
      exact ⟨v, M1, o_lshl hd k, q⟩
    · exact h.elim
  | lshr =>
    obtain ⟨rfl, h⟩ := h
    split at h
    · obtain ⟨v, M1, k, q⟩ := hK _ _ _ _ (h)
      exact ⟨v, M1, o_lshr hd k, q⟩
    · exact h.elim
  | lcmp =>
    obtain ⟨rfl, h⟩ := h
    split at h
    · obtain ⟨v, M1, k, q⟩ := hK _ _ _ _ (h)
      exact ⟨v, M1, o_lcmp hd k, q⟩
    · exact h.elim
  | i2l =>
    obtain ⟨rfl, h⟩ := h
    split at h
    · obtain ⟨v, M1, k, q⟩ := hK _ _ _ _ (h)
      exact ⟨v, M1, o_i2l hd k, q⟩
    · exact h.elim
  | l2i =>
    obtain ⟨rfl, h⟩ := h
    split at h
    · obtain ⟨v, M1, k, q⟩ := hK _ _ _ _ (h)
      exact ⟨v, M1, o_l2i hd k, q⟩
    · exact h.elim
  | i2b =>
    obtain ⟨rfl, h⟩ := h
    split at h
    · obtain ⟨v, M1, k, q⟩ := hK _ _ _ _ (h)
      exact ⟨v, M1, o_i2b hd k, q⟩
    · exact h.elim
  | i2s =>
    obtain ⟨rfl, h⟩ := h
    split at h
    · obtain ⟨v, M1, k, q⟩ := hK _ _ _ _ (h)
      exact ⟨v, M1, o_i2s hd k, q⟩
    · exact h.elim
  | idiv =>
    obtain ⟨rfl, h⟩ := h
    split at h
    · obtain ⟨h0, h9⟩ := h
      obtain ⟨v, M1, k, q⟩ := hK _ _ _ _ h9
      exact ⟨v, M1, o_idiv h0 hd k, q⟩
    · exact h.elim
  | irem =>
    obtain ⟨rfl, h⟩ := h
    split at h
    · obtain ⟨h0, h9⟩ := h
      obtain ⟨v, M1, k, q⟩ := hK _ _ _ _ h9
      exact ⟨v, M1, o_irem h0 hd k, q⟩
    · exact h.elim
  | ldiv =>
    obtain ⟨rfl, h⟩ := h
    split at h
    · obtain ⟨h0, h9⟩ := h
      obtain ⟨v, M1, k, q⟩ := hK _ _ _ _ h9
      exact ⟨v, M1, o_ldiv h0 hd k, q⟩
    · exact h.elim
  | lrem =>
    obtain ⟨rfl, h⟩ := h
    split at h
    · obtain ⟨h0, h9⟩ := h
      obtain ⟨v, M1, k, q⟩ := hK _ _ _ _ h9
      exact ⟨v, M1, o_lrem h0 hd k, q⟩
    · exact h.elim
  | dup =>
    obtain ⟨rfl, h⟩ := h
    split at h
    · obtain ⟨h0, h9⟩ := h
      obtain ⟨v, M1, k, q⟩ := hK _ _ _ _ h9
      exact ⟨v, M1, o_dup h0 hd k, q⟩
    · exact h.elim
  | pop =>
    obtain ⟨rfl, h⟩ := h
    split at h
    · obtain ⟨h0, h9⟩ := h
      obtain ⟨v, M1, k, q⟩ := hK _ _ _ _ h9
      exact ⟨v, M1, o_pop h0 hd k, q⟩
    · exact h.elim
  | dup2 =>
    obtain ⟨rfl, h⟩ := h
    split at h
    · obtain ⟨h0, h1, h9⟩ := h
      obtain ⟨v, M1, k, q⟩ := hK _ _ _ _ h9
      exact ⟨v, M1, o_dup2 h0 h1 hd k, q⟩
    · exact h.elim
  | goto off =>
    obtain ⟨rfl, hj, h9⟩ := h
    obtain ⟨v, M1, k, q⟩ := hK _ _ _ _ h9
    exact ⟨v, M1, o_goto hj hd k, q⟩
  | ifCond cn off =>
    obtain ⟨rfl, h⟩ := h
    split at h
    · cases cn <;> dsimp only at h
      · obtain ⟨hj, ht, hf⟩ := h
        refine ab_em ht hf (fun z hq => ?_) (fun z hq => ?_)
        · obtain ⟨v, M1, k, q⟩ := hK _ _ _ _ (hq)
          exact ⟨v, M1, o_if_eq_t hj z hd k, q⟩
        · obtain ⟨v, M1, k, q⟩ := hK _ _ _ _ (hq)
          exact ⟨v, M1, o_if_eq_f hj z hd k, q⟩
      · obtain ⟨hj, ht, hf⟩ := h
        refine ab_em ht hf (fun z hq => ?_) (fun z hq => ?_)
        · obtain ⟨v, M1, k, q⟩ := hK _ _ _ _ (hq)
          exact ⟨v, M1, o_if_ne_t hj z hd k, q⟩
        · obtain ⟨v, M1, k, q⟩ := hK _ _ _ _ (hq)
          exact ⟨v, M1, o_if_ne_f hj z hd k, q⟩
      · obtain ⟨hj, ht, hf⟩ := h
        refine ab_em ht hf (fun z hq => ?_) (fun z hq => ?_)
        · obtain ⟨v, M1, k, q⟩ := hK _ _ _ _ (hq)
          exact ⟨v, M1, o_if_lt_t hj z hd k, q⟩
        · obtain ⟨v, M1, k, q⟩ := hK _ _ _ _ (hq)
          exact ⟨v, M1, o_if_lt_f hj z hd k, q⟩
      · obtain ⟨hj, ht, hf⟩ := h
        refine ab_em ht hf (fun z hq => ?_) (fun z hq => ?_)
        · obtain ⟨v, M1, k, q⟩ := hK _ _ _ _ (hq)
          exact ⟨v, M1, o_if_ge_t hj z hd k, q⟩
        · obtain ⟨v, M1, k, q⟩ := hK _ _ _ _ (hq)
          exact ⟨v, M1, o_if_ge_f hj z hd k, q⟩
      · obtain ⟨hj, ht, hf⟩ := h
        refine ab_em ht hf (fun z hq => ?_) (fun z hq => ?_)
        · obtain ⟨v, M1, k, q⟩ := hK _ _ _ _ (hq)
          exact ⟨v, M1, o_if_gt_t hj z hd k, q⟩
        · obtain ⟨v, M1, k, q⟩ := hK _ _ _ _ (hq)
          exact ⟨v, M1, o_if_gt_f hj z hd k, q⟩
      · obtain ⟨hj, ht, hf⟩ := h
        refine ab_em ht hf (fun z hq => ?_) (fun z hq => ?_)
        · obtain ⟨v, M1, k, q⟩ := hK _ _ _ _ (hq)
          exact ⟨v, M1, o_if_le_t hj z hd k, q⟩
        · obtain ⟨v, M1, k, q⟩ := hK _ _ _ _ (hq)
          exact ⟨v, M1, o_if_le_f hj z hd k, q⟩
    · exact h.elim
  | if_icmp cn off =>
    obtain ⟨rfl, h⟩ := h
    split at h
    · cases cn <;> dsimp only at h
      · obtain ⟨hj, ht, hf⟩ := h
        refine ab_em ht hf (fun z hq => ?_) (fun z hq => ?_)
        · obtain ⟨v, M1, k, q⟩ := hK _ _ _ _ (hq)
          exact ⟨v, M1, o_ic_eq_t hj z hd k, q⟩
        · obtain ⟨v, M1, k, q⟩ := hK _ _ _ _ (hq)
          exact ⟨v, M1, o_ic_eq_f hj z hd k, q⟩
      · obtain ⟨hj, ht, hf⟩ := h
        refine ab_em ht hf (fun z hq => ?_) (fun z hq => ?_)
        · obtain ⟨v, M1, k, q⟩ := hK _ _ _ _ (hq)
          exact ⟨v, M1, o_ic_ne_t hj z hd k, q⟩
        · obtain ⟨v, M1, k, q⟩ := hK _ _ _ _ (hq)
          exact ⟨v, M1, o_ic_ne_f hj z hd k, q⟩
      · obtain ⟨hj, ht, hf⟩ := h
        refine ab_em ht hf (fun z hq => ?_) (fun z hq => ?_)
        · obtain ⟨v, M1, k, q⟩ := hK _ _ _ _ (hq)
          exact ⟨v, M1, o_ic_lt_t hj z hd k, q⟩
        · obtain ⟨v, M1, k, q⟩ := hK _ _ _ _ (hq)
          exact ⟨v, M1, o_ic_lt_f hj z hd k, q⟩
      · obtain ⟨hj, ht, hf⟩ := h
        refine ab_em ht hf (fun z hq => ?_) (fun z hq => ?_)
        · obtain ⟨v, M1, k, q⟩ := hK _ _ _ _ (hq)
          exact ⟨v, M1, o_ic_ge_t hj z hd k, q⟩
        · obtain ⟨v, M1, k, q⟩ := hK _ _ _ _ (hq)
          exact ⟨v, M1, o_ic_ge_f hj z hd k, q⟩
      · obtain ⟨hj, ht, hf⟩ := h
        refine ab_em ht hf (fun z hq => ?_) (fun z hq => ?_)
        · obtain ⟨v, M1, k, q⟩ := hK _ _ _ _ (hq)
          exact ⟨v, M1, o_ic_gt_t hj z hd k, q⟩
        · obtain ⟨v, M1, k, q⟩ := hK _ _ _ _ (hq)
          exact ⟨v, M1, o_ic_gt_f hj z hd k, q⟩
      · obtain ⟨hj, ht, hf⟩ := h
        refine ab_em ht hf (fun z hq => ?_) (fun z hq => ?_)
        · obtain ⟨v, M1, k, q⟩ := hK _ _ _ _ (hq)
          exact ⟨v, M1, o_ic_le_t hj z hd k, q⟩
        · obtain ⟨v, M1, k, q⟩ := hK _ _ _ _ (hq)
          exact ⟨v, M1, o_ic_le_f hj z hd k, q⟩
    · exact h.elim
  | ifnull off =>
    obtain ⟨rfl, h⟩ := h
    split at h
    · split at h
      · rename_i w r q hq
        have e := ab_rv_of hq
        subst e
        obtain ⟨hj, ht, hf⟩ := h
        cases q with
        | none =>
          obtain ⟨v, M1, k, q⟩ := hK _ _ _ _ (ht rfl)
          exact ⟨v, M1, o_null_t hj hd k, q⟩
        | some a =>
          obtain ⟨v, M1, k, q⟩ := hK _ _ _ _ (hf (fun z => by cases z))
          exact ⟨v, M1, o_null_f hd k, q⟩
      · exact h.elim
    · exact h.elim
  | ifnonnull off =>
    obtain ⟨rfl, h⟩ := h
    split at h
    · split at h
      · rename_i w r q hq
        have e := ab_rv_of hq
        subst e
        obtain ⟨hj, ht, hf⟩ := h
        cases q with
        | none =>
          obtain ⟨v, M1, k, q⟩ := hK _ _ _ _ (hf (fun z => z rfl))
          exact ⟨v, M1, o_nonn_f hd k, q⟩
        | some a =>
          obtain ⟨v, M1, k, q⟩ := hK _ _ _ _ (ht (fun z => by cases z))
          exact ⟨v, M1, o_nonn_t hj hd k, q⟩
      · exact h.elim
    · exact h.elim
  | tableswitch dflt lo hi offs =>
    dsimp only at h
    split at h
    · rename_i x r
      obtain ⟨hhi, h1, h2⟩ := h
      by_cases hx : x.toInt < lo ∨ hi < x.toInt
      · obtain ⟨hj, h9⟩ := h1 hx
        obtain ⟨v, M1, k, q⟩ := hK _ _ _ _ h9
        exact ⟨v, M1, o_tsw_d hx hj hd k, q⟩
      · have hx1 : ¬ x.toInt < lo := fun q => hx (Or.inl q)
        have hx2 : ¬ hi < x.toInt := fun q => hx (Or.inr q)
        have hlt : (x.toInt - lo).toNat < offs.size := by omega
        have ho : offs[(x.toInt - lo).toNat]? = some (offs[(x.toInt - lo).toNat]) := Array.getElem?_eq_getElem hlt
        obtain ⟨hj, h9⟩ := ab_sw_ok (K := fun p => K p L r M) offs.toList lo h2 (x.toInt - lo).toNat _ (by rw [Array.getElem?_toList]; exact ho) (by omega)
        obtain ⟨v, M1, k, q⟩ := hK _ _ _ _ h9
        exact ⟨v, M1, o_tsw_i hx1 hx2 ho hj hd k, q⟩
    · exact h.elim
  | getfield idx =>
    obtain ⟨rfl, h⟩ := h
    split at h
    · rename_i a r
      unfold ab_obj at h
      split at h
      · rename_i c nn hh
        obtain ⟨hc, h⟩ := h
        unfold ab_fd at h
        split at h
        · rename_i k0 hk0
          obtain ⟨v, M1, k, q⟩ := hK _ _ _ _ (h)
          exact ⟨v, M1, o_get hh hc hk0 hd k, q⟩
        · exact h.elim
      · exact h.elim
    · exact h.elim
  | putfield idx =>
    obtain ⟨rfl, h⟩ := h
    split at h
    · rename_i w a r
      unfold ab_obj at h
      split at h
      · rename_i c nn hh
        obtain ⟨hc, h⟩ := h
        unfold ab_fd at h
        split at h
        · rename_i k0 hk0
          obtain ⟨hfin, h⟩ := h
          have key : ∃ Mn, ab_pw M a k0 (ab_kd (ab_tyc c k0)) w Mn ∧ ab_Wp l g (d + 1) own ini cc nL (pc + 3) L r Mn Q := by
            unfold ab_pf at h
            by_cases k1 : ab_kd (ab_tyc c k0) = 1
            · rw [if_pos k1] at h
              split at h
              · exact ⟨_, Or.inr (Or.inl ⟨_, rfl, rfl, k1⟩), hK _ _ _ _ h⟩
              · exact h.elim
            · rw [if_neg k1] at h
              by_cases k2 : ab_kd (ab_tyc c k0) = 2
              · rw [if_pos k2] at h
                split at h
                · rename_i q hq
                  exact ⟨_, Or.inr (Or.inr ⟨_, ab_rv_of hq, rfl, k2⟩), hK _ _ _ _ h⟩
                · exact h.elim
              · rw [if_neg k2] at h
                split at h
                · exact ⟨_, Or.inl ⟨_, rfl, rfl, h.1⟩, hK _ _ _ _ h.2⟩
                · exact h.elim
          obtain ⟨Mn, hpw, v, M1, k, q⟩ := key
          have hmono : ab_z M ≤ ab_z M1 ∧ ab_s M ≤ ab_s M1 := by
            rcases hpw with ⟨x, -, rfl, -⟩ | ⟨x, -, rfl, -⟩ | ⟨x, -, rfl, -⟩ <;> exact ⟨k.1, k.2.1⟩
          exact ⟨v, M1, ab_lift hh (by omega) (fun ha => o_put hh hc hk0 hfin hpw hd k ha) hmono, q⟩
        · exact h.elim
      · exact h.elim
    · exact h.elim
  | iaload =>
    obtain ⟨rfl, h⟩ := h
    split at h
    · split at h
      · rename_i c len hh
        obtain ⟨hc, hin, h9⟩ := h
        obtain ⟨v, M1, k, q⟩ := hK _ _ _ _ h9
        rcases hc with rfl | rfl
        · exact ⟨v, M1, o_iald hh hin hd k, q⟩
        · exact ⟨v, M1, o_sld hh hin hd k, q⟩
      · exact h.elim
    · exact h.elim
  | baload =>
    obtain ⟨rfl, h⟩ := h
    split at h
    · split at h
      · rename_i c len hh
        obtain ⟨hc, hin, h9⟩ := h
        obtain ⟨v, M1, k, q⟩ := hK _ _ _ _ h9
        rcases hc with rfl | rfl
        · exact ⟨v, M1, o_bald hh hin hd k, q⟩
        · exact ⟨v, M1, o_zald hh hin hd k, q⟩
      · exact h.elim
    · exact h.elim
  | saload =>
    obtain ⟨rfl, h⟩ := h
    split at h
    · unfold ab_arr at h
      split at h
      · rename_i c len hh
        obtain ⟨rfl, hin, h9⟩ := h
        obtain ⟨v, M1, k, q⟩ := hK _ _ _ _ h9
        exact ⟨v, M1, o_sald hh hin hd k, q⟩
      · exact h.elim
    · exact h.elim
  | laload =>
    obtain ⟨rfl, h⟩ := h
    split at h
    · unfold ab_arr at h
      split at h
      · rename_i c len hh
        obtain ⟨rfl, hin, h9⟩ := h
        obtain ⟨v, M1, k, q⟩ := hK _ _ _ _ h9
        exact ⟨v, M1, o_lald hh hin hd k, q⟩
      · exact h.elim
    · exact h.elim
  | aaload =>
    obtain ⟨rfl, h⟩ := h
    split at h
    · split at h
      · rename_i c len hh
        obtain ⟨hc, hin, h9⟩ := h
        obtain ⟨v, M1, k, q⟩ := hK _ _ _ _ h9
        exact ⟨v, M1, o_aald hh hc hin hd k, q⟩
      · exact h.elim
    · exact h.elim
  | iastore =>
    obtain ⟨rfl, h⟩ := h
    split at h
    · unfold ab_arr at h
      split at h
      · rename_i c len hh
        obtain ⟨rfl, hin, h9⟩ := h
        obtain ⟨v, M1, k, q⟩ := hK _ _ _ _ h9
        exact ⟨v, M1, ab_lift hh (by decide) (fun ha => o_iast ha hh hin hd k) ⟨k.1, k.2.1⟩, q⟩
      · exact h.elim
    · exact h.elim
  | sastore =>
    obtain ⟨rfl, h⟩ := h
    split at h
    · unfold ab_arr at h
      split at h
      · rename_i c len hh
        obtain ⟨rfl, hin, h9⟩ := h
        obtain ⟨v, M1, k, q⟩ := hK _ _ _ _ h9
        exact ⟨v, M1, ab_lift hh (by decide) (fun ha => o_sast ha hh hin hd k) ⟨k.1, k.2.1⟩, q⟩
      · exact h.elim
    · exact h.elim
  | lastore =>
    obtain ⟨rfl, h⟩ := h
    split at h
    · unfold ab_arr at h
      split at h
      · rename_i c len hh
        obtain ⟨rfl, hin, h9⟩ := h
        obtain ⟨v, M1, k, q⟩ := hK _ _ _ _ h9
        exact ⟨v, M1, ab_lift hh (by decide) (fun ha => o_last ha hh hin hd k) ⟨k.1, k.2.1⟩, q⟩
      · exact h.elim
    · exact h.elim
  | bastore =>
    obtain ⟨rfl, h⟩ := h
    split at h
    · split at h
      · rename_i c len hh
        by_cases hc : c = 65
        · rw [if_pos hc] at h
          subst hc
          obtain ⟨hin, h9⟩ := h
          obtain ⟨v, M1, k, q⟩ := hK _ _ _ _ h9
          exact ⟨v, M1, ab_lift hh (by decide) (fun ha => o_bast ha hh hin hd k) ⟨k.1, k.2.1⟩, q⟩
        · rw [if_neg hc] at h
          obtain ⟨rfl, hx, hin, h9⟩ := h
          obtain ⟨v, M1, k, q⟩ := hK _ _ _ _ h9
          exact ⟨v, M1, ab_lift hh (by decide) (fun ha => o_zast ha hh hx hin hd k) ⟨k.1, k.2.1⟩, q⟩
      · exact h.elim
    · exact h.elim
  | aastore =>
    obtain ⟨rfl, h⟩ := h
    split at h
    · split at h
      · rename_i c len cb nb hh hb
        obtain ⟨hcan, hc, hin, h9⟩ := h
        obtain ⟨v, M1, k, q⟩ := hK _ _ _ _ h9
        exact ⟨v, M1, ab_lift hh (by omega) (fun ha => o_aast ha hh hb hcan hc hin hd k) ⟨k.1, k.2.1⟩, q⟩
      · exact h.elim
    · exact h.elim
  | arraylength =>
    obtain ⟨rfl, h⟩ := h
    split at h
    · split at h
      · rename_i c len hh
        obtain ⟨hc, h9⟩ := h
        obtain ⟨v, M1, k, q⟩ := hK _ _ _ _ h9
        exact ⟨v, M1, o_alen hh hc hd k, q⟩
      · exact h.elim
    · exact h.elim
  | newarray t =>
    obtain ⟨rfl, h⟩ := h
    split at h
    · split at h
      · rename_i k0 hk0
        obtain ⟨h0, h1, h9⟩ := h
        obtain ⟨v, M1, k, q⟩ := hK _ _ _ _ h9
        exact ⟨v, M1, o_newa hk0 h0 h1 hd k, q⟩
      · exact h.elim
    · exact h.elim
  | anewarray idx =>
    obtain ⟨rfl, h⟩ := h
    split at h
    · split at h
      · rename_i k0 hk0
        obtain ⟨h0, h1, h9⟩ := h
        obtain ⟨v, M1, k, q⟩ := hK _ _ _ _ h9
        exact ⟨v, M1, o_anew hk0 h0 h1 hd k, q⟩
      · exact h.elim
    · exact h.elim
  | new idx =>
    obtain ⟨rfl, h⟩ := h
    split at h
    · rename_i c hc
      obtain ⟨v, M1, k, q⟩ := hK _ _ _ _ (h)
      exact ⟨v, M1, o_new hc hd k, q⟩
    · exact h.elim
  | checkcast idx =>
    obtain ⟨rfl, h⟩ := h
    split at h
    · rename_i w r
      split at h
      · rename_i t ht
        obtain ⟨hw, h9⟩ := h
        obtain ⟨v, M1, k, q⟩ := hK _ _ _ _ h9
        rcases hw with rfl | hw
        · exact ⟨v, M1, o_castN hd k, q⟩
        · unfold ab_cast at hw
          split at hw
          · cases hw
          · rename_i a ha
            have e := ab_rv_of ha
            subst e
            split at hw
            · rename_i c nn hh
              split at hw
              · rename_i hc
                have e : c = 64 + t := by simpa using hw
                subst e
                exact ⟨v, M1, o_cast ht hh hd k, q⟩
              · cases hw
            · cases hw
          · cases hw
      · exact h.elim
    · exact h.elim
  | instanceof idx =>
    obtain ⟨rfl, h⟩ := h
    split at h
    · rename_i w r
      split at h
      · rename_i t ht
        split at h
        · rename_i b hw
          obtain ⟨h3, h9⟩ := h
          obtain ⟨v, M1, k, q⟩ := hK _ _ _ _ h9
          unfold ab_cast at hw
          split at hw
          · rename_i hn
            have e := ab_rv_of hn
            subst e
            cases hw
            exact ⟨v, M1, o_instN hd k, q⟩
          · rename_i a ha
            have e := ab_rv_of ha
            subst e
            split at hw
            · rename_i c nn hh
              split at hw
              · rename_i hc
                by_cases e : c = 64 + t
                · subst e
                  have eb : b = true := by simpa using hw.symm
                  subst eb
                  exact ⟨v, M1, o_instY ht hh hd k, q⟩
                · obtain ⟨u, rfl⟩ : ∃ u, c = 64 + u := ⟨c - 64, by omega⟩
                  have eb : b = false := by
                    have : (64 + u == 64 + t) = false := by simpa using e
                    rw [this] at hw
                    exact (Option.some.inj hw).symm
                  subst eb
                  exact ⟨v, M1, o_instF ht h3 (by omega) (by omega) hh hd k, q⟩
              · cases hw
            · cases hw
          · cases hw
        · exact h.elim
      · exact h.elim
    · exact h.elim
  | invokestatic idx =>
    obtain ⟨rfl, h⟩ := h
    split at h
    · rename_i mid na hl hn
      obtain ⟨hle, hr, w, Mw, hC, h9⟩ := h
      obtain ⟨v, M1, k, q⟩ := hK _ _ _ _ h9
      have e : st = (st.take na).reverse.reverse ++ st.drop na := by rw [List.reverse_reverse, List.take_append_drop]
      rw [e]
      exact ⟨v, M1, o_callS hl hn (by simp [hle]) hr hd hC k, q⟩
    · obtain ⟨hlc, h⟩ := h
      split at h
      · rename_i len dp a sp b r
        obtain ⟨hr, h1, h2, h3, h⟩ := h
        split at h
        · rename_i c0 n0 c1 n1 hb ha
          obtain ⟨h4, h5, rfl, h⟩ := h
          by_cases hc : c0 = 64
          · rw [if_pos hc] at h
            subst hc
            obtain ⟨v, M1, k, q⟩ := hK _ _ _ _ (h)
            exact ⟨v, M1, ab_lift ha (by decide) (fun h64 => o_copyI hlc h64 hb ha hr h1 h2 h3 h4 h5 hd k) ⟨k.1, k.2.1⟩, q⟩
          · rw [if_neg hc] at h
            obtain ⟨rfl, h9⟩ := h
            obtain ⟨v, M1, k, q⟩ := hK _ _ _ _ h9
            exact ⟨v, M1, ab_lift ha (by decide) (fun h64 => o_copyL hlc h64 hb ha hr h1 h2 h3 h4 h5 hd k) ⟨k.1, k.2.1⟩, q⟩
        · exact h.elim
      · exact h.elim
  | invokespecial idx =>
    obtain ⟨rfl, h⟩ := h
    split at h
    · rename_i mid na hl hn
      split at h
      · rename_i a r hdr
        obtain ⟨hle, hr, w, Mw, hC, h9⟩ := h
        obtain ⟨v, M1, k, q⟩ := hK _ _ _ _ h9
        have e : st = (st.take na).reverse.reverse ++ .ref a :: r := by rw [List.reverse_reverse, ← hdr, List.take_append_drop]
        rw [e]
        exact ⟨v, M1, o_callI hl hn (by simp [hle]) hr hd hC k, q⟩
      · exact h.elim
    · obtain ⟨hlo, h⟩ := h
      split at h
      · obtain ⟨hr, h9⟩ := h
        obtain ⟨v, M1, k, q⟩ := hK _ _ _ _ h9
        exact ⟨v, M1, o_obj hlo hr hd k, q⟩
      · exact h.elim
  | invokevirtual idx =>
    obtain ⟨rfl, h⟩ := h
    split at h
    · rename_i na hn
      split at h
      · rename_i a r hdr
        have e : st = (st.take na).reverse.reverse ++ .ref a :: r := by rw [List.reverse_reverse, ← hdr, List.take_append_drop]
        split at h
        · rename_i c nn hh
          obtain ⟨hc, h⟩ := h
          split at h
          · rename_i mid hl
            obtain ⟨hle, hr, w, Mw, hC, h9⟩ := h
            obtain ⟨v, M1, k, q⟩ := hK _ _ _ _ h9
            rw [e]
            exact ⟨v, M1, o_callV hh hc hl hn (by simp [hle]) hr hd hC k, q⟩
          · exact h.elim
        · obtain ⟨ha, h⟩ := h
          split at h
          · rename_i mid hl
            obtain ⟨hle, hr, w, Mw, hC, h9⟩ := h
            obtain ⟨v, M1, k, q⟩ := hK _ _ _ _ h9
            rw [e]
            exact ⟨v, M1, o_callT ha hl hn (by simp [hle]) hr hd hC k, q⟩
          · exact h.elim
      · exact h.elim
    · exact h.elim
  | ireturn =>
    obtain ⟨rfl, h⟩ := h
    split at h
    · exact ⟨_, _, o_ret (v := some (.int _)) hd rfl, h⟩
    · exact h.elim
  | lreturn =>
    obtain ⟨rfl, h⟩ := h
    split at h
    · exact ⟨_, _, o_ret (v := some (.long _)) hd rfl, h⟩
    · exact h.elim
  | areturn =>
    obtain ⟨rfl, h⟩ := h
    split at h
    · rename_i w
      obtain ⟨hw, h⟩ := h
      refine ⟨some w, _, o_ret hd ?_, h⟩
      cases w <;> simp [ab_rv] at hw <;> rfl
    · exact h.elim
  | return_ =>
    obtain ⟨rfl, h⟩ := h
    split at h
    · exact ⟨none, _, o_ret hd rfl, h⟩
    · exact h.elim
  | _ =>
    exact h.elim
end ABY
