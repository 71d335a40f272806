/-! ===== constants, new cells, casts, arraycopy, calls ===== -/
theorem ab_ks_all : ∀ e ∈ ab_ksT, 1 ≤ e.2.2 ∧ e.2.2 < 26 := by decide +kernel
theorem ab_kd_all : ∀ (c : Nat) (q : vw_C), vwCl[c]? = some q → ∀ k, k < q.2.2 → ab_kd (ab_tyc c k) ≠ 9 := by
  intro c q h
  match c, h with
  | 0, h => cases h; decide +kernel
  | 1, h => cases h; decide +kernel
  | 2, h => cases h; decide +kernel
  | 3, h => cases h; decide +kernel
  | 4, h => cases h; decide +kernel
  | 5, h => cases h; decide +kernel
  | 6, h => cases h; decide +kernel
  | 7, h => cases h; decide +kernel
  | 8, h => cases h; decide +kernel
  | 9, h => cases h; decide +kernel
  | 10, h => cases h; decide +kernel
  | 11, h => cases h; decide +kernel
  | 12, h => cases h; decide +kernel
  | 13, h => cases h; decide +kernel
  | 14, h => cases h; decide +kernel
  | 15, h => cases h; decide +kernel
  | c + 16, h => simp [vwCl] at h
theorem ab_P_new {g : ab_G} {M : ab_M} {c n : Nat} {H H1 : Heap} (hP : ab_P g M H) (hc : c ≠ 63) (h1 : va_at g.2.2.1 vwCl (ab_ph g (ab_z M), ab_ce g (ab_nw M c n) (ab_z M)) H1) (hz : H1.size = H.size + 1) (ho : ∀ q : Nat, q < H.size → H1[q]? = H[q]?) : ab_P g (ab_nw M c n) H1 := by
  obtain ⟨p1, p2, p3, p4⟩ := hP
  have p3' : ∀ a x, ab_h M a = some x → a < ab_z M := by
    intro a x hx
    rcases p3 a x.1 x.2 hx with q | q
    · omega
    · exact q.2.2
  refine ⟨show 64 ≤ ab_z M + 1 by omega, show H1.size = g.1 + (ab_z M + 1 - 64) by omega, fun a c' n' h => ?_, ?_⟩
  · have e : (if a = ab_z M then some (c, n) else ab_h M a) = some (c', n') := h
    by_cases ha : a = ab_z M
    · rw [if_pos ha] at e
      cases e
      exact Or.inr ⟨hc, by omega, show a < ab_z M + 1 by omega⟩
    · rw [if_neg ha] at e
      rcases p3 a c' n' e with ⟨q1, q2, q3, q4⟩ | ⟨q1, q2, q3⟩
      · refine Or.inl ⟨q1, q2, q3, fun j hj => ?_⟩
        have : ab_I (ab_nw M c n) 0 j = ab_I M 0 j := if_neg (by omega)
        rw [this]
        exact q4 j hj
      · exact Or.inr ⟨q1, q2, show a < ab_z M + 1 by omega⟩
  · rw [ab_W_new c n p1 p3']
    refine (p4.kept fun k q hk => ho q.1 ((p4 k q hk).lt)).app ?_
    intro k q hk
    have hz : k < 1 := (List.getElem?_eq_some_iff.mp hk).1
    rw [show k = 0 by omega] at hk
    cases hk
    exact h1
theorem ab_S_new {g : ab_G} {M : ab_M} {s : State} {H H1 : Heap} {locs : List Loc} (hS : va_S (ab_A g) s.heap H locs) (hz : H1.size = H.size + 1) (ho : ∀ q : Nat, q < H.size → H1[q]? = H[q]?) : va_S (ab_A g) s.heap H1 locs :=
  ⟨Nat.le_trans hS.1 (by omega), fun x h1 h2 => (ho x (Nat.lt_of_lt_of_le h1 hS.1)).trans (hS.2.1 x h1 h2), hS.2.2⟩
theorem ab_nw_I {M : ab_M} {c n : Nat} : ab_I (ab_nw M c n) (ab_z M) = fun _ => 0 := by funext j; exact if_pos rfl
theorem ab_nw_L {M : ab_M} {c n : Nat} : ab_L (ab_nw M c n) (ab_z M) = fun _ => 0 := by funext j; exact if_pos rfl
theorem ab_nw_R {M : ab_M} {c n : Nat} : ab_R (ab_nw M c n) (ab_z M) = fun _ => none := by funext j; exact if_pos rfl
theorem ab_nw_h {M : ab_M} {c n : Nat} : ab_h (ab_nw M c n) (ab_z M) = some (c, n) := if_pos rfl
theorem ab_born {g : ab_G} {M : ab_M} {c n k : Nat} {ty : FieldType} (h : ab_kd ty ≠ 9) : defaultValue ty = ab_cv g (ab_gv (ab_nw M c n) (ab_z M) k (ab_kd ty)) := by
  unfold ab_gv
  rw [ab_nw_I, ab_nw_L, ab_nw_R]
  cases ty <;> simp [ab_kd] at h <;> rfl
theorem ab_RA {g : ab_G} {s : State} (hE : ab_E g s) {t : Nat} (h : t < 5) : s.vm.findClass (ab_an t) = some (g.2.2.2.1 t) := by
  have h1 := (hE.1.2 t _ (ab_tys_at g (show t < 9 by omega))).2
  match t, h with
  | 0, _ => exact h1
  | 1, _ => exact h1
  | 2, _ => exact h1
  | 3, _ => exact h1
  | 4, _ => exact h1
theorem ab_RA9 {g : ab_G} {s : State} (hE : ab_E g s) {t : Nat} (h : t < 9) : s.vm.findClass (ab_an t) = some (g.2.2.2.1 t) := by
  by_cases h5 : t < 5
  · exact ab_RA hE h5
  · have h1 := (hE.1.2 t _ (ab_tys_at g h)).2
    unfold ab_an
    rw [ab_ty_hi (by omega)] at h1 ⊢
    obtain ⟨_, _, _, _, _, h6⟩ := h1
    exact h6
theorem ab_acw (t : ArrayType) {k : Nat} (h : ab_atT t = some k) : Cond.arrayClass (newarray.typeOf t) ∈ lw_all ∧ newarray.typeOf t = ab_ty k ∧ k < 5 := by
  cases t <;> simp [ab_atT] at h <;> subst h
  · exact ⟨q1607, rfl, by decide⟩
  · exact ⟨q360, rfl, by decide⟩
  · exact ⟨q1399, rfl, by decide⟩
  · exact ⟨q255, rfl, by decide⟩
  · exact ⟨q361, rfl, by decide⟩
section ABN
variable {l : Launch} {g : ab_G} {d own : Nat} {ini : Bool} {cc : ByteArray} {nL pc : Nat} {L : List (Option Value)} {st r : List Value} {M M' : ab_M} {v : Option Value}
theorem o_ldc {idx : Nat} {x : Int32} (h : ab_kc own idx = some x) (hd : decode cc pc = .ok (.ldc idx, 2)) (k : ab_Rn l g d own ini cc nL (pc + 2) L (.int x :: st) M v M') : ab_Rn l g d own ini cc nL pc L st M v M' :=
  ab_pure (fun hx hb ho ht hE hl k => lv_ldc hx hb ho (ht _ (ab_kc_all _ (ab_find2 h))) hd (k _ hl)) k
theorem o_ldcw {idx : Nat} {x : Int32} (h : ab_kc own idx = some x) (hd : decode cc pc = .ok (.ldc_w idx, 3)) (k : ab_Rn l g d own ini cc nL (pc + 3) L (.int x :: st) M v M') : ab_Rn l g d own ini cc nL pc L st M v M' :=
  ab_pure (fun hx hb ho ht hE hl k => lv_ldcw hx hb ho (ht _ (ab_kc_all _ (ab_find2 h))) hd (k _ hl)) k
theorem o_ldc2 {idx : Nat} {x : Int64} (h : ab_kl own idx = some x) (hd : decode cc pc = .ok (.ldc2_w idx, 3)) (k : ab_Rn l g d own ini cc nL (pc + 3) L (.long x :: st) M v M') : ab_Rn l g d own ini cc nL pc L st M v M' :=
  ab_pure (fun hx hb ho ht hE hl k => lv_ldc2 hx hb ho (ht _ (ab_kl_all _ (ab_find2 h))) hd (k _ hl)) k
theorem o_ldcS {idx q : Nat} (h : ab_ks own idx = some q) (hd : decode cc pc = .ok (.ldc idx, 2)) (k : ab_Rn l g d own ini cc nL (pc + 2) L (.ref q :: st) M v M') : ab_Rn l g d own ini cc nL pc L st M v M' := by
  refine ab_pure (fun hx hb ho ht hE hl k => ?_) k
  have hq := ab_ks_all _ (ab_find2 h)
  dsimp only at hq
  have e : ab_ph g q = g.2.1 q := if_pos (by omega)
  have k1 := k _ hl
  simp only [List.map_cons, ab_cv, e] at k1
  exact va_ldcS hx hb ho (hE.2.2.2.2.2.2.2.2 own idx q h) hd k1
theorem o_new {idx c : Nat} (h : ab_nc own idx = some c) (hd : decode cc pc = .ok (.new idx, 3)) (kk : ab_Rn l g d own ini cc nL (pc + 3) L (.ref (ab_z M) :: st) (ab_nw M c (ab_nf c)) v M') : ab_Rn l g d own ini cc nL pc L st M v M' := by
  refine ab_step (M1 := ab_nw M c (ab_nf c)) (Nat.le_succ _) (Nat.le_add_right _ _) ?_ kk
  intro p e R s m args below meth cd Q c0 l0 X hr1 hr2 H locs ls cells slots S k1
  obtain ⟨hx, hb, -, -, ho, ht, hE, -, hc0⟩ := X
  obtain ⟨hP, hS, hl, hcz, hsl⟩ := S
  obtain ⟨⟨C, T, N⟩, hq, h1, h2, h3⟩ := ab_nc_all _ (ab_find2 h)
  dsimp only at hq h1 h2 h3
  have hr1' : ab_z M + 1 ≤ R.cells + c0 := hr1
  have hr2' : ab_s M + ab_nf c ≤ R.slots + l0 := hr2
  have hKn := hE.1.1 c _ hq
  obtain ⟨hin, hty, -, -⟩ := ab_cls c _ hq
  have hp0 : ab_ph g (ab_z M) = H.size := by rw [ab_ph_hi g hP.1, hP.2.1]
  have hc16 : c < 16 := (List.getElem?_eq_some_iff.mp hq).1
  have hnf : ab_nf c = N := by unfold ab_nf; rw [hq]
  refine W.newcK hx hb ho (ht _ h1) (ht _ h2) (ht _ h3) rfl hd (by omega) (by omega) hKn.2.1 rfl fun H1 kC hkC e1 z1 o1 => ?_
  have k2 := k1 H1 locs ls (cells + 1) (slots + ab_nf c) ⟨ab_P_new hP (by omega) ?_ z1 o1, ab_S_new (M := M) hS z1 o1, hl, show cells + 1 + c0 = ab_z M + 1 by omega, show slots + ab_nf c + l0 = ab_s M + ab_nf c by omega⟩
  · simp only [List.map_cons, ab_cv, hp0] at k2
    exact k2
  · rw [ab_ce_obj ab_nw_h (by omega), hp0]
    refine ⟨_, hq, (u_born (ab_tyc c) ht hin hKn hkC e1 hty).to fun k hk => ?_⟩
    have hk' : k < ab_nf c := by rw [hnf]; exact hk
    rw [ab_born (g := g) (M := M) (c := c) (n := ab_nf c) (k := k) (ab_kd_all c _ hq k hk)]
    unfold vp_V
    simp [hk']
theorem o_newa {t : ArrayType} {k : Nat} {x : Int32} (hk : ab_atT t = some k) (hx0 : ¬ x < 0) (hle : x.toNatClampNeg ≤ 10000) (hd : decode cc pc = .ok (.newarray t, 2)) (kk : ab_Rn l g d own ini cc nL (pc + 2) L (.ref (ab_z M) :: r) (ab_nw M (64 + k) x.toNatClampNeg) v M') : ab_Rn l g d own ini cc nL pc L (.int x :: r) M v M' := by
  refine ab_step (M1 := ab_nw M (64 + k) x.toNatClampNeg) (Nat.le_succ _) (Nat.le_add_right _ _) ?_ kk
  intro p e R s m args below meth cd Q c0 l0 X hr1 hr2 H locs ls cells slots S k1
  obtain ⟨hx, hb, -, -, ho, ht, hE, -, hc0⟩ := X
  obtain ⟨hP, hS, hl, hcz, hsl⟩ := S
  obtain ⟨hw, hty, hk5⟩ := ab_acw t hk
  have hr1' : ab_z M + 1 ≤ R.cells + c0 := hr1
  have hr2' : ab_s M + x.toNatClampNeg ≤ R.slots + l0 := hr2
  have hp0 : ab_ph g (ab_z M) = H.size := by rw [ab_ph_hi g hP.1, hP.2.1]
  have hbytes : x.toNatClampNeg * componentBytes (newarray.typeOf t) ≤ 536870912 := by
    have h8 : componentBytes (newarray.typeOf t) ≤ 8 := by cases t <;> decide
    exact Nat.le_trans (Nat.mul_le_mul hle h8) (by decide)
  refine va_newaK hx hb (ht _ hw) rfl hd rfl hx0 rfl hbytes (by omega) (by omega) rfl fun H1 cA e1 z1 o1 hAr hNm => ?_
  have hcA : cA = g.2.2.2.1 k := by
    have := ab_RA hE hk5
    rw [hty] at hNm
    exact Option.some.inj (hNm.symm.trans this)
  have k2 := k1 H1 locs ls (cells + 1) (slots + x.toNatClampNeg) ⟨ab_P_new hP (by omega) ?_ z1 o1, ab_S_new (M := M) hS z1 o1, hl, show cells + 1 + c0 = ab_z M + 1 by omega, show slots + x.toNatClampNeg + l0 = ab_s M + x.toNatClampNeg by omega⟩
  · simp only [List.map_cons, ab_cv, hp0] at k2
    exact k2
  · rw [ab_ce_arr ab_nw_h, hp0, ab_nw_I, ab_nw_L]
    show H1[H.size]? = some (vp_cell _ _)
    rw [e1, hcA, hty]
    match k, hk5 with
    | 0, _ => rfl
    | 1, _ => rfl
    | 2, _ => rfl
    | 3, _ => rfl
    | 4, _ => rfl
theorem o_anew {idx k : Nat} {x : Int32} (hk : ab_na own idx = some k) (hx0 : ¬ x < 0) (hle : x.toNatClampNeg ≤ 10000) (hd : decode cc pc = .ok (.anewarray idx, 3)) (kk : ab_Rn l g d own ini cc nL (pc + 3) L (.ref (ab_z M) :: r) (ab_nw M (64 + k) x.toNatClampNeg) v M') : ab_Rn l g d own ini cc nL pc L (.int x :: r) M v M' := by
  refine ab_step (M1 := ab_nw M (64 + k) x.toNatClampNeg) (Nat.le_succ _) (Nat.le_add_right _ _) ?_ kk
  intro p e R s m args below meth cd Q c0 l0 X hr1 hr2 H locs ls cells slots S k1
  obtain ⟨hx, hb, -, -, ho, ht, hE, -, hc0⟩ := X
  obtain ⟨hP, hS, hl, hcz, hsl⟩ := S
  obtain ⟨hw, hk5, hk9⟩ := ab_na_all _ (ab_find2 hk)
  dsimp only at hw hk5 hk9
  have hr1' : ab_z M + 1 ≤ R.cells + c0 := hr1
  have hr2' : ab_s M + x.toNatClampNeg ≤ R.slots + l0 := hr2
  have hp0 : ab_ph g (ab_z M) = H.size := by rw [ab_ph_hi g hP.1, hP.2.1]
  refine W.anew hx hb ho (ht _ hw) (va_AO.use (hE.2.2.1 k hk5 hk9)) rfl hd rfl hx0 (by omega) (by omega) (by omega) fun cA kA comp f1 f2 f3 f4 => ?_
  generalize hH1 : H.push ({ cls := cA, slots := Array.replicate x.toNatClampNeg .null, vm := .none } : Cell) = H1
  have z1 : H1.size = H.size + 1 := by rw [← hH1, Array.size_push]
  have e1 : H1[H.size]? = some (arrV cA x.toNatClampNeg (fun _ => .null)) := by rw [← hH1, Array.getElem?_push_size, ← arrV_new]
  have o1 : ∀ q : Nat, q < H.size → H1[q]? = H[q]? := fun q hq => by rw [← hH1, Array.getElem?_push, if_neg (Nat.ne_of_lt hq)]
  have hcA : cA = g.2.2.2.1 k := by
    have := ab_RA9 hE hk9
    unfold ab_an at this
    rw [ab_ty_hi hk5] at this
    exact Option.some.inj (f1.symm.trans this)
  have k2 := k1 H1 locs ls (cells + 1) (slots + x.toNatClampNeg) ⟨ab_P_new hP (by omega) ?_ z1 o1, ab_S_new (M := M) hS z1 o1, hl, show cells + 1 + c0 = ab_z M + 1 by omega, show slots + x.toNatClampNeg + l0 = ab_s M + x.toNatClampNeg by omega⟩
  · simp only [List.map_cons, ab_cv, hp0] at k2
    exact k2
  · rw [ab_ce_arr ab_nw_h, hp0, ab_nw_R, if_neg (by omega), if_neg (by omega)]
    show H1[H.size]? = some (vp_cell _ _)
    rw [e1, hcA]
    rfl
theorem ab_arr_cell {M : ab_M} {H : Heap} {s : State} {a t n : Nat} (hE : ab_E g s) (hP : ab_P g M H) (ht : t < 9) (hh : ab_h M a = some (64 + t, n)) : ∃ cell : Cell, H[ab_ph g a]? = some cell ∧ cell.vm.isStatics = false ∧ s.vm.findClass (ab_an t) = some cell.cls := by
  obtain ⟨q0, hq0⟩ := ab_arr_at hP hh
  have h1 := hP.2.2.2 q0 _ hq0
  refine ⟨_, h1, ?_, ?_⟩
  · generalize (if t < 4 then Sum.inl (ab_I M a) else if t = 4 then Sum.inr (Sum.inl (ab_L M a)) else Sum.inr (Sum.inr (Sum.inr (Sum.inr fun i => Option.map (ab_ph g) (ab_R M a i)))) : (Nat → Int32) ⊕ (Nat → Int64) ⊕ (Nat → UInt32) ⊕ (Nat → UInt64) ⊕ (Nat → Option Nat)) = y
    rcases y with f | f | f | f | f <;> rfl
  · rw [ab_RA9 hE ht]
    generalize (if t < 4 then Sum.inl (ab_I M a) else if t = 4 then Sum.inr (Sum.inl (ab_L M a)) else Sum.inr (Sum.inr (Sum.inr (Sum.inr fun i => Option.map (ab_ph g) (ab_R M a i)))) : (Nat → Int32) ⊕ (Nat → Int64) ⊕ (Nat → UInt32) ⊕ (Nat → UInt64) ⊕ (Nat → Option Nat)) = y
    rcases y with f | f | f | f | f <;> rfl
theorem o_castN {idx : Nat} (hd : decode cc pc = .ok (.checkcast idx, 3)) (k : ab_Rn l g d own ini cc nL (pc + 3) L (.null :: r) M v M') : ab_Rn l g d own ini cc nL pc L (.null :: r) M v M' :=
  ab_pure (fun hx hb ho ht hE hl k => lv_castN hx hb hd (k _ hl)) k
theorem o_cast {idx t a n : Nat} (h : ab_ct own idx = some t) (hh : ab_h M a = some (64 + t, n)) (hd : decode cc pc = .ok (.checkcast idx, 3)) (k : ab_Rn l g d own ini cc nL (pc + 3) L (.ref a :: r) M v M') : ab_Rn l g d own ini cc nL pc L (.ref a :: r) M v M' := by
  refine ab_read (fun hx hb ho ht hE hP hS k1 => ?_) k
  obtain ⟨hw, h5⟩ := ab_ct_all _ (ab_find2 h)
  dsimp only at hw h5
  obtain ⟨q0, hq0⟩ := ab_arr_at hP hh
  exact va_castA hx hb ho (ht _ hw) hP.2.2.2 q0 hq0 (ab_RA hE h5) hd k1
theorem o_instN {idx : Nat} (hd : decode cc pc = .ok (.instanceof idx, 3)) (k : ab_Rn l g d own ini cc nL (pc + 3) L (.int 0 :: r) M v M') : ab_Rn l g d own ini cc nL pc L (.null :: r) M v M' :=
  ab_pure (fun hx hb ho ht hE hl k => lv_instN hx hb hd (k _ hl)) k
theorem o_instY {idx t a n : Nat} (h : ab_ct own idx = some t) (hh : ab_h M a = some (64 + t, n)) (hd : decode cc pc = .ok (.instanceof idx, 3)) (k : ab_Rn l g d own ini cc nL (pc + 3) L (.int 1 :: r) M v M') : ab_Rn l g d own ini cc nL pc L (.ref a :: r) M v M' := by
  refine ab_read (fun hx hb ho ht hE hP hS k1 => ?_) k
  obtain ⟨hw, h5⟩ := ab_ct_all _ (ab_find2 h)
  dsimp only at hw h5
  exact va_instE hx hb ho (ht _ hw) (ab_arr_cell hE hP (by omega) hh) hd k1
theorem o_instF {idx t u a n : Nat} (h : ab_ct own idx = some t) (ht3 : t < 3) (hu : u < 9) (hut : u ≠ t) (hh : ab_h M a = some (64 + u, n)) (hd : decode cc pc = .ok (.instanceof idx, 3)) (k : ab_Rn l g d own ini cc nL (pc + 3) L (.int 0 :: r) M v M') : ab_Rn l g d own ini cc nL pc L (.ref a :: r) M v M' := by
  refine ab_read (fun hx hb ho ht hE hP hS k1 => ?_) k
  obtain ⟨hw, h5⟩ := ab_ct_all _ (ab_find2 h)
  dsimp only at hw h5
  exact va_instNo hx hb ho (ht _ hw) (hE.2.2.2.1 u t hu ht3 hut) (ab_arr_cell hE hP hu hh) hd k1
theorem ab_cat_sum (r : List Value) (h : ab_sz r ≤ 8) : (r.map fun v => v.category).sum ≤ 8 := h
theorem ab_cat_map (r : List Value) : ((r.map (ab_cv g)).map fun v => v.category).sum = (r.map fun v => v.category).sum := by
  rw [List.map_map]
  congr 1
  exact List.map_congr_left fun v _ => ab_cv_cat g v
theorem o_obj {idx : Nat} {a : Nat} (h : ab_lo own idx = some 0) (hr : ab_sz r ≤ 8) (hd : decode cc pc = .ok (.invokespecial idx, 3)) (kk : ab_Rn l g (d + 1) own ini cc nL (pc + 3) L r M v M') : ab_Rn l g (d + 1) own ini cc nL pc L (.ref a :: r) M v M' := by
  refine ab_step (M1 := M) (Nat.le_refl _) (Nat.le_refl _) ?_ kk
  intro p e R s m args below meth cd Q c0 l0 X hr1 hr2 H locs ls cells slots S k1
  obtain ⟨hx, hb, hml, -, ho, ht, hE, hdl, hc0⟩ := X
  have hsum := ab_cat_sum r hr
  rw [← ab_cat_map (g := g) r] at hsum
  refine W.objInit hx hb ho (ht _ (ab_lo_all _ (ab_find2 h))) (ht _ q177) (ht _ q178) rfl (by rw [hml]; exact S.2.2.1.1) rfl hd (by omega) ?_ (k1 H locs ls cells slots S)
  show 2 * (F0 m pc ls _).monitorRoom + (((r.map (ab_cv g)).map fun v => v.category)).sum + 12 ≤ R.locals
  have : 2 * (F0 m pc ls ((Value.ref a :: r).map (ab_cv g))).monitorRoom = 0 := rfl
  omega
end ABN
