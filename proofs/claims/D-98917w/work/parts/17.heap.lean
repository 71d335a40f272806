/-! ===== the instructions that read and write the memory ===== -/
theorem ab_ce_eq {g : ab_G} {M M1 : ab_M} {b : Nat} (h1 : ab_h M1 b = ab_h M b) (h2 : ab_I M1 b = ab_I M b) (h3 : ab_L M1 b = ab_L M b) (h4 : ab_R M1 b = ab_R M b) : ab_ce g M1 b = ab_ce g M b := by
  have e5 : ∀ k kd, ab_gv M1 b k kd = ab_gv M b k kd := fun k kd => by unfold ab_gv; rw [h2, h3, h4]
  unfold ab_ce
  rw [h1, h2, h3, h4]
  simp only [e5]
theorem ab_u_ne {α : Type} (f : Nat → Nat → α) {a b : Nat} (k : Nat) (v : α) (h : b ≠ a) : ab_u f a k v b = f b := by
  funext j
  exact if_neg (fun q => h q.1)
theorem ab_c_ne {α : Type} (f : Nat → Nat → α) {a b : Nat} (d : Nat → α) (h : b ≠ a) : ab_c f a d b = f b := by
  funext j
  exact if_neg h
theorem ab_c_self {α : Type} (f : Nat → Nat → α) (a : Nat) (d : Nat → α) : ab_c f a d a = d := by
  funext j
  exact if_pos rfl
theorem ab_ce_obj {g : ab_G} {M : ab_M} {a c n : Nat} (h : ab_h M a = some (c, n)) (hc : c < 63) : ab_ce g M a = .inr (c, (List.range (ab_nf c)).map (fun k => ab_cv g (ab_gv M a k (ab_kd (ab_tyc c k))))) := by
  unfold ab_ce
  rw [h]
  exact if_pos (by omega)
theorem ab_ce_arr {g : ab_G} {M : ab_M} {a t n : Nat} (h : ab_h M a = some (64 + t, n)) : ab_ce g M a = .inl (g.2.2.2.1 t, n, if t < 4 then .inl (ab_I M a) else if t = 4 then .inr (.inl (ab_L M a)) else .inr (.inr (.inr (.inr (fun i => (ab_R M a i).map (ab_ph g)))))) := by
  unfold ab_ce
  rw [h]
  dsimp only
  rw [if_neg (by omega), show 64 + t - 64 = t by omega]
  by_cases h4 : t < 4
  · rw [if_pos (show 64 + t < 68 by omega), if_pos h4]
  · rw [if_neg (show ¬ 64 + t < 68 by omega), if_neg h4]
    by_cases h5 : t = 4
    · rw [if_pos (show 64 + t = 68 by omega), if_pos h5]
    · rw [if_neg (show ¬ 64 + t = 68 by omega), if_neg h5]
theorem ab_tys_at (g : ab_G) {t : Nat} (h : t < 9) : (ab_tys g)[t]? = some (g.2.2.2.1 t, ab_ty t) := by
  unfold ab_tys
  rw [List.getElem?_map, List.getElem?_range h]
  rfl
theorem ab_hi {g : ab_G} {M : ab_M} {H : Heap} {a c n : Nat} (hP : ab_P g M H) (h : ab_h M a = some (c, n)) (hc : c ≠ 63) : 64 ≤ a ∧ a < ab_z M := by
  rcases hP.2.2.1 a c n h with q | q
  · exact absurd q.1 hc
  · exact q.2
theorem ab_fl_ok {own idx c k : Nat} (h : ab_fl own idx c = some k) : ab_fok own idx c k := ab_fl_all _ (ab_find3 h)
theorem ab_map_set {α : Type} (f f' : Nat → α) (n k : Nat) (h : ∀ j, j ≠ k → f' j = f j) : ((List.range n).map f).set k (f' k) = (List.range n).map f' := by
  refine List.ext_getElem? fun i => ?_
  by_cases hik : k = i
  · subst hik
    by_cases hl : k < n
    · rw [List.getElem?_set_self (by simpa using hl)]
      simp [hl]
    · rw [List.getElem?_eq_none (by simp; omega), List.getElem?_eq_none (by simp; omega)]
  · rw [List.getElem?_set_ne hik]
    by_cases hl : i < n
    · simp [hl, h i (Ne.symm hik)]
    · rw [List.getElem?_eq_none (by simp; omega), List.getElem?_eq_none (by simp; omega)]
/-- the fields of a kind of Act lie apart, by their owners or names -/
theorem ab_apartF {s : State} {args : Array Value} {C : String} {T : u_T} {N ci : Nat} {D : va_G} {cl : List vw_C} {tys : List (ClassId × FieldType)} (hts : ∀ w ∈ lw_all, w.before args s = true) (hin : ∀ w ∈ u_ws C T N, w ∈ lw_all) (hty : ∀ k, k < N → ∃ ty, parseFieldDescriptor (T k).2.2.1 = some ty) (hfin : ∀ k, k < N → (T k).2.2.2 = true) (hne : ∀ a, a < N → ∀ b, b < N → a ≠ b → (T a).1 ≠ (T b).1 ∨ (T a).2.1 ≠ (T b).2.1) (hK : va_K D cl tys s) (hc : cl[ci]? = some (C, T, N)) : ∀ x y, x < N → y < N → x ≠ y → (D.2 ci) x ≠ (D.2 ci) y := by
  intro x y hx hy hxy
  obtain ⟨hS, -⟩ := hK.1 ci _ hc
  obtain ⟨c1, k1, i1, fa, hia, ea⟩ := hS x hx
  obtain ⟨c2, k2, i2, fb, hib, eb⟩ := hS y hy
  rw [← ea, ← eb]
  have lx := hts _ (hin _ (u_in_lay hx))
  have ly := hts _ (hin _ (u_in_lay hy))
  unfold u_lay at lx ly
  rw [if_pos (hfin x hx)] at lx
  rw [if_pos (hfin y hy)] at ly
  rcases hne x hx y hy hxy with h | h
  · obtain ⟨a1, ka, b1, kb, j1, g1, q1, -, q2, -, -, -, q3, -, d1, q4, q5, -⟩ := Cond.laysFinal_spec lx
    obtain ⟨a2, ka', b2, kb', j2, g2, r1, -, r2, -, -, -, r3, -, d2, r4, r5, -⟩ := Cond.laysFinal_spec ly
    cases hia.symm.trans q2
    cases hib.symm.trans r2
    cases q1.symm.trans r1
    intro e
    rw [e] at q4
    cases q4.symm.trans r4
    obtain ⟨z1, s1, s2⟩ := Vm.findClass_spec q3
    obtain ⟨z2, s3, s4⟩ := Vm.findClass_spec r3
    cases s1.symm.trans (State.fieldFound?_class hia)
    cases s3.symm.trans (State.fieldFound?_class hib)
    exact h (by rw [← s2, ← s4, ← q5, ← r5])
  · obtain ⟨tx, htx⟩ := hty x hx
    obtain ⟨ty, hty'⟩ := hty y hy
    refine u_apart (Or.inr lx) (Or.inr ly) hia hib ?_
    rw [(State.fieldFound?_type hia htx).1, (State.fieldFound?_type hib hty').1]
    exact h
section ABP
variable {p : Program} {l : Launch} {e : Env} {R : Room} {s : State} {m : MethodId} {args : Array Value} {below : List Frame} {meth : Method} {c : Code} {H : Heap} {locs : List Loc} {cells slots : Nat} {Q : State → Prop} {cc : ByteArray} {pc : Nat} {ls : Array Slot} {rest : List Value}
/-- a final field of such a class, in a constructor -/
theorem ab_putF {D : va_G} {cl : List vw_C} {tys : List (ClassId × FieldType)} {ws : va_W} {A : Nat → Prop} {H0 : Heap} {a : Nat} (hx : p.tables.exec = Jvm.exec) (hb : c.code = cc) {own C : String} {T : u_T} {N ci index : Nat} (hts : ∀ w ∈ lw_all, w.before args s = true) (hin : ∀ w ∈ u_ws C T N, w ∈ lw_all) (hap : ∀ x y, x < N → y < N → x ≠ y → (D.2 ci) x ≠ (D.2 ci) y) (hown : s.vm.findClass own = some m.cls) (hK : va_K D cl tys s) (hP : va_P D cl ws H) (hD : va_D A ws) (hS0 : va_S A H0 H locs) (q0 : Nat) {fs : List Value} (he : ws[q0]? = some (a, .inr (ci, fs))) (hc : cl[ci]? = some (C, T, N)) (k : Nat) (hk : k < N) (hlink : (Cond.fieldLink own index (T k).1 (T k).2.1 (T k).2.2.1).before args s = true) (hfin : (T k).2.2.2 = true) (hin2 : meth.name = "<init>") (hdecl : (T k).1 = own) {ty : FieldType} {v : Value} (hd : parseFieldDescriptor (T k).2.2.1 = some ty) (hn : narrow ty v = v) (hfit : fits ty v = true) (hl : k < fs.length)
    (hdg : decode cc pc = .ok (.putfield index, 3)) (kk : ∀ (H1 : Heap) (locs1 : List Loc), va_P D cl (ws.set q0 (a, .inr (ci, fs.set k v))) H1 → va_S A H0 H1 locs1 → W p l e R s m args below meth c H1 locs1 cells slots Q (F0 m (pc + 3) ls rest)) : W p l e R s m args below meth c H locs cells slots Q (F0 m pc ls (v :: .ref a :: rest)) := by
  obtain ⟨r0, h1, cell, q1, q2, q3, q4⟩ := hP q0 _ he
  cases h1.symm.trans hc
  obtain ⟨hS, hfc, kC, hkC, hkind⟩ := hK.1 ci _ hc
  obtain ⟨cf, kf, fi, f, hi, hsl⟩ := hS k hk
  have lk := hts _ (hin _ (u_in_lay hk))
  unfold u_lay at lk
  rw [if_pos hfin] at lk
  have hcf : m.cls = cf := by
    obtain ⟨_, _, c', _, _, _, -, -, hf', -, -, -, hown2, -⟩ := Cond.laysFinal_spec lk
    cases hi.symm.trans hf'
    rw [hdecl] at hown2
    exact Option.some.inj (hown.symm.trans hown2)
  refine W.putFinK hx hb hown hlink hi (u_facts hfc hkC (u_lays hts hin hk) hi).1 hcf hin2 (by rw [q2]; exact u_fits hfc hkC hkind (Or.inr lk) hi hd hn hfit) q1 q3 (by rw [hsl]; exact k2_hasslot (q4 k hk)) rfl rfl hdg fun H' e1 e2 e3 => ?_
  rw [hsl] at e1 ⊢
  exact kk H' _ (hP.set hD he ⟨_, hc, t_OB.to (V := updV (vp_V fs) k v) ⟨_, e1, q2, q3, t_set q4 hap hk v⟩ (fun j _ => vp_updV_set hl v j)⟩ e3) (hS0.put e2 e3 (hD.2 q0 _ he))
end ABP
section ABH
variable {l : Launch} {g : ab_G} {d own : Nat} {ini : Bool} {cc : ByteArray} {nL pc : Nat} {L : List (Option Value)} {st r : List Value} {M M' : ab_M} {v : Option Value}
theorem o_get {a c nn idx k : Nat} (hh : ab_h M a = some (c, nn)) (hc : c < 63) (hf : ab_fl own idx c = some k) (hd : decode cc pc = .ok (.getfield idx, 3)) (kk : ab_Rn l g d own ini cc nL (pc + 3) L (ab_gv M a k (ab_kd (ab_tyc c k)) :: r) M v M') : ab_Rn l g d own ini cc nL pc L (.ref a :: r) M v M' := by
  refine ab_read (fun hx hb ho ht hE hP hS k1 => ?_) kk
  obtain ⟨⟨C, T, N⟩, hq, hk, hl⟩ := ab_fl_ok hf
  obtain ⟨h64, hlt⟩ := ab_hi hP hh (by omega)
  obtain ⟨q0, hq0⟩ := ab_W_get (g := g) hh h64 hlt
  rw [ab_ce_obj hh hc] at hq0
  have hnf : ab_nf c = N := by unfold ab_nf; rw [hq]
  have hv : ((List.range (ab_nf c)).map (fun k => ab_cv g (ab_gv M a k (ab_kd (ab_tyc c k)))))[k]? = some (ab_cv g (ab_gv M a k (ab_kd (ab_tyc c k)))) := by
    have : k < ab_nf c := by rw [hnf]; exact hk
    simp [this]
  obtain ⟨hin, -, -, -⟩ := ab_cls c _ hq
  rcases hl with ⟨h1, h2⟩ | ⟨host, h1, h2⟩
  · exact va_get hx hb ht hin ho hE.1 hP.2.2.2 q0 hq0 hq k hk (ht _ h1) (fun _ z => z) hv hd k1
  · exact va_getN hx hb ht hin ho hE.1 hP.2.2.2 q0 hq0 hq k hk (va_Nw.use rfl (hE.2.1 _ h1 rfl)) (fun _ z => z) hv hd k1
/-- what putfield writes -/
def ab_pw (M : ab_M) (a k kd : Nat) (w : Value) (M1 : ab_M) : Prop :=
  (∃ x, w = .int x ∧ M1 = ab_wI M a k x ∧ (kd = 0 ∨ kd = 3 ∧ (x = 0 ∨ x = 1))) ∨ (∃ x, w = .long x ∧ M1 = ab_wL M a k x ∧ kd = 1) ∨ (∃ q, w = va_rf q ∧ M1 = ab_wR M a k q ∧ kd = 2)
theorem ab_pw_fit {g : ab_G} {M M1 : ab_M} {a k : Nat} {ty : FieldType} {w : Value} (h : ab_pw M a k (ab_kd ty) w M1) : narrow ty (ab_cv g w) = ab_cv g w ∧ fits ty (ab_cv g w) = true := by
  rcases h with ⟨x, rfl, -, hk⟩ | ⟨x, rfl, -, hk⟩ | ⟨q, rfl, -, hk⟩
  · cases ty <;> simp [ab_kd] at hk <;> first | exact ⟨rfl, rfl⟩ | (rcases hk with rfl | rfl <;> exact ⟨rfl, rfl⟩)
  · cases ty <;> simp [ab_kd] at hk
    exact ⟨rfl, rfl⟩
  · cases ty <;> simp [ab_kd] at hk <;> cases q <;> exact ⟨rfl, rfl⟩
theorem o_put {a c nn idx k : Nat} {w : Value} {M1 : ab_M} (hh : ab_h M a = some (c, nn)) (hc : c < 63) (hf : ab_fl own idx c = some k) (hfin : ab_fin c k = true → ini = true ∧ (own = c ∨ own = 16)) (hw : ab_pw M a k (ab_kd (ab_tyc c k)) w M1) (hd : decode cc pc = .ok (.putfield idx, 3)) (kk : ab_Rn l g d own ini cc nL (pc + 3) L r M1 v M') (ha : 64 ≤ a) : ab_Rn l g d own ini cc nL pc L (w :: .ref a :: r) M v M' := by
  obtain ⟨⟨C, T, N⟩, hq, hk, hl⟩ := ab_fl_ok hf
  have h0 : ab_z M1 = ab_z M ∧ ab_s M1 = ab_s M ∧ ab_h M1 = ab_h M ∧ ab_I M1 0 = ab_I M 0 ∧ (∀ b, b ≠ a → ab_ce g M1 b = ab_ce g M b) ∧ (∀ j, j ≠ k → ∀ kd, ab_gv M1 a j kd = ab_gv M a j kd) ∧ ab_gv M1 a k (ab_kd (ab_tyc c k)) = w := by
    rcases hw with ⟨x, rfl, rfl, hkd⟩ | ⟨x, rfl, rfl, hkd⟩ | ⟨q, rfl, rfl, hkd⟩
    · refine ⟨rfl, rfl, rfl, ab_u_ne _ _ _ (by omega), fun b hb => ab_ce_eq rfl (ab_u_ne _ _ _ hb) rfl rfl, fun j hj kd => ?_, ?_⟩
      · have : ab_I (ab_wI M a k x) a j = ab_I M a j := if_neg (fun q => hj q.2)
        unfold ab_gv
        rw [this]
        rfl
      · have : ab_I (ab_wI M a k x) a k = x := if_pos ⟨rfl, rfl⟩
        unfold ab_gv
        rw [this, if_neg (by rcases hkd with e | e <;> omega), if_neg (by rcases hkd with e | e <;> omega)]
    · refine ⟨rfl, rfl, rfl, rfl, fun b hb => ab_ce_eq rfl rfl (ab_u_ne _ _ _ hb) rfl, fun j hj kd => ?_, ?_⟩
      · have : ab_L (ab_wL M a k x) a j = ab_L M a j := if_neg (fun q => hj q.2)
        unfold ab_gv
        rw [this]
        rfl
      · have : ab_L (ab_wL M a k x) a k = x := if_pos ⟨rfl, rfl⟩
        unfold ab_gv
        rw [this, if_pos hkd]
    · refine ⟨rfl, rfl, rfl, rfl, fun b hb => ab_ce_eq rfl rfl rfl (ab_u_ne _ _ _ hb), fun j hj kd => ?_, ?_⟩
      · have : ab_R (ab_wR M a k q) a j = ab_R M a j := if_neg (fun q => hj q.2)
        unfold ab_gv
        rw [this]
        rfl
      · have : ab_R (ab_wR M a k q) a k = q := if_pos ⟨rfl, rfl⟩
        unfold ab_gv
        rw [this, if_neg (by omega), if_pos hkd]
  obtain ⟨hz, hs, hhh, hI0, ho', hj, hkv⟩ := h0
  obtain ⟨hn, hft⟩ := ab_pw_fit (g := g) hw
  refine ab_write ha hz hs hhh hI0 ho' ⟨_, hh, by omega⟩ (fun q0 hx hb ho hi ht hE hP hS hq0 k1 => ?_) kk
  have hnf : ab_nf c = N := by unfold ab_nf; rw [hq]
  have hnew : ab_ce g M1 a = .inr (c, ((List.range (ab_nf c)).map (fun k => ab_cv g (ab_gv M a k (ab_kd (ab_tyc c k))))).set k (ab_cv g w)) := by
    rw [ab_ce_obj (M := M1) (by rw [hhh]; exact hh) hc]
    congr 2
    have e := ab_map_set (fun j => ab_cv g (ab_gv M a j (ab_kd (ab_tyc c j)))) (fun j => ab_cv g (ab_gv M1 a j (ab_kd (ab_tyc c j)))) (ab_nf c) k (fun j hjk => by rw [hj j hjk])
    rw [← e, hkv]
  rw [hnew] at k1
  rw [ab_ce_obj hh hc] at hq0
  obtain ⟨hin, hty, hnm, hcn⟩ := ab_cls c _ hq
  have hlen : k < ((List.range (ab_nf c)).map (fun k => ab_cv g (ab_gv M a k (ab_kd (ab_tyc c k))))).length := by
    rw [List.length_map, List.length_range, hnf]
    exact hk
  have hfe : ab_fin c k = (T k).2.2.2 := by unfold ab_fin; rw [hq]
  rcases hnm with ⟨-, hnm⟩ | ⟨hall, hpair⟩
  · rcases hl with ⟨h1, h2⟩ | ⟨host, h1, h2⟩
    · cases hfi : (T k).2.2.2 with
      | false => exact va_put hx hb ht hin (ab_tyc c) hty hnm ho hE.1 hP.2.2.2 (ab_Dd g M) hS q0 hq0 hq k hk (ht _ h1) (fun _ z => z) hfi (hty k hk) hn hft hlen hd (fun H1 locs1 a1 _ a3 => k1 H1 locs1 a1 a3)
      | true => exact va_putF hx hb ht hin (ab_tyc c) hty hnm ho hE.1 hP.2.2.2 (ab_Dd g M) hS q0 hq0 hq k hk (ht _ h1) (fun _ z => z) hfi (hi (hfin (hfe.trans hfi)).1) h2 (hty k hk) hn hft hlen hd (fun H1 locs1 a1 _ a3 => k1 H1 locs1 a1 a3)
    · cases hfi : (T k).2.2.2 with
      | false => exact va_putN hx hb ht hin (ab_tyc c) hty hnm ho hE.1 hP.2.2.2 (ab_Dd g M) hS q0 hq0 hq k hk (va_Nw.use rfl (hE.2.1 _ h1 rfl)) (fun _ z => z) hfi (hty k hk) hn hft hlen hd (fun H1 locs1 a1 _ a3 => k1 H1 locs1 a1 a3)
      | true =>
        rcases (hfin (hfe.trans hfi)).2 with q | q
        · exact absurd q h2.1
        · exact absurd q h2.2
  · have hfi := hall k hk
    have hcond := hfin (hfe.trans hfi)
    rcases hl with ⟨h1, h2⟩ | ⟨host, h1, h2⟩
    · exact ab_putF hx hb ht hin (ab_apartF ht hin (fun k hk => ⟨_, hty k hk⟩) hall hpair hE.1 hq) ho hE.1 hP.2.2.2 (ab_Dd g M) hS q0 hq0 hq k hk (ht _ h1) hfi (hi hcond.1) h2 (hty k hk) hn hft hlen hd (fun H1 locs1 a1 a3 => k1 H1 locs1 a1 a3)
    · rcases hcond.2 with q | q
      · exact absurd q h2.1
      · exact absurd q h2.2
/-! arrays -/
theorem ab_arr_at {M : ab_M} {H : Heap} {a t n : Nat} (hP : ab_P g M H) (hh : ab_h M a = some (64 + t, n)) : ∃ q0 : Nat, (ab_W g M)[q0]? = some (ab_ph g a, (.inl (g.2.2.2.1 t, n, if t < 4 then .inl (ab_I M a) else if t = 4 then .inr (.inl (ab_L M a)) else .inr (.inr (.inr (.inr (fun i => (ab_R M a i).map (ab_ph g)))))) : va_E)) := by
  obtain ⟨h64, hlt⟩ := ab_hi hP hh (by omega)
  obtain ⟨q0, hq0⟩ := ab_W_get (g := g) hh h64 hlt
  rw [ab_ce_arr hh] at hq0
  exact ⟨q0, hq0⟩
theorem o_iald {a n : Nat} {j : Int32} (hh : ab_h M a = some (64, n)) (hin : vp_in j n) (hd : decode cc pc = .ok (.iaload, 1)) (kk : ab_Rn l g d own ini cc nL (pc + 1) L (.int (ab_I M a j.toNatClampNeg) :: r) M v M') : ab_Rn l g d own ini cc nL pc L (.int j :: .ref a :: r) M v M' := by
  refine ab_read (fun hx hb ho ht hE hP hS k1 => ?_) kk
  obtain ⟨q0, hq0⟩ := ab_arr_at (t := 0) hP hh
  exact va_iald hx hb hE.1 hP.2.2.2 q0 0 hq0 (ab_tys_at g (by decide)) hin hd k1
theorem o_sld {a n : Nat} {j : Int32} (hh : ab_h M a = some (63, n)) (hin : vp_in j n) (hd : decode cc pc = .ok (.iaload, 1)) (kk : ab_Rn l g d own ini cc nL (pc + 1) L (.int (ab_I M a j.toNatClampNeg) :: r) M v M') : ab_Rn l g d own ini cc nL pc L (.int j :: .ref a :: r) M v M' := by
  refine ab_read (fun hx hb ho ht hE hP hS k1 => ?_) kk
  rcases hP.2.2.1 a 63 n hh with ⟨-, rfl, hn, hv⟩ | q
  · obtain ⟨-, -, -, -, h5, ⟨h6, h7⟩, -⟩ := hE
    have hlt : j.toNatClampNeg < n := Nat.not_le.mp fun q => hin (Or.inr q)
    have e : ab_I M 0 j.toNatClampNeg = g.2.2.2.2.2 j.toNatClampNeg := hv _ hlt
    rw [e] at k1
    have hb0 : ab_ph g 0 = g.2.1 0 := rfl
    exact va_sld (A := ab_A g) hx hb h7 (by omega) (by unfold ab_A; omega) hS (by rw [← hn]; exact hin) hd k1
  · exact absurd rfl q.1
theorem o_bald {a n : Nat} {j : Int32} (hh : ab_h M a = some (65, n)) (hin : vp_in j n) (hd : decode cc pc = .ok (.baload, 1)) (kk : ab_Rn l g d own ini cc nL (pc + 1) L (.int (ab_I M a j.toNatClampNeg) :: r) M v M') : ab_Rn l g d own ini cc nL pc L (.int j :: .ref a :: r) M v M' := by
  refine ab_read (fun hx hb ho ht hE hP hS k1 => ?_) kk
  obtain ⟨q0, hq0⟩ := ab_arr_at (t := 1) hP hh
  exact va_bald hx hb hE.1 hP.2.2.2 q0 1 hq0 (ab_tys_at g (by decide)) hin hd k1
theorem o_zald {a n : Nat} {j : Int32} (hh : ab_h M a = some (67, n)) (hin : vp_in j n) (hd : decode cc pc = .ok (.baload, 1)) (kk : ab_Rn l g d own ini cc nL (pc + 1) L (.int (ab_I M a j.toNatClampNeg) :: r) M v M') : ab_Rn l g d own ini cc nL pc L (.int j :: .ref a :: r) M v M' := by
  refine ab_read (fun hx hb ho ht hE hP hS k1 => ?_) kk
  obtain ⟨q0, hq0⟩ := ab_arr_at (t := 3) hP hh
  exact va_zald hx hb hE.1 hP.2.2.2 q0 3 hq0 (ab_tys_at g (by decide)) hin hd k1
theorem o_sald {a n : Nat} {j : Int32} (hh : ab_h M a = some (66, n)) (hin : vp_in j n) (hd : decode cc pc = .ok (.saload, 1)) (kk : ab_Rn l g d own ini cc nL (pc + 1) L (.int (ab_I M a j.toNatClampNeg) :: r) M v M') : ab_Rn l g d own ini cc nL pc L (.int j :: .ref a :: r) M v M' := by
  refine ab_read (fun hx hb ho ht hE hP hS k1 => ?_) kk
  obtain ⟨q0, hq0⟩ := ab_arr_at (t := 2) hP hh
  exact va_sald hx hb hE.1 hP.2.2.2 q0 2 hq0 (ab_tys_at g (by decide)) hin hd k1
theorem o_lald {a n : Nat} {j : Int32} (hh : ab_h M a = some (68, n)) (hin : vp_in j n) (hd : decode cc pc = .ok (.laload, 1)) (kk : ab_Rn l g d own ini cc nL (pc + 1) L (.long (ab_L M a j.toNatClampNeg) :: r) M v M') : ab_Rn l g d own ini cc nL pc L (.int j :: .ref a :: r) M v M' := by
  refine ab_read (fun hx hb ho ht hE hP hS k1 => ?_) kk
  obtain ⟨q0, hq0⟩ := ab_arr_at (t := 4) hP hh
  exact va_lald hx hb hE.1 hP.2.2.2 q0 4 hq0 (ab_tys_at g (by decide)) hin hd k1
theorem ab_ty_hi {t : Nat} (h : 5 ≤ t) : ab_ty t = .object (ab_ec t) := by
  match t, h with
  | 5, _ => rfl
  | 6, _ => rfl
  | 7, _ => rfl
  | t + 8, _ => rfl
theorem o_aald {a c n : Nat} {j : Int32} (hh : ab_h M a = some (c, n)) (hc : 69 ≤ c ∧ c ≤ 72) (hin : vp_in j n) (hd : decode cc pc = .ok (.aaload, 1)) (kk : ab_Rn l g d own ini cc nL (pc + 1) L (va_rf (ab_R M a j.toNatClampNeg) :: r) M v M') : ab_Rn l g d own ini cc nL pc L (.int j :: .ref a :: r) M v M' := by
  refine ab_read (fun hx hb ho ht hE hP hS k1 => ?_) kk
  obtain ⟨t, rfl⟩ : ∃ t, c = 64 + t := ⟨c - 64, by omega⟩
  obtain ⟨q0, hq0⟩ := ab_arr_at hP hh
  rw [if_neg (by omega), if_neg (by omega)] at hq0
  have ht1 := ab_tys_at g (show t < 9 by omega)
  rw [ab_ty_hi (by omega)] at ht1
  simp only [List.map_cons, ab_cv_rf] at k1
  exact va_aldq hx hb hE.1 hP.2.2.2 q0 t hq0 ht1 hin hd k1
theorem o_alen {a c n : Nat} (hh : ab_h M a = some (c, n)) (hc : 63 ≤ c ∧ c ≤ 72) (hd : decode cc pc = .ok (.arraylength, 1)) (kk : ab_Rn l g d own ini cc nL (pc + 1) L (.int (Int32.ofNat n) :: r) M v M') : ab_Rn l g d own ini cc nL pc L (.ref a :: r) M v M' := by
  refine ab_read (fun hx hb ho ht hE hP hS k1 => ?_) kk
  rcases hP.2.2.1 a c n hh with ⟨-, rfl, hn, hv⟩ | q
  · obtain ⟨-, -, -, -, h5, ⟨h6, h7⟩, -⟩ := hE
    rw [hn] at k1
    have hb0 : ab_ph g 0 = g.2.1 0 := rfl
    exact va_slen (A := ab_A g) hx hb h7 (by omega) (by unfold ab_A; omega) hS hd k1
  · obtain ⟨t, rfl⟩ : ∃ t, c = 64 + t := ⟨c - 64, by omega⟩
    obtain ⟨q0, hq0⟩ := ab_arr_at hP hh
    exact va_alen hx hb hE.1 hP.2.2.2 q0 t hq0 (ab_tys_at g (show t < 9 by omega)) rfl hd k1
theorem ab_wI_facts {a k : Nat} {x : Int32} (ha : 64 ≤ a) : ab_z (ab_wI M a k x) = ab_z M ∧ ab_s (ab_wI M a k x) = ab_s M ∧ ab_h (ab_wI M a k x) = ab_h M ∧ ab_I (ab_wI M a k x) 0 = ab_I M 0 ∧ ∀ b, b ≠ a → ab_ce g (ab_wI M a k x) b = ab_ce g M b :=
  ⟨rfl, rfl, rfl, ab_u_ne _ _ _ (by omega), fun b hb => ab_ce_eq rfl (ab_u_ne _ _ _ hb) rfl rfl⟩
theorem ab_wI_row {a k : Nat} {x : Int32} : ab_I (ab_wI M a k x) a = upd (ab_I M a) k x := by
  funext j
  show (if a = a ∧ j = k then x else ab_I M a j) = if j = k then x else ab_I M a j
  by_cases h : j = k
  · rw [if_pos ⟨rfl, h⟩, if_pos h]
  · rw [if_neg (fun q => h q.2), if_neg h]
theorem o_iast {a n : Nat} {j x : Int32} (ha : 64 ≤ a) (hh : ab_h M a = some (64, n)) (hin : vp_in j n) (hd : decode cc pc = .ok (.iastore, 1)) (kk : ab_Rn l g d own ini cc nL (pc + 1) L r (ab_wI M a j.toNatClampNeg x) v M') : ab_Rn l g d own ini cc nL pc L (.int x :: .int j :: .ref a :: r) M v M' := by
  obtain ⟨hz, hs, hhh, hI0, ho'⟩ := ab_wI_facts (M := M) (g := g) (k := j.toNatClampNeg) (x := x) ha
  refine ab_write ha hz hs hhh hI0 ho' ⟨_, hh, fun q => by simp at q⟩ (fun q0 hx hb ho hi ht hE hP hS hq0 k1 => ?_) kk
  rw [ab_ce_arr (t := 0) hh] at hq0
  rw [ab_ce_arr (t := 0) (M := ab_wI M a j.toNatClampNeg x) hh, ab_wI_row] at k1
  exact va_iast hx hb hE.1 hP.2.2.2 (ab_Dd g M) hS q0 0 hq0 (ab_tys_at g (by decide)) hin hd (fun H1 locs1 a1 _ a3 => k1 H1 locs1 a1 a3)
theorem o_bast {a n : Nat} {j x : Int32} (ha : 64 ≤ a) (hh : ab_h M a = some (65, n)) (hin : vp_in j n) (hd : decode cc pc = .ok (.bastore, 1)) (kk : ab_Rn l g d own ini cc nL (pc + 1) L r (ab_wI M a j.toNatClampNeg x.toInt8.toInt32) v M') : ab_Rn l g d own ini cc nL pc L (.int x :: .int j :: .ref a :: r) M v M' := by
  obtain ⟨hz, hs, hhh, hI0, ho'⟩ := ab_wI_facts (M := M) (g := g) (k := j.toNatClampNeg) (x := x.toInt8.toInt32) ha
  refine ab_write ha hz hs hhh hI0 ho' ⟨_, hh, fun q => by simp at q⟩ (fun q0 hx hb ho hi ht hE hP hS hq0 k1 => ?_) kk
  rw [ab_ce_arr (t := 1) hh] at hq0
  rw [ab_ce_arr (t := 1) (M := ab_wI M a j.toNatClampNeg x.toInt8.toInt32) hh, ab_wI_row, ← vp_nar_byte] at k1
  exact va_bast hx hb hE.1 hP.2.2.2 (ab_Dd g M) hS q0 1 hq0 (ab_tys_at g (by decide)) hin hd (fun H1 locs1 a1 _ a3 => k1 H1 locs1 a1 a3)
theorem o_sast {a n : Nat} {j x : Int32} (ha : 64 ≤ a) (hh : ab_h M a = some (66, n)) (hin : vp_in j n) (hd : decode cc pc = .ok (.sastore, 1)) (kk : ab_Rn l g d own ini cc nL (pc + 1) L r (ab_wI M a j.toNatClampNeg x.toInt16.toInt32) v M') : ab_Rn l g d own ini cc nL pc L (.int x :: .int j :: .ref a :: r) M v M' := by
  obtain ⟨hz, hs, hhh, hI0, ho'⟩ := ab_wI_facts (M := M) (g := g) (k := j.toNatClampNeg) (x := x.toInt16.toInt32) ha
  refine ab_write ha hz hs hhh hI0 ho' ⟨_, hh, fun q => by simp at q⟩ (fun q0 hx hb ho hi ht hE hP hS hq0 k1 => ?_) kk
  rw [ab_ce_arr (t := 2) hh] at hq0
  rw [ab_ce_arr (t := 2) (M := ab_wI M a j.toNatClampNeg x.toInt16.toInt32) hh, ab_wI_row, ← vp_nar_short] at k1
  exact va_sast hx hb hE.1 hP.2.2.2 (ab_Dd g M) hS q0 2 hq0 (ab_tys_at g (by decide)) hin hd (fun H1 locs1 a1 _ a3 => k1 H1 locs1 a1 a3)
theorem o_zast {a n : Nat} {j x : Int32} (ha : 64 ≤ a) (hh : ab_h M a = some (67, n)) (hx01 : x = 0 ∨ x = 1) (hin : vp_in j n) (hd : decode cc pc = .ok (.bastore, 1)) (kk : ab_Rn l g d own ini cc nL (pc + 1) L r (ab_wI M a j.toNatClampNeg x) v M') : ab_Rn l g d own ini cc nL pc L (.int x :: .int j :: .ref a :: r) M v M' := by
  obtain ⟨hz, hs, hhh, hI0, ho'⟩ := ab_wI_facts (M := M) (g := g) (k := j.toNatClampNeg) (x := x) ha
  have hnar : vp_nar .boolean x = x := by rcases hx01 with rfl | rfl <;> rfl
  refine ab_write ha hz hs hhh hI0 ho' ⟨_, hh, fun q => by simp at q⟩ (fun q0 hx hb ho hi ht hE hP hS hq0 k1 => ?_) kk
  rw [ab_ce_arr (t := 3) hh] at hq0
  rw [ab_ce_arr (t := 3) (M := ab_wI M a j.toNatClampNeg x) hh, ab_wI_row] at k1
  exact va_zast hx hb hE.1 hP.2.2.2 (ab_Dd g M) hS q0 3 hq0 (ab_tys_at g (by decide)) hin hd (fun H1 locs1 a1 _ a3 => k1 H1 locs1 (by rw [hnar] at a1; exact a1) a3)
theorem ab_wL_row {a k : Nat} {x : Int64} : ab_L (ab_wL M a k x) a = vp_updL (ab_L M a) k x := by
  funext j
  show (if a = a ∧ j = k then x else ab_L M a j) = if j = k then x else ab_L M a j
  by_cases h : j = k
  · rw [if_pos ⟨rfl, h⟩, if_pos h]
  · rw [if_neg (fun q => h q.2), if_neg h]
theorem ab_wR_row {a k : Nat} {x : Option Nat} : ab_R (ab_wR M a k x) a = va_up (ab_R M a) k x := by
  funext j
  show (if a = a ∧ j = k then x else ab_R M a j) = if j = k then x else ab_R M a j
  by_cases h : j = k
  · rw [if_pos ⟨rfl, h⟩, if_pos h]
  · rw [if_neg (fun q => h q.2), if_neg h]
theorem o_last {a n : Nat} {j : Int32} {x : Int64} (ha : 64 ≤ a) (hh : ab_h M a = some (68, n)) (hin : vp_in j n) (hd : decode cc pc = .ok (.lastore, 1)) (kk : ab_Rn l g d own ini cc nL (pc + 1) L r (ab_wL M a j.toNatClampNeg x) v M') : ab_Rn l g d own ini cc nL pc L (.long x :: .int j :: .ref a :: r) M v M' := by
  refine ab_write (M1 := ab_wL M a j.toNatClampNeg x) ha rfl rfl rfl rfl (fun b hb => ab_ce_eq rfl rfl (ab_u_ne _ _ _ hb) rfl) ⟨_, hh, fun q => by simp at q⟩ (fun q0 hx hb ho hi ht hE hP hS hq0 k1 => ?_) kk
  rw [ab_ce_arr (t := 4) hh] at hq0
  rw [ab_ce_arr (t := 4) (M := ab_wL M a j.toNatClampNeg x) hh, ab_wL_row] at k1
  exact va_last hx hb hE.1 hP.2.2.2 (ab_Dd g M) hS q0 4 hq0 (ab_tys_at g (by decide)) hin hd (fun H1 locs1 a1 _ a3 => k1 H1 locs1 a1 a3)
theorem ab_can_ok {t c : Nat} (h : ab_can t c = true) : 5 ≤ t ∧ t < 9 ∧ c < 16 ∧ (ab_nm c = ab_ec t ∨ Cond.castable (ab_nm c) (ab_ec t) ∈ lw_tbl) := by
  simp only [ab_can, Bool.or_eq_true, Bool.and_eq_true, beq_iff_eq] at h
  rcases h with ((⟨rfl, h⟩ | ⟨rfl, rfl⟩) | ⟨rfl, rfl⟩) | ⟨rfl, rfl⟩
  · rcases h with ((rfl | rfl) | rfl) | rfl
    · exact ⟨by decide, by decide, by decide, .inr q2088⟩
    · exact ⟨by decide, by decide, by decide, .inr q2089⟩
    · exact ⟨by decide, by decide, by decide, .inr q2090⟩
    · exact ⟨by decide, by decide, by decide, .inr q2091⟩
  · exact ⟨by decide, by decide, by decide, .inl rfl⟩
  · exact ⟨by decide, by decide, by decide, .inl rfl⟩
  · exact ⟨by decide, by decide, by decide, .inl rfl⟩
theorem o_aast {a b c n cb nb : Nat} {j : Int32} (ha : 64 ≤ a) (hh : ab_h M a = some (c, n)) (hb' : ab_h M b = some (cb, nb)) (hcan : ab_can (c - 64) cb = true) (hc : 64 ≤ c) (hin : vp_in j n) (hd : decode cc pc = .ok (.aastore, 1)) (kk : ab_Rn l g d own ini cc nL (pc + 1) L r (ab_wR M a j.toNatClampNeg (some b)) v M') : ab_Rn l g d own ini cc nL pc L (.ref b :: .int j :: .ref a :: r) M v M' := by
  obtain ⟨t, rfl⟩ : ∃ t, c = 64 + t := ⟨c - 64, by omega⟩
  rw [show 64 + t - 64 = t by omega] at hcan
  obtain ⟨t5, t9, hcb, hnm⟩ := ab_can_ok hcan
  refine ab_write (M1 := ab_wR M a j.toNatClampNeg (some b)) ha rfl rfl rfl rfl (fun b hb => ab_ce_eq rfl rfl rfl (ab_u_ne _ _ _ hb)) ⟨_, hh, (by omega : (64 + t) ≠ 63)⟩ (fun q0 hx hb ho hi ht hE hP hS hq0 k1 => ?_) kk
  rw [ab_ce_arr hh, if_neg (by omega), if_neg (by omega)] at hq0
  rw [ab_ce_arr (M := ab_wR M a j.toNatClampNeg (some b)) hh, if_neg (by omega), if_neg (by omega), ab_wR_row] at k1
  have e : (fun i => (va_up (ab_R M a) j.toNatClampNeg (some b) i).map (ab_ph g)) = va_up (fun i => (ab_R M a i).map (ab_ph g)) j.toNatClampNeg (some (ab_ph g b)) := by
    funext i
    unfold va_up
    by_cases h : i = j.toNatClampNeg
    · rw [if_pos h, if_pos h]; rfl
    · rw [if_neg h, if_neg h]
  rw [e] at k1
  obtain ⟨b64, blt⟩ := ab_hi hP hb' (by omega)
  obtain ⟨qk, hqk⟩ := ab_W_get (g := g) hb' b64 blt
  rw [ab_ce_obj hb' (by omega)] at hqk
  have hq : ∃ q, vwCl[cb]? = some q := ⟨_, List.getElem?_eq_getElem (show cb < vwCl.length from hcb)⟩
  obtain ⟨q, hq⟩ := hq
  have hqn := (ab_cls cb q hq).2.2.2
  have ht1 := ab_tys_at g t9
  rw [ab_ty_hi t5] at ht1
  rcases hnm with h | h
  · exact va_astq hx hb hE.1 hP.2.2.2 (ab_Dd g M) hS q0 t qk cb hq0 (by rw [hqn, h]; exact ht1) hqk hq hin hd (fun H1 locs1 a1 _ a3 => k1 H1 locs1 a1 a3)
  · exact va_astqO hx hb hE.1 hP.2.2.2 (ab_Dd g M) hS q0 t qk cb hq0 ht1 (by rw [hqn]; exact hE.2.1 _ h rfl) hqk hq hin hd (fun H1 locs1 a1 _ a3 => k1 H1 locs1 a1 a3)
end ABH
