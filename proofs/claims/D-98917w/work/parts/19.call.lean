/-! ===== calls, arraycopy, Act's own field; a method's contract out of its run ===== -/
theorem ab_blind (g : ab_G) (as : List Value) (M : ab_M) : FrameBlind (ab_Pc g as M) := by
  intro a U fr mk h
  obtain ⟨h1, h2, h3⟩ := h
  exact ⟨h1, h2, ab_E_go h3 (va_S.rf (A := ab_A g)) rfl (State.WarmedH.refl U)⟩
section ABC
variable {l : Launch} {g : ab_G} {d own : Nat} {ini : Bool} {cc : ByteArray} {nL pc : Nat} {L : List (Option Value)} {st r : List Value} {M M1 M' : ab_M} {v w : Option Value}
/-- behind a call -/
theorem ab_run_go {p : Program} {e : Env} {R : Room} {s : State} {m : MethodId} {args : Array Value} {below : List Frame} {meth : Method} {c : Code} {Q : State → Prop} {H : Heap} {locs : List Loc} {ls : Array Slot} {cells slots mc ms : Nat} {st0 rest : List Value} {a : Array Value}
    (hr : va_Run p l e R s m args below meth c H locs cells slots mc ms (F0 m pc ls st0) rest (ab_Qc g w M1 a) (ab_A g)) (hS : va_S (ab_A g) s.heap H locs)
    (kk : ∀ (H1 : Heap) (locs1 : List Loc), ab_P g M1 H1 → va_S (ab_A g) s.heap H1 locs1 → W p l e R s m args below meth c H1 locs1 (cells + mc) (slots + ms) Q (F0 m (pc + 3) ls ((w.map (ab_cv g)).toList ++ rest))) : W p l e R s m args below meth c H locs cells slots Q (F0 m pc ls st0) := by
  intro T hT X
  obtain ⟨v', st₀, t, T', LL, h0, X', hL, e1, e2, ⟨hv, hP1, hz, hk⟩, stp⟩ := hr T hT X
  cases hv
  rw [h0] at hz hk
  obtain ⟨t2, a1, b1⟩ := kk T'.heap (locs ++ LL) (by rw [e1]; exact hP1)
    ⟨Nat.le_trans hS.1 (by rw [e1]; exact hz), fun q h1 h2 => by rw [e1, hk q (Nat.lt_of_lt_of_le h1 hS.1) h2]; exact hS.2.1 q h1 h2, fun q hq => by
      rcases List.mem_append.mp hq with h | h
      · exact hS.2.2 q h
      · exact hL q h⟩ T' rfl X'
  exact ⟨t2, stp t2 a1, b1⟩
theorem ab_toList (w : Option Value) (r : List Value) : (w.map (ab_cv g)).toList ++ r.map (ab_cv g) = (w.toList ++ r).map (ab_cv g) := by cases w <;> rfl
theorem ab_callgo {mid na : Nat} {as as' : List Value} {pcn : Nat}
    (hC : ab_Ct l g d mid as' M w M1)
    (h : ∀ {p : Program} {e : Env} {R : Room} {s : State} {m : MethodId} {args : Array Value} {below : List Frame} {meth : Method} {c : Code} {H : Heap} {locs : List Loc} {ls : Array Slot} {cells slots : Nat} {rm : Room}, CallFix p m c cc nL s args lw_all (ab_nm own) → ab_E g s → ab_P g M H → va_S (ab_A g) s.heap H locs → ls.size = nL → rm.frames + 1 ≤ R.frames ∧ 8 + ((ab_me mid).2.2.2.1 + 11) + rm.locals ≤ R.locals → rm.cells = ab_z M1 - ab_z M → rm.slots = ab_s M1 - ab_s M → Met l (ab_me mid).2.1 (ab_wsm mid) rm (ab_Pc g as' M) (ab_Qc g w M1) (ab_z M1 - ab_z M) (ab_s M1 - ab_s M) (ab_A g) → cells + (ab_z M1 - ab_z M) ≤ R.cells ∧ slots + (ab_s M1 - ab_s M) ≤ R.slots →
      ∃ a, va_Run p l e R s m args below meth c H locs cells slots (ab_z M1 - ab_z M) (ab_s M1 - ab_s M) (F0 m pc ls (st.map (ab_cv g))) (r.map (ab_cv g)) (ab_Qc g w M1 a) (ab_A g))
    (kk : ab_Rn l g (d + 1) own ini cc nL (pc + 3) L (w.toList ++ r) M1 v M') : ab_Rn l g (d + 1) own ini cc nL pc L st M v M' := by
  refine ab_step (M1 := M1) hC.1 hC.2.1 ?_ kk
  intro p e R s m args below meth c Q c0 l0 X hr1 hr2 H locs ls cells slots S k1
  obtain ⟨hx, hb, hml, hi, ho, ht, hE, hdl, hc0⟩ := X
  obtain ⟨hP, hS, hl, hcz, hsl⟩ := S
  have h1 := hC.1
  have h2 := hC.2.1
  have hn := ab_nL mid
  have hM := hC.2.2 { frames := d, cells := ab_z M1 - ab_z M, slots := ab_s M1 - ab_s M, locals := 64 * d } (Nat.le_refl _) (Nat.le_refl _) rfl rfl
  obtain ⟨a, hrun⟩ := h (below := below) (e := e) (meth := meth) ⟨hx, hb, hml, ho, ht⟩ hE hP hS hl.1 ⟨show d + 1 ≤ R.frames from hdl.1, show 8 + ((ab_me mid).2.2.2.1 + 11) + 64 * d ≤ R.locals by omega⟩ rfl rfl hM (show cells + (ab_z M1 - ab_z M) ≤ R.cells ∧ slots + (ab_s M1 - ab_s M) ≤ R.slots by omega)
  refine ab_run_go hrun hS fun H1 locs1 hP1 hS1 => ?_
  rw [ab_toList]
  exact k1 H1 locs1 ls (cells + (ab_z M1 - ab_z M)) (slots + (ab_s M1 - ab_s M)) ⟨hP1, hS1, hl, by omega, by omega⟩
theorem ab_lroom {m : MethodId} {ls : Array Slot} {st0 : List Value} (hr : ab_sz r ≤ 8) : 2 * (F0 m pc ls st0).monitorRoom + ((r.map (ab_cv g)).map fun v => v.category).sum ≤ 8 := by
  have h := ab_cat_sum r hr
  rw [← ab_cat_map (g := g) r] at h
  exact lv_room (m := m) (pc := pc) (ls := ls) (rest := st0) h
theorem o_callV {idx a c nn mid na : Nat} {as : List Value} (hh : ab_h M a = some (c, nn)) (hc : c < 63) (hl : ab_lv own idx c = some mid) (hn : ab_ln own idx = some na) (hlen : as.length = na) (hr : ab_sz r ≤ 8) (hd : decode cc pc = .ok (.invokevirtual idx, 3)) (hC : ab_Ct l g d mid (.ref a :: as) M w M1) (kk : ab_Rn l g (d + 1) own ini cc nL (pc + 3) L (w.toList ++ r) M1 v M') : ab_Rn l g (d + 1) own ini cc nL pc L (as.reverse ++ .ref a :: r) M v M' := by
  refine ab_callgo (na := na) (as := as) (pcn := 0) hC (fun {p e R s m args below meth c' H locs ls cells slots rm} S hE hP hS hls hR hrc hrs hM hf => ?_) kk
  obtain ⟨na', hna, hcs⟩ := ab_lv_all _ (ab_find3 hl)
  dsimp only at hna hcs
  have hnn : na' = na := Option.some.inj (hna.symm.trans hn)
  subst hnn
  obtain ⟨h64, hlt⟩ := ab_hi hP hh (by omega)
  obtain ⟨q0, hq0⟩ := ab_W_get (g := g) hh h64 hlt
  rw [ab_ce_obj hh hc] at hq0
  have hq : ∃ q, vwCl[c]? = some q := by
    obtain ⟨r0, h1, -⟩ := hP.2.2.2 q0 _ hq0
    exact ⟨r0, h1⟩
  obtain ⟨q, hq⟩ := hq
  have hrecv := va_recv hE.1 hP.2.2.2 hq hq0
  rw [(ab_cls c q hq).2.2.2] at hrecv
  exact ⟨_, hcs (b := ab_ph g a) (As := as.map (ab_cv g)) S hE.2.1 hM hrc hrs hR ⟨ab_blind g _ M, hrecv, fun U hU hW => ⟨rfl, by rw [hU]; exact hP, ab_E_go hE hS hU hW⟩⟩ rfl (by rw [List.length_map]; exact hlen) hls (by show List.map _ _ = _; simp [ab_cv]) (ab_lroom hr) hd hf⟩
theorem o_callT {idx a mid na : Nat} {as : List Value} (ha : 1 ≤ a ∧ a < 26) (hl : ab_lt own idx = some mid) (hn : ab_ln own idx = some na) (hlen : as.length = na) (hr : ab_sz r ≤ 8) (hd : decode cc pc = .ok (.invokevirtual idx, 3)) (hC : ab_Ct l g d mid (.ref a :: as) M w M1) (kk : ab_Rn l g (d + 1) own ini cc nL (pc + 3) L (w.toList ++ r) M1 v M') : ab_Rn l g (d + 1) own ini cc nL pc L (as.reverse ++ .ref a :: r) M v M' := by
  refine ab_callgo (na := na) (as := as) (pcn := 0) hC (fun {p e R s m args below meth c' H locs ls cells slots rm} S hE hP hS hls hR hrc hrs hM hf => ?_) kk
  obtain ⟨na', hna, hcs⟩ := ab_lt_all _ (ab_find2 hl)
  dsimp only at hna hcs
  have hnn : na' = na := Option.some.inj (hna.symm.trans hn)
  subst hnn
  have ea : ab_ph g a = g.2.1 a := if_pos (by omega)
  have hO := (hE.2.2.2.2.2.2.1 (a - 1) (by omega)).1
  rw [show a - 1 + 1 = a by omega, ← ea] at hO
  obtain ⟨cell, o1, o2, o3, -⟩ := hO.kept (H1 := H) (fun x h1 h2 => hS.2.1 x h1 h2)
  exact ⟨_, hcs (b := ab_ph g a) (As := as.map (ab_cv g)) S hE.2.1 hM hrc hrs hR ⟨ab_blind g _ M, ⟨cell, o1, o2, o3⟩, fun U hU hW => ⟨rfl, by rw [hU]; exact hP, ab_E_go hE hS hU hW⟩⟩ rfl (by rw [List.length_map]; exact hlen) hls (by show List.map _ _ = _; simp [ab_cv]) (ab_lroom hr) hd hf⟩
theorem o_callS {idx mid na : Nat} {as : List Value} (hl : ab_ls own idx = some mid) (hn : ab_ln own idx = some na) (hlen : as.length = na) (hr : ab_sz r ≤ 8) (hd : decode cc pc = .ok (.invokestatic idx, 3)) (hC : ab_Ct l g d mid as M w M1) (kk : ab_Rn l g (d + 1) own ini cc nL (pc + 3) L (w.toList ++ r) M1 v M') : ab_Rn l g (d + 1) own ini cc nL pc L (as.reverse ++ r) M v M' := by
  refine ab_callgo (na := na) (as := as) (pcn := 0) hC (fun {p e R s m args below meth c' H locs ls cells slots rm} S hE hP hS hls hR hrc hrs hM hf => ?_) kk
  obtain ⟨na', hna, hcs⟩ := ab_ls_all _ (ab_find2 hl)
  dsimp only at hna hcs
  have hnn : na' = na := Option.some.inj (hna.symm.trans hn)
  subst hnn
  exact ⟨_, hcs (As := as.map (ab_cv g)) S hE.2.1 hM hrc hrs hR ⟨ab_blind g _ M, fun U hU hW => ⟨rfl, by rw [hU]; exact hP, ab_E_go hE hS hU hW⟩⟩ rfl (by rw [List.length_map]; exact hlen) hls (by show List.map _ _ = _; simp) (ab_lroom hr) hd hf⟩
theorem o_callI {idx a mid na : Nat} {as : List Value} (hl : ab_li own idx = some mid) (hn : ab_ln own idx = some na) (hlen : as.length = na) (hr : ab_sz r ≤ 8) (hd : decode cc pc = .ok (.invokespecial idx, 3)) (hC : ab_Ct l g d mid (.ref a :: as) M w M1) (kk : ab_Rn l g (d + 1) own ini cc nL (pc + 3) L (w.toList ++ r) M1 v M') : ab_Rn l g (d + 1) own ini cc nL pc L (as.reverse ++ .ref a :: r) M v M' := by
  refine ab_callgo (na := na) (as := as) (pcn := 0) hC (fun {p e R s m args below meth c' H locs ls cells slots rm} S hE hP hS hls hR hrc hrs hM hf => ?_) kk
  obtain ⟨na', hna, hcs⟩ := ab_li_all _ (ab_find2 hl)
  dsimp only at hna hcs
  have hnn : na' = na := Option.some.inj (hna.symm.trans hn)
  subst hnn
  exact ⟨_, hcs (b := ab_ph g a) (As := as.map (ab_cv g)) S hE.2.1 hM hrc hrs hR ⟨ab_blind g _ M, fun U hU hW => ⟨rfl, by rw [hU]; exact hP, ab_E_go hE hS hU hW⟩⟩ rfl (by rw [List.length_map]; exact hlen) hls (by show List.map _ _ = _; simp [ab_cv]) (ab_lroom hr) hd hf⟩
/-- a method's contract -/
def ab_rk (ret : Option FieldType) (v : Option Value) : Prop := match ret, v with
  | none, none => True
  | some .int, some (.int _) => True
  | some .boolean, some (.int x) => x = 0 ∨ x = 1
  | some .long, some (.long _) => True
  | some (.object _), some .null => True
  | some (.object _), some (.ref _) => True
  | _, _ => False
theorem ab_en_at : ∀ (as : List Value) (n i : Nat) (j : Nat) (v : Value), (ab_en as n)[i]? = some (some v) → (j + i, ab_cv g v) ∈ lv_args j (as.map (ab_cv g))
  | [], n, i, j, v, h => by
    rw [ab_en, List.getElem?_replicate] at h
    split at h <;> simp at h
  | a :: t, 0, i, j, v, h => by simp [ab_en] at h
  | a :: t, k + 1, i, j, v, h => by
    have hcat : ((ab_cv g a).category = 2) ↔ ab_lg a = true := by
      rw [ab_cv_cat, ← ab_lg_cat]
      simp
    simp only [List.map_cons, lv_args]
    cases i with
    | zero =>
      rw [ab_en] at h
      simp at h
      subst h
      exact List.mem_cons_self
    | succ i =>
      refine List.mem_cons_of_mem _ ?_
      rw [ab_en] at h
      simp only [List.getElem?_cons_succ] at h
      cases hlg : ab_lg a with
      | false =>
        rw [if_neg (fun q => by rw [hcat.mp q] at hlg; cases hlg)]
        rw [hlg] at h
        have h' := ab_en_at t k i (j + 1) v (by simpa using h)
        rw [show j + (i + 1) = j + 1 + i by omega]
        exact h'
      | true =>
        rw [if_pos (hcat.mpr hlg)]
        rw [hlg] at h
        cases i with
        | zero => simp at h
        | succ i =>
          have h' := ab_en_at t (k - 1) i (j + 2) v (by simpa using h)
          rw [show j + (i + 1 + 1) = j + 2 + i by omega]
          exact h'
theorem ab_en_len : ∀ (as : List Value) (n : Nat), (lg_sl (as.map (ab_cv g))).length ≤ n → (ab_en as n).length = n
  | [], n, _ => by simp [ab_en]
  | a :: t, n, h => by
    have hcat : ((ab_cv g a).category = 2) ↔ ab_lg a = true := by
      rw [ab_cv_cat, ← ab_lg_cat]
      simp
    unfold lg_sl at h
    simp only [List.map_cons, List.flatMap_cons, List.length_append] at h
    cases hlg : ab_lg a with
    | false =>
      rw [if_neg (fun q => by rw [hcat.mp q] at hlg; cases hlg)] at h
      simp only [List.length_cons, List.length_nil] at h
      match n, h with
      | 0, h => omega
      | k + 1, h =>
        rw [ab_en, hlg]
        simp only [Bool.false_eq_true, if_false, List.length_cons]
        rw [ab_en_len t k (by unfold lg_sl; omega)]
    | true =>
      rw [if_pos (hcat.mpr hlg)] at h
      simp only [List.length_cons, List.length_nil] at h
      match n, h with
      | 0, h => omega
      | 1, h => omega
      | k + 2, h =>
        rw [ab_en, hlg]
        simp only [if_true, List.length_cons]
        rw [show k + 1 - 1 = k by omega, ab_en_len t k (by unfold lg_sl; omega)]
theorem ab_lgs : ∀ (as : List Value), (lg_sl (as.map (ab_cv g))).length = (as.map (fun v => v.category)).sum
  | [] => rfl
  | a :: t => by
    have ih := ab_lgs t
    unfold lg_sl at ih ⊢
    simp only [List.map_cons, List.flatMap_cons, List.length_append, List.sum_cons]
    rw [ih, ab_cv_cat]
    rcases lv_cat a with h | h <;> rw [h] <;> simp
theorem ab_met {mid : Nat} {y : MethodName} {ret : Option FieldType} {as : List Value} (hh : ab_hh mid = none) (hme : ab_me mid = (own, y, cc, nL, ret, ini)) (hpl : plainName y.cls = true) (hini : ini = true → y.name = "<init>") (hown : y.cls = ab_nm own) (hret : ab_rk ret v) (hlen : (as.map (fun v => v.category)).sum ≤ nL) (h : ab_Rn l g d own ini cc nL 0 (ab_en as nL) [] M v M') : ab_Ct l g d mid as M v M' := by
  refine ⟨h.1, h.2.1, fun rm hf hlo hrc hrs => ?_⟩
  have e1 : ab_wsm mid = ws_ y cc nL ret := by unfold ab_wsm; rw [hh, hme]
  rw [e1, hme]
  refine Met.ofW (cc := cc) (maxL := nL) (ret := ret) hpl rfl ?_
  intro p e s m args below meth c s₁ B hml hv
  obtain ⟨rfl, hP, hE⟩ := hv
  have hts := atoms_spec (ws := ws_ y cc nL ret) B.pre
  have hts : ∀ w ∈ lw_all, w.before _ s = true := fun w h => hts w (List.mem_cons_of_mem _ h)
  have ho : s.vm.findClass (ab_nm own) = some m.cls := by rw [← hown]; exact findClass_of_methodNamed B.named
  have hl := lv_entry (as.map (ab_cv g)) (n := nL) (by rw [ab_lgs]; exact hlen)
  rw [lg_entry_eq]
  have h1 := h.1
  have h2 := h.2.1
  have hlh : ab_lh g ((lg_sl (as.map (ab_cv g)) ++ List.replicate (nL - (lg_sl (as.map (ab_cv g))).length) Slot.unset).toArray) nL (ab_en as nL) :=
    ⟨hl.1, hl.2.1, ab_en_len (g := g) as nL (by rw [ab_lgs]; exact hlen), fun i v hi => hl.2.2 (i, ab_cv g v) (by have := ab_en_at (g := g) as nL i 0 v hi; rwa [Nat.zero_add] at this)⟩
  refine h.2.2 p e (headSpec (ws_ y cc nL ret) rm).room s m _ below meth c _ (ab_z M) (ab_s M) ⟨B.exec, B.bytes, hml, fun q => ?_, ho, hts, hE, ⟨hf, hlo⟩, hP.1, ?_⟩ ?_ ?_ ?_ s.heap [] _ 0 0 ⟨hP, va_S.rf, hlh, Nat.zero_add _, Nat.zero_add _⟩
  · exact ((name_of_methodNamed B.named B.method).1).trans (hini q)
  · have := hP.1
    rw [hP.2.1]
    omega
  · show ab_z M' ≤ rm.cells + ab_z M
    omega
  · show ab_s M' ≤ rm.slots + ab_s M
    omega
  · intro H1 locs1 ls1 L1 cells1 slots1 pc1 i1 S1 hd1 hri
    obtain ⟨hP1, hS1, -, hz1, hs1⟩ := S1
    have ec : cells1 = ab_z M' - ab_z M := by omega
    have es : slots1 = ab_s M' - ab_s M := by omega
    subst ec
    subst es
    have hr := B.returns
    have hlocks := B.notSynchronized
    have hq : ∀ t : State, t.heap = H1 → s.WarmedH t.vm → ab_Qc g v M' (as.map (ab_cv g)).toArray s (.returned (v.map (ab_cv g))) t := fun t ht _ => ⟨rfl, by rw [ht]; exact hP1, hS1.F ht⟩
    unfold ab_rk at hret
    split at hret
    · cases hri
      exact W.vret B.exec B.bytes hr hq hS1.2.2 hd1
    · cases hri
      exact W.iret B.exec B.bytes hr hq hS1.2.2 hd1
    · cases hri
      exact W.zret B.exec B.bytes hr (by rcases hret with rfl | rfl <;> rfl) hq hS1.2.2 hd1
    · cases hri
      exact W.lret B.exec B.bytes hr hq hS1.2.2 hd1
    · cases hri
      exact W.aret B.exec B.bytes hr (Or.inl ⟨_, rfl⟩) (Or.inl rfl) hq hS1.2.2 hd1
    · cases hri
      exact W.aret B.exec B.bytes hr (Or.inl ⟨_, rfl⟩) (Or.inr ⟨_, rfl⟩) hq hS1.2.2 hd1
    · exact hret.elim
end ABC
