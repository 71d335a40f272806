/-! ===== members of the JDK's classes that the machine has no entry for ===== -/
section ABCF
variable {l : Launch} {g : ab_G} {d own : Nat} {ini : Bool} {cc : ByteArray} {nL pc : Nat} {L : List (Option Value)} {st r : List Value} {M M1 M' : ab_M} {v w : Option Value}
theorem ab_metF {mid : Nat} {y : MethodName} {ret : Option FieldType} {as : List Value} (hh : ab_hh mid = none) (hme : ab_me mid = (own, y, cc, nL, ret, ini)) (hpl : plainFor y = true) (hini : ini = true → y.name = "<init>") (hown : y.cls = ab_nm own) (hret : ab_rk ret v) (hlen : (as.map (fun v => v.category)).sum ≤ nL) (h : ab_Rn l g d own ini cc nL 0 (ab_en as nL) [] M v M') : ab_Ct l g d mid as M v M' := by
  refine ⟨h.1, h.2.1, fun rm hf hlo hrc hrs => ?_⟩
  have e1 : ab_wsm mid = ws_ y cc nL ret := by unfold ab_wsm; rw [hh, hme]
  rw [e1, hme]
  refine va_MetF (cc := cc) (maxL := nL) (ret := ret) hpl rfl ?_
  intro p e s m args below meth c s₁ B hml hv
  obtain ⟨rfl, hP, hE⟩ := hv
  have hts := atoms_spec (ws := ws_ y cc nL ret) B.pre
  have hts : ∀ w ∈ lw_all, w.before _ s = true := fun w h => hts w (List.mem_cons_of_mem _ h)
  have ho : s.vm.findClass (ab_nm own) = some m.cls := by rw [← hown]; exact findClass_of_methodNamed B.named
  have hl := lv_entry (as.map (ab_cv g)) (n := nL) (by rw [ab_lgs]; exact hlen)
  rw [lg_entry_eq]
  have h1 := h.1
  have h2 := h.2.1
  have hlh : ab_lh g ((lg_sl (as.map (ab_cv g)) ++ List.replicate (nL - (lg_sl (as.map (ab_cv g))).length) Slot.unset).toArray) nL (ab_en as nL) :=
    ⟨hl.1, hl.2.1, ab_en_len (g := g) as nL (by rw [ab_lgs]; exact hlen), fun i v hi => hl.2.2 (i, ab_cv g v) (by have := ab_en_at (g := g) as nL i 0 v hi; rwa [Nat.zero_add] at this)⟩
  refine h.2.2 p e (headSpec (ws_ y cc nL ret) rm).room s m _ below meth c _ (ab_z M) (ab_s M) ⟨B.exec, B.bytes, hml, fun q => ?_, ho, hts, hE, ⟨hf, hlo⟩, hP.1, ?_⟩ ?_ ?_ ?_ s.heap [] _ 0 0 ⟨hP, va_S.rf, hlh, Nat.zero_add _, Nat.zero_add _⟩
  · exact ((name_of_methodNamed B.named B.method).1).trans (hini q)
  · have := hP.1
    rw [hP.2.1]
    omega
  · show ab_z M' ≤ rm.cells + ab_z M
    omega
  · show ab_s M' ≤ rm.slots + ab_s M
    omega
  · intro H1 locs1 ls1 L1 cells1 slots1 pc1 i1 S1 hd1 hri
    obtain ⟨hP1, hS1, -, hz1, hs1⟩ := S1
    have ec : cells1 = ab_z M' - ab_z M := by omega
    have es : slots1 = ab_s M' - ab_s M := by omega
    subst ec
    subst es
    have hr := B.returns
    have hlocks := B.notSynchronized
    have hq : ∀ t : State, t.heap = H1 → s.WarmedH t.vm → ab_Qc g v M' (as.map (ab_cv g)).toArray s (.returned (v.map (ab_cv g))) t := fun t ht _ => ⟨rfl, by rw [ht]; exact hP1, hS1.F ht⟩
    unfold ab_rk at hret
    split at hret
    · cases hri
      exact W.vret B.exec B.bytes hr hq hS1.2.2 hd1
    · cases hri
      exact W.iret B.exec B.bytes hr hq hS1.2.2 hd1
    · cases hri
      exact W.zret B.exec B.bytes hr (by rcases hret with rfl | rfl <;> rfl) hq hS1.2.2 hd1
    · cases hri
      exact W.lret B.exec B.bytes hr hq hS1.2.2 hd1
    · cases hri
      exact W.aret B.exec B.bytes hr (Or.inl ⟨_, rfl⟩) (Or.inl rfl) hq hS1.2.2 hd1
    · cases hri
      exact W.aret B.exec B.bytes hr (Or.inl ⟨_, rfl⟩) (Or.inr ⟨_, rfl⟩) hq hS1.2.2 hd1
    · exact hret.elim
end ABCF
section ABCG
variable {l : Launch} {g : ab_G} {d own : Nat} {ini : Bool} {cc : ByteArray} {nL pc : Nat} {L : List (Option Value)} {st r : List Value} {M M1 M' : ab_M}
theorem ab_cwF {mid : Nat} {y : MethodName} {ret : Option FieldType} {as : List Value} {Q : Option Value → ab_M → Prop} (hme : ab_me mid = (own, y, cc, nL, ret, ini)) (hh : ab_hh mid = none) (hpl : plainFor y = true) (hini : ini = true → y.name = "<init>") (hown : y.cls = ab_nm own) (hlen : (as.map (fun v => v.category)).sum ≤ nL) (h : ab_Wp l g (d + 1) own ini cc nL 0 (ab_en as nL) [] M (fun v M' => ab_rk ret v ∧ Q v M')) : ab_Cw l g (d + 1) mid as M Q := by
  obtain ⟨v, M', h1, h2, h3⟩ := h
  exact ⟨v, M', ab_metF hh hme hpl hini hown h2 hlen h1, h3⟩
end ABCG
