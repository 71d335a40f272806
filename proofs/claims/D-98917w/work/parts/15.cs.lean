/-! ===== what a place of a class's pool links to: calls ===== -/
theorem ab_find2 {α : Type} {T : List (Nat × Nat × α)} {own idx : Nat} {v : α} (h : (T.find? (fun e => e.1 == own && e.2.1 == idx)).map (fun e => e.2.2) = some v) : (own, idx, v) ∈ T := by
  obtain ⟨e, h1, h2⟩ := Option.map_eq_some_iff.mp h
  have h3 := List.find?_some h1
  simp only [Bool.and_eq_true, beq_iff_eq] at h3
  obtain ⟨a, b, c⟩ := e
  simp only at h3 h2
  rw [← h3.1, ← h3.2, ← h2]
  exact List.mem_of_find?_eq_some h1
theorem ab_find3 {T : List (Nat × Nat × Nat × Nat)} {own idx c v : Nat} (h : (T.find? (fun e => e.1 == own && (e.2.1 == idx && e.2.2.1 == c))).map (fun e => e.2.2.2) = some v) : (own, idx, c, v) ∈ T := by
  obtain ⟨e, h1, h2⟩ := Option.map_eq_some_iff.mp h
  have h3 := List.find?_some h1
  simp only [Bool.and_eq_true, beq_iff_eq] at h3
  obtain ⟨a, b, c', d⟩ := e
  simp only at h3 h2
  rw [← h3.1, ← h3.2.1, ← h3.2.2, ← h2]
  exact List.mem_of_find?_eq_some h1
def ab_NW (s : State) : Prop := ∀ w ∈ lw_tbl, ab_nwk w = true → va_Nw w s
def ab_csV (own idx : Nat) (C : String) (mid n : Nat) : Prop := ∀ {l : Launch} {p : Program} {e : Env} {R : Room} {s : State} {m : MethodId} {args : Array Value} {below : List Frame} {meth : Method} {c : Code} {H : Heap} {locs : List Loc} {cells slots mc ms : Nat} {rm : Room} {Pc : Array Value → State → Prop} {Qc : Array Value → State → Outcome → State → Prop} {free : Addr → Prop} {b : Addr} {As rest : List Value} {fr : JFrame} {cc : ByteArray} {nL : Nat},
  CallFix p m c cc nL s args lw_all (ab_nm own) → ab_NW s → Met l (ab_me mid).2.1 (ab_wsm mid) rm Pc Qc mc ms free → rm.cells = mc → rm.slots = ms → rm.frames + 1 ≤ R.frames ∧ 8 + ((ab_me mid).2.2.2.1 + 11) + rm.locals ≤ R.locals → PreV s H C b Pc As →
  fr.method = m → As.length = n → fr.locals.size = nL → fr.stack = As.reverse ++ .ref b :: rest → 2 * fr.monitorRoom + (rest.map fun v => v.category).sum ≤ 8 → decode cc fr.pc = .ok (.invokevirtual idx, 3) → cells + mc ≤ R.cells ∧ slots + ms ≤ R.slots →
  va_Run p l e R s m args below meth c H locs cells slots mc ms fr rest (Qc (Value.ref b :: As).toArray) free
def ab_csS (own idx mid n : Nat) : Prop := ∀ {l : Launch} {p : Program} {e : Env} {R : Room} {s : State} {m : MethodId} {args : Array Value} {below : List Frame} {meth : Method} {c : Code} {H : Heap} {locs : List Loc} {cells slots mc ms : Nat} {rm : Room} {Pc : Array Value → State → Prop} {Qc : Array Value → State → Outcome → State → Prop} {free : Addr → Prop} {As rest : List Value} {fr : JFrame} {cc : ByteArray} {nL : Nat},
  CallFix p m c cc nL s args lw_all (ab_nm own) → ab_NW s → Met l (ab_me mid).2.1 (ab_wsm mid) rm Pc Qc mc ms free → rm.cells = mc → rm.slots = ms → rm.frames + 1 ≤ R.frames ∧ 8 + ((ab_me mid).2.2.2.1 + 11) + rm.locals ≤ R.locals → PreS s H Pc As →
  fr.method = m → As.length = n → fr.locals.size = nL → fr.stack = As.reverse ++ rest → 2 * fr.monitorRoom + (rest.map fun v => v.category).sum ≤ 8 → decode cc fr.pc = .ok (.invokestatic idx, 3) → cells + mc ≤ R.cells ∧ slots + ms ≤ R.slots →
  va_Run p l e R s m args below meth c H locs cells slots mc ms fr rest (Qc As.toArray) free
def ab_csI (own idx mid n : Nat) : Prop := ∀ {l : Launch} {p : Program} {e : Env} {R : Room} {s : State} {m : MethodId} {args : Array Value} {below : List Frame} {meth : Method} {c : Code} {H : Heap} {locs : List Loc} {cells slots mc ms : Nat} {rm : Room} {Pc : Array Value → State → Prop} {Qc : Array Value → State → Outcome → State → Prop} {free : Addr → Prop} {b : Addr} {As rest : List Value} {fr : JFrame} {cc : ByteArray} {nL : Nat},
  CallFix p m c cc nL s args lw_all (ab_nm own) → ab_NW s → Met l (ab_me mid).2.1 (ab_wsm mid) rm Pc Qc mc ms free → rm.cells = mc → rm.slots = ms → rm.frames + 1 ≤ R.frames ∧ 8 + ((ab_me mid).2.2.2.1 + 11) + rm.locals ≤ R.locals → PreS s H Pc (.ref b :: As) →
  fr.method = m → As.length = n → fr.locals.size = nL → fr.stack = As.reverse ++ .ref b :: rest → 2 * fr.monitorRoom + (rest.map fun v => v.category).sum ≤ 8 → decode cc fr.pc = .ok (.invokespecial idx, 3) → cells + mc ≤ R.cells ∧ slots + ms ≤ R.slots →
  va_Run p l e R s m args below meth c H locs cells slots mc ms fr rest (Qc (Value.ref b :: As).toArray) free
/-- what a descriptor and a class's name must be for a call -/
abbrev ab_dsc (y : MethodName) (n : Nat) : Prop := y.cls ≠ "java/lang/invoke/MethodHandle" ∧ y.cls ≠ "java/lang/invoke/VarHandle" ∧ (parseMethodDescriptor y.desc).map (fun d => d.parameters.length) = some n
section CSS
variable {own idx mid n nLm : Nat} {y : MethodName} {b : ByteArray} {ret : Option FieldType}
theorem ab_csV_own {C : String} {ini : Bool} {ow : Nat} (hm : ab_me mid = (ow, y, b, nLm, ret, ini)) (hh : ab_hh mid = none) (h1 : Cond.methodLink (ab_nm own) idx y ∈ lw_all) (h2 : Cond.instanceMethod y ∈ lw_all) (h3 : Cond.selects C y y ∈ lw_all) (h4 : Cond.initialized C ∈ lw_all) (h5 : Cond.code y b nLm ret ∈ lw_all) (hC : y.cls = C) (hd : ab_dsc y n) : ab_csV own idx C mid n := by
  intro l p e R s m args below meth c H locs cells slots mc ms rm Pc Qc free b' As rest fr cc nL S _ hM hrc hrs hR hp
  have e1 : ab_wsm mid = ws_ y b nLm ret := by unfold ab_wsm; rw [hh, hm]
  rw [e1, hm] at hM
  rw [hm] at hR
  exact va_runV S hM (cwV n S.2.2.2.2 (lw_V h1 h2 h3 h4 h5) rfl hrc hrs ⟨hC, hd⟩ hR) hp
theorem ab_csV_nest {C host : String} {ini : Bool} {ow : Nat} (hm : ab_me mid = (ow, y, b, nLm, ret, ini)) (hh : ab_hh mid = none) (h1 : Cond.methodLinkNest (ab_nm own) idx y host ∈ lw_tbl) (h2 : Cond.instanceMethod y ∈ lw_all) (h3 : Cond.selects C y y ∈ lw_all) (h4 : Cond.initialized y.cls ∈ lw_all) (h5 : Cond.code y b nLm ret ∈ lw_all) (hd : ab_dsc y n) : ab_csV own idx C mid n := by
  intro l p e R s m args below meth c H locs cells slots mc ms rm Pc Qc free b' As rest fr cc nL S hN hM hrc hrs hR hp
  have e1 : ab_wsm mid = ws_ y b nLm ret := by unfold ab_wsm; rw [hh, hm]
  rw [e1, hm] at hM
  rw [hm] at hR
  exact va_runVN S hM ⟨va_cnB n S.2.2.2.2 (lw_meth h5) rfl hrc hrs (hN _ h1 rfl) (S.2.2.2.2 _ h4) hd hR, S.2.2.2.2 _ h2, S.2.2.2.2 _ h3⟩ hp
theorem ab_good5 {a1 a2 a3 a4 a5 : Cond} (h1 : a1 ∈ lw_all) (h2 : a2 ∈ lw_all) (h3 : a3 ∈ lw_all) (h4 : a4 ∈ lw_all) (h5 : a5 ∈ lw_all) : ∀ w ∈ [a1, a2, a3, a4, a5], w ∈ lw_all := by
  intro w hw
  simp only [List.mem_cons, List.not_mem_nil, or_false] at hw
  rcases hw with e | e | e | e | e <;> rw [e] <;> assumption
theorem ab_csV_inh {C owner : String} {x : MethodName} {ini : Bool} {ow : Nat} (hm : ab_me mid = (ow, y, b, nLm, ret, ini)) (hh : ab_hh mid = none) (h1 : Cond.methodLink (ab_nm own) idx x ∈ lw_all) (h0 : Cond.sameMethod x.cls owner x.name x.desc ∈ lw_all) (h3 : Cond.selects C x y ∈ lw_all) (h2 : Cond.instanceMethod y ∈ lw_all) (h4 : Cond.initialized y.cls ∈ lw_all) (h5 : Cond.code y b nLm ret ∈ lw_all) (hyx : y = ⟨owner, x.name, x.desc⟩) (hd : ab_dsc y n) : ab_csV own idx C mid n := by
  intro l p e R s m args below meth c H locs cells slots mc ms rm Pc Qc free b' As rest fr cc nL S _ hM hrc hrs hR hp
  have e1 : ab_wsm mid = ws_ y b nLm ret := by unfold ab_wsm; rw [hh, hm]
  rw [e1, hm] at hM
  rw [hm] at hR
  have hd' := hd
  rw [hyx] at hd'
  exact va_runU S hM (va_cwU n S.2.2.2.2 (lw_app (ab_good5 h1 h0 h3 h2 h4) (lw_meth h5)) rfl hrc hrs hyx hd' hR) hp
theorem ab_csV_abs {C : String} {x : MethodName} {ini : Bool} {ow : Nat} (hm : ab_me mid = (ow, y, b, nLm, ret, ini)) (hh : ab_hh mid = none) (h1 : Cond.methodLink (ab_nm own) idx x ∈ lw_all) (h0 : Cond.sameMethod x.cls x.cls x.name x.desc ∈ lw_all) (h3 : Cond.selects C x y ∈ lw_all) (h2 : Cond.instanceMethod y ∈ lw_all) (h4 : Cond.initialized y.cls ∈ lw_all) (h5 : Cond.code y b nLm ret ∈ lw_all) (hz : Cond.declares x ∈ lw_tbl) (hd : ab_dsc x n) : ab_csV own idx C mid n := by
  intro l p e R s m args below meth c H locs cells slots mc ms rm Pc Qc free b' As rest fr cc nL S hN hM hrc hrs hR hp
  have e1 : ab_wsm mid = ws_ y b nLm ret := by unfold ab_wsm; rw [hh, hm]
  rw [e1, hm] at hM
  rw [hm] at hR
  exact va_runU S hM (va_cwA n S.2.2.2.2 (lw_app (ab_good5 h1 h0 h3 h2 h4) (lw_meth h5)) rfl hrc hrs (hN _ hz rfl) hd hR) hp
theorem ab_csV_W {C : String} {hh : List (Nat × Nat × Nat × Nat)} {ini : Bool} {ow : Nat} (hm : ab_me mid = (ow, y, b, nLm, ret, ini)) (hw : ab_hh mid = some hh) (h1 : Cond.methodLink (ab_nm own) idx y ∈ lw_all) (h2 : Cond.instanceMethod y ∈ lw_all) (h3 : Cond.selects C y y ∈ lw_all) (h4 : Cond.initialized C ∈ lw_all) (h5 : Cond.codeWith y b nLm ret hh ∈ lw_all) (hC : y.cls = C) (hd : ab_dsc y n) : ab_csV own idx C mid n := by
  intro l p e R s m args below meth c H locs cells slots mc ms rm Pc Qc free b' As rest fr cc nL S _ hM hrc hrs hR hp
  have e1 : ab_wsm mid = wsW_ y b nLm ret hh := by unfold ab_wsm; rw [hw, hm]
  rw [e1, hm] at hM
  rw [hm] at hR
  exact vx_runVW S hM (vx_cwVW n S.2.2.2.2 (lw_VW h1 h2 h3 h4 h5) rfl hrc hrs ⟨hC, hd⟩ hR) hp
theorem ab_csS_own {ini : Bool} {ow : Nat} (hm : ab_me mid = (ow, y, b, nLm, ret, ini)) (hh : ab_hh mid = none) (h1 : Cond.methodLink (ab_nm own) idx y ∈ lw_all) (h2 : Cond.static y ∈ lw_all) (h3 : Cond.initialized y.cls ∈ lw_all) (h5 : Cond.code y b nLm ret ∈ lw_all) (hd : ab_dsc y n) : ab_csS own idx mid n := by
  intro l p e R s m args below meth c H locs cells slots mc ms rm Pc Qc free As rest fr cc nL S _ hM hrc hrs hR hp
  have e1 : ab_wsm mid = ws_ y b nLm ret := by unfold ab_wsm; rw [hh, hm]
  rw [e1, hm] at hM
  rw [hm] at hR
  exact va_runS S hM (va_cwS n S.2.2.2.2 (lw_S h1 h2 h3 h5) rfl hrc hrs hd hR) hp
theorem ab_csS_nest {host : String} {ini : Bool} {ow : Nat} (hm : ab_me mid = (ow, y, b, nLm, ret, ini)) (hh : ab_hh mid = none) (h1 : Cond.methodLinkNest (ab_nm own) idx y host ∈ lw_tbl) (h2 : Cond.static y ∈ lw_all) (h3 : Cond.initialized y.cls ∈ lw_all) (h5 : Cond.code y b nLm ret ∈ lw_all) (hd : ab_dsc y n) : ab_csS own idx mid n := by
  intro l p e R s m args below meth c H locs cells slots mc ms rm Pc Qc free As rest fr cc nL S hN hM hrc hrs hR hp
  have e1 : ab_wsm mid = ws_ y b nLm ret := by unfold ab_wsm; rw [hh, hm]
  rw [e1, hm] at hM
  rw [hm] at hR
  exact va_runSN S hM ⟨va_cnB n S.2.2.2.2 (lw_meth h5) rfl hrc hrs (hN _ h1 rfl) (S.2.2.2.2 _ h3) hd hR, S.2.2.2.2 _ h2, trivial⟩ hp
theorem ab_csI_own {ini : Bool} {ow : Nat} (hm : ab_me mid = (ow, y, b, nLm, none, ini)) (hh : ab_hh mid = none) (h1 : Cond.methodLink (ab_nm own) idx y ∈ lw_all) (h2 : Cond.instanceMethod y ∈ lw_all) (h3 : Cond.initialized y.cls ∈ lw_all) (h5 : Cond.code y b nLm none ∈ lw_all) (hy : y.name = "<init>") (hd : ab_dsc y n) : ab_csI own idx mid n := by
  intro l p e R s m args below meth c H locs cells slots mc ms rm Pc Qc free b' As rest fr cc nL S _ hM hrc hrs hR hp
  have e1 : ab_wsm mid = ws_ y b nLm none := by unfold ab_wsm; rw [hh, hm]
  rw [e1, hm] at hM
  rw [hm] at hR
  exact va_runI S hM (cwI n S.2.2.2.2 (lw_meth h5) rfl hrc hrs (S.2.2.2.2 _ h3) (S.2.2.2.2 _ h1) (S.2.2.2.2 _ h2) hy hd hR) hp
theorem ab_csI_nest {host : String} {ini : Bool} {ow : Nat} (hm : ab_me mid = (ow, y, b, nLm, none, ini)) (hh : ab_hh mid = none) (h1 : Cond.methodLinkNest (ab_nm own) idx y host ∈ lw_tbl) (h2 : Cond.instanceMethod y ∈ lw_all) (h3 : Cond.initialized y.cls ∈ lw_all) (h5 : Cond.code y b nLm none ∈ lw_all) (hy : y.name = "<init>") (hd : ab_dsc y n) : ab_csI own idx mid n := by
  intro l p e R s m args below meth c H locs cells slots mc ms rm Pc Qc free b' As rest fr cc nL S hN hM hrc hrs hR hp
  have e1 : ab_wsm mid = ws_ y b nLm none := by unfold ab_wsm; rw [hh, hm]
  rw [e1, hm] at hM
  rw [hm] at hR
  exact va_runIN S hM ⟨va_cnB n S.2.2.2.2 (lw_meth h5) rfl hrc hrs (hN _ h1 rfl) (S.2.2.2.2 _ h3) hd hR, hy, S.2.2.2.2 _ h2⟩ hp
end CSS
/-! ===== fields, classes ===== -/
def ab_fok (own idx c k : Nat) : Prop := ∃ q : vw_C, vwCl[c]? = some q ∧ k < q.2.2 ∧ ((Cond.fieldLink (ab_nm own) idx (q.2.1 k).1 (q.2.1 k).2.1 (q.2.1 k).2.2.1 ∈ lw_all ∧ (q.2.1 k).1 = ab_nm own) ∨ (∃ host, Cond.fieldLinkNest (ab_nm own) idx (q.2.1 k).1 (q.2.1 k).2.1 (q.2.1 k).2.2.1 host ∈ lw_tbl ∧ own ≠ c ∧ own ≠ 16))
def ab_nok (own idx c : Nat) : Prop := ∃ q : vw_C, vwCl[c]? = some q ∧ Cond.classLink (ab_nm own) idx q.1 ∈ lw_all ∧ Cond.instantiable q.1 (ab_nf c) ∈ lw_all ∧ Cond.initialized q.1 ∈ lw_all
