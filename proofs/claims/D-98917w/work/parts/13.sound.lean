/-! ===== the machine under the abstract one ===== -/
theorem ab_ph_hi (g : ab_G) {a : Nat} (h : 64 ≤ a) : ab_ph g a = g.1 + (a - 64) := by
  unfold ab_ph
  rw [if_neg (by omega)]
theorem ab_ad_mem {g : ab_G} {M : ab_M} {x : Nat} (h : x ∈ ab_ad g M) : ∃ a, 64 ≤ a ∧ a < ab_z M ∧ x = ab_ph g a := by
  unfold ab_ad at h
  obtain ⟨a, ha, rfl⟩ := List.mem_map.mp h
  obtain ⟨h1, h2⟩ := List.mem_filter.mp ha
  simp only [Bool.and_eq_true, decide_eq_true_eq] at h2
  exact ⟨a, h2.1, List.mem_range.mp h1, rfl⟩
theorem ab_ad_in {g : ab_G} {M : ab_M} {a c n : Nat} (h : ab_h M a = some (c, n)) (h1 : 64 ≤ a) (h2 : a < ab_z M) : ab_ph g a ∈ ab_ad g M :=
  List.mem_map.mpr ⟨a, List.mem_filter.mpr ⟨List.mem_range.mpr h2, by simp [h, h1]⟩, rfl⟩
theorem ab_ad_pw (g : ab_G) (M : ab_M) : (ab_ad g M).Pairwise (· < ·) := by
  unfold ab_ad
  rw [List.pairwise_map]
  have h := (List.pairwise_lt_range (n := ab_z M)).filter (fun a => decide (64 ≤ a) && (ab_h M a).isSome)
  refine List.Pairwise.imp_of_mem ?_ h
  intro a b ha hb hab
  have h1 := (List.mem_filter.mp ha).2
  have h2 := (List.mem_filter.mp hb).2
  simp only [Bool.and_eq_true, decide_eq_true_eq] at h1 h2
  rw [ab_ph_hi g h1.1, ab_ph_hi g h2.1]
  omega
theorem ab_W_at {g : ab_G} {M : ab_M} {k : Nat} {q : Nat × va_E} (h : (ab_W g M)[k]? = some q) : (ab_ad g M)[k]? = some q.1 := by
  unfold ab_W va_pl at h
  rw [List.getElem?_map] at h
  cases hk : (ab_ad g M)[k]? with
  | none => rw [hk] at h; cases h
  | some x => rw [hk] at h; cases h; rfl
theorem ab_Dd (g : ab_G) (M : ab_M) : va_D (ab_A g) (ab_W g M) := by
  refine ⟨fun i j p q hi hj e => ?_, fun k q hk => ?_⟩
  · have h1 := ab_W_at hi
    have h2 := ab_W_at hj
    rw [e] at h1
    obtain ⟨l1, e1⟩ := List.getElem?_eq_some_iff.mp h1
    obtain ⟨l2, e2⟩ := List.getElem?_eq_some_iff.mp h2
    have pw := List.pairwise_iff_getElem.mp (ab_ad_pw g M)
    rcases Nat.lt_trichotomy i j with h | h | h
    · have := pw i j l1 l2 h
      omega
    · exact h
    · have := pw j i l2 l1 h
      omega
  · obtain ⟨a, h1, -, h2⟩ := ab_ad_mem (List.mem_of_getElem? (ab_W_at hk))
    show g.1 ≤ q.1
    rw [h2, ab_ph_hi g h1]
    omega
theorem ab_W_get {g : ab_G} {M : ab_M} {a c n : Nat} (h : ab_h M a = some (c, n)) (h1 : 64 ≤ a) (h2 : a < ab_z M) : ∃ k : Nat, (ab_W g M)[k]? = some (ab_ph g a, ab_ce g M a) := by
  obtain ⟨k, hk⟩ := va_pl_get (X := []) (f := fun x => ab_ce g M (x + 64 - g.1)) (ab_ad_in (g := g) h h1 h2)
  refine ⟨k, hk.trans ?_⟩
  have : ab_ph g a + 64 - g.1 = a := by rw [ab_ph_hi g h1]; omega
  simp only [this]
theorem ab_W_set {g : ab_G} {M M1 : ab_M} {a k : Nat} (h1 : 64 ≤ a) (hk : (ab_W g M)[k]? = some (ab_ph g a, ab_ce g M a)) (hz : ab_z M1 = ab_z M) (hh : ab_h M1 = ab_h M) (ho : ∀ b, b ≠ a → ab_ce g M1 b = ab_ce g M b) : (ab_W g M).set k (ab_ph g a, ab_ce g M1 a) = ab_W g M1 := by
  have hx : ab_ph g a + 64 - g.1 = a := by rw [ab_ph_hi g h1]; omega
  have hm : ab_ph g a ∈ ab_ad g M := List.mem_of_getElem? (ab_W_at hk)
  have e := va_pl_set (A := ab_A g) (X := []) (L := ab_ad g M) (f := fun x => ab_ce g M (x + 64 - g.1)) (a := ab_ph g a) (k := k) (e := ab_ce g M1 a) (ab_Dd g M) hm (show (ab_W g M)[k]? = some (ab_ph g a, ab_ce g M (ab_ph g a + 64 - g.1)) by rw [hx]; exact hk)
  refine e.trans ?_
  show va_pl _ _ = va_pl _ _
  unfold va_pl
  have hl : ab_ad g M1 = ab_ad g M := by unfold ab_ad; rw [hz, hh]
  rw [hl]
  refine List.map_congr_left fun x hxm => ?_
  obtain ⟨b, hb1, -, rfl⟩ := ab_ad_mem hxm
  have hy : ab_ph g b + 64 - g.1 = b := by rw [ab_ph_hi g hb1]; omega
  by_cases hba : b = a
  · subst hba
    rw [va_up_self]
    simp only [hy]
  · rw [va_up_ne _ _ (fun z => hba (by rw [ab_ph_hi g h1, ab_ph_hi g hb1] at z; omega))]
    simp only [hy]
    rw [ho b hba]
theorem ab_W_new {g : ab_G} {M : ab_M} (c n : Nat) (hz : 64 ≤ ab_z M) (hh : ∀ a x, ab_h M a = some x → a < ab_z M) : ab_W g (ab_nw M c n) = ab_W g M ++ [(ab_ph g (ab_z M), ab_ce g (ab_nw M c n) (ab_z M))] := by
  have ha : ab_ad g (ab_nw M c n) = ab_ad g M ++ [ab_ph g (ab_z M)] := by
    unfold ab_ad
    show ((List.range (ab_z M + 1)).filter _).map _ = _
    rw [List.range_succ, List.filter_append, List.map_append]
    congr 1
    · congr 1
      refine List.filter_congr fun a ha => ?_
      have := List.mem_range.mp ha
      show (decide (64 ≤ a) && (if a = ab_z M then some (c, n) else ab_h M a).isSome) = _
      rw [if_neg (by omega)]
    · have h1 : (decide (64 ≤ ab_z M) && (ab_h (ab_nw M c n) (ab_z M)).isSome) = true := by
        show (decide (64 ≤ ab_z M) && (if ab_z M = ab_z M then some (c, n) else ab_h M (ab_z M)).isSome) = true
        simp [hz]
      simp only [List.filter_cons, h1, List.filter_nil, if_true, List.map_cons, List.map_nil]
  unfold ab_W va_pl
  rw [ha, List.map_append]
  congr 1
  · refine List.map_congr_left fun x hxm => ?_
    obtain ⟨b, hb1, hb2, rfl⟩ := ab_ad_mem hxm
    have hy : ab_ph g b + 64 - g.1 = b := by rw [ab_ph_hi g hb1]; omega
    simp only [hy]
    congr 1
    have hb : b ≠ ab_z M := by omega
    unfold ab_ce
    have e1 : ab_h (ab_nw M c n) b = ab_h M b := if_neg hb
    have e2 : ab_I (ab_nw M c n) b = ab_I M b := by funext j; exact if_neg hb
    have e3 : ab_L (ab_nw M c n) b = ab_L M b := by funext j; exact if_neg hb
    have e4 : ab_R (ab_nw M c n) b = ab_R M b := by funext j; exact if_neg hb
    have e5 : ∀ k kd, ab_gv (ab_nw M c n) b k kd = ab_gv M b k kd := fun k kd => by unfold ab_gv; rw [e2, e3, e4]
    rw [e1, e2, e3, e4]
    simp only [e5]
  · have hy : ab_ph g (ab_z M) + 64 - g.1 = ab_z M := by rw [ab_ph_hi g hz]; omega
    simp only [List.map_cons, List.map_nil, hy]
/-- the words that don't ride in the lists -/
def ab_nwk (w : Cond) : Bool := match w with
  | .fieldLinkNest _ _ _ _ _ _ => true
  | .methodLinkNest _ _ _ _ => true
  | .castable _ _ => true
  | .declares _ => true
  | _ => false
def ab_an (t : Nat) : String := "[" ++ (ab_ty t).toString
def ab_ec (t : Nat) : String := match t with
  | 5 => "MovedSpan$Act"
  | 6 => "MovedSpan$State"
  | 7 => "MovedSpan$Numbers"
  | _ => "MovedSpan$River"
/-- the texts of the constants, by number from 1 on -/
def ab_Es (g : ab_G) (U : State) : Prop :=
  (∀ i : Nat, i < 25 → va_O "java/lang/String" (g.2.1 (i + 1)) (ab_A g) U U.heap ∧ va_OF "java/lang/String" "coder" "B" (.int 0) (g.2.1 (i + 1)) (ab_A g) U U.heap ∧ va_OF "java/lang/String" "value" "[B" (.ref (g.2.1 (i + 32))) (g.2.1 (i + 1)) (ab_A g) U U.heap ∧ va_T .byte (g.2.1 (i + 32)) (ab_sl i) (fun j => .int (ab_sb i j)) (ab_A g) U U.heap) ∧
  va_Z "java/lang/String" "COMPACT_STRINGS" "Z" (.int 1) (ab_A g) U U.heap ∧
  (∀ own idx k, ab_ks own idx = some k → vk_R (ab_nm own) idx (ab_sx k) (g.2.1 k) U)
/-- what holds of the tables and of the cells below the run's own, all through a run -/
def ab_E (g : ab_G) (U : State) : Prop := va_K g.2.2.1 vwCl (ab_tys g) U ∧ (∀ w ∈ lw_tbl, ab_nwk w = true → va_Nw w U) ∧ (∀ t, 5 ≤ t → t < 9 → va_AO (ab_ec t) U) ∧ (∀ t k, t < 9 → k < 3 → t ≠ k → va_Nc (ab_an t) (ab_an k) U) ∧
  g.1 ≤ U.heap.size ∧ (g.2.1 0 < g.1 ∧ va_X (g.2.1 0) g.2.2.2.2.1 g.2.2.2.2.2 U U.heap) ∧ ab_Es g U
theorem ab_Nw_go {w : Cond} {s U : State} (hk : ab_nwk w = true) (hW : s.WarmedH U.vm) (h : va_Nw w s) : va_Nw w U := by
  cases w <;> simp only [ab_nwk, Bool.false_eq_true] at hk
  · exact va_Nw.warmM hW h
  · exact va_Nw.warmF hW h
  · exact va_Nw.warmD hW h
  · exact va_Nw.warmC hW h
theorem ab_E_go {g : ab_G} {s U : State} {H : Heap} {locs : List Loc} (h : ab_E g s) (hS : va_S (ab_A g) s.heap H locs) (hU : U.heap = H) (hW : s.WarmedH U.vm) : ab_E g U := by
  obtain ⟨h1, h2, h3, h4, h5, ⟨h6, h7⟩, h8, h9, h10⟩ := h
  have hv := hW.alike
  have hq : ∀ a : Nat, a < s.heap.size → ¬ ab_A g a → U.heap[a]? = s.heap[a]? := fun a ha hn => by rw [hU]; exact hS.2.1 a ha hn
  refine ⟨h1.moved hv, fun w hw hk => ab_Nw_go hk hW (h2 w hw hk), fun t a b => (h3 t a b).moved hv, fun t k a b c => (h4 t k a b c).moved hv, by rw [hU]; exact Nat.le_trans h5 hS.1, ⟨h6, ?_⟩, ?_, ?_, fun own idx k e => (h10 own idx k e).warm hW⟩
  · exact (h7.kept (hq _ (by omega) (by unfold ab_A; omega))).moved hv
  · intro i hi
    obtain ⟨a, b, c, d⟩ := h8 i hi
    exact ⟨(a.kept hq).moved hv, (b.kept hq).moved hv, (c.kept hq).moved hv, (d.kept hq).moved hv⟩
  · exact (h9.kept hq).moved hv
/-! ===== the judgements ===== -/
def ab_Cx (g : ab_G) (d own : Nat) (ini : Bool) (cc : ByteArray) (nL : Nat) (p : Program) (R : Room) (s : State) (m : MethodId) (args : Array Value) (meth : Method) (c : Code) (c0 : Nat) : Prop :=
  p.tables.exec = Jvm.exec ∧ c.code = cc ∧ c.maxLocals = nL ∧ (ini = true → meth.name = "<init>") ∧ s.vm.findClass (ab_nm own) = some m.cls ∧ (∀ w ∈ lw_all, w.before args s = true) ∧ ab_E g s ∧ (d ≤ R.frames ∧ 64 * d ≤ R.locals) ∧ (64 ≤ c0 ∧ s.heap.size + 64 = g.1 + c0)
def ab_St (g : ab_G) (s : State) (H : Heap) (locs : List Loc) (ls : Array Slot) (nL : Nat) (L : List (Option Value)) (M : ab_M) (cells slots c0 l0 : Nat) : Prop :=
  ab_P g M H ∧ va_S (ab_A g) s.heap H locs ∧ ab_lh g ls nL L ∧ cells + c0 = ab_z M ∧ slots + l0 = ab_s M
def ab_ri (v : Option Value) (i : Instr) : Prop := match v with
  | none => i = .return_
  | some (.int _) => i = .ireturn
  | some (.long _) => i = .lreturn
  | some _ => i = .areturn
/-- from here the method comes to a return with the answer v and the memory M' -/
def ab_Rn (l : Launch) (g : ab_G) (d own : Nat) (ini : Bool) (cc : ByteArray) (nL pc : Nat) (L : List (Option Value)) (st : List Value) (M : ab_M) (v : Option Value) (M' : ab_M) : Prop :=
  ab_z M ≤ ab_z M' ∧ ab_s M ≤ ab_s M' ∧ ∀ (p : Program) (e : Env) (R : Room) (s : State) (m : MethodId) (args : Array Value) (below : List Frame) (meth : Method) (c : Code) (Q : State → Prop) (c0 l0 : Nat),
    ab_Cx g d own ini cc nL p R s m args meth c c0 → ab_z M' ≤ R.cells + c0 → ab_s M' ≤ R.slots + l0 →
    (∀ (H1 : Heap) (locs1 : List Loc) (ls1 : Array Slot) (L1 : List (Option Value)) (cells1 slots1 pc1 : Nat) (i1 : Instr), ab_St g s H1 locs1 ls1 nL L1 M' cells1 slots1 c0 l0 → decode cc pc1 = .ok (i1, 1) → ab_ri v i1 → W p l e R s m args below meth c H1 locs1 cells1 slots1 Q (F0 m pc1 ls1 (v.toList.map (ab_cv g)))) →
    ∀ (H : Heap) (locs : List Loc) (ls : Array Slot) (cells slots : Nat), ab_St g s H locs ls nL L M cells slots c0 l0 → W p l e R s m args below meth c H locs cells slots Q (F0 m pc ls (st.map (ab_cv g)))
def ab_wsm (mid : Nat) : List Cond := match ab_hh mid with
  | none => ws_ (ab_me mid).2.1 (ab_me mid).2.2.1 (ab_me mid).2.2.2.1 (ab_me mid).2.2.2.2.1
  | some hh => wsW_ (ab_me mid).2.1 (ab_me mid).2.2.1 (ab_me mid).2.2.2.1 (ab_me mid).2.2.2.2.1 hh
def ab_Pc (g : ab_G) (as : List Value) (M : ab_M) : Array Value → State → Prop := va_Pc (as.map (ab_cv g)) (fun U => ab_P g M U.heap ∧ ab_E g U)
def ab_Qc (g : ab_G) (v : Option Value) (M' : ab_M) : Array Value → State → Outcome → State → Prop := fun _ st oc t => oc = .returned (v.map (ab_cv g)) ∧ ab_P g M' t.heap ∧ va_F (ab_A g) st t
/-- a method's contract at exact memories -/
def ab_Ct (l : Launch) (g : ab_G) (d mid : Nat) (as : List Value) (M : ab_M) (v : Option Value) (M' : ab_M) : Prop :=
  ab_z M ≤ ab_z M' ∧ ab_s M ≤ ab_s M' ∧ ∀ rm : Room, d ≤ rm.frames → 64 * d ≤ rm.locals → rm.cells = ab_z M' - ab_z M → rm.slots = ab_s M' - ab_s M →
    Met l (ab_me mid).2.1 (ab_wsm mid) rm (ab_Pc g as M) (ab_Qc g v M') (ab_z M' - ab_z M) (ab_s M' - ab_s M) (ab_A g)
theorem ab_Ct.mono {l : Launch} {g : ab_G} {d d' mid : Nat} {as : List Value} {M M' : ab_M} {v : Option Value} (h : ab_Ct l g d mid as M v M') (hd : d ≤ d') : ab_Ct l g d' mid as M v M' :=
  ⟨h.1, h.2.1, fun rm h1 h2 h3 h4 => h.2.2 rm (Nat.le_trans hd h1) (Nat.le_trans (Nat.mul_le_mul_left 64 hd) h2) h3 h4⟩
/-- with some answer and memory that Q holds of -/
def ab_Wp (l : Launch) (g : ab_G) (d own : Nat) (ini : Bool) (cc : ByteArray) (nL pc : Nat) (L : List (Option Value)) (st : List Value) (M : ab_M) (Q : Option Value → ab_M → Prop) : Prop :=
  ∃ v M', ab_Rn l g d own ini cc nL pc L st M v M' ∧ Q v M'
def ab_Cw (l : Launch) (g : ab_G) (d mid : Nat) (as : List Value) (M : ab_M) (Q : Option Value → ab_M → Prop) : Prop := ∃ v M', ab_Ct l g d mid as M v M' ∧ Q v M'
theorem ab_Cw.mono {l : Launch} {g : ab_G} {d d' mid : Nat} {as : List Value} {M : ab_M} {Q : Option Value → ab_M → Prop} (h : ab_Cw l g d mid as M Q) (hd : d ≤ d') : ab_Cw l g d' mid as M Q := by
  obtain ⟨v, M', a, b⟩ := h
  exact ⟨v, M', a.mono hd, b⟩
theorem ab_Cw.use {l : Launch} {g : ab_G} {d d' mid : Nat} {as : List Value} {M : ab_M} {P Q : Option Value → ab_M → Prop} (h : ab_Cw l g d mid as M P) (hd : d ≤ d') (hq : ∀ v M', P v M' → Q v M') : ab_Cw l g d' mid as M Q := by
  obtain ⟨v, M', a, b⟩ := h
  exact ⟨v, M', a.mono hd, hq v M' b⟩
theorem ab_Wp.imp {l : Launch} {g : ab_G} {d own : Nat} {ini : Bool} {cc : ByteArray} {nL pc : Nat} {L : List (Option Value)} {st : List Value} {M : ab_M} {P Q : Option Value → ab_M → Prop} (h : ab_Wp l g d own ini cc nL pc L st M P) (hq : ∀ v M', P v M' → Q v M') : ab_Wp l g d own ini cc nL pc L st M Q := by
  obtain ⟨v, M', a, b⟩ := h
  exact ⟨v, M', a, hq v M' b⟩
section ABR
variable {l : Launch} {g : ab_G} {d own : Nat} {ini : Bool} {cc : ByteArray} {nL pc pc1 : Nat} {L L1 : List (Option Value)} {st st1 : List Value} {M M1 M' : ab_M} {v : Option Value}
/-- one step -/
theorem ab_step (hz : ab_z M ≤ ab_z M1) (hs : ab_s M ≤ ab_s M1)
    (h : ∀ (p : Program) (e : Env) (R : Room) (s : State) (m : MethodId) (args : Array Value) (below : List Frame) (meth : Method) (c : Code) (Q : State → Prop) (c0 l0 : Nat), ab_Cx g d own ini cc nL p R s m args meth c c0 → ab_z M1 ≤ R.cells + c0 → ab_s M1 ≤ R.slots + l0 →
      ∀ (H : Heap) (locs : List Loc) (ls : Array Slot) (cells slots : Nat), ab_St g s H locs ls nL L M cells slots c0 l0 →
      (∀ (H1 : Heap) (locs1 : List Loc) (ls1 : Array Slot) (cells1 slots1 : Nat), ab_St g s H1 locs1 ls1 nL L1 M1 cells1 slots1 c0 l0 → W p l e R s m args below meth c H1 locs1 cells1 slots1 Q (F0 m pc1 ls1 (st1.map (ab_cv g)))) →
      W p l e R s m args below meth c H locs cells slots Q (F0 m pc ls (st.map (ab_cv g))))
    (k : ab_Rn l g d own ini cc nL pc1 L1 st1 M1 v M') : ab_Rn l g d own ini cc nL pc L st M v M' :=
  ⟨Nat.le_trans hz k.1, Nat.le_trans hs k.2.1, fun p e R s m args below meth c Q c0 l0 X h1 h2 hret H locs ls cells slots S =>
    h p e R s m args below meth c Q c0 l0 X (Nat.le_trans k.1 h1) (Nat.le_trans k.2.1 h2) H locs ls cells slots S
      (fun H1 locs1 ls1 cells1 slots1 S1 => k.2.2 p e R s m args below meth c Q c0 l0 X h1 h2 hret H1 locs1 ls1 cells1 slots1 S1)⟩
/-- a step that leaves the memory alone -/
theorem ab_pure
    (h : ∀ {p : Program} {e : Env} {R : Room} {s : State} {m : MethodId} {args : Array Value} {below : List Frame} {meth : Method} {c : Code} {Q : State → Prop} {H : Heap} {locs : List Loc} {ls : Array Slot} {cells slots : Nat}, p.tables.exec = Jvm.exec → c.code = cc → s.vm.findClass (ab_nm own) = some m.cls → (∀ w ∈ lw_all, w.before args s = true) → ab_E g s → ab_lh g ls nL L →
      (∀ ls1 : Array Slot, ab_lh g ls1 nL L1 → W p l e R s m args below meth c H locs cells slots Q (F0 m pc1 ls1 (st1.map (ab_cv g)))) →
      W p l e R s m args below meth c H locs cells slots Q (F0 m pc ls (st.map (ab_cv g))))
    (k : ab_Rn l g d own ini cc nL pc1 L1 st1 M v M') : ab_Rn l g d own ini cc nL pc L st M v M' := by
  refine ab_step (Nat.le_refl _) (Nat.le_refl _) ?_ k
  intro p e R s m args below meth c Q c0 l0 X _ _ H locs ls cells slots S kk
  obtain ⟨hx, hb, -, -, ho, ht, hE, -, -⟩ := X
  exact h hx hb ho ht hE S.2.2.1 (fun ls1 hl => kk H locs ls1 cells slots ⟨S.1, S.2.1, hl, S.2.2.2⟩)
/-- a step that reads the memory -/
theorem ab_read
    (h : ∀ {p : Program} {e : Env} {R : Room} {s : State} {m : MethodId} {args : Array Value} {below : List Frame} {meth : Method} {c : Code} {Q : State → Prop} {H : Heap} {locs : List Loc} {ls : Array Slot} {cells slots : Nat}, p.tables.exec = Jvm.exec → c.code = cc → s.vm.findClass (ab_nm own) = some m.cls → (∀ w ∈ lw_all, w.before args s = true) → ab_E g s → ab_P g M H → va_S (ab_A g) s.heap H locs →
      W p l e R s m args below meth c H locs cells slots Q (F0 m pc1 ls (st1.map (ab_cv g))) →
      W p l e R s m args below meth c H locs cells slots Q (F0 m pc ls (st.map (ab_cv g))))
    (k : ab_Rn l g d own ini cc nL pc1 L st1 M v M') : ab_Rn l g d own ini cc nL pc L st M v M' := by
  refine ab_step (Nat.le_refl _) (Nat.le_refl _) ?_ k
  intro p e R s m args below meth c Q c0 l0 X _ _ H locs ls cells slots S kk
  obtain ⟨hx, hb, -, -, ho, ht, hE, -, -⟩ := X
  exact h hx hb ho ht hE S.1 S.2.1 (kk H locs ls cells slots S)
/-- the heap's size is as the count of cells says -/
theorem ab_size {p : Program} {e : Env} {R : Room} {s : State} {m : MethodId} {args : Array Value} {below : List Frame} {meth : Method} {c : Code} {Q : State → Prop} {H : Heap} {locs : List Loc} {cells slots : Nat} {f : JFrame} (k : H.size ≤ s.heap.size + cells → W p l e R s m args below meth c H locs cells slots Q f) : W p l e R s m args below meth c H locs cells slots Q f :=
  fun T hT X => k (by rw [← hT]; exact X.heapSize) T hT X
/-- a step that writes one cell -/
theorem ab_write {a : Nat} (ha : 64 ≤ a) (hz : ab_z M1 = ab_z M) (hs : ab_s M1 = ab_s M) (hh : ab_h M1 = ab_h M) (hI0 : ab_I M1 0 = ab_I M 0) (ho : ∀ b, b ≠ a → ab_ce g M1 b = ab_ce g M b) (hsh : ∃ x, ab_h M a = some x ∧ x.1 ≠ 63)
    (h : ∀ {p : Program} {e : Env} {R : Room} {s : State} {m : MethodId} {args : Array Value} {below : List Frame} {meth : Method} {c : Code} {Q : State → Prop} {H : Heap} {locs : List Loc} {ls : Array Slot} {cells slots : Nat} (q0 : Nat), p.tables.exec = Jvm.exec → c.code = cc → s.vm.findClass (ab_nm own) = some m.cls → (ini = true → meth.name = "<init>") → (∀ w ∈ lw_all, w.before args s = true) → ab_E g s → ab_P g M H → va_S (ab_A g) H H locs → (ab_W g M)[q0]? = some (ab_ph g a, ab_ce g M a) →
      (∀ (H1 : Heap) (locs1 : List Loc), va_P g.2.2.1 vwCl ((ab_W g M).set q0 (ab_ph g a, ab_ce g M1 a)) H1 → va_S (ab_A g) H H1 locs1 → W p l e R s m args below meth c H1 locs1 cells slots Q (F0 m pc1 ls (st1.map (ab_cv g)))) →
      W p l e R s m args below meth c H locs cells slots Q (F0 m pc ls (st.map (ab_cv g))))
    (k : ab_Rn l g d own ini cc nL pc1 L st1 M1 v M') : ab_Rn l g d own ini cc nL pc L st M v M' := by
  refine ab_step (Nat.le_of_eq hz.symm) (Nat.le_of_eq hs.symm) ?_ k
  intro p e R s m args below meth c Q c0 l0 X _ _ H locs ls cells slots S kk
  obtain ⟨hx, hb, -, hi, hown, ht, hE, -, hc0⟩ := X
  obtain ⟨hP, hS, hl, hcz, hsl⟩ := S
  obtain ⟨⟨cx, nx⟩, hx1, hx2⟩ := hsh
  have hlt : a < ab_z M := by
    rcases hP.2.2.1 a cx nx hx1 with q | q
    · exact absurd q.1 hx2
    · exact q.2.2
  obtain ⟨q0, hq0⟩ := ab_W_get (g := g) hx1 ha hlt
  refine h q0 hx hb hown hi ht hE hP ⟨Nat.le_refl _, fun _ _ _ => rfl, hS.2.2⟩ hq0 fun H1 locs1 hP1 hS1 => ab_size fun hsz => ?_
  rw [ab_W_set ha hq0 hz hh ho] at hP1
  refine kk H1 locs1 ls cells slots ⟨⟨by rw [hz]; exact hP.1, ?_, ?_, hP1⟩, ⟨Nat.le_trans hS.1 hS1.1, fun q h1 h2 => (hS1.2.1 q (Nat.lt_of_lt_of_le h1 hS.1) h2).trans (hS.2.1 q h1 h2), hS1.2.2⟩, hl, by rw [hz]; exact hcz, by rw [hs]; exact hsl⟩
  · have e1 := hP.2.1
    have e2 := hS1.1
    have e3 := hP.1
    rw [hz]
    omega
  · rw [hh, hI0, hz]
    exact hP.2.2.1
end ABR
