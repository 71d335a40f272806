/-! ===== the instructions that leave the memory alone ===== -/
def ab_as (g : ab_G) (L : List (Option Value)) : List (Nat × Value) := (List.range L.length).filterMap (fun i => match L[i]? with
  | some (some v) => some (i, ab_cv g v)
  | _ => none)
theorem ab_as_mem {g : ab_G} {L : List (Option Value)} {q : Nat × Value} (h : q ∈ ab_as g L) : ∃ v, L[q.1]? = some (some v) ∧ q.2 = ab_cv g v := by
  obtain ⟨i, -, hi⟩ := List.mem_filterMap.mp h
  split at hi
  · rename_i v hv
    cases hi
    exact ⟨v, hv, rfl⟩
  · cases hi
theorem ab_as_in {g : ab_G} {L : List (Option Value)} {i : Nat} {v : Value} (h : L[i]? = some (some v)) : (i, ab_cv g v) ∈ ab_as g L := by
  refine List.mem_filterMap.mpr ⟨i, List.mem_range.mpr (List.getElem?_eq_some_iff.mp h).1, ?_⟩
  rw [h]
theorem ab_lh_has {g : ab_G} {ls : Array Slot} {nL : Nat} {L : List (Option Value)} (h : ab_lh g ls nL L) : lv_has ls nL (ab_as g L) := by
  refine ⟨h.1, h.2.1, fun q hq => ?_⟩
  obtain ⟨v, h1, h2⟩ := ab_as_mem hq
  rw [h2]
  exact h.2.2.2 _ v h1
theorem ab_st1_len : ∀ (L : List (Option Value)) (i : Nat) (v : Value), (ab_st1 L i v).length = L.length
  | [], _, _ => rfl
  | none :: _, 0, _ => rfl
  | some _ :: _, 0, _ => rfl
  | none :: t, j + 1, v => by simp [ab_st1, ab_st1_len t j v]
  | some _ :: t, 0 + 1, v => by simp [ab_st1, ab_st1_len t 0 v]
  | some _ :: t, j + 2, v => by simp [ab_st1, ab_st1_len t (j + 1) v]
theorem ab_st1_at : ∀ (L : List (Option Value)) (i : Nat) (v : Value) (j : Nat) (w : Value), (ab_st1 L i v)[j]? = some (some w) → (j = i ∧ w = v) ∨ (j ≠ i ∧ L[j]? = some (some w) ∧ (j + 1 = i → ab_lg w = false))
  | [], i, v, j, w, h => by simp [ab_st1] at h
  | x :: t, 0, v, j, w, h => by
    have e : ab_st1 (x :: t) 0 v = some v :: t := by cases x <;> rfl
    rw [e] at h
    cases j with
    | zero => simp at h; exact Or.inl ⟨rfl, h.symm⟩
    | succ j => exact Or.inr ⟨by omega, by simpa using h, fun q => by omega⟩
  | none :: t, i + 1, v, j, w, h => by
    rw [ab_st1] at h
    cases j with
    | zero => simp at h
    | succ j =>
      rcases ab_st1_at t i v j w (by simpa using h) with ⟨a, b⟩ | ⟨a, b, c⟩
      · exact Or.inl ⟨by omega, b⟩
      · exact Or.inr ⟨by omega, by simpa using b, fun q => c (by omega)⟩
  | some x :: t, 0 + 1, v, j, w, h => by
    rw [ab_st1] at h
    cases j with
    | zero =>
      cases hx : ab_lg x with
      | true => simp [hx] at h
      | false =>
        simp [hx] at h
        subst h
        exact Or.inr ⟨by omega, rfl, fun _ => hx⟩
    | succ j =>
      rcases ab_st1_at t 0 v j w (by simpa using h) with ⟨a, b⟩ | ⟨a, b, c⟩
      · exact Or.inl ⟨by omega, b⟩
      · exact Or.inr ⟨by omega, by simpa using b, fun q => c (by omega)⟩
  | some x :: t, i + 2, v, j, w, h => by
    rw [ab_st1] at h
    cases j with
    | zero => simp at h; subst h; exact Or.inr ⟨by omega, rfl, fun q => by omega⟩
    | succ j =>
      rcases ab_st1_at t (i + 1) v j w (by simpa using h) with ⟨a, b⟩ | ⟨a, b, c⟩
      · exact Or.inl ⟨by omega, b⟩
      · exact Or.inr ⟨by omega, by simpa using b, fun q => c (by omega)⟩
theorem ab_st2_len : ∀ (L : List (Option Value)) (i : Nat) (v : Value), (ab_st2 L i v).length = L.length
  | [], _, _ => rfl
  | [none], 0, _ => rfl
  | [some _], 0, _ => rfl
  | none :: _ :: _, 0, _ => rfl
  | some _ :: _ :: _, 0, _ => rfl
  | none :: t, j + 1, v => by simp [ab_st2, ab_st2_len t j v]
  | some _ :: t, 0 + 1, v => by simp [ab_st2, ab_st2_len t 0 v]
  | some _ :: t, j + 2, v => by simp [ab_st2, ab_st2_len t (j + 1) v]
theorem ab_st2_at : ∀ (L : List (Option Value)) (i : Nat) (v : Value) (j : Nat) (w : Value), (ab_st2 L i v)[j]? = some (some w) → (j = i ∧ w = v) ∨ (j ≠ i ∧ j ≠ i + 1 ∧ L[j]? = some (some w) ∧ (j + 1 = i → ab_lg w = false))
  | [], i, v, j, w, h => by simp [ab_st2] at h
  | [x], 0, v, j, w, h => by
    have e : ab_st2 [x] 0 v = [none] := by cases x <;> rfl
    rw [e] at h
    cases j <;> simp at h
  | x :: y :: t, 0, v, j, w, h => by
    have e : ab_st2 (x :: y :: t) 0 v = some v :: none :: t := by cases x <;> rfl
    rw [e] at h
    match j, h with
    | 0, h => simp at h; exact Or.inl ⟨rfl, h.symm⟩
    | 1, h => simp at h
    | j + 2, h => exact Or.inr ⟨by omega, by omega, by simpa using h, fun q => by omega⟩
  | none :: t, i + 1, v, j, w, h => by
    rw [ab_st2] at h
    cases j with
    | zero => simp at h
    | succ j =>
      rcases ab_st2_at t i v j w (by simpa using h) with ⟨a, b⟩ | ⟨a, b, c, e⟩
      · exact Or.inl ⟨by omega, b⟩
      · exact Or.inr ⟨by omega, by omega, by simpa using c, fun q => e (by omega)⟩
  | some x :: t, 0 + 1, v, j, w, h => by
    rw [ab_st2] at h
    cases j with
    | zero =>
      cases hx : ab_lg x with
      | true => simp [hx] at h
      | false =>
        simp [hx] at h
        subst h
        exact Or.inr ⟨by omega, by omega, rfl, fun _ => hx⟩
    | succ j =>
      rcases ab_st2_at t 0 v j w (by simpa using h) with ⟨a, b⟩ | ⟨a, b, c, e⟩
      · exact Or.inl ⟨by omega, b⟩
      · exact Or.inr ⟨by omega, by omega, by simpa using c, fun q => e (by omega)⟩
  | some x :: t, i + 2, v, j, w, h => by
    rw [ab_st2] at h
    cases j with
    | zero => simp at h; subst h; exact Or.inr ⟨by omega, by omega, rfl, fun q => by omega⟩
    | succ j =>
      rcases ab_st2_at t (i + 1) v j w (by simpa using h) with ⟨a, b⟩ | ⟨a, b, c, e⟩
      · exact Or.inl ⟨by omega, b⟩
      · exact Or.inr ⟨by omega, by omega, by simpa using c, fun q => e (by omega)⟩
theorem ab_lh_st1 {g : ab_G} {ls : Array Slot} {nL i : Nat} {L : List (Option Value)} {v : Value} (hL : L.length = nL) (h : lv_has ls nL ((i, ab_cv g v) :: (ab_as g L).filter (fun q => !(q.1 == i) && !(q.1 + 1 == i && q.2.category == 2)))) : ab_lh g ls nL (ab_st1 L i v) := by
  refine ⟨h.1, h.2.1, (ab_st1_len L i v).trans hL, fun j w hj => ?_⟩
  rcases ab_st1_at L i v j w hj with ⟨rfl, rfl⟩ | ⟨a, b, c⟩
  · exact h.2.2 (j, ab_cv g w) List.mem_cons_self
  · refine h.2.2 (j, ab_cv g w) (List.mem_cons_of_mem _ (List.mem_filter.mpr ⟨ab_as_in b, ?_⟩))
    have e1 : (j == i) = false := by simpa using a
    show (!(j == i) && !(j + 1 == i && (ab_cv g w).category == 2)) = true
    rw [e1, ab_cv_cat, ab_lg_cat]
    by_cases hji : j + 1 = i
    · rw [c hji]; simp
    · have e2 : (j + 1 == i) = false := by simpa using hji
      rw [e2]; rfl
theorem ab_lh_st2 {g : ab_G} {ls : Array Slot} {nL i : Nat} {L : List (Option Value)} {v : Value} (hL : L.length = nL) (h : lv_has ls nL ((i, ab_cv g v) :: (ab_as g L).filter (fun q => !(q.1 == i) && (!(q.1 == i + 1) && !(q.1 + 1 == i && q.2.category == 2))))) : ab_lh g ls nL (ab_st2 L i v) := by
  refine ⟨h.1, h.2.1, (ab_st2_len L i v).trans hL, fun j w hj => ?_⟩
  rcases ab_st2_at L i v j w hj with ⟨rfl, rfl⟩ | ⟨a, b, c, e⟩
  · exact h.2.2 (j, ab_cv g w) List.mem_cons_self
  · refine h.2.2 (j, ab_cv g w) (List.mem_cons_of_mem _ (List.mem_filter.mpr ⟨ab_as_in c, ?_⟩))
    have e1 : (j == i) = false := by simpa using a
    have e3 : (j == i + 1) = false := by simpa using b
    show (!(j == i) && (!(j == i + 1) && !(j + 1 == i && (ab_cv g w).category == 2))) = true
    rw [e1, e3, ab_cv_cat, ab_lg_cat]
    by_cases hji : j + 1 = i
    · rw [e hji]; simp
    · have e2 : (j + 1 == i) = false := by simpa using hji
      rw [e2]; rfl
section ABO
variable {l : Launch} {g : ab_G} {d own : Nat} {ini : Bool} {cc : ByteArray} {nL pc : Nat} {L : List (Option Value)} {st r : List Value} {M M' : ab_M} {v : Option Value}
theorem o_iconst {n : Int} (hd : decode cc pc = .ok (.iconst n, 1)) (k : ab_Rn l g d own ini cc nL (pc + 1) L (.int (Int32.ofInt n) :: st) M v M') : ab_Rn l g d own ini cc nL pc L st M v M' :=
  ab_pure (fun hx hb ho ht hE hl k => lv_iconst hx hb hd rfl (k _ hl)) k
theorem o_bipush {n : Int} (hd : decode cc pc = .ok (.bipush n, 2)) (k : ab_Rn l g d own ini cc nL (pc + 2) L (.int (Int8.ofInt n).toInt32 :: st) M v M') : ab_Rn l g d own ini cc nL pc L st M v M' :=
  ab_pure (fun hx hb ho ht hE hl k => lv_bipush hx hb hd rfl (k _ hl)) k
theorem o_sipush {n : Int} (hd : decode cc pc = .ok (.sipush n, 3)) (k : ab_Rn l g d own ini cc nL (pc + 3) L (.int (Int16.ofInt n).toInt32 :: st) M v M') : ab_Rn l g d own ini cc nL pc L st M v M' :=
  ab_pure (fun hx hb ho ht hE hl k => lv_sipush hx hb hd rfl (k _ hl)) k
theorem o_lconst {n : Fin 2} (hd : decode cc pc = .ok (.lconst n, 1)) (k : ab_Rn l g d own ini cc nL (pc + 1) L (.long (Int64.ofNat (n : Nat)) :: st) M v M') : ab_Rn l g d own ini cc nL pc L st M v M' :=
  ab_pure (fun hx hb ho ht hE hl k => lv_lconst hx hb hd rfl (k _ hl)) k
theorem o_null  (hd : decode cc pc = .ok (.aconst_null, 1)) (k : ab_Rn l g d own ini cc nL (pc + 1) L (.null :: st) M v M') : ab_Rn l g d own ini cc nL pc L st M v M' :=
  ab_pure (fun hx hb ho ht hE hl k => lv_null hx hb hd (k _ hl)) k
theorem o_iload_n {n : Fin 4} {x : Int32} (h : L[(n : Nat)]? = some (some (.int x))) (hd : decode cc pc = .ok (.iload_n n, 1)) (k : ab_Rn l g d own ini cc nL (pc + 1) L (.int x :: st) M v M') : ab_Rn l g d own ini cc nL pc L st M v M' :=
  ab_pure (fun hx hb ho ht hE hl k => lv_iload_n hx hb hd rfl (hl.2.2.2 _ _ h) (k _ hl)) k
theorem o_iload {n : Nat} {x : Int32} (h : L[n]? = some (some (.int x))) (hd : decode cc pc = .ok (.iload n, 2)) (k : ab_Rn l g d own ini cc nL (pc + 2) L (.int x :: st) M v M') : ab_Rn l g d own ini cc nL pc L st M v M' :=
  ab_pure (fun hx hb ho ht hE hl k => lv_iload hx hb hd (hl.2.2.2 _ _ h) (k _ hl)) k
theorem o_lload_n {n : Fin 4} {x : Int64} (h : L[(n : Nat)]? = some (some (.long x))) (hd : decode cc pc = .ok (.lload_n n, 1)) (k : ab_Rn l g d own ini cc nL (pc + 1) L (.long x :: st) M v M') : ab_Rn l g d own ini cc nL pc L st M v M' :=
  ab_pure (fun hx hb ho ht hE hl k => lv_lload_n hx hb hd rfl (hl.2.2.2 _ _ h) (k _ hl)) k
theorem o_lload {n : Nat} {x : Int64} (h : L[n]? = some (some (.long x))) (hd : decode cc pc = .ok (.lload n, 2)) (k : ab_Rn l g d own ini cc nL (pc + 2) L (.long x :: st) M v M') : ab_Rn l g d own ini cc nL pc L st M v M' :=
  ab_pure (fun hx hb ho ht hE hl k => lv_lload hx hb hd (hl.2.2.2 _ _ h) (k _ hl)) k
theorem o_aload_n {n : Fin 4} {w : Value} (h : L[(n : Nat)]? = some (some w)) (hw : (ab_rv w).isSome = true) (hd : decode cc pc = .ok (.aload_n n, 1)) (k : ab_Rn l g d own ini cc nL (pc + 1) L (w :: st) M v M') : ab_Rn l g d own ini cc nL pc L st M v M' := by
  refine ab_pure (fun hx hb ho ht hE hl k => ?_) k
  have h1 := hl.2.2.2 _ _ h
  have k1 := k _ hl
  cases w <;> simp only [ab_rv, Option.isSome_none, Bool.false_eq_true] at hw
  · exact lv_aload_nN hx hb hd rfl h1 k1
  · exact lv_aload_n hx hb hd rfl h1 k1
theorem o_aload {n : Nat} {w : Value} (h : L[n]? = some (some w)) (hw : (ab_rv w).isSome = true) (hd : decode cc pc = .ok (.aload n, 2)) (k : ab_Rn l g d own ini cc nL (pc + 2) L (w :: st) M v M') : ab_Rn l g d own ini cc nL pc L st M v M' := by
  refine ab_pure (fun hx hb ho ht hE hl k => ?_) k
  have h1 := hl.2.2.2 _ _ h
  have k1 := k _ hl
  cases w <;> simp only [ab_rv, Option.isSome_none, Bool.false_eq_true] at hw
  · exact lv_aloadN hx hb hd h1 k1
  · exact lv_aload hx hb hd h1 k1
theorem o_istore_n {n : Fin 4} {x : Int32} (hn : (n : Nat) < L.length) (hd : decode cc pc = .ok (.istore_n n, 1)) (k : ab_Rn l g d own ini cc nL (pc + 1) (ab_st1 L n (.int x)) r M v M') : ab_Rn l g d own ini cc nL pc L (.int x :: r) M v M' :=
  ab_pure (fun hx hb ho ht hE hl k => lv_istore_n hx hb hd rfl (ab_lh_has hl) (by rw [← hl.2.2.1]; exact hn) rfl (fun ls h => k ls (ab_lh_st1 hl.2.2.1 h))) k
theorem o_istore {n : Nat} {x : Int32} (hn : n < L.length) (hd : decode cc pc = .ok (.istore n, 2)) (k : ab_Rn l g d own ini cc nL (pc + 2) (ab_st1 L n (.int x)) r M v M') : ab_Rn l g d own ini cc nL pc L (.int x :: r) M v M' :=
  ab_pure (fun hx hb ho ht hE hl k => lv_istore hx hb hd (ab_lh_has hl) (by rw [← hl.2.2.1]; exact hn) rfl (fun ls h => k ls (ab_lh_st1 hl.2.2.1 h))) k
theorem o_lstore_n {n : Fin 4} {x : Int64} (hn : (n : Nat) + 1 < L.length) (hd : decode cc pc = .ok (.lstore_n n, 1)) (k : ab_Rn l g d own ini cc nL (pc + 1) (ab_st2 L n (.long x)) r M v M') : ab_Rn l g d own ini cc nL pc L (.long x :: r) M v M' :=
  ab_pure (fun hx hb ho ht hE hl k => lv_lstore_n hx hb hd rfl (ab_lh_has hl) (by rw [← hl.2.2.1]; exact hn) rfl (fun ls h => k ls (ab_lh_st2 hl.2.2.1 h))) k
theorem o_lstore {n : Nat} {x : Int64} (hn : n + 1 < L.length) (hd : decode cc pc = .ok (.lstore n, 2)) (k : ab_Rn l g d own ini cc nL (pc + 2) (ab_st2 L n (.long x)) r M v M') : ab_Rn l g d own ini cc nL pc L (.long x :: r) M v M' :=
  ab_pure (fun hx hb ho ht hE hl k => lv_lstore hx hb hd (ab_lh_has hl) (by rw [← hl.2.2.1]; exact hn) rfl (fun ls h => k ls (ab_lh_st2 hl.2.2.1 h))) k
theorem o_astore_n {n : Fin 4} {w : Value} (hw : (ab_rv w).isSome = true) (hn : (n : Nat) < L.length) (hd : decode cc pc = .ok (.astore_n n, 1)) (k : ab_Rn l g d own ini cc nL (pc + 1) (ab_st1 L n w) r M v M') : ab_Rn l g d own ini cc nL pc L (w :: r) M v M' := by
  refine ab_pure (fun hx hb ho ht hE hl k => ?_) k
  cases w <;> simp only [ab_rv, Option.isSome_none, Bool.false_eq_true] at hw
  · exact lv_astore_nN hx hb hd rfl (ab_lh_has hl) (by rw [← hl.2.2.1]; exact hn) rfl (fun ls h => k ls (ab_lh_st1 (v := .null) hl.2.2.1 h))
  · exact lv_astore_n hx hb hd rfl (ab_lh_has hl) (by rw [← hl.2.2.1]; exact hn) rfl (fun ls h => k ls (ab_lh_st1 (v := .ref _) hl.2.2.1 h))
theorem o_astore {n : Nat} {w : Value} (hw : (ab_rv w).isSome = true) (hn : n < L.length) (hd : decode cc pc = .ok (.astore n, 2)) (k : ab_Rn l g d own ini cc nL (pc + 2) (ab_st1 L n w) r M v M') : ab_Rn l g d own ini cc nL pc L (w :: r) M v M' := by
  refine ab_pure (fun hx hb ho ht hE hl k => ?_) k
  cases w <;> simp only [ab_rv, Option.isSome_none, Bool.false_eq_true] at hw
  · exact lv_astoreN hx hb hd (ab_lh_has hl) (by rw [← hl.2.2.1]; exact hn) rfl (fun ls h => k ls (ab_lh_st1 (v := .null) hl.2.2.1 h))
  · exact lv_astore hx hb hd (ab_lh_has hl) (by rw [← hl.2.2.1]; exact hn) rfl (fun ls h => k ls (ab_lh_st1 (v := .ref _) hl.2.2.1 h))
theorem o_iinc {n : Nat} {c : Int} {x : Int32} (h : L[n]? = some (some (.int x))) (hd : decode cc pc = .ok (.iinc n c, 3)) (k : ab_Rn l g d own ini cc nL (pc + 3) (ab_st1 L n (.int (x + Int32.ofInt c))) st M v M') : ab_Rn l g d own ini cc nL pc L st M v M' := by
  refine ab_pure (fun hx hb ho ht hE hl k => ?_) k
  obtain ⟨q, hq⟩ := List.getElem?_of_mem (ab_as_in (g := g) h)
  exact lv_iinc hx hb hd (ab_lh_has hl) hq rfl (by rw [← hl.2.2.1]; exact (List.getElem?_eq_some_iff.mp h).1) rfl (fun ls h => k ls (ab_lh_st1 (v := .int _) hl.2.2.1 h))
theorem o_iadd {x y : Int32} (hd : decode cc pc = .ok (.iadd, 1)) (k : ab_Rn l g d own ini cc nL (pc + 1) L (.int (x + y) :: r) M v M') : ab_Rn l g d own ini cc nL pc L (.int y :: .int x :: r) M v M' :=
  ab_pure (fun hx hb ho ht hE hl k => lv_iadd hx hb hd (k _ hl)) k
theorem o_ladd {x y : Int64} (hd : decode cc pc = .ok (.ladd, 1)) (k : ab_Rn l g d own ini cc nL (pc + 1) L (.long (x + y) :: r) M v M') : ab_Rn l g d own ini cc nL pc L (.long y :: .long x :: r) M v M' :=
  ab_pure (fun hx hb ho ht hE hl k => lv_ladd hx hb hd (k _ hl)) k
theorem o_isub {x y : Int32} (hd : decode cc pc = .ok (.isub, 1)) (k : ab_Rn l g d own ini cc nL (pc + 1) L (.int (x - y) :: r) M v M') : ab_Rn l g d own ini cc nL pc L (.int y :: .int x :: r) M v M' :=
  ab_pure (fun hx hb ho ht hE hl k => lv_isub hx hb hd (k _ hl)) k
theorem o_lsub {x y : Int64} (hd : decode cc pc = .ok (.lsub, 1)) (k : ab_Rn l g d own ini cc nL (pc + 1) L (.long (x - y) :: r) M v M') : ab_Rn l g d own ini cc nL pc L (.long y :: .long x :: r) M v M' :=
  ab_pure (fun hx hb ho ht hE hl k => lv_lsub hx hb hd (k _ hl)) k
theorem o_imul {x y : Int32} (hd : decode cc pc = .ok (.imul, 1)) (k : ab_Rn l g d own ini cc nL (pc + 1) L (.int (x * y) :: r) M v M') : ab_Rn l g d own ini cc nL pc L (.int y :: .int x :: r) M v M' :=
  ab_pure (fun hx hb ho ht hE hl k => lv_imul hx hb hd (k _ hl)) k
theorem o_lmul {x y : Int64} (hd : decode cc pc = .ok (.lmul, 1)) (k : ab_Rn l g d own ini cc nL (pc + 1) L (.long (x * y) :: r) M v M') : ab_Rn l g d own ini cc nL pc L (.long y :: .long x :: r) M v M' :=
  ab_pure (fun hx hb ho ht hE hl k => lv_lmul hx hb hd (k _ hl)) k
theorem o_iand {x y : Int32} (hd : decode cc pc = .ok (.iand, 1)) (k : ab_Rn l g d own ini cc nL (pc + 1) L (.int (x &&& y) :: r) M v M') : ab_Rn l g d own ini cc nL pc L (.int y :: .int x :: r) M v M' :=
  ab_pure (fun hx hb ho ht hE hl k => lv_iand hx hb hd (k _ hl)) k
theorem o_land {x y : Int64} (hd : decode cc pc = .ok (.land, 1)) (k : ab_Rn l g d own ini cc nL (pc + 1) L (.long (x &&& y) :: r) M v M') : ab_Rn l g d own ini cc nL pc L (.long y :: .long x :: r) M v M' :=
  ab_pure (fun hx hb ho ht hE hl k => lv_land hx hb hd (k _ hl)) k
theorem o_ior {x y : Int32} (hd : decode cc pc = .ok (.ior, 1)) (k : ab_Rn l g d own ini cc nL (pc + 1) L (.int (x ||| y) :: r) M v M') : ab_Rn l g d own ini cc nL pc L (.int y :: .int x :: r) M v M' :=
  ab_pure (fun hx hb ho ht hE hl k => lv_ior hx hb hd (k _ hl)) k
theorem o_lor {x y : Int64} (hd : decode cc pc = .ok (.lor, 1)) (k : ab_Rn l g d own ini cc nL (pc + 1) L (.long (x ||| y) :: r) M v M') : ab_Rn l g d own ini cc nL pc L (.long y :: .long x :: r) M v M' :=
  ab_pure (fun hx hb ho ht hE hl k => lv_lor hx hb hd (k _ hl)) k
theorem o_ixor {x y : Int32} (hd : decode cc pc = .ok (.ixor, 1)) (k : ab_Rn l g d own ini cc nL (pc + 1) L (.int (x ^^^ y) :: r) M v M') : ab_Rn l g d own ini cc nL pc L (.int y :: .int x :: r) M v M' :=
  ab_pure (fun hx hb ho ht hE hl k => lv_ixor hx hb hd (k _ hl)) k
theorem o_idiv {x y : Int32} (h0 : ¬ y = 0) (hd : decode cc pc = .ok (.idiv, 1)) (k : ab_Rn l g d own ini cc nL (pc + 1) L (.int (x / y) :: r) M v M') : ab_Rn l g d own ini cc nL pc L (.int y :: .int x :: r) M v M' :=
  ab_pure (fun hx hb ho ht hE hl k => lv_idiv hx hb hd h0 (k _ hl)) k
theorem o_ldiv {x y : Int64} (h0 : ¬ y = 0) (hd : decode cc pc = .ok (.ldiv, 1)) (k : ab_Rn l g d own ini cc nL (pc + 1) L (.long (x / y) :: r) M v M') : ab_Rn l g d own ini cc nL pc L (.long y :: .long x :: r) M v M' :=
  ab_pure (fun hx hb ho ht hE hl k => lv_ldiv hx hb hd h0 (k _ hl)) k
theorem o_irem {x y : Int32} (h0 : ¬ y = 0) (hd : decode cc pc = .ok (.irem, 1)) (k : ab_Rn l g d own ini cc nL (pc + 1) L (.int (x - x / y * y) :: r) M v M') : ab_Rn l g d own ini cc nL pc L (.int y :: .int x :: r) M v M' :=
  ab_pure (fun hx hb ho ht hE hl k => lv_irem hx hb hd h0 (k _ hl)) k
theorem o_lrem {x y : Int64} (h0 : ¬ y = 0) (hd : decode cc pc = .ok (.lrem, 1)) (k : ab_Rn l g d own ini cc nL (pc + 1) L (.long (x - x / y * y) :: r) M v M') : ab_Rn l g d own ini cc nL pc L (.long y :: .long x :: r) M v M' :=
  ab_pure (fun hx hb ho ht hE hl k => lv_lrem hx hb hd h0 (k _ hl)) k
theorem o_ishl {x y : Int32} (hd : decode cc pc = .ok (.ishl, 1)) (k : ab_Rn l g d own ini cc nL (pc + 1) L (.int (x <<< (y &&& 31)) :: r) M v M') : ab_Rn l g d own ini cc nL pc L (.int y :: .int x :: r) M v M' :=
  ab_pure (fun hx hb ho ht hE hl k => lv_ishl hx hb hd (k _ hl)) k
theorem o_ishr {x y : Int32} (hd : decode cc pc = .ok (.ishr, 1)) (k : ab_Rn l g d own ini cc nL (pc + 1) L (.int (x >>> (y &&& 31)) :: r) M v M') : ab_Rn l g d own ini cc nL pc L (.int y :: .int x :: r) M v M' :=
  ab_pure (fun hx hb ho ht hE hl k => lv_ishr hx hb hd (k _ hl)) k
theorem o_iushr {x y : Int32} (hd : decode cc pc = .ok (.iushr, 1)) (k : ab_Rn l g d own ini cc nL (pc + 1) L (.int (x.toUInt32 >>> (y.toUInt32 &&& Int32.toUInt32 31)).toInt32 :: r) M v M') : ab_Rn l g d own ini cc nL pc L (.int y :: .int x :: r) M v M' :=
  ab_pure (fun hx hb ho ht hE hl k => lv_iushr hx hb hd rfl (k _ hl)) k
theorem o_lshl {x : Int64} {y : Int32} (hd : decode cc pc = .ok (.lshl, 1)) (k : ab_Rn l g d own ini cc nL (pc + 1) L (.long (x <<< (y.toInt64 &&& 63)) :: r) M v M') : ab_Rn l g d own ini cc nL pc L (.int y :: .long x :: r) M v M' :=
  ab_pure (fun hx hb ho ht hE hl k => lv_lshl hx hb hd rfl (k _ hl)) k
theorem o_lshr {x : Int64} {y : Int32} (hd : decode cc pc = .ok (.lshr, 1)) (k : ab_Rn l g d own ini cc nL (pc + 1) L (.long (x >>> (y.toInt64 &&& 63)) :: r) M v M') : ab_Rn l g d own ini cc nL pc L (.int y :: .long x :: r) M v M' :=
  ab_pure (fun hx hb ho ht hE hl k => lv_lshr hx hb hd rfl (k _ hl)) k
theorem o_lcmp {x y : Int64} (hd : decode cc pc = .ok (.lcmp, 1)) (k : ab_Rn l g d own ini cc nL (pc + 1) L (.int (lg_cmp x y) :: r) M v M') : ab_Rn l g d own ini cc nL pc L (.long y :: .long x :: r) M v M' :=
  ab_pure (fun hx hb ho ht hE hl k => W.lcmp hx hb hd (k _ hl)) k
theorem o_i2l {x : Int32} (hd : decode cc pc = .ok (.i2l, 1)) (k : ab_Rn l g d own ini cc nL (pc + 1) L (.long x.toInt64 :: r) M v M') : ab_Rn l g d own ini cc nL pc L (.int x :: r) M v M' :=
  ab_pure (fun hx hb ho ht hE hl k => lv_i2l hx hb hd rfl (k _ hl)) k
theorem o_l2i {x : Int64} (hd : decode cc pc = .ok (.l2i, 1)) (k : ab_Rn l g d own ini cc nL (pc + 1) L (.int x.toInt32 :: r) M v M') : ab_Rn l g d own ini cc nL pc L (.long x :: r) M v M' :=
  ab_pure (fun hx hb ho ht hE hl k => lv_l2i hx hb hd rfl (k _ hl)) k
theorem o_i2b {x : Int32} (hd : decode cc pc = .ok (.i2b, 1)) (k : ab_Rn l g d own ini cc nL (pc + 1) L (.int x.toInt8.toInt32 :: r) M v M') : ab_Rn l g d own ini cc nL pc L (.int x :: r) M v M' :=
  ab_pure (fun hx hb ho ht hE hl k => lv_i2b hx hb hd rfl (k _ hl)) k
theorem o_i2s {x : Int32} (hd : decode cc pc = .ok (.i2s, 1)) (k : ab_Rn l g d own ini cc nL (pc + 1) L (.int x.toInt16.toInt32 :: r) M v M') : ab_Rn l g d own ini cc nL pc L (.int x :: r) M v M' :=
  ab_pure (fun hx hb ho ht hE hl k => lv_i2s hx hb hd rfl (k _ hl)) k
theorem o_dup {w : Value} (hw : w.category = 1) (hd : decode cc pc = .ok (.dup, 1)) (k : ab_Rn l g d own ini cc nL (pc + 1) L (w :: w :: r) M v M') : ab_Rn l g d own ini cc nL pc L (w :: r) M v M' :=
  ab_pure (fun hx hb ho ht hE hl k => lv_dup hx hb hd ((ab_cv_cat g w).trans hw) (k _ hl)) k
theorem o_dup2 {w u : Value} (hw : w.category = 1) (hu : u.category = 1) (hd : decode cc pc = .ok (.dup2, 1)) (k : ab_Rn l g d own ini cc nL (pc + 1) L (w :: u :: w :: u :: r) M v M') : ab_Rn l g d own ini cc nL pc L (w :: u :: r) M v M' :=
  ab_pure (fun hx hb ho ht hE hl k => lv_dup2_11 hx hb hd ((ab_cv_cat g w).trans hw) ((ab_cv_cat g u).trans hu) (k _ hl)) k
theorem o_pop {w : Value} (hw : w.category = 1) (hd : decode cc pc = .ok (.pop, 1)) (k : ab_Rn l g d own ini cc nL (pc + 1) L r M v M') : ab_Rn l g d own ini cc nL pc L (w :: r) M v M' :=
  ab_pure (fun hx hb ho ht hE hl k => lv_pop hx hb hd ((ab_cv_cat g w).trans hw) (k _ hl)) k
theorem o_goto {off : Int} (hj : 0 ≤ (pc : Int) + off) (hd : decode cc pc = .ok (.goto off, 3)) (k : ab_Rn l g d own ini cc nL ((pc : Int) + off).toNat L st M v M') : ab_Rn l g d own ini cc nL pc L st M v M' :=
  ab_pure (fun hx hb ho ht hE hl k => lv_goto hx hb hd (Int.toNat_of_nonneg hj).symm (k _ hl)) k
theorem o_if_eq_t {x : Int32} {off : Int} (hj : 0 ≤ (pc : Int) + off) (h : x = 0) (hd : decode cc pc = .ok (.ifCond .eq off, 3)) (k : ab_Rn l g d own ini cc nL ((pc : Int) + off).toNat L r M v M') : ab_Rn l g d own ini cc nL pc L (.int x :: r) M v M' :=
  ab_pure (fun hx hb ho ht hE hl k => lv_if_eq hx hb hd (Int.toNat_of_nonneg hj).symm (fun _ => k _ hl) (fun z => absurd h z)) k
theorem o_if_eq_f {x : Int32} {off : Int} (hj : 0 ≤ (pc : Int) + off) (h : ¬ (x = 0)) (hd : decode cc pc = .ok (.ifCond .eq off, 3)) (k : ab_Rn l g d own ini cc nL (pc + 3) L r M v M') : ab_Rn l g d own ini cc nL pc L (.int x :: r) M v M' :=
  ab_pure (fun hx hb ho ht hE hl k => lv_if_eq hx hb hd (Int.toNat_of_nonneg hj).symm (fun z => absurd z h) (fun _ => k _ hl)) k
theorem o_if_ne_t {x : Int32} {off : Int} (hj : 0 ≤ (pc : Int) + off) (h : ¬ x = 0) (hd : decode cc pc = .ok (.ifCond .ne off, 3)) (k : ab_Rn l g d own ini cc nL ((pc : Int) + off).toNat L r M v M') : ab_Rn l g d own ini cc nL pc L (.int x :: r) M v M' :=
  ab_pure (fun hx hb ho ht hE hl k => lv_if_ne hx hb hd (Int.toNat_of_nonneg hj).symm (fun _ => k _ hl) (fun z => absurd z h)) k
theorem o_if_ne_f {x : Int32} {off : Int} (hj : 0 ≤ (pc : Int) + off) (h : ¬ (¬ x = 0)) (hd : decode cc pc = .ok (.ifCond .ne off, 3)) (k : ab_Rn l g d own ini cc nL (pc + 3) L r M v M') : ab_Rn l g d own ini cc nL pc L (.int x :: r) M v M' :=
  ab_pure (fun hx hb ho ht hE hl k => lv_if_ne hx hb hd (Int.toNat_of_nonneg hj).symm (fun z => absurd z h) (fun _ => k _ hl)) k
theorem o_if_lt_t {x : Int32} {off : Int} (hj : 0 ≤ (pc : Int) + off) (h : x < 0) (hd : decode cc pc = .ok (.ifCond .lt off, 3)) (k : ab_Rn l g d own ini cc nL ((pc : Int) + off).toNat L r M v M') : ab_Rn l g d own ini cc nL pc L (.int x :: r) M v M' :=
  ab_pure (fun hx hb ho ht hE hl k => lv_if_lt hx hb hd (Int.toNat_of_nonneg hj).symm (fun _ => k _ hl) (fun z => absurd h z)) k
theorem o_if_lt_f {x : Int32} {off : Int} (hj : 0 ≤ (pc : Int) + off) (h : ¬ (x < 0)) (hd : decode cc pc = .ok (.ifCond .lt off, 3)) (k : ab_Rn l g d own ini cc nL (pc + 3) L r M v M') : ab_Rn l g d own ini cc nL pc L (.int x :: r) M v M' :=
  ab_pure (fun hx hb ho ht hE hl k => lv_if_lt hx hb hd (Int.toNat_of_nonneg hj).symm (fun z => absurd z h) (fun _ => k _ hl)) k
theorem o_if_ge_t {x : Int32} {off : Int} (hj : 0 ≤ (pc : Int) + off) (h : 0 ≤ x) (hd : decode cc pc = .ok (.ifCond .ge off, 3)) (k : ab_Rn l g d own ini cc nL ((pc : Int) + off).toNat L r M v M') : ab_Rn l g d own ini cc nL pc L (.int x :: r) M v M' :=
  ab_pure (fun hx hb ho ht hE hl k => lv_if_ge hx hb hd (Int.toNat_of_nonneg hj).symm (fun _ => k _ hl) (fun z => absurd h z)) k
theorem o_if_ge_f {x : Int32} {off : Int} (hj : 0 ≤ (pc : Int) + off) (h : ¬ (0 ≤ x)) (hd : decode cc pc = .ok (.ifCond .ge off, 3)) (k : ab_Rn l g d own ini cc nL (pc + 3) L r M v M') : ab_Rn l g d own ini cc nL pc L (.int x :: r) M v M' :=
  ab_pure (fun hx hb ho ht hE hl k => lv_if_ge hx hb hd (Int.toNat_of_nonneg hj).symm (fun z => absurd z h) (fun _ => k _ hl)) k
theorem o_if_gt_t {x : Int32} {off : Int} (hj : 0 ≤ (pc : Int) + off) (h : 0 < x) (hd : decode cc pc = .ok (.ifCond .gt off, 3)) (k : ab_Rn l g d own ini cc nL ((pc : Int) + off).toNat L r M v M') : ab_Rn l g d own ini cc nL pc L (.int x :: r) M v M' :=
  ab_pure (fun hx hb ho ht hE hl k => lv_if_gt hx hb hd (Int.toNat_of_nonneg hj).symm (fun _ => k _ hl) (fun z => absurd h z)) k
theorem o_if_gt_f {x : Int32} {off : Int} (hj : 0 ≤ (pc : Int) + off) (h : ¬ (0 < x)) (hd : decode cc pc = .ok (.ifCond .gt off, 3)) (k : ab_Rn l g d own ini cc nL (pc + 3) L r M v M') : ab_Rn l g d own ini cc nL pc L (.int x :: r) M v M' :=
  ab_pure (fun hx hb ho ht hE hl k => lv_if_gt hx hb hd (Int.toNat_of_nonneg hj).symm (fun z => absurd z h) (fun _ => k _ hl)) k
theorem o_if_le_t {x : Int32} {off : Int} (hj : 0 ≤ (pc : Int) + off) (h : x ≤ 0) (hd : decode cc pc = .ok (.ifCond .le off, 3)) (k : ab_Rn l g d own ini cc nL ((pc : Int) + off).toNat L r M v M') : ab_Rn l g d own ini cc nL pc L (.int x :: r) M v M' :=
  ab_pure (fun hx hb ho ht hE hl k => lv_if_le hx hb hd (Int.toNat_of_nonneg hj).symm (fun _ => k _ hl) (fun z => absurd h z)) k
theorem o_if_le_f {x : Int32} {off : Int} (hj : 0 ≤ (pc : Int) + off) (h : ¬ (x ≤ 0)) (hd : decode cc pc = .ok (.ifCond .le off, 3)) (k : ab_Rn l g d own ini cc nL (pc + 3) L r M v M') : ab_Rn l g d own ini cc nL pc L (.int x :: r) M v M' :=
  ab_pure (fun hx hb ho ht hE hl k => lv_if_le hx hb hd (Int.toNat_of_nonneg hj).symm (fun z => absurd z h) (fun _ => k _ hl)) k
theorem o_ic_eq_t {x y : Int32} {off : Int} (hj : 0 ≤ (pc : Int) + off) (h : x = y) (hd : decode cc pc = .ok (.if_icmp .eq off, 3)) (k : ab_Rn l g d own ini cc nL ((pc : Int) + off).toNat L r M v M') : ab_Rn l g d own ini cc nL pc L (.int y :: .int x :: r) M v M' :=
  ab_pure (fun hx hb ho ht hE hl k => lv_icmp_eq hx hb hd (Int.toNat_of_nonneg hj).symm (fun _ => k _ hl) (fun z => absurd h z)) k
theorem o_ic_eq_f {x y : Int32} {off : Int} (hj : 0 ≤ (pc : Int) + off) (h : ¬ (x = y)) (hd : decode cc pc = .ok (.if_icmp .eq off, 3)) (k : ab_Rn l g d own ini cc nL (pc + 3) L r M v M') : ab_Rn l g d own ini cc nL pc L (.int y :: .int x :: r) M v M' :=
  ab_pure (fun hx hb ho ht hE hl k => lv_icmp_eq hx hb hd (Int.toNat_of_nonneg hj).symm (fun z => absurd z h) (fun _ => k _ hl)) k
theorem o_ic_ne_t {x y : Int32} {off : Int} (hj : 0 ≤ (pc : Int) + off) (h : ¬ x = y) (hd : decode cc pc = .ok (.if_icmp .ne off, 3)) (k : ab_Rn l g d own ini cc nL ((pc : Int) + off).toNat L r M v M') : ab_Rn l g d own ini cc nL pc L (.int y :: .int x :: r) M v M' :=
  ab_pure (fun hx hb ho ht hE hl k => lv_icmp_ne hx hb hd (Int.toNat_of_nonneg hj).symm (fun _ => k _ hl) (fun z => absurd z h)) k
theorem o_ic_ne_f {x y : Int32} {off : Int} (hj : 0 ≤ (pc : Int) + off) (h : ¬ (¬ x = y)) (hd : decode cc pc = .ok (.if_icmp .ne off, 3)) (k : ab_Rn l g d own ini cc nL (pc + 3) L r M v M') : ab_Rn l g d own ini cc nL pc L (.int y :: .int x :: r) M v M' :=
  ab_pure (fun hx hb ho ht hE hl k => lv_icmp_ne hx hb hd (Int.toNat_of_nonneg hj).symm (fun z => absurd z h) (fun _ => k _ hl)) k
theorem o_ic_lt_t {x y : Int32} {off : Int} (hj : 0 ≤ (pc : Int) + off) (h : x < y) (hd : decode cc pc = .ok (.if_icmp .lt off, 3)) (k : ab_Rn l g d own ini cc nL ((pc : Int) + off).toNat L r M v M') : ab_Rn l g d own ini cc nL pc L (.int y :: .int x :: r) M v M' :=
  ab_pure (fun hx hb ho ht hE hl k => lv_icmp_lt hx hb hd (Int.toNat_of_nonneg hj).symm (fun _ => k _ hl) (fun z => absurd h z)) k
theorem o_ic_lt_f {x y : Int32} {off : Int} (hj : 0 ≤ (pc : Int) + off) (h : ¬ (x < y)) (hd : decode cc pc = .ok (.if_icmp .lt off, 3)) (k : ab_Rn l g d own ini cc nL (pc + 3) L r M v M') : ab_Rn l g d own ini cc nL pc L (.int y :: .int x :: r) M v M' :=
  ab_pure (fun hx hb ho ht hE hl k => lv_icmp_lt hx hb hd (Int.toNat_of_nonneg hj).symm (fun z => absurd z h) (fun _ => k _ hl)) k
theorem o_ic_ge_t {x y : Int32} {off : Int} (hj : 0 ≤ (pc : Int) + off) (h : y ≤ x) (hd : decode cc pc = .ok (.if_icmp .ge off, 3)) (k : ab_Rn l g d own ini cc nL ((pc : Int) + off).toNat L r M v M') : ab_Rn l g d own ini cc nL pc L (.int y :: .int x :: r) M v M' :=
  ab_pure (fun hx hb ho ht hE hl k => lv_icmp_ge hx hb hd (Int.toNat_of_nonneg hj).symm (fun _ => k _ hl) (fun z => absurd h z)) k
theorem o_ic_ge_f {x y : Int32} {off : Int} (hj : 0 ≤ (pc : Int) + off) (h : ¬ (y ≤ x)) (hd : decode cc pc = .ok (.if_icmp .ge off, 3)) (k : ab_Rn l g d own ini cc nL (pc + 3) L r M v M') : ab_Rn l g d own ini cc nL pc L (.int y :: .int x :: r) M v M' :=
  ab_pure (fun hx hb ho ht hE hl k => lv_icmp_ge hx hb hd (Int.toNat_of_nonneg hj).symm (fun z => absurd z h) (fun _ => k _ hl)) k
theorem o_ic_gt_t {x y : Int32} {off : Int} (hj : 0 ≤ (pc : Int) + off) (h : y < x) (hd : decode cc pc = .ok (.if_icmp .gt off, 3)) (k : ab_Rn l g d own ini cc nL ((pc : Int) + off).toNat L r M v M') : ab_Rn l g d own ini cc nL pc L (.int y :: .int x :: r) M v M' :=
  ab_pure (fun hx hb ho ht hE hl k => lv_icmp_gt hx hb hd (Int.toNat_of_nonneg hj).symm (fun _ => k _ hl) (fun z => absurd h z)) k
theorem o_ic_gt_f {x y : Int32} {off : Int} (hj : 0 ≤ (pc : Int) + off) (h : ¬ (y < x)) (hd : decode cc pc = .ok (.if_icmp .gt off, 3)) (k : ab_Rn l g d own ini cc nL (pc + 3) L r M v M') : ab_Rn l g d own ini cc nL pc L (.int y :: .int x :: r) M v M' :=
  ab_pure (fun hx hb ho ht hE hl k => lv_icmp_gt hx hb hd (Int.toNat_of_nonneg hj).symm (fun z => absurd z h) (fun _ => k _ hl)) k
theorem o_ic_le_t {x y : Int32} {off : Int} (hj : 0 ≤ (pc : Int) + off) (h : x ≤ y) (hd : decode cc pc = .ok (.if_icmp .le off, 3)) (k : ab_Rn l g d own ini cc nL ((pc : Int) + off).toNat L r M v M') : ab_Rn l g d own ini cc nL pc L (.int y :: .int x :: r) M v M' :=
  ab_pure (fun hx hb ho ht hE hl k => lv_icmp_le hx hb hd (Int.toNat_of_nonneg hj).symm (fun _ => k _ hl) (fun z => absurd h z)) k
theorem o_ic_le_f {x y : Int32} {off : Int} (hj : 0 ≤ (pc : Int) + off) (h : ¬ (x ≤ y)) (hd : decode cc pc = .ok (.if_icmp .le off, 3)) (k : ab_Rn l g d own ini cc nL (pc + 3) L r M v M') : ab_Rn l g d own ini cc nL pc L (.int y :: .int x :: r) M v M' :=
  ab_pure (fun hx hb ho ht hE hl k => lv_icmp_le hx hb hd (Int.toNat_of_nonneg hj).symm (fun z => absurd z h) (fun _ => k _ hl)) k
theorem o_null_t {off : Int} (hj : 0 ≤ (pc : Int) + off) (hd : decode cc pc = .ok (.ifnull off, 3)) (k : ab_Rn l g d own ini cc nL ((pc : Int) + off).toNat L r M v M') : ab_Rn l g d own ini cc nL pc L (.null :: r) M v M' :=
  ab_pure (fun hx hb ho ht hE hl k => lv_ifnullN hx hb hd (Int.toNat_of_nonneg hj).symm (k _ hl)) k
theorem o_null_f {off : Int} {a : Nat} (hd : decode cc pc = .ok (.ifnull off, 3)) (k : ab_Rn l g d own ini cc nL (pc + 3) L r M v M') : ab_Rn l g d own ini cc nL pc L (.ref a :: r) M v M' :=
  ab_pure (fun hx hb ho ht hE hl k => lv_ifnull hx hb hd (k _ hl)) k
theorem o_nonn_t {off : Int} {a : Nat} (hj : 0 ≤ (pc : Int) + off) (hd : decode cc pc = .ok (.ifnonnull off, 3)) (k : ab_Rn l g d own ini cc nL ((pc : Int) + off).toNat L r M v M') : ab_Rn l g d own ini cc nL pc L (.ref a :: r) M v M' :=
  ab_pure (fun hx hb ho ht hE hl k => lv_ifnonnull hx hb hd (Int.toNat_of_nonneg hj).symm (k _ hl)) k
theorem o_nonn_f {off : Int} (hd : decode cc pc = .ok (.ifnonnull off, 3)) (k : ab_Rn l g d own ini cc nL (pc + 3) L r M v M') : ab_Rn l g d own ini cc nL pc L (.null :: r) M v M' :=
  ab_pure (fun hx hb ho ht hE hl k => lv_ifnonnullN hx hb hd (k _ hl)) k
theorem o_tsw_d {dflt lo hi : Int} {offs : Array Int} {n : Nat} {x : Int32} (h : x.toInt < lo ∨ hi < x.toInt) (hj : 0 ≤ (pc : Int) + dflt) (hd : decode cc pc = .ok (.tableswitch dflt lo hi offs, n)) (k : ab_Rn l g d own ini cc nL ((pc : Int) + dflt).toNat L r M v M') : ab_Rn l g d own ini cc nL pc L (.int x :: r) M v M' :=
  ab_pure (fun hx hb ho ht hE hl k => lv_tableOut hx hb hd h (Int.toNat_of_nonneg hj).symm (k _ hl)) k
theorem o_tsw_i {dflt lo hi : Int} {offs : Array Int} {n : Nat} {x : Int32} {off : Int} (h1 : ¬ x.toInt < lo) (h2 : ¬ hi < x.toInt) (h3 : offs[(x.toInt - lo).toNat]? = some off) (hj : 0 ≤ (pc : Int) + off) (hd : decode cc pc = .ok (.tableswitch dflt lo hi offs, n)) (k : ab_Rn l g d own ini cc nL ((pc : Int) + off).toNat L r M v M') : ab_Rn l g d own ini cc nL pc L (.int x :: r) M v M' :=
  ab_pure (fun hx hb ho ht hE hl k => lv_tableIn hx hb hd h1 h2 h3 (Int.toNat_of_nonneg hj).symm (k _ hl)) k
end ABO
