/-! ===== a stretch of code at once ===== -/
section ABV
variable {l : Launch} {g : ab_G} {d own : Nat} {ini : Bool} {cc : ByteArray} {nL pc : Nat} {L : List (Option Value)} {st r : List Value} {M M1 M' : ab_M}
def ab_vc (l : Launch) (g : ab_G) (d own : Nat) (ini : Bool) (cc : ByteArray) (nL : Nat) (stp : Nat → Bool) : List Unit → Nat → List (Option Value) → List Value → ab_M → (Option Value → ab_M → Prop) → Prop
  | [], pc, L, st, M, Q => ab_Wp l g (d + 1) own ini cc nL pc L st M Q
  | _ :: n, pc, L, st, M, Q => match decode cc pc with
    | .ok (i, k) => ab_ex own ini (fun pc' L' st' M' => bif stp pc' then ab_Wp l g (d + 1) own ini cc nL pc' L' st' M' Q else ab_vc l g d own ini cc nL stp n pc' L' st' M' Q) (ab_Cw l g d) Q pc i k L st M
    | .error _ => False
theorem ab_vc_ok {stp : Nat → Bool} {Q : Option Value → ab_M → Prop} : ∀ (n : List Unit) (pc : Nat) (L : List (Option Value)) (st : List Value) (M : ab_M), ab_vc l g d own ini cc nL stp n pc L st M Q → ab_Wp l g (d + 1) own ini cc nL pc L st M Q := by
  intro n
  induction n with
  | nil => intro pc L st M h; exact h
  | cons u n ih =>
    intro pc L st M h
    unfold ab_vc at h
    split at h
    · rename_i i k hd
      refine ab_ok hd (fun pc' L' st' M' h' => ?_) h
      cases hs : stp pc' with
      | true => rw [hs] at h'; exact h'
      | false => rw [hs] at h'; exact ih pc' L' st' M' h'
    · exact h.elim
/-- a stretch from pc on, up to the places where stp holds -/
theorem ab_go (n : List Unit) (stp : Nat → Bool) {Q : Option Value → ab_M → Prop} (h : ab_vc l g d own ini cc nL stp n pc L st M Q) : ab_Wp l g (d + 1) own ini cc nL pc L st M Q := ab_vc_ok n pc L st M h
/-- one step of it, the instruction known -/
theorem vc_s {stp : Nat → Bool} {Q : Option Value → ab_M → Prop} {n : List Unit} {k : Nat} {i : Instr} (hd : decode cc pc = .ok (i, k)) : ab_vc l g d own ini cc nL stp (() :: n) pc L st M Q = ab_ex own ini (fun pc' L' st' M' => bif stp pc' then ab_Wp l g (d + 1) own ini cc nL pc' L' st' M' Q else ab_vc l g d own ini cc nL stp n pc' L' st' M' Q) (ab_Cw l g d) Q pc i k L st M := by
  show (match decode cc pc with
    | .ok (i, k) => _
    | .error _ => False) = _
  rw [hd]
/-- a method's contract out of its stretch -/
theorem ab_cw {mid : Nat} {y : MethodName} {ret : Option FieldType} {as : List Value} {Q : Option Value → ab_M → Prop} (hme : ab_me mid = (own, y, cc, nL, ret, ini)) (hh : ab_hh mid = none) (hpl : plainName y.cls = true) (hini : ini = true → y.name = "<init>") (hown : y.cls = ab_nm own) (hlen : (as.map (fun v => v.category)).sum ≤ nL) (h : ab_Wp l g (d + 1) own ini cc nL 0 (ab_en as nL) [] M (fun v M' => ab_rk ret v ∧ Q v M')) : ab_Cw l g (d + 1) mid as M Q := by
  obtain ⟨v, M', h1, h2, h3⟩ := h
  exact ⟨v, M', ab_met hh hme hpl hini hown h2 hlen h1, h3⟩
end ABV
section ABX
variable {own : Nat} {ini : Bool} {K : Nat → List (Option Value) → List Value → ab_M → Prop} {C : Nat → List Value → ab_M → (Option Value → ab_M → Prop) → Prop} {Q : Option Value → ab_M → Prop} {pc : Nat} {L : List (Option Value)} {st r : List Value} {M : ab_M}
def ab_rm (x y : Int32) : Int32 := x - x / y * y
def ab_rml (x y : Int64) : Int64 := x - x / y * y
def ab_lI (L : List (Option Value)) (k : Nat) (K : Int32 → Prop) : Prop := match L[k]? with
  | some (some (.int x)) => K x
  | _ => False
def ab_lL (L : List (Option Value)) (k : Nat) (K : Int64 → Prop) : Prop := match L[k]? with
  | some (some (.long x)) => K x
  | _ => False
def ab_lA (L : List (Option Value)) (k : Nat) (K : Value → Prop) : Prop := match L[k]? with
  | some (some v) => (ab_rv v).isSome = true ∧ K v
  | _ => False
theorem lI_z {x : Int32} {t : List (Option Value)} {K : Int32 → Prop} : ab_lI (some (.int x) :: t) 0 K = K x := rfl
theorem lI_s {a : Option Value} {t : List (Option Value)} {k : Nat} {K : Int32 → Prop} : ab_lI (a :: t) (k + 1) K = ab_lI t k K := rfl
theorem lL_z {x : Int64} {t : List (Option Value)} {K : Int64 → Prop} : ab_lL (some (.long x) :: t) 0 K = K x := rfl
theorem lL_s {a : Option Value} {t : List (Option Value)} {k : Nat} {K : Int64 → Prop} : ab_lL (a :: t) (k + 1) K = ab_lL t k K := rfl
theorem lA_r {a : Nat} {t : List (Option Value)} {K : Value → Prop} : ab_lA (some (.ref a) :: t) 0 K = K (.ref a) := by simp [ab_lA, ab_rv]
theorem lA_n {t : List (Option Value)} {K : Value → Prop} : ab_lA (some .null :: t) 0 K = K .null := by simp [ab_lA, ab_rv]
theorem lA_q {q : Option Nat} {t : List (Option Value)} {K : Value → Prop} : ab_lA (some (va_rf q) :: t) 0 K = K (va_rf q) := by simp [ab_lA, ab_rv_rf]
theorem lA_s {a : Option Value} {t : List (Option Value)} {k : Nat} {K : Value → Prop} : ab_lA (a :: t) (k + 1) K = ab_lA t k K := rfl
theorem st1_z {a : Option Value} {t : List (Option Value)} {v : Value} : ab_st1 (a :: t) 0 v = some v :: t := by cases a <;> rfl
theorem st1_u {t : List (Option Value)} {j : Nat} {v : Value} : ab_st1 (none :: t) (j + 1) v = none :: ab_st1 t j v := rfl
theorem st1_i {x : Int32} {t : List (Option Value)} {j : Nat} {v : Value} : ab_st1 (some (.int x) :: t) (j + 1) v = some (.int x) :: ab_st1 t j v := by cases j <;> rfl
theorem st1_r {x : Nat} {t : List (Option Value)} {j : Nat} {v : Value} : ab_st1 (some (.ref x) :: t) (j + 1) v = some (.ref x) :: ab_st1 t j v := by cases j <;> rfl
theorem st1_n {t : List (Option Value)} {j : Nat} {v : Value} : ab_st1 (some .null :: t) (j + 1) v = some .null :: ab_st1 t j v := by cases j <;> rfl
theorem st1_q {q : Option Nat} {t : List (Option Value)} {j : Nat} {v : Value} : ab_st1 (some (va_rf q) :: t) (j + 1) v = some (va_rf q) :: ab_st1 t j v := by cases q <;> cases j <;> rfl
theorem st1_l1 {x : Int64} {t : List (Option Value)} {v : Value} : ab_st1 (some (.long x) :: t) 1 v = none :: ab_st1 t 0 v := rfl
theorem st1_l2 {x : Int64} {t : List (Option Value)} {j : Nat} {v : Value} : ab_st1 (some (.long x) :: t) (j + 2) v = some (.long x) :: ab_st1 t (j + 1) v := rfl
theorem st2_z {a b : Option Value} {t : List (Option Value)} {v : Value} : ab_st2 (a :: b :: t) 0 v = some v :: none :: t := by cases a <;> rfl
theorem st2_u {t : List (Option Value)} {j : Nat} {v : Value} : ab_st2 (none :: t) (j + 1) v = none :: ab_st2 t j v := by cases t <;> rfl
theorem st2_i {x : Int32} {t : List (Option Value)} {j : Nat} {v : Value} : ab_st2 (some (.int x) :: t) (j + 1) v = some (.int x) :: ab_st2 t j v := by cases j <;> cases t <;> rfl
theorem st2_r {x : Nat} {t : List (Option Value)} {j : Nat} {v : Value} : ab_st2 (some (.ref x) :: t) (j + 1) v = some (.ref x) :: ab_st2 t j v := by cases j <;> cases t <;> rfl
theorem st2_l1 {x : Int64} {t : List (Option Value)} {v : Value} : ab_st2 (some (.long x) :: t) 1 v = none :: ab_st2 t 0 v := by cases t <;> rfl
theorem st2_l2 {x : Int64} {t : List (Option Value)} {j : Nat} {v : Value} : ab_st2 (some (.long x) :: t) (j + 2) v = some (.long x) :: ab_st2 t (j + 1) v := by cases t <;> rfl
theorem ex_iconst {v : Int} : ab_ex own ini K C Q pc (.iconst v) 1 L st M = K (pc + 1) L (.int (Int32.ofInt v) :: st) M := by first | (simp only [ab_ex, true_and]; done) | (simp only [ab_ex, true_and]; rfl)
theorem ex_bipush {v : Int} : ab_ex own ini K C Q pc (.bipush v) 2 L st M = K (pc + 2) L (.int (Int8.ofInt v).toInt32 :: st) M := by first | (simp only [ab_ex, true_and]; done) | (simp only [ab_ex, true_and]; rfl)
theorem ex_sipush {v : Int} : ab_ex own ini K C Q pc (.sipush v) 3 L st M = K (pc + 3) L (.int (Int16.ofInt v).toInt32 :: st) M := by first | (simp only [ab_ex, true_and]; done) | (simp only [ab_ex, true_and]; rfl)
theorem ex_lconst0  : ab_ex own ini K C Q pc (.lconst 0) 1 L st M = K (pc + 1) L (.long 0 :: st) M := by simp only [ab_ex, true_and]; rfl
theorem ex_lconst1  : ab_ex own ini K C Q pc (.lconst 1) 1 L st M = K (pc + 1) L (.long 1 :: st) M := by simp only [ab_ex, true_and]; rfl
theorem ex_null  : ab_ex own ini K C Q pc (.aconst_null) 1 L st M = K (pc + 1) L (.null :: st) M := by first | (simp only [ab_ex, true_and]; done) | (simp only [ab_ex, true_and]; rfl)
theorem ex_ldc {idx : Nat} : ab_ex own ini K C Q pc (.ldc idx) 2 L st M = (match ab_kc own idx with
    | some v => K (pc + 2) L (.int v :: st) M
    | none => match ab_ks own idx with
      | some k => K (pc + 2) L (.ref k :: st) M
      | none => False) := by first | (simp only [ab_ex, true_and]; done) | (simp only [ab_ex, true_and]; rfl)
theorem ex_ldc_w {idx : Nat} : ab_ex own ini K C Q pc (.ldc_w idx) 3 L st M = (match ab_kc own idx with
    | some v => K (pc + 3) L (.int v :: st) M
    | none => False) := by first | (simp only [ab_ex, true_and]; done) | (simp only [ab_ex, true_and]; rfl)
theorem ex_ldc2 {idx : Nat} : ab_ex own ini K C Q pc (.ldc2_w idx) 3 L st M = (match ab_kl own idx with
    | some v => K (pc + 3) L (.long v :: st) M
    | none => False) := by first | (simp only [ab_ex, true_and]; done) | (simp only [ab_ex, true_and]; rfl)
theorem ex_iload_0  : ab_ex own ini K C Q pc (.iload_n 0) 1 L st M = ab_lI L 0 (fun x => K (pc + 1) L (.int x :: st) M) := by simp only [ab_ex, true_and]; rfl
theorem ex_iload_1  : ab_ex own ini K C Q pc (.iload_n 1) 1 L st M = ab_lI L 1 (fun x => K (pc + 1) L (.int x :: st) M) := by simp only [ab_ex, true_and]; rfl
theorem ex_iload_2  : ab_ex own ini K C Q pc (.iload_n 2) 1 L st M = ab_lI L 2 (fun x => K (pc + 1) L (.int x :: st) M) := by simp only [ab_ex, true_and]; rfl
theorem ex_iload_3  : ab_ex own ini K C Q pc (.iload_n 3) 1 L st M = ab_lI L 3 (fun x => K (pc + 1) L (.int x :: st) M) := by simp only [ab_ex, true_and]; rfl
theorem ex_iload {j : Nat} : ab_ex own ini K C Q pc (.iload j) 2 L st M = ab_lI L j (fun x => K (pc + 2) L (.int x :: st) M) := by simp only [ab_ex, true_and]; rfl
theorem ex_lload_0  : ab_ex own ini K C Q pc (.lload_n 0) 1 L st M = ab_lL L 0 (fun x => K (pc + 1) L (.long x :: st) M) := by simp only [ab_ex, true_and]; rfl
theorem ex_lload_1  : ab_ex own ini K C Q pc (.lload_n 1) 1 L st M = ab_lL L 1 (fun x => K (pc + 1) L (.long x :: st) M) := by simp only [ab_ex, true_and]; rfl
theorem ex_lload_2  : ab_ex own ini K C Q pc (.lload_n 2) 1 L st M = ab_lL L 2 (fun x => K (pc + 1) L (.long x :: st) M) := by simp only [ab_ex, true_and]; rfl
theorem ex_lload_3  : ab_ex own ini K C Q pc (.lload_n 3) 1 L st M = ab_lL L 3 (fun x => K (pc + 1) L (.long x :: st) M) := by simp only [ab_ex, true_and]; rfl
theorem ex_lload {j : Nat} : ab_ex own ini K C Q pc (.lload j) 2 L st M = ab_lL L j (fun x => K (pc + 2) L (.long x :: st) M) := by simp only [ab_ex, true_and]; rfl
theorem ex_aload_0  : ab_ex own ini K C Q pc (.aload_n 0) 1 L st M = ab_lA L 0 (fun v => K (pc + 1) L (v :: st) M) := by simp only [ab_ex, true_and]; rfl
theorem ex_aload_1  : ab_ex own ini K C Q pc (.aload_n 1) 1 L st M = ab_lA L 1 (fun v => K (pc + 1) L (v :: st) M) := by simp only [ab_ex, true_and]; rfl
theorem ex_aload_2  : ab_ex own ini K C Q pc (.aload_n 2) 1 L st M = ab_lA L 2 (fun v => K (pc + 1) L (v :: st) M) := by simp only [ab_ex, true_and]; rfl
theorem ex_aload_3  : ab_ex own ini K C Q pc (.aload_n 3) 1 L st M = ab_lA L 3 (fun v => K (pc + 1) L (v :: st) M) := by simp only [ab_ex, true_and]; rfl
theorem ex_aload {j : Nat} : ab_ex own ini K C Q pc (.aload j) 2 L st M = ab_lA L j (fun v => K (pc + 2) L (v :: st) M) := by simp only [ab_ex, true_and]; rfl
theorem ex_istore_0 {x : Int32} : ab_ex own ini K C Q pc (.istore_n 0) 1 L (.int x :: r) M = (0 < L.length ∧ K (pc + 1) (ab_st1 L 0 (.int x)) r M) := by simp only [ab_ex, true_and]; rfl
theorem ex_lstore_0 {x : Int64} : ab_ex own ini K C Q pc (.lstore_n 0) 1 L (.long x :: r) M = (0 + 1 < L.length ∧ K (pc + 1) (ab_st2 L 0 (.long x)) r M) := by simp only [ab_ex, true_and]; rfl
theorem ex_astore_0 {v : Value} : ab_ex own ini K C Q pc (.astore_n 0) 1 L (v :: r) M = ((ab_rv v).isSome = true ∧ 0 < L.length ∧ K (pc + 1) (ab_st1 L 0 v) r M) := by simp only [ab_ex, true_and]; rfl
theorem ex_istore_1 {x : Int32} : ab_ex own ini K C Q pc (.istore_n 1) 1 L (.int x :: r) M = (1 < L.length ∧ K (pc + 1) (ab_st1 L 1 (.int x)) r M) := by simp only [ab_ex, true_and]; rfl
theorem ex_lstore_1 {x : Int64} : ab_ex own ini K C Q pc (.lstore_n 1) 1 L (.long x :: r) M = (1 + 1 < L.length ∧ K (pc + 1) (ab_st2 L 1 (.long x)) r M) := by simp only [ab_ex, true_and]; rfl
theorem ex_astore_1 {v : Value} : ab_ex own ini K C Q pc (.astore_n 1) 1 L (v :: r) M = ((ab_rv v).isSome = true ∧ 1 < L.length ∧ K (pc + 1) (ab_st1 L 1 v) r M) := by simp only [ab_ex, true_and]; rfl
theorem ex_istore_2 {x : Int32} : ab_ex own ini K C Q pc (.istore_n 2) 1 L (.int x :: r) M = (2 < L.length ∧ K (pc + 1) (ab_st1 L 2 (.int x)) r M) := by simp only [ab_ex, true_and]; rfl
theorem ex_lstore_2 {x : Int64} : ab_ex own ini K C Q pc (.lstore_n 2) 1 L (.long x :: r) M = (2 + 1 < L.length ∧ K (pc + 1) (ab_st2 L 2 (.long x)) r M) := by simp only [ab_ex, true_and]; rfl
theorem ex_astore_2 {v : Value} : ab_ex own ini K C Q pc (.astore_n 2) 1 L (v :: r) M = ((ab_rv v).isSome = true ∧ 2 < L.length ∧ K (pc + 1) (ab_st1 L 2 v) r M) := by simp only [ab_ex, true_and]; rfl
theorem ex_istore_3 {x : Int32} : ab_ex own ini K C Q pc (.istore_n 3) 1 L (.int x :: r) M = (3 < L.length ∧ K (pc + 1) (ab_st1 L 3 (.int x)) r M) := by simp only [ab_ex, true_and]; rfl
theorem ex_lstore_3 {x : Int64} : ab_ex own ini K C Q pc (.lstore_n 3) 1 L (.long x :: r) M = (3 + 1 < L.length ∧ K (pc + 1) (ab_st2 L 3 (.long x)) r M) := by simp only [ab_ex, true_and]; rfl
theorem ex_astore_3 {v : Value} : ab_ex own ini K C Q pc (.astore_n 3) 1 L (v :: r) M = ((ab_rv v).isSome = true ∧ 3 < L.length ∧ K (pc + 1) (ab_st1 L 3 v) r M) := by simp only [ab_ex, true_and]; rfl
theorem ex_istore {x : Int32} {j : Nat} : ab_ex own ini K C Q pc (.istore j) 2 L (.int x :: r) M = (j < L.length ∧ K (pc + 2) (ab_st1 L j (.int x)) r M) := by first | (simp only [ab_ex, true_and]; done) | (simp only [ab_ex, true_and]; rfl)
theorem ex_lstore {x : Int64} {j : Nat} : ab_ex own ini K C Q pc (.lstore j) 2 L (.long x :: r) M = (j + 1 < L.length ∧ K (pc + 2) (ab_st2 L j (.long x)) r M) := by first | (simp only [ab_ex, true_and]; done) | (simp only [ab_ex, true_and]; rfl)
theorem ex_astore {v : Value} {j : Nat} : ab_ex own ini K C Q pc (.astore j) 2 L (v :: r) M = ((ab_rv v).isSome = true ∧ j < L.length ∧ K (pc + 2) (ab_st1 L j v) r M) := by first | (simp only [ab_ex, true_and]; done) | (simp only [ab_ex, true_and]; rfl)
theorem ex_iinc {j : Nat} {c : Int} : ab_ex own ini K C Q pc (.iinc j c) 3 L st M = ab_lI L j (fun x => K (pc + 3) (ab_st1 L j (.int (x + Int32.ofInt c))) st M) := by simp only [ab_ex, true_and]; rfl
theorem ex_iadd {x y : Int32} : ab_ex own ini K C Q pc (.iadd) 1 L (.int y :: .int x :: r) M = K (pc + 1) L (.int (x + y) :: r) M := by first | (simp only [ab_ex, true_and]; done) | (simp only [ab_ex, true_and]; rfl)
theorem ex_ladd {x y : Int64} : ab_ex own ini K C Q pc (.ladd) 1 L (.long y :: .long x :: r) M = K (pc + 1) L (.long (x + y) :: r) M := by first | (simp only [ab_ex, true_and]; done) | (simp only [ab_ex, true_and]; rfl)
theorem ex_isub {x y : Int32} : ab_ex own ini K C Q pc (.isub) 1 L (.int y :: .int x :: r) M = K (pc + 1) L (.int (x - y) :: r) M := by first | (simp only [ab_ex, true_and]; done) | (simp only [ab_ex, true_and]; rfl)
theorem ex_lsub {x y : Int64} : ab_ex own ini K C Q pc (.lsub) 1 L (.long y :: .long x :: r) M = K (pc + 1) L (.long (x - y) :: r) M := by first | (simp only [ab_ex, true_and]; done) | (simp only [ab_ex, true_and]; rfl)
theorem ex_imul {x y : Int32} : ab_ex own ini K C Q pc (.imul) 1 L (.int y :: .int x :: r) M = K (pc + 1) L (.int (x * y) :: r) M := by first | (simp only [ab_ex, true_and]; done) | (simp only [ab_ex, true_and]; rfl)
theorem ex_lmul {x y : Int64} : ab_ex own ini K C Q pc (.lmul) 1 L (.long y :: .long x :: r) M = K (pc + 1) L (.long (x * y) :: r) M := by first | (simp only [ab_ex, true_and]; done) | (simp only [ab_ex, true_and]; rfl)
theorem ex_iand {x y : Int32} : ab_ex own ini K C Q pc (.iand) 1 L (.int y :: .int x :: r) M = K (pc + 1) L (.int (x &&& y) :: r) M := by first | (simp only [ab_ex, true_and]; done) | (simp only [ab_ex, true_and]; rfl)
theorem ex_land {x y : Int64} : ab_ex own ini K C Q pc (.land) 1 L (.long y :: .long x :: r) M = K (pc + 1) L (.long (x &&& y) :: r) M := by first | (simp only [ab_ex, true_and]; done) | (simp only [ab_ex, true_and]; rfl)
theorem ex_ior {x y : Int32} : ab_ex own ini K C Q pc (.ior) 1 L (.int y :: .int x :: r) M = K (pc + 1) L (.int (x ||| y) :: r) M := by first | (simp only [ab_ex, true_and]; done) | (simp only [ab_ex, true_and]; rfl)
theorem ex_lor {x y : Int64} : ab_ex own ini K C Q pc (.lor) 1 L (.long y :: .long x :: r) M = K (pc + 1) L (.long (x ||| y) :: r) M := by first | (simp only [ab_ex, true_and]; done) | (simp only [ab_ex, true_and]; rfl)
theorem ex_ixor {x y : Int32} : ab_ex own ini K C Q pc (.ixor) 1 L (.int y :: .int x :: r) M = K (pc + 1) L (.int (x ^^^ y) :: r) M := by first | (simp only [ab_ex, true_and]; done) | (simp only [ab_ex, true_and]; rfl)
theorem ex_idiv {x y : Int32} : ab_ex own ini K C Q pc (.idiv) 1 L (.int y :: .int x :: r) M = (¬ y = 0 ∧ K (pc + 1) L (.int (x / y) :: r) M) := by first | (simp only [ab_ex, true_and]; done) | (simp only [ab_ex, true_and]; rfl)
theorem ex_ldiv {x y : Int64} : ab_ex own ini K C Q pc (.ldiv) 1 L (.long y :: .long x :: r) M = (¬ y = 0 ∧ K (pc + 1) L (.long (x / y) :: r) M) := by first | (simp only [ab_ex, true_and]; done) | (simp only [ab_ex, true_and]; rfl)
theorem ex_irem {x y : Int32} : ab_ex own ini K C Q pc (.irem) 1 L (.int y :: .int x :: r) M = (¬ y = 0 ∧ K (pc + 1) L (.int (ab_rm x y) :: r) M) := by first | (simp only [ab_ex, true_and]; done) | (simp only [ab_ex, true_and]; rfl)
theorem ex_lrem {x y : Int64} : ab_ex own ini K C Q pc (.lrem) 1 L (.long y :: .long x :: r) M = (¬ y = 0 ∧ K (pc + 1) L (.long (ab_rml x y) :: r) M) := by first | (simp only [ab_ex, true_and]; done) | (simp only [ab_ex, true_and]; rfl)
theorem ex_ishl {x y : Int32} : ab_ex own ini K C Q pc (.ishl) 1 L (.int y :: .int x :: r) M = K (pc + 1) L (.int (x <<< (y &&& 31)) :: r) M := by first | (simp only [ab_ex, true_and]; done) | (simp only [ab_ex, true_and]; rfl)
theorem ex_ishr {x y : Int32} : ab_ex own ini K C Q pc (.ishr) 1 L (.int y :: .int x :: r) M = K (pc + 1) L (.int (x >>> (y &&& 31)) :: r) M := by first | (simp only [ab_ex, true_and]; done) | (simp only [ab_ex, true_and]; rfl)
theorem ex_iushr {x y : Int32} : ab_ex own ini K C Q pc (.iushr) 1 L (.int y :: .int x :: r) M = K (pc + 1) L (.int (x.toUInt32 >>> (y.toUInt32 &&& Int32.toUInt32 31)).toInt32 :: r) M := by first | (simp only [ab_ex, true_and]; done) | (simp only [ab_ex, true_and]; rfl)
theorem ex_lshl {x : Int64} {y : Int32} : ab_ex own ini K C Q pc (.lshl) 1 L (.int y :: .long x :: r) M = K (pc + 1) L (.long (x <<< (y.toInt64 &&& 63)) :: r) M := by first | (simp only [ab_ex, true_and]; done) | (simp only [ab_ex, true_and]; rfl)
theorem ex_lshr {x : Int64} {y : Int32} : ab_ex own ini K C Q pc (.lshr) 1 L (.int y :: .long x :: r) M = K (pc + 1) L (.long (x >>> (y.toInt64 &&& 63)) :: r) M := by first | (simp only [ab_ex, true_and]; done) | (simp only [ab_ex, true_and]; rfl)
theorem ex_lcmp {x y : Int64} : ab_ex own ini K C Q pc (.lcmp) 1 L (.long y :: .long x :: r) M = K (pc + 1) L (.int (lg_cmp x y) :: r) M := by first | (simp only [ab_ex, true_and]; done) | (simp only [ab_ex, true_and]; rfl)
theorem ex_i2l {x : Int32} : ab_ex own ini K C Q pc (.i2l) 1 L (.int x :: r) M = K (pc + 1) L (.long x.toInt64 :: r) M := by first | (simp only [ab_ex, true_and]; done) | (simp only [ab_ex, true_and]; rfl)
theorem ex_l2i {x : Int64} : ab_ex own ini K C Q pc (.l2i) 1 L (.long x :: r) M = K (pc + 1) L (.int x.toInt32 :: r) M := by first | (simp only [ab_ex, true_and]; done) | (simp only [ab_ex, true_and]; rfl)
theorem ex_i2b {x : Int32} : ab_ex own ini K C Q pc (.i2b) 1 L (.int x :: r) M = K (pc + 1) L (.int x.toInt8.toInt32 :: r) M := by first | (simp only [ab_ex, true_and]; done) | (simp only [ab_ex, true_and]; rfl)
theorem ex_i2s {x : Int32} : ab_ex own ini K C Q pc (.i2s) 1 L (.int x :: r) M = K (pc + 1) L (.int x.toInt16.toInt32 :: r) M := by first | (simp only [ab_ex, true_and]; done) | (simp only [ab_ex, true_and]; rfl)
theorem ex_dup_i {x : Int32} : ab_ex own ini K C Q pc (.dup) 1 L (.int x :: r) M = K (pc + 1) L (.int x :: .int x :: r) M := by simp [ab_ex, Value.category]
theorem ex_pop_i {x : Int32} : ab_ex own ini K C Q pc (.pop) 1 L (.int x :: r) M = K (pc + 1) L r M := by simp [ab_ex, Value.category]
theorem ex_dup_r {x : Nat} : ab_ex own ini K C Q pc (.dup) 1 L (.ref x :: r) M = K (pc + 1) L (.ref x :: .ref x :: r) M := by simp [ab_ex, Value.category]
theorem ex_pop_r {x : Nat} : ab_ex own ini K C Q pc (.pop) 1 L (.ref x :: r) M = K (pc + 1) L r M := by simp [ab_ex, Value.category]
theorem ex_dup_n  : ab_ex own ini K C Q pc (.dup) 1 L (.null :: r) M = K (pc + 1) L (.null :: .null :: r) M := by simp [ab_ex, Value.category]
theorem ex_pop_n  : ab_ex own ini K C Q pc (.pop) 1 L (.null :: r) M = K (pc + 1) L r M := by simp [ab_ex, Value.category]
theorem ex_dup2 {x : Nat} {y : Int32} : ab_ex own ini K C Q pc (.dup2) 1 L (.int y :: .ref x :: r) M = K (pc + 1) L (.int y :: .ref x :: .int y :: .ref x :: r) M := by simp [ab_ex, Value.category]
theorem ex_goto {off : Int} : ab_ex own ini K C Q pc (.goto off) 3 L st M = (0 ≤ (pc : Int) + off ∧ K ((pc : Int) + off).toNat L st M) := by simp only [ab_ex, true_and, ab_jp]
theorem ex_if_eq {x : Int32} {off : Int} : ab_ex own ini K C Q pc (.ifCond .eq off) 3 L (.int x :: r) M = (0 ≤ (pc : Int) + off ∧ (x = 0 → K ((pc : Int) + off).toNat L r M) ∧ (¬ (x = 0) → K (pc + 3) L r M)) := by simp only [ab_ex, true_and, ab_br]
theorem ex_ic_eq {x y : Int32} {off : Int} : ab_ex own ini K C Q pc (.if_icmp .eq off) 3 L (.int y :: .int x :: r) M = (0 ≤ (pc : Int) + off ∧ (x = y → K ((pc : Int) + off).toNat L r M) ∧ (¬ (x = y) → K (pc + 3) L r M)) := by simp only [ab_ex, true_and, ab_br]
theorem ex_if_ne {x : Int32} {off : Int} : ab_ex own ini K C Q pc (.ifCond .ne off) 3 L (.int x :: r) M = (0 ≤ (pc : Int) + off ∧ (¬ x = 0 → K ((pc : Int) + off).toNat L r M) ∧ (¬ (¬ x = 0) → K (pc + 3) L r M)) := by simp only [ab_ex, true_and, ab_br]
theorem ex_ic_ne {x y : Int32} {off : Int} : ab_ex own ini K C Q pc (.if_icmp .ne off) 3 L (.int y :: .int x :: r) M = (0 ≤ (pc : Int) + off ∧ (¬ x = y → K ((pc : Int) + off).toNat L r M) ∧ (¬ (¬ x = y) → K (pc + 3) L r M)) := by simp only [ab_ex, true_and, ab_br]
theorem ex_if_lt {x : Int32} {off : Int} : ab_ex own ini K C Q pc (.ifCond .lt off) 3 L (.int x :: r) M = (0 ≤ (pc : Int) + off ∧ (x < 0 → K ((pc : Int) + off).toNat L r M) ∧ (¬ (x < 0) → K (pc + 3) L r M)) := by simp only [ab_ex, true_and, ab_br]
theorem ex_ic_lt {x y : Int32} {off : Int} : ab_ex own ini K C Q pc (.if_icmp .lt off) 3 L (.int y :: .int x :: r) M = (0 ≤ (pc : Int) + off ∧ (x < y → K ((pc : Int) + off).toNat L r M) ∧ (¬ (x < y) → K (pc + 3) L r M)) := by simp only [ab_ex, true_and, ab_br]
theorem ex_if_ge {x : Int32} {off : Int} : ab_ex own ini K C Q pc (.ifCond .ge off) 3 L (.int x :: r) M = (0 ≤ (pc : Int) + off ∧ (0 ≤ x → K ((pc : Int) + off).toNat L r M) ∧ (¬ (0 ≤ x) → K (pc + 3) L r M)) := by simp only [ab_ex, true_and, ab_br]
theorem ex_ic_ge {x y : Int32} {off : Int} : ab_ex own ini K C Q pc (.if_icmp .ge off) 3 L (.int y :: .int x :: r) M = (0 ≤ (pc : Int) + off ∧ (y ≤ x → K ((pc : Int) + off).toNat L r M) ∧ (¬ (y ≤ x) → K (pc + 3) L r M)) := by simp only [ab_ex, true_and, ab_br]
theorem ex_if_gt {x : Int32} {off : Int} : ab_ex own ini K C Q pc (.ifCond .gt off) 3 L (.int x :: r) M = (0 ≤ (pc : Int) + off ∧ (0 < x → K ((pc : Int) + off).toNat L r M) ∧ (¬ (0 < x) → K (pc + 3) L r M)) := by simp only [ab_ex, true_and, ab_br]
theorem ex_ic_gt {x y : Int32} {off : Int} : ab_ex own ini K C Q pc (.if_icmp .gt off) 3 L (.int y :: .int x :: r) M = (0 ≤ (pc : Int) + off ∧ (y < x → K ((pc : Int) + off).toNat L r M) ∧ (¬ (y < x) → K (pc + 3) L r M)) := by simp only [ab_ex, true_and, ab_br]
theorem ex_if_le {x : Int32} {off : Int} : ab_ex own ini K C Q pc (.ifCond .le off) 3 L (.int x :: r) M = (0 ≤ (pc : Int) + off ∧ (x ≤ 0 → K ((pc : Int) + off).toNat L r M) ∧ (¬ (x ≤ 0) → K (pc + 3) L r M)) := by simp only [ab_ex, true_and, ab_br]
theorem ex_ic_le {x y : Int32} {off : Int} : ab_ex own ini K C Q pc (.if_icmp .le off) 3 L (.int y :: .int x :: r) M = (0 ≤ (pc : Int) + off ∧ (x ≤ y → K ((pc : Int) + off).toNat L r M) ∧ (¬ (x ≤ y) → K (pc + 3) L r M)) := by simp only [ab_ex, true_and, ab_br]
theorem ex_ifnull {v : Value} {off : Int} : ab_ex own ini K C Q pc (.ifnull off) 3 L (v :: r) M = (match ab_rv v with
    | some q => ab_br (q = none) (fun p => K p L r M) pc off
    | none => False) := by first | (simp only [ab_ex, true_and]; done) | (simp only [ab_ex, true_and]; rfl)
theorem ex_ifnonnull {v : Value} {off : Int} : ab_ex own ini K C Q pc (.ifnonnull off) 3 L (v :: r) M = (match ab_rv v with
    | some q => ab_br (¬ q = none) (fun p => K p L r M) pc off
    | none => False) := by first | (simp only [ab_ex, true_and]; done) | (simp only [ab_ex, true_and]; rfl)
theorem ex_tsw {x : Int32} {dflt lo hi : Int} {offs : Array Int} {n : Nat} : ab_ex own ini K C Q pc (.tableswitch dflt lo hi offs) n L (.int x :: r) M = (hi = lo + (offs.size : Int) - 1 ∧ (x.toInt < lo ∨ hi < x.toInt → ab_jp (fun p => K p L r M) pc dflt) ∧ ab_sw (fun p => K p L r M) pc x lo offs.toList) := rfl
theorem ex_getfield {a idx : Nat} : ab_ex own ini K C Q pc (.getfield idx) 3 L (.ref a :: r) M = ab_obj M a (fun c => ab_fd own idx c (fun k kd => K (pc + 3) L (ab_gv M a k kd :: r) M)) := by first | (simp only [ab_ex, true_and]; done) | (simp only [ab_ex, true_and]; rfl)
theorem ex_putfield {v : Value} {a idx : Nat} : ab_ex own ini K C Q pc (.putfield idx) 3 L (v :: .ref a :: r) M = ab_obj M a (fun c => ab_fd own idx c (fun k kd => (ab_fin c k = true → ini = true ∧ (own = c ∨ own = 16)) ∧ ab_pf M a k kd v (fun M' => K (pc + 3) L r M'))) := by first | (simp only [ab_ex, true_and]; done) | (simp only [ab_ex, true_and]; rfl)
theorem ex_iaload {j : Int32} {a : Nat} : ab_ex own ini K C Q pc (.iaload) 1 L (.int j :: .ref a :: r) M = (match ab_h M a with
    | some (c, len) => (c = 64 ∨ c = 63) ∧ vp_in j len ∧ K (pc + 1) L (.int (ab_I M a j.toNatClampNeg) :: r) M
    | none => False) := by first | (simp only [ab_ex, true_and]; done) | (simp only [ab_ex, true_and]; rfl)
theorem ex_baload {j : Int32} {a : Nat} : ab_ex own ini K C Q pc (.baload) 1 L (.int j :: .ref a :: r) M = (match ab_h M a with
    | some (c, len) => (c = 65 ∨ c = 67) ∧ vp_in j len ∧ K (pc + 1) L (.int (ab_I M a j.toNatClampNeg) :: r) M
    | none => False) := by first | (simp only [ab_ex, true_and]; done) | (simp only [ab_ex, true_and]; rfl)
theorem ex_saload {j : Int32} {a : Nat} : ab_ex own ini K C Q pc (.saload) 1 L (.int j :: .ref a :: r) M = ab_arr M a 2 (fun len => vp_in j len ∧ K (pc + 1) L (.int (ab_I M a j.toNatClampNeg) :: r) M) := by first | (simp only [ab_ex, true_and]; done) | (simp only [ab_ex, true_and]; rfl)
theorem ex_laload {j : Int32} {a : Nat} : ab_ex own ini K C Q pc (.laload) 1 L (.int j :: .ref a :: r) M = ab_arr M a 4 (fun len => vp_in j len ∧ K (pc + 1) L (.long (ab_L M a j.toNatClampNeg) :: r) M) := by first | (simp only [ab_ex, true_and]; done) | (simp only [ab_ex, true_and]; rfl)
theorem ex_aaload {j : Int32} {a : Nat} : ab_ex own ini K C Q pc (.aaload) 1 L (.int j :: .ref a :: r) M = (match ab_h M a with
    | some (c, len) => (69 ≤ c ∧ c ≤ 72) ∧ vp_in j len ∧ K (pc + 1) L (va_rf (ab_R M a j.toNatClampNeg) :: r) M
    | none => False) := by first | (simp only [ab_ex, true_and]; done) | (simp only [ab_ex, true_and]; rfl)
theorem ex_iastore {x j : Int32} {a : Nat} : ab_ex own ini K C Q pc (.iastore) 1 L (.int x :: .int j :: .ref a :: r) M = ab_arr M a 0 (fun len => vp_in j len ∧ K (pc + 1) L r (ab_wI M a j.toNatClampNeg x)) := by first | (simp only [ab_ex, true_and]; done) | (simp only [ab_ex, true_and]; rfl)
theorem ex_bastore {x j : Int32} {a : Nat} : ab_ex own ini K C Q pc (.bastore) 1 L (.int x :: .int j :: .ref a :: r) M = (match ab_h M a with
    | some (c, len) => if c = 65 then vp_in j len ∧ K (pc + 1) L r (ab_wI M a j.toNatClampNeg x.toInt8.toInt32) else c = 67 ∧ (x = 0 ∨ x = 1) ∧ vp_in j len ∧ K (pc + 1) L r (ab_wI M a j.toNatClampNeg x)
    | none => False) := by first | (simp only [ab_ex, true_and]; done) | (simp only [ab_ex, true_and]; rfl)
theorem ex_sastore {x j : Int32} {a : Nat} : ab_ex own ini K C Q pc (.sastore) 1 L (.int x :: .int j :: .ref a :: r) M = ab_arr M a 2 (fun len => vp_in j len ∧ K (pc + 1) L r (ab_wI M a j.toNatClampNeg x.toInt16.toInt32)) := by first | (simp only [ab_ex, true_and]; done) | (simp only [ab_ex, true_and]; rfl)
theorem ex_lastore {x : Int64} {j : Int32} {a : Nat} : ab_ex own ini K C Q pc (.lastore) 1 L (.long x :: .int j :: .ref a :: r) M = ab_arr M a 4 (fun len => vp_in j len ∧ K (pc + 1) L r (ab_wL M a j.toNatClampNeg x)) := by first | (simp only [ab_ex, true_and]; done) | (simp only [ab_ex, true_and]; rfl)
theorem ex_aastore {j : Int32} {a b : Nat} : ab_ex own ini K C Q pc (.aastore) 1 L (.ref b :: .int j :: .ref a :: r) M = (match ab_h M a, ab_h M b with
    | some (c, len), some (cb, _) => ab_can (c - 64) cb = true ∧ 64 ≤ c ∧ vp_in j len ∧ K (pc + 1) L r (ab_wR M a j.toNatClampNeg (some b))
    | _, _ => False) := by first | (simp only [ab_ex, true_and]; done) | (simp only [ab_ex, true_and]; rfl)
theorem ex_alen {a : Nat} : ab_ex own ini K C Q pc (.arraylength) 1 L (.ref a :: r) M = (match ab_h M a with
    | some (c, len) => (63 ≤ c ∧ c ≤ 72) ∧ K (pc + 1) L (.int (Int32.ofNat len) :: r) M
    | none => False) := by first | (simp only [ab_ex, true_and]; done) | (simp only [ab_ex, true_and]; rfl)
theorem ex_newa_int {x : Int32} : ab_ex own ini K C Q pc (.newarray .int) 2 L (.int x :: r) M = (¬ x < 0 ∧ x.toNatClampNeg ≤ 10000 ∧ K (pc + 2) L (.ref (ab_z M) :: r) (ab_nw M 64 x.toNatClampNeg)) := by simp only [ab_ex, true_and, ab_atT]
theorem ex_newa_byte {x : Int32} : ab_ex own ini K C Q pc (.newarray .byte) 2 L (.int x :: r) M = (¬ x < 0 ∧ x.toNatClampNeg ≤ 10000 ∧ K (pc + 2) L (.ref (ab_z M) :: r) (ab_nw M 65 x.toNatClampNeg)) := by simp only [ab_ex, true_and, ab_atT]
theorem ex_newa_short {x : Int32} : ab_ex own ini K C Q pc (.newarray .short) 2 L (.int x :: r) M = (¬ x < 0 ∧ x.toNatClampNeg ≤ 10000 ∧ K (pc + 2) L (.ref (ab_z M) :: r) (ab_nw M 66 x.toNatClampNeg)) := by simp only [ab_ex, true_and, ab_atT]
theorem ex_newa_boolean {x : Int32} : ab_ex own ini K C Q pc (.newarray .boolean) 2 L (.int x :: r) M = (¬ x < 0 ∧ x.toNatClampNeg ≤ 10000 ∧ K (pc + 2) L (.ref (ab_z M) :: r) (ab_nw M 67 x.toNatClampNeg)) := by simp only [ab_ex, true_and, ab_atT]
theorem ex_newa_long {x : Int32} : ab_ex own ini K C Q pc (.newarray .long) 2 L (.int x :: r) M = (¬ x < 0 ∧ x.toNatClampNeg ≤ 10000 ∧ K (pc + 2) L (.ref (ab_z M) :: r) (ab_nw M 68 x.toNatClampNeg)) := by simp only [ab_ex, true_and, ab_atT]
theorem ex_anew {x : Int32} {idx : Nat} : ab_ex own ini K C Q pc (.anewarray idx) 3 L (.int x :: r) M = (match ab_na own idx with
    | some k => ¬ x < 0 ∧ x.toNatClampNeg ≤ 10000 ∧ K (pc + 3) L (.ref (ab_z M) :: r) (ab_nw M (64 + k) x.toNatClampNeg)
    | none => False) := by first | (simp only [ab_ex, true_and]; done) | (simp only [ab_ex, true_and]; rfl)
theorem ex_new {idx : Nat} : ab_ex own ini K C Q pc (.new idx) 3 L st M = (match ab_nc own idx with
    | some c => K (pc + 3) L (.ref (ab_z M) :: st) (ab_nw M c (ab_nf c))
    | none => False) := by first | (simp only [ab_ex, true_and]; done) | (simp only [ab_ex, true_and]; rfl)
theorem ex_cast {v : Value} {idx : Nat} : ab_ex own ini K C Q pc (.checkcast idx) 3 L (v :: r) M = (match ab_ct own idx with
    | some t => (v = .null ∨ ab_cast M t v = some true) ∧ K (pc + 3) L (v :: r) M
    | none => False) := by first | (simp only [ab_ex, true_and]; done) | (simp only [ab_ex, true_and]; rfl)
theorem ex_inst {v : Value} {idx : Nat} : ab_ex own ini K C Q pc (.instanceof idx) 3 L (v :: r) M = (match ab_ct own idx with
    | some t => (match ab_cast M t v with
      | some b => t < 3 ∧ K (pc + 3) L (.int (if b then 1 else 0) :: r) M
      | none => False)
    | none => False) := by first | (simp only [ab_ex, true_and]; done) | (simp only [ab_ex, true_and]; rfl)
theorem ex_iret {x : Int32} : ab_ex own ini K C Q pc (.ireturn) 1 L [.int x] M = Q (some (.int x)) M := by first | (simp only [ab_ex, true_and]; done) | (simp only [ab_ex, true_and]; rfl)
theorem ex_lret {x : Int64} : ab_ex own ini K C Q pc (.lreturn) 1 L [.long x] M = Q (some (.long x)) M := by first | (simp only [ab_ex, true_and]; done) | (simp only [ab_ex, true_and]; rfl)
theorem ex_aret {v : Value} : ab_ex own ini K C Q pc (.areturn) 1 L [v] M = ((ab_rv v).isSome = true ∧ Q (some v) M) := by first | (simp only [ab_ex, true_and]; done) | (simp only [ab_ex, true_and]; rfl)
theorem ex_ret  : ab_ex own ini K C Q pc (.return_) 1 L [] M = Q none M := by first | (simp only [ab_ex, true_and]; done) | (simp only [ab_ex, true_and]; rfl)
end ABX
