/-! ===== the abstract machine: its memory ===== -/
/-- next address, slots made, shapes, ints, longs, references -/
abbrev ab_M : Type := Nat × Nat × (Nat → Option (Nat × Nat)) × (Nat → Nat → Int32) × (Nat → Nat → Int64) × (Nat → Nat → Option Nat)
def ab_z (M : ab_M) : Nat := M.1
def ab_s (M : ab_M) : Nat := M.2.1
def ab_h (M : ab_M) : Nat → Option (Nat × Nat) := M.2.2.1
def ab_I (M : ab_M) : Nat → Nat → Int32 := M.2.2.2.1
def ab_L (M : ab_M) : Nat → Nat → Int64 := M.2.2.2.2.1
def ab_R (M : ab_M) : Nat → Nat → Option Nat := M.2.2.2.2.2
def ab_u {α : Type} (f : Nat → Nat → α) (a k : Nat) (v : α) : Nat → Nat → α := fun b j => if b = a ∧ j = k then v else f b j
def ab_c {α : Type} (f : Nat → Nat → α) (a : Nat) (d : Nat → α) : Nat → Nat → α := fun b j => if b = a then d j else f b j
def ab_wI (M : ab_M) (a k : Nat) (v : Int32) : ab_M := (ab_z M, ab_s M, ab_h M, ab_u (ab_I M) a k v, ab_L M, ab_R M)
def ab_wL (M : ab_M) (a k : Nat) (v : Int64) : ab_M := (ab_z M, ab_s M, ab_h M, ab_I M, ab_u (ab_L M) a k v, ab_R M)
def ab_wR (M : ab_M) (a k : Nat) (v : Option Nat) : ab_M := (ab_z M, ab_s M, ab_h M, ab_I M, ab_L M, ab_u (ab_R M) a k v)
/-- a row of ints, of longs written whole -/
def ab_rI (M : ab_M) (a : Nat) (f : Nat → Int32) : ab_M := (ab_z M, ab_s M, ab_h M, ab_c (ab_I M) a f, ab_L M, ab_R M)
def ab_rL (M : ab_M) (a : Nat) (f : Nat → Int64) : ab_M := (ab_z M, ab_s M, ab_h M, ab_I M, ab_c (ab_L M) a f, ab_R M)
/-- a new cell: kind c (below 64 a class, from 64 on an array), n fields or places -/
def ab_nw (M : ab_M) (c n : Nat) : ab_M := (ab_z M + 1, ab_s M + n, fun a => if a = ab_z M then some (c, n) else ab_h M a, ab_c (ab_I M) (ab_z M) (fun _ => 0), ab_c (ab_L M) (ab_z M) (fun _ => 0), ab_c (ab_R M) (ab_z M) (fun _ => none))
/-- where the abstract addresses lie: the heap's size at the law's start, the low ones, the classes, the array classes, the script -/
abbrev ab_G : Type := Nat × (Nat → Nat) × va_G × (Nat → ClassId) × Nat × (Nat → Int32)
def ab_ph (g : ab_G) (a : Nat) : Nat := if a < 64 then g.2.1 a else g.1 + (a - 64)
def ab_cv (g : ab_G) (v : Value) : Value := match v with
  | .ref a => .ref (ab_ph g a)
  | w => w
/-- a reference or null -/
def ab_rv (v : Value) : Option (Option Nat) := match v with
  | .ref a => some (some a)
  | .null => some none
  | _ => none
theorem ab_rv_rf (r : Option Nat) : ab_rv (va_rf r) = some r := by cases r <;> rfl
theorem ab_rv_of {v : Value} {r : Option Nat} (h : ab_rv v = some r) : v = va_rf r := by
  cases v <;> simp [ab_rv] at h <;> subst h <;> rfl
theorem ab_cat_rf (r : Option Nat) : (va_rf r).category = 1 := by cases r <;> rfl
theorem ab_cv_rf (g : ab_G) (r : Option Nat) : ab_cv g (va_rf r) = va_rf (r.map (ab_ph g)) := by cases r <;> rfl
theorem ab_cv_cat (g : ab_G) (v : Value) : (ab_cv g v).category = v.category := by cases v <;> rfl
abbrev vwCl : List vw_C := [(RX0, TX0, 28), (RX1, TX1, 14), (RX3, TX3, 3), (RX4, TX4, 2), (RX5, TX5, 2), (RX6, TX6, 3), (RX7, TX7, 7), (RX8, TX8, 1), (RX9, TX9, 41), (RX10, TX10, 11), (RX12, TX12, 1), (RX14, TX14, 1), (RX15, TX15, 1), (RX16, TX16, 3), (RX17, TX17, 3), (RX18, TX18, 3)]
def ab_tyc (c : Nat) : Nat → FieldType := match c with
  | 0 => tyX0
  | 1 => tyX1
  | 2 => tyX3
  | 3 => tyX4
  | 4 => tyX5
  | 5 => tyX6
  | 6 => tyX7
  | 7 => tyX8
  | 8 => tyX9
  | 9 => tyX10
  | 10 => tyX12
  | 11 => tyX14
  | 12 => tyX15
  | 13 => tyX16
  | 14 => tyX17
  | _ => tyX18
/-- a field's kind: 0 an int, 1 a long, 2 a reference, 3 a boolean -/
def ab_kd (t : FieldType) : Nat := match t with
  | .int => 0
  | .long => 1
  | .object _ => 2
  | .array _ => 2
  | .boolean => 3
  | _ => 9
def ab_nf (c : Nat) : Nat := match vwCl[c]? with
  | some q => q.2.2
  | none => 0
/-- the arrays' types -/
def ab_ty (t : Nat) : FieldType := match t with
  | 0 => .int
  | 1 => .byte
  | 2 => .short
  | 3 => .boolean
  | 4 => .long
  | 5 => .object "MovedSpan$Act"
  | 6 => .object "MovedSpan$State"
  | 7 => .object "MovedSpan$Numbers"
  | _ => .object "MovedSpan$River"
def ab_tys (g : ab_G) : List (ClassId × FieldType) := (List.range 9).map (fun t => (g.2.2.2.1 t, ab_ty t))
/-- what a field gives, abstractly -/
def ab_gv (M : ab_M) (a k kd : Nat) : Value := if kd = 1 then .long (ab_L M a k) else if kd = 2 then va_rf (ab_R M a k) else .int (ab_I M a k)
def ab_ce (g : ab_G) (M : ab_M) (a : Nat) : va_E := match ab_h M a with
  | none => .inr (0, [])
  | some (c, n) => if c < 64 then .inr (c, (List.range (ab_nf c)).map (fun k => ab_cv g (ab_gv M a k (ab_kd (ab_tyc c k)))))
    else .inl (g.2.2.2.1 (c - 64), n, if c < 68 then .inl (ab_I M a) else if c = 68 then .inr (.inl (ab_L M a)) else .inr (.inr (.inr (.inr (fun i => (ab_R M a i).map (ab_ph g))))))
def ab_ad (g : ab_G) (M : ab_M) : List Nat := ((List.range (ab_z M)).filter (fun a => decide (64 ≤ a) && (ab_h M a).isSome)).map (ab_ph g)
def ab_W (g : ab_G) (M : ab_M) : va_W := va_pl (ab_ad g M) (fun x => ab_ce g M (x + 64 - g.1))
/-- the cells that are the run's own -/
def ab_A (g : ab_G) : Nat → Prop := fun q => g.1 ≤ q
/-- the heap holds the memory -/
def ab_P (g : ab_G) (M : ab_M) (H : Heap) : Prop := 64 ≤ ab_z M ∧ H.size = g.1 + (ab_z M - 64) ∧ (∀ a c n, ab_h M a = some (c, n) → (c = 63 ∧ a = 0 ∧ n = g.2.2.2.2.1 ∧ ∀ j, j < n → ab_I M 0 j = g.2.2.2.2.2 j) ∨ (c ≠ 63 ∧ 64 ≤ a ∧ a < ab_z M)) ∧ va_P g.2.2.1 vwCl (ab_W g M) H
/-! ===== locals ===== -/
def ab_lg (v : Value) : Bool := match v with
  | .long _ => true
  | .double _ => true
  | _ => false
theorem ab_lg_rf (r : Option Nat) : ab_lg (va_rf r) = false := by cases r <;> rfl
theorem ab_lg_cat (v : Value) : (v.category == 2) = ab_lg v := by cases v <;> rfl
/-- a word stored -/
def ab_st1 (L : List (Option Value)) (i : Nat) (v : Value) : List (Option Value) := match L, i with
  | [], _ => []
  | _ :: t, 0 => some v :: t
  | none :: t, j + 1 => none :: ab_st1 t j v
  | some w :: t, 0 + 1 => (if ab_lg w then none else some w) :: ab_st1 t 0 v
  | some w :: t, j + 2 => some w :: ab_st1 t (j + 1) v
/-- two words stored -/
def ab_st2 (L : List (Option Value)) (i : Nat) (v : Value) : List (Option Value) := match L, i with
  | [], _ => []
  | [_], 0 => [none]
  | _ :: _ :: t, 0 => some v :: none :: t
  | none :: t, j + 1 => none :: ab_st2 t j v
  | some w :: t, 0 + 1 => (if ab_lg w then none else some w) :: ab_st2 t 0 v
  | some w :: t, j + 2 => some w :: ab_st2 t (j + 1) v
def ab_lh (g : ab_G) (ls : Array Slot) (nL : Nat) (L : List (Option Value)) : Prop := ls.size = nL ∧ lv_wf ls ∧ L.length = nL ∧ ∀ (i : Nat) (v : Value), L[i]? = some (some v) → ls[i]? = some (.val (ab_cv g v))
/-- a method's locals at its start -/
def ab_en (as : List Value) (n : Nat) : List (Option Value) := match as, n with
  | [], n => List.replicate n none
  | _ :: _, 0 => []
  | v :: t, k + 1 => some v :: (if ab_lg v then none :: ab_en t (k - 1) else ab_en t k)
