/-! ===== ints as whole numbers ===== -/
/-- an int by its whole number -/
def zi (a : Int) : Int32 := Int32.ofInt a
/-- a long by its whole number -/
def zl (a : Int) : Int64 := Int64.ofInt a
theorem zi_add (a b : Int) : zi a + zi b = zi (a + b) := (Int32.ofInt_add a b).symm
theorem zi_sub (a b : Int) : zi a - zi b = zi (a - b) := (Int32.ofInt_sub a b).symm
theorem zi_mul (a b : Int) : zi a * zi b = zi (a * b) := (Int32.ofInt_mul a b).symm
theorem zl_add (a b : Int) : zl a + zl b = zl (a + b) := (Int64.ofInt_add a b).symm
theorem zl_sub (a b : Int) : zl a - zl b = zl (a - b) := (Int64.ofInt_sub a b).symm
theorem zl_mul (a b : Int) : zl a * zl b = zl (a * b) := (Int64.ofInt_mul a b).symm
theorem zi_neg (a : Int) : -zi a = zi (-a) := (Int32.ofInt_neg a).symm
theorem zl_neg (a : Int) : -zl a = zl (-a) := (Int64.ofInt_neg a).symm
theorem zi_toInt {a : Int} (h1 : -2147483648 ≤ a) (h2 : a ≤ 2147483647) : (zi a).toInt = a := Int32.toInt_ofInt_of_le h1 (by omega)
theorem zl_toInt {a : Int} (h1 : -9223372036854775808 ≤ a) (h2 : a ≤ 9223372036854775807) : (zl a).toInt = a := Int64.toInt_ofInt_of_le h1 (by omega)
theorem zi_of (x : Int32) : zi x.toInt = x := Int32.ofInt_toInt x
theorem zl_of (x : Int64) : zl x.toInt = x := Int64.ofInt_toInt x
theorem zi_lo (x : Int32) : -2147483648 ≤ x.toInt := Int32.le_toInt x
theorem zi_hi (x : Int32) : x.toInt ≤ 2147483647 := by have := Int32.toInt_lt x; omega
theorem zl_lo (x : Int64) : -9223372036854775808 ≤ x.toInt := Int64.le_toInt x
theorem zl_hi (x : Int64) : x.toInt ≤ 9223372036854775807 := by have := Int64.toInt_lt x; omega
theorem zi_lt {a b : Int} (a1 : -2147483648 ≤ a) (a2 : a ≤ 2147483647) (b1 : -2147483648 ≤ b) (b2 : b ≤ 2147483647) : (zi a < zi b) = (a < b) := by
  rw [Int32.lt_iff_toInt_lt, zi_toInt a1 a2, zi_toInt b1 b2]
theorem zi_le {a b : Int} (a1 : -2147483648 ≤ a) (a2 : a ≤ 2147483647) (b1 : -2147483648 ≤ b) (b2 : b ≤ 2147483647) : (zi a ≤ zi b) = (a ≤ b) := by
  rw [Int32.le_iff_toInt_le, zi_toInt a1 a2, zi_toInt b1 b2]
theorem zi_eq {a b : Int} (a1 : -2147483648 ≤ a) (a2 : a ≤ 2147483647) (b1 : -2147483648 ≤ b) (b2 : b ≤ 2147483647) : (zi a = zi b) = (a = b) := by
  rw [← Int32.toInt_inj, zi_toInt a1 a2, zi_toInt b1 b2]
theorem zl_lt {a b : Int} (a1 : -9223372036854775808 ≤ a) (a2 : a ≤ 9223372036854775807) (b1 : -9223372036854775808 ≤ b) (b2 : b ≤ 9223372036854775807) : (zl a < zl b) = (a < b) := by
  rw [Int64.lt_iff_toInt_lt, zl_toInt a1 a2, zl_toInt b1 b2]
theorem zl_le {a b : Int} (a1 : -9223372036854775808 ≤ a) (a2 : a ≤ 9223372036854775807) (b1 : -9223372036854775808 ≤ b) (b2 : b ≤ 9223372036854775807) : (zl a ≤ zl b) = (a ≤ b) := by
  rw [Int64.le_iff_toInt_le, zl_toInt a1 a2, zl_toInt b1 b2]
theorem zl_eq {a b : Int} (a1 : -9223372036854775808 ≤ a) (a2 : a ≤ 9223372036854775807) (b1 : -9223372036854775808 ≤ b) (b2 : b ≤ 9223372036854775807) : (zl a = zl b) = (a = b) := by
  rw [← Int64.toInt_inj, zl_toInt a1 a2, zl_toInt b1 b2]
theorem zi_l {a : Int} (a1 : -2147483648 ≤ a) (a2 : a ≤ 2147483647) : (zi a).toInt64 = zl a := Int64.toInt_inj.mp (by rw [Int32.toInt_toInt64, zi_toInt a1 a2, zl_toInt (by omega) (by omega)])
theorem zl_i (a : Int) : (zl a).toInt32 = zi a := by
  unfold zl zi
  exact Int64.toInt32_ofInt
theorem zi_cl {a : Int} (a1 : 0 ≤ a) (a2 : a ≤ 2147483647) : (zi a).toNatClampNeg = a.toNat := by
  show (zi a).toInt.toNat = a.toNat
  rw [zi_toInt (by omega) a2]
theorem zi_in {a : Int} {n : Nat} (a1 : -2147483648 ≤ a) (a2 : a ≤ 2147483647) : vp_in (zi a) n = (0 ≤ a ∧ a < n) := by
  rw [vp_in_iff, zi_toInt a1 a2]
theorem zi_div {a b : Int} (a0 : 0 ≤ a) (a2 : a ≤ 2147483647) (b0 : 0 < b) (b2 : b ≤ 2147483647) : zi a / zi b = zi (a / b) := by
  refine Int32.toInt_inj.mp ?_
  have hb : zi b ≠ -1 := by
    intro h
    have := congrArg Int32.toInt h
    rw [zi_toInt (by omega) b2] at this
    have e : (-1 : Int32).toInt = -1 := rfl
    omega
  have hq : a / b ≤ a := Int.ediv_le_self b a0
  have hq0 : 0 ≤ a / b := Int.ediv_nonneg a0 (by omega)
  rw [Int32.toInt_div_of_ne_right _ _ hb, zi_toInt (by omega) a2, zi_toInt (by omega) b2, zi_toInt (by omega) (by omega), Int.tdiv_eq_ediv_of_nonneg a0]
theorem zi_rem {a b : Int} (a0 : 0 ≤ a) (a2 : a ≤ 2147483647) (b0 : 0 < b) (b2 : b ≤ 2147483647) : zi a - zi a / zi b * zi b = zi (a % b) := by
  rw [zi_div a0 a2 b0 b2, zi_mul, zi_sub]
  congr 1
  have := Int.emod_def a b
  rw [this, Int.mul_comm b]
theorem zl_div {a b : Int} (a0 : 0 ≤ a) (a2 : a ≤ 9223372036854775807) (b0 : 0 < b) (b2 : b ≤ 9223372036854775807) : zl a / zl b = zl (a / b) := by
  refine Int64.toInt_inj.mp ?_
  have hb : zl b ≠ -1 := by
    intro h
    have := congrArg Int64.toInt h
    rw [zl_toInt (by omega) b2] at this
    have e : (-1 : Int64).toInt = -1 := rfl
    omega
  have hq : a / b ≤ a := Int.ediv_le_self b a0
  have hq0 : 0 ≤ a / b := Int.ediv_nonneg a0 (by omega)
  rw [Int64.toInt_div_of_ne_right _ _ hb, zl_toInt (by omega) a2, zl_toInt (by omega) b2, zl_toInt (by omega) (by omega), Int.tdiv_eq_ediv_of_nonneg a0]
theorem zl_rem {a b : Int} (a0 : 0 ≤ a) (a2 : a ≤ 9223372036854775807) (b0 : 0 < b) (b2 : b ≤ 9223372036854775807) : zl a - zl a / zl b * zl b = zl (a % b) := by
  rw [zl_div a0 a2 b0 b2, zl_mul, zl_sub]
  congr 1
  have := Int.emod_def a b
  rw [this, Int.mul_comm b]
theorem zi_rm {a b : Int} (a0 : 0 ≤ a) (a2 : a ≤ 2147483647) (b0 : 0 < b) (b2 : b ≤ 2147483647) : ab_rm (zi a) (zi b) = zi (a % b) := zi_rem a0 a2 b0 b2
theorem zl_rm {a b : Int} (a0 : 0 ≤ a) (a2 : a ≤ 9223372036854775807) (b0 : 0 < b) (b2 : b ≤ 9223372036854775807) : ab_rml (zl a) (zl b) = zl (a % b) := zl_rem a0 a2 b0 b2
theorem zi_nat (n : Nat) : Int32.ofNat n = zi n := Int32.ofInt_eq_ofNat.symm
theorem lg_lt (x y : Int64) : (lg_cmp x y < 0) = (x < y) := by
  have h := lg_cmp_ge x y
  have e1 : (lg_cmp x y < 0) = ¬ (0 ≤ lg_cmp x y) := propext Int32.not_le.symm
  have e2 : (x < y) = ¬ (y ≤ x) := propext Int64.not_le.symm
  rw [e1, e2]
  exact congrArg Not (propext h)
theorem lg_ge (x y : Int64) : (0 ≤ lg_cmp x y) = (y ≤ x) := propext (lg_cmp_ge x y)
theorem lg_gt (x y : Int64) : (0 < lg_cmp x y) = (y < x) := by
  unfold lg_cmp
  by_cases h : x > y
  · simp [h]
  · rw [if_neg h]
    by_cases h2 : x = y
    · subst h2
      simp
    · rw [if_neg h2]
      refine propext ⟨fun q => absurd q (by decide), fun q => absurd q h⟩
theorem lg_le (x y : Int64) : (lg_cmp x y ≤ 0) = (x ≤ y) := by
  have h := lg_gt x y
  have e1 : (lg_cmp x y ≤ 0) = ¬ (0 < lg_cmp x y) := propext Int32.not_lt.symm
  have e2 : (x ≤ y) = ¬ (y < x) := propext Int64.not_lt.symm
  rw [e1, e2, h]
theorem lg_eq (x y : Int64) : (lg_cmp x y = 0) = (x = y) := by
  unfold lg_cmp
  by_cases h : x > y
  · rw [if_pos h]
    refine propext ⟨fun q => absurd q (by decide), fun q => ?_⟩
    subst q
    exact absurd h Int64.lt_irrefl
  · rw [if_neg h]
    by_cases h2 : x = y
    · rw [if_pos h2]
      simp [h2]
    · rw [if_neg h2]
      refine propext ⟨fun q => absurd q (by decide), fun q => absurd q h2⟩
theorem lg_lt' (x y : Int64) : (lg_cmp x y < zi 0) = (x < y) := lg_lt x y
theorem lg_ge' (x y : Int64) : (zi 0 ≤ lg_cmp x y) = (y ≤ x) := lg_ge x y
theorem lg_gt' (x y : Int64) : (zi 0 < lg_cmp x y) = (y < x) := lg_gt x y
theorem lg_le' (x y : Int64) : (lg_cmp x y ≤ zi 0) = (x ≤ y) := lg_le x y
theorem lg_eq' (x y : Int64) : (lg_cmp x y = zi 0) = (x = y) := lg_eq x y
/-- a truth as an int -/
def ab_b (p : Prop) [Decidable p] : Int32 := zi (bt p)
theorem ab_b_t {p : Prop} [Decidable p] (h : p) : ab_b p = zi 1 := congrArg zi (if_pos h)
theorem ab_b_f {p : Prop} [Decidable p] (h : ¬ p) : ab_b p = zi 0 := congrArg zi (if_neg h)
theorem ab_b_0 {p : Prop} [Decidable p] : (ab_b p = zi 0) = ¬ p := by
  by_cases h : p
  · rw [ab_b_t h]
    simp [h]
    decide
  · rw [ab_b_f h]
    simp [h]
theorem ab_b_01 {p : Prop} [Decidable p] : ab_b p = 0 ∨ ab_b p = 1 := by
  by_cases h : p
  · exact Or.inr (ab_b_t h)
  · exact Or.inl (ab_b_f h)
theorem ab_b_c {p q : Prop} [Decidable p] [Decidable q] (h : p ↔ q) : ab_b p = ab_b q := by
  by_cases hp : p
  · rw [ab_b_t hp, ab_b_t (h.mp hp)]
  · rw [ab_b_f hp, ab_b_f (fun z => hp (h.mpr z))]
theorem rk_z {p : Prop} [Decidable p] : ab_rk (some .boolean) (some (.int (ab_b p))) = True := eq_true (by unfold ab_rk; exact ab_b_01)
theorem rk_z0' : ab_rk (some .boolean) (some (.int (zi 0))) = True := eq_true (Or.inl rfl)
theorem rk_z1' : ab_rk (some .boolean) (some (.int (zi 1))) = True := eq_true (Or.inr rfl)
theorem mul_bd {a b n : Int} (h1 : -n ≤ a) (h2 : a ≤ n) (h3 : -n ≤ b) (h4 : b ≤ n) : -(n * n) ≤ a * b ∧ a * b ≤ n * n := by
  have e : (a * b).natAbs ≤ (n * n).natAbs := by
    rw [Int.natAbs_mul, Int.natAbs_mul]
    exact Nat.mul_le_mul (by omega) (by omega)
  have hn : 0 ≤ n * n := Int.mul_nonneg (by omega) (by omega)
  omega
theorem tn1 {c : Int} {k : Nat} (hc : 0 ≤ c) : (c + (k : Int)).toNat = c.toNat + k := by omega
theorem tn2 {c : Int} {k : Nat} (hc : 0 ≤ c) : ((k : Int) + c).toNat = k + c.toNat := by omega
/-! what is in the memory, as whole numbers -/
def ai (M : ab_M) (a k : Nat) : Int := (ab_I M a k).toInt
def al (M : ab_M) (a k : Nat) : Int := (ab_L M a k).toInt
theorem I_ai (M : ab_M) (a k : Nat) : ab_I M a k = zi (ai M a k) := (zi_of _).symm
theorem L_al (M : ab_M) (a k : Nat) : ab_L M a k = zl (al M a k) := (zl_of _).symm
theorem zi_ai (M : ab_M) (a k : Nat) : (zi (ai M a k)).toInt = ai M a k := congrArg Int32.toInt (zi_of _)
theorem zl_al (M : ab_M) (a k : Nat) : (zl (al M a k)).toInt = al M a k := congrArg Int64.toInt (zl_of _)
theorem ai_lo (M : ab_M) (a k : Nat) : -2147483648 ≤ ai M a k := zi_lo _
theorem ai_hi (M : ab_M) (a k : Nat) : ai M a k ≤ 2147483647 := zi_hi _
theorem ai_eq {M : ab_M} {a k : Nat} {n : Int} (h : ai M a k = n) : ab_I M a k = zi n := by rw [I_ai, h]
section MEM
variable {M : ab_M} {a b k j n c : Nat} {v : Int32} {w : Int64} {q : Option Nat} {f : Nat → Int32} {fl : Nat → Int64}
theorem I_wI : ab_I (ab_wI M a k v) b j = if b = a ∧ j = k then v else ab_I M b j := rfl
theorem I_wL : ab_I (ab_wL M a k w) = ab_I M := rfl
theorem I_wR : ab_I (ab_wR M a k q) = ab_I M := rfl
theorem I_rI : ab_I (ab_rI M a f) b j = if b = a then f j else ab_I M b j := rfl
theorem I_rL : ab_I (ab_rL M a fl) = ab_I M := rfl
theorem I_nw : ab_I (ab_nw M c n) b j = if b = ab_z M then 0 else ab_I M b j := rfl
theorem L_wI : ab_L (ab_wI M a k v) = ab_L M := rfl
theorem L_wL : ab_L (ab_wL M a k w) b j = if b = a ∧ j = k then w else ab_L M b j := rfl
theorem L_wR : ab_L (ab_wR M a k q) = ab_L M := rfl
theorem L_rI : ab_L (ab_rI M a f) = ab_L M := rfl
theorem L_rL : ab_L (ab_rL M a fl) b j = if b = a then fl j else ab_L M b j := rfl
theorem L_nw : ab_L (ab_nw M c n) b j = if b = ab_z M then 0 else ab_L M b j := rfl
theorem R_wI : ab_R (ab_wI M a k v) = ab_R M := rfl
theorem R_wL : ab_R (ab_wL M a k w) = ab_R M := rfl
theorem R_wR : ab_R (ab_wR M a k q) b j = if b = a ∧ j = k then q else ab_R M b j := rfl
theorem R_rI : ab_R (ab_rI M a f) = ab_R M := rfl
theorem R_rL : ab_R (ab_rL M a fl) = ab_R M := rfl
theorem R_nw : ab_R (ab_nw M c n) b j = if b = ab_z M then none else ab_R M b j := rfl
theorem h_wI : ab_h (ab_wI M a k v) = ab_h M := rfl
theorem h_wL : ab_h (ab_wL M a k w) = ab_h M := rfl
theorem h_wR : ab_h (ab_wR M a k q) = ab_h M := rfl
theorem h_rI : ab_h (ab_rI M a f) = ab_h M := rfl
theorem h_rL : ab_h (ab_rL M a fl) = ab_h M := rfl
theorem h_nw : ab_h (ab_nw M c n) b = if b = ab_z M then some (c, n) else ab_h M b := rfl
theorem z_wI : ab_z (ab_wI M a k v) = ab_z M := rfl
theorem z_wL : ab_z (ab_wL M a k w) = ab_z M := rfl
theorem z_wR : ab_z (ab_wR M a k q) = ab_z M := rfl
theorem z_rI : ab_z (ab_rI M a f) = ab_z M := rfl
theorem z_rL : ab_z (ab_rL M a fl) = ab_z M := rfl
theorem z_nw : ab_z (ab_nw M c n) = ab_z M + 1 := rfl
theorem s_wI : ab_s (ab_wI M a k v) = ab_s M := rfl
theorem s_wL : ab_s (ab_wL M a k w) = ab_s M := rfl
theorem s_wR : ab_s (ab_wR M a k q) = ab_s M := rfl
theorem s_rI : ab_s (ab_rI M a f) = ab_s M := rfl
theorem s_rL : ab_s (ab_rL M a fl) = ab_s M := rfl
theorem s_nw : ab_s (ab_nw M c n) = ab_s M + n := rfl
theorem ai_wI : ai (ab_wI M a k v) b j = if b = a ∧ j = k then v.toInt else ai M b j := by
  unfold ai
  rw [I_wI]
  split <;> rfl
theorem ai_wL : ai (ab_wL M a k w) = ai M := rfl
theorem ai_wR : ai (ab_wR M a k q) = ai M := rfl
theorem ai_rI : ai (ab_rI M a f) b j = if b = a then (f j).toInt else ai M b j := by
  unfold ai
  rw [I_rI]
  split <;> rfl
theorem ai_rL : ai (ab_rL M a fl) = ai M := rfl
theorem ai_nw : ai (ab_nw M c n) b j = if b = ab_z M then 0 else ai M b j := by
  unfold ai
  rw [I_nw]
  split <;> rfl
theorem gv_0 : ab_gv M a k 0 = .int (ab_I M a k) := rfl
theorem gv_1 : ab_gv M a k 1 = .long (ab_L M a k) := rfl
theorem gv_2 : ab_gv M a k 2 = va_rf (ab_R M a k) := rfl
theorem gv_3 : ab_gv M a k 3 = .int (ab_I M a k) := rfl
theorem rf_s : va_rf (some a) = .ref a := rfl
theorem rf_n : va_rf none = .null := rfl
theorem rv_r : ab_rv (.ref a) = some (some a) := rfl
theorem rv_n : ab_rv .null = some none := rfl
theorem pf_0 {K : ab_M → Prop} : ab_pf M a k 0 (.int v) K = K (ab_wI M a k v) := by simp [ab_pf]
theorem pf_1 {K : ab_M → Prop} : ab_pf M a k 1 (.long w) K = K (ab_wL M a k w) := by simp [ab_pf]
theorem pf_2r {K : ab_M → Prop} : ab_pf M a k 2 (.ref b) K = K (ab_wR M a k (some b)) := by simp [ab_pf, ab_rv]
theorem pf_2n {K : ab_M → Prop} : ab_pf M a k 2 .null K = K (ab_wR M a k none) := by simp [ab_pf, ab_rv]
theorem pf_2q {K : ab_M → Prop} : ab_pf M a k 2 (va_rf q) K = K (ab_wR M a k q) := by simp [ab_pf, ab_rv_rf]
theorem pf_3 {K : ab_M → Prop} : ab_pf M a k 3 (.int v) K = ((v = 0 ∨ v = 1) ∧ K (ab_wI M a k v)) := by simp [ab_pf]
end MEM
