/-! ===== a method's start, answers ===== -/
theorem en_l {x : Int64} {t : List Value} {k : Nat} : ab_en (.long x :: t) (k + 2) = some (.long x) :: none :: ab_en t k := rfl
theorem en_i {x : Int32} {t : List Value} {k : Nat} : ab_en (.int x :: t) (k + 1) = some (.int x) :: ab_en t k := rfl
theorem en_r {x : Nat} {t : List Value} {k : Nat} : ab_en (.ref x :: t) (k + 1) = some (.ref x) :: ab_en t k := rfl
theorem en_n {t : List Value} {k : Nat} : ab_en (.null :: t) (k + 1) = some .null :: ab_en t k := rfl
theorem en_q {q : Option Nat} {t : List Value} {k : Nat} : ab_en (va_rf q :: t) (k + 1) = some (va_rf q) :: ab_en t k := by cases q <;> rfl
theorem en_0 : ab_en [] 0 = [] := rfl
theorem en_s {k : Nat} : ab_en [] (k + 1) = none :: ab_en [] k := rfl
/-- a truth as a whole number, as an int -/
def bt (p : Prop) [Decidable p] : Int := if p then 1 else 0
theorem rk_i {x : Int32} : ab_rk (some .int) (some (.int x)) = True := rfl
theorem rk_z0 : ab_rk (some .boolean) (some (.int 0)) = True := eq_true (Or.inl rfl)
theorem rk_z1 : ab_rk (some .boolean) (some (.int 1)) = True := eq_true (Or.inr rfl)
theorem rk_l {x : Int64} : ab_rk (some .long) (some (.long x)) = True := rfl
theorem rk_v : ab_rk none none = True := rfl
theorem rk_r {s : String} {a : Nat} : ab_rk (some (.object s)) (some (.ref a)) = True := rfl
theorem rk_n {s : String} : ab_rk (some (.object s)) (some .null) = True := rfl
theorem rk_q {s : String} {q : Option Nat} : ab_rk (some (.object s)) (some (va_rf q)) = True := by cases q <;> rfl
