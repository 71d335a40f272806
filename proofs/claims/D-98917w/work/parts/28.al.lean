/-! ===== longs in the memory ===== -/
section MEML
variable {M : ab_M} {a b k j n c : Nat} {v : Int32} {w : Int64} {q : Option Nat} {f : Nat → Int32} {fl : Nat → Int64}
theorem al_wI : al (ab_wI M a k v) = al M := rfl
theorem al_wR : al (ab_wR M a k q) = al M := rfl
theorem al_rI : al (ab_rI M a f) = al M := rfl
theorem al_wL : al (ab_wL M a k w) b j = if b = a ∧ j = k then w.toInt else al M b j := by
  unfold al
  rw [L_wL]
  split <;> rfl
theorem al_rL : al (ab_rL M a fl) b j = if b = a then (fl j).toInt else al M b j := by
  unfold al
  rw [L_rL]
  split <;> rfl
theorem al_nw : al (ab_nw M c n) b j = if b = ab_z M then 0 else al M b j := by
  unfold al
  rw [L_nw]
  split <;> rfl
end MEML
