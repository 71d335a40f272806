/-! ===== what stays ===== -/
/-- the memory M' is M but for ints and longs at the places S -/
def fr (S : Nat → Nat → Prop) (M M' : ab_M) : Prop := ab_z M' = ab_z M ∧ ab_s M' = ab_s M ∧ ab_h M' = ab_h M ∧ ab_R M' = ab_R M ∧ (∀ a k, ¬ S a k → ab_I M' a k = ab_I M a k) ∧ (∀ a k, ¬ S a k → ab_L M' a k = ab_L M a k)
section FR
variable {S T : Nat → Nat → Prop} {M M1 M2 : ab_M} {a k : Nat}
theorem fr.rfl' : fr S M M := ⟨rfl, rfl, rfl, rfl, fun _ _ _ => rfl, fun _ _ _ => rfl⟩
theorem fr.trans (h1 : fr S M M1) (h2 : fr S M1 M2) : fr S M M2 :=
  ⟨h2.1.trans h1.1, h2.2.1.trans h1.2.1, h2.2.2.1.trans h1.2.2.1, h2.2.2.2.1.trans h1.2.2.2.1, fun a k h => (h2.2.2.2.2.1 a k h).trans (h1.2.2.2.2.1 a k h), fun a k h => (h2.2.2.2.2.2 a k h).trans (h1.2.2.2.2.2 a k h)⟩
theorem fr.mono (h : fr S M M1) (hs : ∀ a k, S a k → T a k) : fr T M M1 :=
  ⟨h.1, h.2.1, h.2.2.1, h.2.2.2.1, fun a k q => h.2.2.2.2.1 a k (fun z => q (hs a k z)), fun a k q => h.2.2.2.2.2 a k (fun z => q (hs a k z))⟩
theorem fr.wI {v : Int32} (hs : S a k) : fr S M (ab_wI M a k v) :=
  ⟨rfl, rfl, rfl, rfl, fun b j q => if_neg (fun z => q (by rw [z.1, z.2]; exact hs)), fun _ _ _ => rfl⟩
theorem fr.wL {v : Int64} (hs : S a k) : fr S M (ab_wL M a k v) :=
  ⟨rfl, rfl, rfl, rfl, fun _ _ _ => rfl, fun b j q => if_neg (fun z => q (by rw [z.1, z.2]; exact hs))⟩
theorem fr.rI {f : Nat → Int32} (hs : ∀ k, S a k) : fr S M (ab_rI M a f) :=
  ⟨rfl, rfl, rfl, rfl, fun b j q => if_neg (fun z => q (by rw [z]; exact hs j)), fun _ _ _ => rfl⟩
theorem fr.rL {f : Nat → Int64} (hs : ∀ k, S a k) : fr S M (ab_rL M a f) :=
  ⟨rfl, rfl, rfl, rfl, fun _ _ _ => rfl, fun b j q => if_neg (fun z => q (by rw [z]; exact hs j))⟩
theorem fr.si (h : fr S M M1) (hS : ab_SI M) : ab_SI M1 := by
  obtain ⟨h1, -, h3, h4, -⟩ := h
  unfold ab_SI
  rw [h1, h3, h4]
  exact hS
theorem fr.h (h : fr S M M1) : ab_h M1 = ab_h M := h.2.2.1
theorem fr.R (h : fr S M M1) : ab_R M1 = ab_R M := h.2.2.2.1
theorem fr.ai (h : fr S M M1) (hs : ¬ S a k) : ai M1 a k = ai M a k := congrArg Int32.toInt (h.2.2.2.2.1 a k hs)
theorem fr.al (h : fr S M M1) (hs : ¬ S a k) : al M1 a k = al M a k := congrArg Int64.toInt (h.2.2.2.2.2 a k hs)
theorem qz {Q : Option Value → ab_M → Prop} {x y : Int} (e : x = y) (h : Q (some (.int (zi y))) M) : Q (some (.int (zi x))) M := e ▸ h
theorem ql {Q : Option Value → ab_M → Prop} {x y : Int} (e : x = y) (h : Q (some (.long (zl y))) M) : Q (some (.long (zl x))) M := e ▸ h
theorem qb {Q : Option Value → ab_M → Prop} {p q : Prop} [Decidable p] [Decidable q] (e : p ↔ q) (h : Q (some (.int (ab_b q))) M) : Q (some (.int (ab_b p))) M := by rw [ab_b_c e]; exact h
theorem q1 {Q : Option Value → ab_M → Prop} {p : Prop} [Decidable p] (e : p) (h : Q (some (.int (ab_b p))) M) : Q (some (.int (zi 1))) M := by rw [ab_b_t e] at h; exact h
theorem q0 {Q : Option Value → ab_M → Prop} {p : Prop} [Decidable p] (e : ¬ p) (h : Q (some (.int (ab_b p))) M) : Q (some (.int (zi 0))) M := by rw [ab_b_f e] at h; exact h
/-- a written int -/
theorem zi_wr {x : Int} (h1 : -2147483648 ≤ x) (h2 : x ≤ 2147483647) : (zi x).toInt = x := zi_toInt h1 h2
theorem zi_xor1 {a : Int} (h0 : 0 ≤ a) (h1 : a ≤ 1000) : zi a ^^^ zi 1 = zi (if a % 2 = 0 then a + 1 else a - 1) := by
  have key : ∀ n : Fin 1001, zi (n.val : Int) ^^^ zi 1 = zi (if (n.val : Int) % 2 = 0 then (n.val : Int) + 1 else (n.val : Int) - 1) := by decide +kernel
  have := key ⟨a.toNat, by omega⟩
  have e : ((a.toNat : Nat) : Int) = a := Int.toNat_of_nonneg h0
  simpa only [e] using this
end FR
