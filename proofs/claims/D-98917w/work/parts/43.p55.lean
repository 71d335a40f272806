theorem sp_od_b (f : Nat → Int) (p : Int) (v : Nat → Int) : ∀ n k st, -1 ≤ sp_od f p v n k st ∧ sp_od f p v n k st < (k + n : Nat)
  | 0, k, st => by unfold sp_od; omega
  | n + 1, k, st => by
    have a1 := sp_od_b f p v n (k + 1) (st.map (sp_on f p (f 26 + (k - 1 : Nat)) (sp_fog f (k - 1 : Nat))))
    have a2 := sp_od_b f p v n (k + 1) (some (2 ^ (v k).toNat))
    unfold sp_od
    simp only
    split
    · omega
    · split
      · split <;> omega
      · split <;> omega
theorem pop_cnt (m : Nat) : cnt (fun j => m.testBit j) 9 = pop m := by
  unfold pop
  have key : ∀ n, cnt (fun j => m.testBit j) n = ((List.range n).countP (fun k => m.testBit k) : Nat) := by
    intro n
    induction n with
    | zero => rfl
    | succ n ih =>
      unfold cnt
      rw [ih, List.range_succ, List.countP_append, List.countP_singleton]
      split <;> simp
  exact key 9
