/-! ===== calls, by the number of arguments ===== -/
section ABK
variable {own : Nat} {ini : Bool} {K : Nat → List (Option Value) → List Value → ab_M → Prop} {C : Nat → List Value → ab_M → (Option Value → ab_M → Prop) → Prop} {Q : Option Value → ab_M → Prop} {pc : Nat} {L : List (Option Value)} {r : List Value} {M : ab_M} {idx mid a : Nat} {a1 a2 a3 a4 a5 a6 : Value}
theorem ex_is0 (hl : ab_ls own idx = some mid) (hn : ab_ln own idx = some 0) : ab_ex own ini K C Q pc (.invokestatic idx) 3 L (r) M = (ab_sz r ≤ 8 ∧ C mid [] M (fun v M' => K (pc + 3) L (v.toList ++ r) M')) := by simp [ab_ex, hl, hn, ab_call]
theorem ex_ii0 (hl : ab_li own idx = some mid) (hn : ab_ln own idx = some 0) : ab_ex own ini K C Q pc (.invokespecial idx) 3 L (.ref a :: r) M = (ab_sz r ≤ 8 ∧ C mid [.ref a] M (fun v M' => K (pc + 3) L (v.toList ++ r) M')) := by simp [ab_ex, hl, hn, ab_call]
theorem ex_iv0 (hn : ab_ln own idx = some 0) : ab_ex own ini K C Q pc (.invokevirtual idx) 3 L (.ref a :: r) M = (match ab_h M a with
    | some (c, _) => c < 63 ∧ (match ab_lv own idx c with
      | some mid => ab_sz r ≤ 8 ∧ C mid [.ref a] M (fun v M' => K (pc + 3) L (v.toList ++ r) M')
      | none => False)
    | none => (1 ≤ a ∧ a < 26) ∧ (match ab_lt own idx with
      | some mid => ab_sz r ≤ 8 ∧ C mid [.ref a] M (fun v M' => K (pc + 3) L (v.toList ++ r) M')
      | none => False)) := by simp [ab_ex, hn, ab_call]; rfl
theorem ex_is1 (hl : ab_ls own idx = some mid) (hn : ab_ln own idx = some 1) : ab_ex own ini K C Q pc (.invokestatic idx) 3 L (a1 :: r) M = (ab_sz r ≤ 8 ∧ C mid [a1] M (fun v M' => K (pc + 3) L (v.toList ++ r) M')) := by simp [ab_ex, hl, hn, ab_call]
theorem ex_ii1 (hl : ab_li own idx = some mid) (hn : ab_ln own idx = some 1) : ab_ex own ini K C Q pc (.invokespecial idx) 3 L (a1 :: .ref a :: r) M = (ab_sz r ≤ 8 ∧ C mid [.ref a, a1] M (fun v M' => K (pc + 3) L (v.toList ++ r) M')) := by simp [ab_ex, hl, hn, ab_call]
theorem ex_iv1 (hn : ab_ln own idx = some 1) : ab_ex own ini K C Q pc (.invokevirtual idx) 3 L (a1 :: .ref a :: r) M = (match ab_h M a with
    | some (c, _) => c < 63 ∧ (match ab_lv own idx c with
      | some mid => ab_sz r ≤ 8 ∧ C mid [.ref a, a1] M (fun v M' => K (pc + 3) L (v.toList ++ r) M')
      | none => False)
    | none => (1 ≤ a ∧ a < 26) ∧ (match ab_lt own idx with
      | some mid => ab_sz r ≤ 8 ∧ C mid [.ref a, a1] M (fun v M' => K (pc + 3) L (v.toList ++ r) M')
      | none => False)) := by simp [ab_ex, hn, ab_call]; rfl
theorem ex_is2 (hl : ab_ls own idx = some mid) (hn : ab_ln own idx = some 2) : ab_ex own ini K C Q pc (.invokestatic idx) 3 L (a2 :: a1 :: r) M = (ab_sz r ≤ 8 ∧ C mid [a1, a2] M (fun v M' => K (pc + 3) L (v.toList ++ r) M')) := by simp [ab_ex, hl, hn, ab_call]
theorem ex_ii2 (hl : ab_li own idx = some mid) (hn : ab_ln own idx = some 2) : ab_ex own ini K C Q pc (.invokespecial idx) 3 L (a2 :: a1 :: .ref a :: r) M = (ab_sz r ≤ 8 ∧ C mid [.ref a, a1, a2] M (fun v M' => K (pc + 3) L (v.toList ++ r) M')) := by simp [ab_ex, hl, hn, ab_call]
theorem ex_iv2 (hn : ab_ln own idx = some 2) : ab_ex own ini K C Q pc (.invokevirtual idx) 3 L (a2 :: a1 :: .ref a :: r) M = (match ab_h M a with
    | some (c, _) => c < 63 ∧ (match ab_lv own idx c with
      | some mid => ab_sz r ≤ 8 ∧ C mid [.ref a, a1, a2] M (fun v M' => K (pc + 3) L (v.toList ++ r) M')
      | none => False)
    | none => (1 ≤ a ∧ a < 26) ∧ (match ab_lt own idx with
      | some mid => ab_sz r ≤ 8 ∧ C mid [.ref a, a1, a2] M (fun v M' => K (pc + 3) L (v.toList ++ r) M')
      | none => False)) := by simp [ab_ex, hn, ab_call]; rfl
theorem ex_is3 (hl : ab_ls own idx = some mid) (hn : ab_ln own idx = some 3) : ab_ex own ini K C Q pc (.invokestatic idx) 3 L (a3 :: a2 :: a1 :: r) M = (ab_sz r ≤ 8 ∧ C mid [a1, a2, a3] M (fun v M' => K (pc + 3) L (v.toList ++ r) M')) := by simp [ab_ex, hl, hn, ab_call]
theorem ex_ii3 (hl : ab_li own idx = some mid) (hn : ab_ln own idx = some 3) : ab_ex own ini K C Q pc (.invokespecial idx) 3 L (a3 :: a2 :: a1 :: .ref a :: r) M = (ab_sz r ≤ 8 ∧ C mid [.ref a, a1, a2, a3] M (fun v M' => K (pc + 3) L (v.toList ++ r) M')) := by simp [ab_ex, hl, hn, ab_call]
theorem ex_iv3 (hn : ab_ln own idx = some 3) : ab_ex own ini K C Q pc (.invokevirtual idx) 3 L (a3 :: a2 :: a1 :: .ref a :: r) M = (match ab_h M a with
    | some (c, _) => c < 63 ∧ (match ab_lv own idx c with
      | some mid => ab_sz r ≤ 8 ∧ C mid [.ref a, a1, a2, a3] M (fun v M' => K (pc + 3) L (v.toList ++ r) M')
      | none => False)
    | none => (1 ≤ a ∧ a < 26) ∧ (match ab_lt own idx with
      | some mid => ab_sz r ≤ 8 ∧ C mid [.ref a, a1, a2, a3] M (fun v M' => K (pc + 3) L (v.toList ++ r) M')
      | none => False)) := by simp [ab_ex, hn, ab_call]; rfl
theorem ex_is4 (hl : ab_ls own idx = some mid) (hn : ab_ln own idx = some 4) : ab_ex own ini K C Q pc (.invokestatic idx) 3 L (a4 :: a3 :: a2 :: a1 :: r) M = (ab_sz r ≤ 8 ∧ C mid [a1, a2, a3, a4] M (fun v M' => K (pc + 3) L (v.toList ++ r) M')) := by simp [ab_ex, hl, hn, ab_call]
theorem ex_ii4 (hl : ab_li own idx = some mid) (hn : ab_ln own idx = some 4) : ab_ex own ini K C Q pc (.invokespecial idx) 3 L (a4 :: a3 :: a2 :: a1 :: .ref a :: r) M = (ab_sz r ≤ 8 ∧ C mid [.ref a, a1, a2, a3, a4] M (fun v M' => K (pc + 3) L (v.toList ++ r) M')) := by simp [ab_ex, hl, hn, ab_call]
theorem ex_iv4 (hn : ab_ln own idx = some 4) : ab_ex own ini K C Q pc (.invokevirtual idx) 3 L (a4 :: a3 :: a2 :: a1 :: .ref a :: r) M = (match ab_h M a with
    | some (c, _) => c < 63 ∧ (match ab_lv own idx c with
      | some mid => ab_sz r ≤ 8 ∧ C mid [.ref a, a1, a2, a3, a4] M (fun v M' => K (pc + 3) L (v.toList ++ r) M')
      | none => False)
    | none => (1 ≤ a ∧ a < 26) ∧ (match ab_lt own idx with
      | some mid => ab_sz r ≤ 8 ∧ C mid [.ref a, a1, a2, a3, a4] M (fun v M' => K (pc + 3) L (v.toList ++ r) M')
      | none => False)) := by simp [ab_ex, hn, ab_call]; rfl
theorem ex_is5 (hl : ab_ls own idx = some mid) (hn : ab_ln own idx = some 5) : ab_ex own ini K C Q pc (.invokestatic idx) 3 L (a5 :: a4 :: a3 :: a2 :: a1 :: r) M = (ab_sz r ≤ 8 ∧ C mid [a1, a2, a3, a4, a5] M (fun v M' => K (pc + 3) L (v.toList ++ r) M')) := by simp [ab_ex, hl, hn, ab_call]
theorem ex_ii5 (hl : ab_li own idx = some mid) (hn : ab_ln own idx = some 5) : ab_ex own ini K C Q pc (.invokespecial idx) 3 L (a5 :: a4 :: a3 :: a2 :: a1 :: .ref a :: r) M = (ab_sz r ≤ 8 ∧ C mid [.ref a, a1, a2, a3, a4, a5] M (fun v M' => K (pc + 3) L (v.toList ++ r) M')) := by simp [ab_ex, hl, hn, ab_call]
theorem ex_iv5 (hn : ab_ln own idx = some 5) : ab_ex own ini K C Q pc (.invokevirtual idx) 3 L (a5 :: a4 :: a3 :: a2 :: a1 :: .ref a :: r) M = (match ab_h M a with
    | some (c, _) => c < 63 ∧ (match ab_lv own idx c with
      | some mid => ab_sz r ≤ 8 ∧ C mid [.ref a, a1, a2, a3, a4, a5] M (fun v M' => K (pc + 3) L (v.toList ++ r) M')
      | none => False)
    | none => (1 ≤ a ∧ a < 26) ∧ (match ab_lt own idx with
      | some mid => ab_sz r ≤ 8 ∧ C mid [.ref a, a1, a2, a3, a4, a5] M (fun v M' => K (pc + 3) L (v.toList ++ r) M')
      | none => False)) := by simp [ab_ex, hn, ab_call]; rfl
theorem ex_is6 (hl : ab_ls own idx = some mid) (hn : ab_ln own idx = some 6) : ab_ex own ini K C Q pc (.invokestatic idx) 3 L (a6 :: a5 :: a4 :: a3 :: a2 :: a1 :: r) M = (ab_sz r ≤ 8 ∧ C mid [a1, a2, a3, a4, a5, a6] M (fun v M' => K (pc + 3) L (v.toList ++ r) M')) := by simp [ab_ex, hl, hn, ab_call]
theorem ex_ii6 (hl : ab_li own idx = some mid) (hn : ab_ln own idx = some 6) : ab_ex own ini K C Q pc (.invokespecial idx) 3 L (a6 :: a5 :: a4 :: a3 :: a2 :: a1 :: .ref a :: r) M = (ab_sz r ≤ 8 ∧ C mid [.ref a, a1, a2, a3, a4, a5, a6] M (fun v M' => K (pc + 3) L (v.toList ++ r) M')) := by simp [ab_ex, hl, hn, ab_call]
theorem ex_iv6 (hn : ab_ln own idx = some 6) : ab_ex own ini K C Q pc (.invokevirtual idx) 3 L (a6 :: a5 :: a4 :: a3 :: a2 :: a1 :: .ref a :: r) M = (match ab_h M a with
    | some (c, _) => c < 63 ∧ (match ab_lv own idx c with
      | some mid => ab_sz r ≤ 8 ∧ C mid [.ref a, a1, a2, a3, a4, a5, a6] M (fun v M' => K (pc + 3) L (v.toList ++ r) M')
      | none => False)
    | none => (1 ≤ a ∧ a < 26) ∧ (match ab_lt own idx with
      | some mid => ab_sz r ≤ 8 ∧ C mid [.ref a, a1, a2, a3, a4, a5, a6] M (fun v M' => K (pc + 3) L (v.toList ++ r) M')
      | none => False)) := by simp [ab_ex, hn, ab_call]; rfl
theorem ex_io (hl : ab_lo own idx = some 0) (h1 : ab_li own idx = none) : ab_ex own ini K C Q pc (.invokespecial idx) 3 L (.ref a :: r) M = (ab_sz r ≤ 8 ∧ K (pc + 3) L r M) := by simp [ab_ex, hl, h1]
theorem ex_ac {b : Nat} {len dp sp : Int32} (hl : ab_lc own idx = some 0) (h1 : ab_ls own idx = none) : ab_ex own ini K C Q pc (.invokestatic idx) 3 L (.int len :: .int dp :: .ref a :: .int sp :: .ref b :: r) M = (ab_sz r ≤ 8 ∧ ¬ sp < 0 ∧ ¬ dp < 0 ∧ ¬ len < 0 ∧ (match ab_h M b, ab_h M a with
    | some (c0, n0), some (c1, n1) => sp.toNatClampNeg + len.toNatClampNeg ≤ n0 ∧ dp.toNatClampNeg + len.toNatClampNeg ≤ n1 ∧ c0 = c1 ∧
      (if c0 = 64 then K (pc + 3) L r (ab_rI M a (va_cpy (ab_I M b) (ab_I M a) sp.toNatClampNeg dp.toNatClampNeg len.toNatClampNeg))
       else c0 = 68 ∧ K (pc + 3) L r (ab_rL M a (va_cpy (ab_L M b) (ab_L M a) sp.toNatClampNeg dp.toNatClampNeg len.toNatClampNeg)))
    | _, _ => False)) := by
  have : ab_ex own ini K C Q pc (.invokestatic idx) 3 L (.int len :: .int dp :: .ref a :: .int sp :: .ref b :: r) M = (3 = 3 ∧ (match ab_ls own idx, ab_ln own idx with
    | some mid, some na => na ≤ (Value.int len :: .int dp :: .ref a :: .int sp :: .ref b :: r).length ∧ ab_call C mid ((Value.int len :: .int dp :: .ref a :: .int sp :: .ref b :: r).take na).reverse ((Value.int len :: .int dp :: .ref a :: .int sp :: .ref b :: r).drop na) M (fun st' M' => K (pc + 3) L st' M')
    | _, _ => (ab_lc own idx = some 0 ∧ (ab_sz r ≤ 8 ∧ ¬ sp < 0 ∧ ¬ dp < 0 ∧ ¬ len < 0 ∧ (match ab_h M b, ab_h M a with
        | some (c0, n0), some (c1, n1) => sp.toNatClampNeg + len.toNatClampNeg ≤ n0 ∧ dp.toNatClampNeg + len.toNatClampNeg ≤ n1 ∧ c0 = c1 ∧
          (if c0 = 64 then K (pc + 3) L r (ab_rI M a (va_cpy (ab_I M b) (ab_I M a) sp.toNatClampNeg dp.toNatClampNeg len.toNatClampNeg))
           else c0 = 68 ∧ K (pc + 3) L r (ab_rL M a (va_cpy (ab_L M b) (ab_L M a) sp.toNatClampNeg dp.toNatClampNeg len.toNatClampNeg)))
        | _, _ => False))))) := rfl
  rw [this, h1, hl]
  simp only [true_and]
end ABK
