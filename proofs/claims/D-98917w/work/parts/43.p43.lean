/-! ===== sets told by a truth for each place ===== -/
def bset (P : Nat → Bool) : Nat → Nat
  | 0 => 0
  | n + 1 => if P n then sb (bset P n) n else bset P n
theorem bset_t (P : Nat → Bool) (t : Nat) : ∀ n, (bset P n).testBit t = (decide (t < n) && P t)
  | 0 => by simp [bset]
  | n + 1 => by
    have ih := bset_t P t n
    unfold bset
    by_cases e : t = n
    · subst e
      split
      · rename_i c
        rw [sb_t]
        simp [c]
      · rename_i c
        rw [ih]
        simp at c
        simp [c]
    · have h1 : decide (t < n + 1) = decide (t < n) := by
        by_cases h : t < n
        · rw [decide_eq_true h, decide_eq_true (by omega)]
        · rw [decide_eq_false h, decide_eq_false (by omega)]
      rw [h1, ← ih]
      split
      · rw [sb_t, decide_eq_false (fun q => e q.symm), Bool.or_false]
      · rfl
theorem bset_lt (P : Nat → Bool) : ∀ n, bset P n < 2 ^ n
  | 0 => by simp [bset]
  | n + 1 => by
    have ih := bset_lt P n
    have h2 : 2 ^ n < 2 ^ (n + 1) := Nat.pow_lt_pow_right (by decide) (by omega)
    unfold bset
    split
    · exact Nat.or_lt_two_pow (Nat.lt_trans ih h2) h2
    · exact Nat.lt_trans ih h2
theorem bset_c {P P' : Nat → Bool} {n : Nat} (h : ∀ k, k < n → P k = P' k) : bset P n = bset P' n := by
  refine Nat.eq_of_testBit_eq (fun t => ?_)
  rw [bset_t, bset_t]
  by_cases c : t < n
  · rw [h t c]
  · simp [c]
theorem bset_le (P : Nat → Bool) {n k : Nat} (h : n ≤ k) : bset P n < 2 ^ k := Nat.lt_of_lt_of_le (bset_lt P n) (Nat.pow_le_pow_right (by decide) h)
/-- sets of spots -/
def isSp (f : Nat → Int) (m : Nat) : Prop := ∀ t, m.testBit t = true → (t : Int) < 2 * f 1 ∨ t = 8
theorem lt512 {m : Nat} (h : ∀ t, m.testBit t = true → t < 9) : m < 512 := by
  refine Nat.lt_of_not_le (fun q => ?_)
  obtain ⟨i, h1, h2⟩ := Nat.exists_ge_and_testBit_of_ge_two_pow (n := 9) q
  have := h i h2
  omega
theorem isSp.lt {f : Nat → Int} {m : Nat} (h : isSp f m) (hg : f 1 ≤ 4) : m < 512 := lt512 (fun t q => by have := h t q; omega)
theorem isSp_1 {f : Nat → Int} {s : Nat} (h : (s : Int) < 2 * f 1 ∨ s = 8) : isSp f (2 ^ s) := by
  intro t q
  rw [Nat.testBit_two_pow, decide_eq_true_iff] at q
  omega
/-- an act that can be -/
theorem sp_can_b {B : Int} {f : Nat → Int} (hR : sp_ok B f) {p s act h fog : Int} (s0 : 0 ≤ s) (s1 : s < 2 * f 1 ∨ s = 8) (a0 : 0 ≤ act) (a1 : act ≤ 6) : sp_can f p s act h fog = -1 ∨ (0 ≤ sp_can f p s act h fog ∧ (sp_can f p s act h fog < 2 * f 1 ∨ sp_can f p s act h fog = 8)) := by
  have hs := sp_span_b hR h
  have hb := sp_leads_b s0 s1 a0 a1 hs.1 hs.2 hR.g
  unfold sp_can
  split
  · omega
  · exact Or.inl rfl
noncomputable def tU (f : Nat → Int) (p h fog : Int) : Nat := bset (fun s => decide (sp_lb f 0 p (s / 2 : Nat) h fog (s % 2 : Nat) = 1) && decide (((s / 2 : Nat) : Int) < f 1 - 1)) (2 * (f 1).toNat)
noncomputable def tD (f : Nat → Int) (p h fog : Int) : Nat := bset (fun s => decide (sp_lb f 0 p (s / 2 : Nat) h fog (s % 2 : Nat) = 1) && decide (1 < s)) (2 * (f 1).toNat)
noncomputable def tS (f : Nat → Int) (p h fog : Int) : Nat := bset (fun s => decide (sp_lb f 1 p s h fog 0 = 1)) (f 1).toNat
/-- as the model reckons it -/
noncomputable def sp_g0 (f : Nat → Int) (p h fog : Int) (m : Nat) : Nat := m ||| ((m &&& tU f p (h % f 2) fog) <<< 2) ||| ((m &&& tD f p (h % f 2) fog) >>> 2)
noncomputable def sp_goes (f : Nat → Int) (p h fog : Int) (m : Nat) : Nat :=
  if sp_span f h = -1 ∨ ¬ (tS f p (h % f 2) fog).testBit (sp_span f h).toNat = true then sp_g0 f p h fog m else
  let w := 2 * (sp_span f h).toNat
  let a := if m.testBit w then sp_g0 f p h fog m ||| (2 ^ (w + 1) ||| 2 ^ 8) else sp_g0 f p h fog m
  let b := if m.testBit (w + 1) then a ||| (2 ^ w ||| 2 ^ 8) else a
  if m.testBit 8 then b ||| (2 ^ w ||| 2 ^ (w + 1)) else b
theorem can_1 {f : Nat → Int} {p h fog : Int} {s : Nat} {t : Nat} : sp_can f p s 1 h fog = t ↔ s ≠ 8 ∧ ((s / 2 : Nat) : Int) ≠ f 1 - 1 ∧ sp_lb f 0 p (s / 2 : Nat) (h % f 2) fog (s % 2 : Nat) = 1 ∧ t = s + 2 := by
  unfold sp_can sp_why sp_leads sp_gap
  by_cases c1 : s = 8
  · subst c1; simp <;> omega
  · have c1' : ¬ (s : Int) = 8 := by omega
    by_cases c2 : ((s / 2 : Nat) : Int) = f 1 - 1
    · have c2' : (s : Int) / 2 = f 1 - 1 := by omega
      simp [c1', c2', c2] <;> omega
    · have c2' : ¬ (s : Int) / 2 = f 1 - 1 := by omega
      have c3 : ¬ (s : Int) + 2 = -1 := by omega
      by_cases c4 : sp_lb f 0 p (s / 2 : Nat) (h % f 2) fog (s % 2 : Nat) = 1
      · have c4' : sp_lb f 0 p ((s : Int) / 2) (h % f 2) fog ((s : Int) % 2) = 1 := by simpa using c4
        simp [c1', c2', c3, c4', c1, c2] <;> omega
      · have c4' : ¬ sp_lb f 0 p ((s : Int) / 2) (h % f 2) fog ((s : Int) % 2) = 1 := by simpa using c4
        simp [c1', c2', c3, c4'] <;> omega
theorem can_2 {f : Nat → Int} {p h fog : Int} {s : Nat} {t : Nat} : sp_can f p s 2 h fog = t ↔ s ≠ 8 ∧ 1 < s ∧ sp_lb f 0 p (s / 2 : Nat) (h % f 2) fog (s % 2 : Nat) = 1 ∧ s = t + 2 := by
  unfold sp_can sp_why sp_leads sp_gap
  by_cases c1 : s = 8
  · subst c1; simp <;> omega
  · have c1' : ¬ (s : Int) = 8 := by omega
    by_cases c2 : s < 2
    · have c2' : (s : Int) < 2 := by omega
      simp [c1', c2'] <;> omega
    · have c2' : ¬ (s : Int) < 2 := by omega
      have c3 : ¬ (s : Int) - 2 = -1 := by omega
      by_cases c4 : sp_lb f 0 p (s / 2 : Nat) (h % f 2) fog (s % 2 : Nat) = 1
      · have c4' : sp_lb f 0 p ((s : Int) / 2) (h % f 2) fog ((s : Int) % 2) = 1 := by simpa using c4
        simp [c1', c2', c3, c4', c1] <;> omega
      · have c4' : ¬ sp_lb f 0 p ((s : Int) / 2) (h % f 2) fog ((s : Int) % 2) = 1 := by simpa using c4
        simp [c1', c2', c3, c4'] <;> omega
theorem can_3 {f : Nat → Int} {p h fog : Int} {s : Nat} {t : Nat} : sp_can f p s 3 h fog = t ↔ s ≠ 8 ∧ ((s / 2 : Nat) : Int) = sp_span f h ∧ sp_lb f 1 p (s / 2 : Nat) (h % f 2) fog (s % 2 : Nat) = 1 ∧ t = (if s % 2 = 0 then s + 1 else s - 1) := by
  unfold sp_can sp_why sp_leads sp_gap
  by_cases c1 : s = 8
  · subst c1; simp <;> omega
  · have c1' : ¬ (s : Int) = 8 := by omega
    by_cases c2 : ((s / 2 : Nat) : Int) = sp_span f h
    · have c2' : (s : Int) / 2 = sp_span f h := by omega
      have c3 : ¬ (if (s : Int) % 2 = 0 then (s : Int) + 1 else (s : Int) - 1) = -1 := by split <;> omega
      by_cases c4 : sp_lb f 1 p (s / 2 : Nat) (h % f 2) fog (s % 2 : Nat) = 1
      · have c4' : sp_lb f 1 p ((s : Int) / 2) (h % f 2) fog ((s : Int) % 2) = 1 := by simpa using c4
        have c2'' : (s : Int) / 2 = sp_span f h := c2'
        simp only [c1', ← c2', c3, c4', c1, c2, ← c2]
        simp
        simp [c4']
        (repeat' split) <;> omega
      · have c4' : ¬ sp_lb f 1 p ((s : Int) / 2) (h % f 2) fog ((s : Int) % 2) = 1 := by simpa using c4
        simp only [c1', ← c2', c3, c4', c1, c2, ← c2]
        simp
        simp [c4'] <;> omega
    · have c2' : ¬ (s : Int) / 2 = sp_span f h := by omega
      simp [c1', c2', c2] <;> omega
theorem can_4 {f : Nat → Int} {p h fog : Int} {s : Nat} {t : Nat} : sp_can f p s 4 h fog = t ↔ s ≠ 8 ∧ ((s / 2 : Nat) : Int) = sp_span f h ∧ sp_lb f 1 p (s / 2 : Nat) (h % f 2) fog (s % 2 : Nat) = 1 ∧ t = 8 := by
  unfold sp_can sp_why sp_leads sp_gap
  by_cases c1 : s = 8
  · subst c1; simp <;> omega
  · have c1' : ¬ (s : Int) = 8 := by omega
    by_cases c2 : ((s / 2 : Nat) : Int) = sp_span f h
    · have c2' : (s : Int) / 2 = sp_span f h := by omega
      by_cases c4 : sp_lb f 1 p (s / 2 : Nat) (h % f 2) fog (s % 2 : Nat) = 1
      · have c4' : sp_lb f 1 p ((s : Int) / 2) (h % f 2) fog ((s : Int) % 2) = 1 := by simpa using c4
        simp only [c1', ← c2', c4', c1, c2, ← c2]
        simp
        simp [c4'] <;> omega
      · have c4' : ¬ sp_lb f 1 p ((s : Int) / 2) (h % f 2) fog ((s : Int) % 2) = 1 := by simpa using c4
        simp only [c1', ← c2', c4', c1, c2, ← c2]
        simp
        simp [c4'] <;> omega
    · have c2' : ¬ (s : Int) / 2 = sp_span f h := by omega
      simp [c1', c2', c2] <;> omega
theorem can_5 {f : Nat → Int} {p h fog : Int} {s : Nat} {a : Nat} (ha : a < 2) {t : Nat} (hsp : -1 ≤ sp_span f h) : sp_can f p s ((5 + a : Nat) : Int) h fog = t ↔ s = 8 ∧ sp_span f h ≠ -1 ∧ sp_lb f 1 p (sp_span f h) (h % f 2) fog 0 = 1 ∧ t = 2 * (sp_span f h).toNat + a := by
  unfold sp_can sp_why sp_leads sp_gap
  have a1 : ¬ ((5 + a : Nat) : Int) = 0 := by omega
  have a2 : ¬ ((5 + a : Nat) : Int) < 5 := by omega
  have a3 : ¬ ((5 + a : Nat) : Int) < 3 := by omega
  have a4 : ¬ ((5 + a : Nat) : Int) = 1 := by omega
  have a5 : ¬ ((5 + a : Nat) : Int) = 2 := by omega
  have a6 : 4 < ((5 + a : Nat) : Int) := by omega
  by_cases c1 : s = 8
  · subst c1
    have c1' : ((8 : Nat) : Int) = 8 := rfl
    have cm : ((8 : Nat) : Int) % 2 = 0 := rfl
    by_cases c2 : sp_span f h = -1
    · simp only [a1, a2, a3, c1', c2]; simp <;> omega
    · have c3 : ¬ 2 * sp_span f h + ((5 + a : Nat) : Int) - 5 = -1 := by omega
      by_cases c4 : sp_lb f 1 p (sp_span f h) (h % f 2) fog 0 = 1
      · simp only [a1, a2, a3, c1', cm, c2, c3, c4, if_true, if_false, or_self]
        simp <;> omega
      · simp only [a1, a2, a3, c1', cm, c2, c3, c4, if_true, if_false, or_self]
        simp <;> omega
  · have c1' : ¬ (s : Int) = 8 := by omega
    simp only [a1, a4, a5, a6, c1', if_false, true_or, if_true]
    simp <;> omega
