theorem sp_can_n {f : Nat → Int} {p h fog : Int} (hs : -1 ≤ sp_span f h) (s : Nat) (a : Int) : sp_can f p s a h fog = -1 ∨ 0 ≤ sp_can f p s a h fog := by
  unfold sp_can sp_leads
  (repeat' split) <;> omega
theorem sp_on_t {B : Int} {f : Nat → Int} (hR : sp_ok B f) {p h fog : Int} {m t : Nat} : (sp_on f p h fog m).testBit t = true ↔ m.testBit t = true ∨ ∃ s a : Nat, s < 9 ∧ m.testBit s = true ∧ 1 ≤ a ∧ a ≤ 6 ∧ sp_can f p s a h fog = t :=
  sp_ons_t (fun s a _ => sp_can_n (sp_span_b hR h).1 s a) 9
theorem sp_on_sp {B : Int} {f : Nat → Int} (hR : sp_ok B f) {p h fog : Int} {m : Nat} (hm : isSp f m) : isSp f (sp_on f p h fog m) := by
  intro t ht
  rcases (sp_on_t hR).mp ht with q | ⟨s, a, h1, h2, h3, h4, h5⟩
  · exact hm t q
  · have := sp_can_b hR (p := p) (s := s) (act := a) (h := h) (fog := fog) (by omega) (by have := hm s h2; omega) (by omega) (by omega)
    omega
theorem sp_g0_t {f : Nat → Int} {p h fog : Int} {m t : Nat} : (sp_g0 f p h fog m).testBit t = true ↔ m.testBit t = true ∨ (2 ≤ t ∧ m.testBit (t - 2) = true ∧ (tU f p (h % f 2) fog).testBit (t - 2) = true) ∨ (m.testBit (t + 2) = true ∧ (tD f p (h % f 2) fog).testBit (t + 2) = true) := by
  unfold sp_g0
  simp only [Nat.testBit_or, Nat.testBit_shiftLeft, Nat.testBit_shiftRight, Nat.testBit_and, Bool.or_eq_true, Bool.and_eq_true, decide_eq_true_iff, or_assoc, ge_iff_le]
  rw [Nat.add_comm 2 t]
theorem tU_t {f : Nat → Int} (hg : 2 ≤ f 1) {p h fog : Int} {s : Nat} : (tU f p h fog).testBit s = true ↔ sp_lb f 0 p (s / 2 : Nat) h fog (s % 2 : Nat) = 1 ∧ ((s / 2 : Nat) : Int) < f 1 - 1 := by
  unfold tU
  rw [bset_t, Bool.and_eq_true, Bool.and_eq_true, decide_eq_true_iff, decide_eq_true_iff, decide_eq_true_iff]
  constructor
  · intro q; exact q.2
  · intro q; exact ⟨by omega, q⟩
theorem tD_t {f : Nat → Int} {p h fog : Int} {s : Nat} : (tD f p h fog).testBit s = true ↔ s < 2 * (f 1).toNat ∧ sp_lb f 0 p (s / 2 : Nat) h fog (s % 2 : Nat) = 1 ∧ 1 < s := by
  unfold tD
  rw [bset_t, Bool.and_eq_true, Bool.and_eq_true, decide_eq_true_iff, decide_eq_true_iff, decide_eq_true_iff]
theorem tS_t {f : Nat → Int} {p h fog : Int} {s : Nat} : (tS f p h fog).testBit s = true ↔ s < (f 1).toNat ∧ sp_lb f 1 p s h fog 0 = 1 := by
  unfold tS
  rw [bset_t, Bool.and_eq_true, decide_eq_true_iff, decide_eq_true_iff]
theorem tb2 {k t : Nat} : (2 ^ k).testBit t = true ↔ k = t := by rw [Nat.testBit_two_pow, decide_eq_true_iff]
/-- the model's way to reckon it is right -/
theorem sp_goes_on {B : Int} {f : Nat → Int} (hR : sp_ok B f) {p h fog : Int} {m : Nat} (hm : isSp f m) : sp_goes f p h fog m = sp_on f p h fog m := by
  have hg := hR.g
  have hs := sp_span_b hR h
  have hl := hR.ll.2
  refine Nat.eq_of_testBit_eq (fun t => ?_)
  rw [Bool.eq_iff_iff, sp_on_t hR]
  -- what the walks give
  have hw : (sp_g0 f p h fog m).testBit t = true ↔ m.testBit t = true ∨ ∃ s a : Nat, s < 9 ∧ m.testBit s = true ∧ 1 ≤ a ∧ a ≤ 2 ∧ sp_can f p s a h fog = t := by
    rw [sp_g0_t, tU_t hg.1, tD_t]
    constructor
    · rintro (q | ⟨q1, q2, q3, q4⟩ | ⟨q1, q2, q3, q4⟩)
      · exact Or.inl q
      · refine Or.inr ⟨t - 2, 1, by have := hm _ q2; omega, q2, by omega, by omega, can_1.mpr ⟨by omega, by omega, q3, by omega⟩⟩
      · exact Or.inr ⟨t + 2, 2, by have := hm _ q1; omega, q1, by omega, by omega, can_2.mpr ⟨by omega, q4, q3, rfl⟩⟩
    · rintro (q | ⟨s, a, h1, h2, h3, h4, h5⟩)
      · exact Or.inl q
      · have ha : a = 1 ∨ a = 2 := by omega
        have hms := hm s h2
        rcases ha with rfl | rfl
        · obtain ⟨c1, c2, c3, c4⟩ := can_1.mp h5
          subst c4
          exact Or.inr (Or.inl ⟨by omega, by simpa using h2, by simpa using c3, by simp; omega⟩)
        · obtain ⟨c1, c2, c3, c4⟩ := can_2.mp h5
          subst c4
          exact Or.inr (Or.inr ⟨h2, by omega, c3, c2⟩)
  -- what the span gives
  have hx : (∃ s a : Nat, s < 9 ∧ m.testBit s = true ∧ 1 ≤ a ∧ a ≤ 6 ∧ sp_can f p s a h fog = t) ↔ (∃ s a : Nat, s < 9 ∧ m.testBit s = true ∧ 1 ≤ a ∧ a ≤ 2 ∧ sp_can f p s a h fog = t) ∨ (∃ s a : Nat, s < 9 ∧ m.testBit s = true ∧ 3 ≤ a ∧ a ≤ 6 ∧ sp_can f p s a h fog = t) := by
    constructor
    · rintro ⟨s, a, h1, h2, h3, h4, h5⟩
      by_cases c : a ≤ 2
      · exact Or.inl ⟨s, a, h1, h2, h3, c, h5⟩
      · exact Or.inr ⟨s, a, h1, h2, by omega, h4, h5⟩
    · rintro (⟨s, a, h1, h2, h3, h4, h5⟩ | ⟨s, a, h1, h2, h3, h4, h5⟩)
      · exact ⟨s, a, h1, h2, h3, by omega, h5⟩
      · exact ⟨s, a, h1, h2, by omega, h4, h5⟩
  rw [hx, ← or_assoc, ← hw]
  have side : ∀ x : Int, sp_lb f 1 p (sp_span f h) (h % f 2) fog x = sp_lb f 1 p (sp_span f h) (h % f 2) fog 0 := fun x => sp_lb_side hl ..
  unfold sp_goes
  by_cases c : sp_span f h = -1 ∨ ¬ (tS f p (h % f 2) fog).testBit (sp_span f h).toNat = true
  · rw [if_pos c]
    refine ⟨Or.inl, fun q => q.elim id ?_⟩
    rintro ⟨s, a, h1, h2, h3, h4, h5⟩
    exfalso
    have ns : sp_span f h = -1 ∨ ¬ sp_lb f 1 p (sp_span f h) (h % f 2) fog 0 = 1 := by
      rcases c with c | c
      · exact Or.inl c
      · by_cases c0 : sp_span f h = -1
        · exact Or.inl c0
        · refine Or.inr (fun q => c (tS_t.mpr ⟨by omega, ?_⟩))
          rw [Int.toNat_of_nonneg (by omega)]; exact q
    have ha : a = 3 ∨ a = 4 ∨ a = 5 + 0 ∨ a = 5 + 1 := by omega
    rcases ha with rfl | rfl | rfl | rfl
    · obtain ⟨q1, q2, q3, -⟩ := can_3.mp h5
      rw [q2, side] at q3
      rcases ns with n | n
      · omega
      · exact n q3
    · obtain ⟨q1, q2, q3, -⟩ := can_4.mp h5
      rw [q2, side] at q3
      rcases ns with n | n
      · omega
      · exact n q3
    · obtain ⟨q1, q2, q3, -⟩ := (can_5 (by omega) hs.1).mp h5
      exact ns.elim q2 (fun n => n q3)
    · obtain ⟨q1, q2, q3, -⟩ := (can_5 (by omega) hs.1).mp h5
      exact ns.elim q2 (fun n => n q3)
  · rw [if_neg c]
    have c0 : ¬ sp_span f h = -1 := fun q => c (Or.inl q)
    have c1 : (tS f p (h % f 2) fog).testBit (sp_span f h).toNat = true := Classical.not_not.mp (fun q => c (Or.inr q))
    have c2 := (tS_t.mp c1).2
    rw [Int.toNat_of_nonneg (by omega)] at c2
    generalize hw' : (sp_span f h).toNat = w at *
    have ew : sp_span f h = w := by omega
    have key : (∃ s a : Nat, s < 9 ∧ m.testBit s = true ∧ 3 ≤ a ∧ a ≤ 6 ∧ sp_can f p s a h fog = t) ↔ (m.testBit (2 * w) = true ∧ (t = 2 * w + 1 ∨ t = 8)) ∨ (m.testBit (2 * w + 1) = true ∧ (t = 2 * w ∨ t = 8)) ∨ (m.testBit 8 = true ∧ (t = 2 * w ∨ t = 2 * w + 1)) := by
      constructor
      · rintro ⟨s, a, h1, h2, h3, h4, h5⟩
        have ha : a = 3 ∨ a = 4 ∨ a = 5 + 0 ∨ a = 5 + 1 := by omega
        rcases ha with rfl | rfl | rfl | rfl
        · obtain ⟨q1, q2, q3, q4⟩ := can_3.mp h5
          have : s = 2 * w ∨ s = 2 * w + 1 := by omega
          rcases this with rfl | rfl
          · exact Or.inl ⟨h2, Or.inl (by rw [q4, if_pos (by omega)])⟩
          · exact Or.inr (Or.inl ⟨h2, Or.inl (by rw [q4, if_neg (by omega)]; omega)⟩)
        · obtain ⟨q1, q2, q3, q4⟩ := can_4.mp h5
          have : s = 2 * w ∨ s = 2 * w + 1 := by omega
          rcases this with rfl | rfl
          · exact Or.inl ⟨h2, Or.inr q4⟩
          · exact Or.inr (Or.inl ⟨h2, Or.inr q4⟩)
        · obtain ⟨q1, q2, q3, q4⟩ := (can_5 (by omega) hs.1).mp h5
          subst q1
          exact Or.inr (Or.inr ⟨h2, Or.inl (by omega)⟩)
        · obtain ⟨q1, q2, q3, q4⟩ := (can_5 (by omega) hs.1).mp h5
          subst q1
          exact Or.inr (Or.inr ⟨h2, Or.inr (by omega)⟩)
      · have l3 : ∀ s : Nat, s = 2 * w ∨ s = 2 * w + 1 → sp_lb f 1 p (s / 2 : Nat) (h % f 2) fog (s % 2 : Nat) = 1 := by
          intro s hsw
          have : ((s / 2 : Nat) : Int) = sp_span f h := by omega
          rw [this, side, c2]
        rintro (⟨q, rfl | rfl⟩ | ⟨q, rfl | rfl⟩ | ⟨q, rfl | rfl⟩)
        · exact ⟨2 * w, 3, by omega, q, by omega, by omega, can_3.mpr ⟨by omega, by omega, l3 _ (by omega), by rw [if_pos (by omega)]⟩⟩
        · exact ⟨2 * w, 4, by omega, q, by omega, by omega, can_4.mpr ⟨by omega, by omega, l3 _ (by omega), rfl⟩⟩
        · exact ⟨2 * w + 1, 3, by omega, q, by omega, by omega, can_3.mpr ⟨by omega, by omega, l3 _ (by omega), by rw [if_neg (by omega)]; omega⟩⟩
        · exact ⟨2 * w + 1, 4, by omega, q, by omega, by omega, can_4.mpr ⟨by omega, by omega, l3 _ (by omega), rfl⟩⟩
        · exact ⟨8, 5 + 0, by omega, q, by omega, by omega, (can_5 (by omega) hs.1).mpr ⟨rfl, c0, c2, by omega⟩⟩
        · exact ⟨8, 5 + 1, by omega, q, by omega, by omega, (can_5 (by omega) hs.1).mpr ⟨rfl, c0, c2, by omega⟩⟩
    rw [key]
    generalize (sp_g0 f p h fog m) = z
    by_cases hz : z.testBit t = true <;> by_cases m1 : m.testBit (2 * w) = true <;> by_cases m2 : m.testBit (2 * w + 1) = true <;> by_cases m3 : m.testBit 8 = true <;>
      simp only [hz, m1, m2, m3, if_true, if_false, Nat.testBit_or, Bool.or_eq_true, tb2, true_and, false_and, or_false, false_or, true_or, Bool.false_eq_true] <;> omega
