/-! ===== a way ===== -/
noncomputable def sp_gd (f : Nat → Int) (p : Int) (spot many : Nat) : Nat → Nat
  | 0 => 2 ^ spot
  | j + 1 => bset (fun s => decide (sp_isp f s) && decide (sp_on f p (f 26 + (many - (j + 1) : Nat)) (sp_fog f (many - (j + 1) : Nat)) (2 ^ s) &&& sp_gd f p spot many j ≠ 0)) 9
/-- from which spots the way goes on, at an hour -/
noncomputable def sp_good (f : Nat → Int) (p : Int) (spot many i : Nat) : Nat := sp_gd f p spot many (many - i)
theorem sp_good_e (f : Nat → Int) (p : Int) (spot many : Nat) : sp_good f p spot many many = 2 ^ spot := by
  unfold sp_good
  rw [Nat.sub_self]
  rfl
theorem sp_good_s (f : Nat → Int) (p : Int) (spot : Nat) {many i : Nat} (h : i < many) : sp_good f p spot many i = bset (fun s => decide (sp_isp f s) && decide (sp_on f p (f 26 + (i : Nat)) (sp_fog f (i : Nat)) (2 ^ s) &&& sp_good f p spot many (i + 1) ≠ 0)) 9 := by
  unfold sp_good
  obtain ⟨j, hj⟩ : ∃ j, many - i = j + 1 := ⟨many - i - 1, by omega⟩
  have e1 : many - (i + 1) = j := by omega
  have e2 : many - (j + 1) = i := by omega
  rw [hj, e1]
  show bset _ 9 = _
  rw [e2]
theorem sp_good_lt {f : Nat → Int} {p : Int} {spot many i : Nat} (hs : spot < 9) (h : i ≤ many) : sp_good f p spot many i < 512 := by
  by_cases e : i = many
  · subst e
    rw [sp_good_e]
    have h2 : 2 ^ spot < 2 ^ 9 := Nat.pow_lt_pow_right (show 1 < 2 by decide) hs
    exact h2
  · rw [sp_good_s _ _ _ (by omega)]
    exact bset_le _ (n := 9) (k := 9) (by omega)
theorem and_ne {m n : Nat} : m &&& n ≠ 0 ↔ ∃ t, m.testBit t = true ∧ n.testBit t = true := by
  constructor
  · intro h
    obtain ⟨t, ht⟩ := Nat.exists_testBit_of_ne_zero h
    rw [Nat.testBit_and, Bool.and_eq_true] at ht
    exact ⟨t, ht⟩
  · rintro ⟨t, h1, h2⟩ h
    have : (m &&& n).testBit t = true := by rw [Nat.testBit_and, h1, h2]; rfl
    rw [h, Nat.zero_testBit] at this
    cases this
theorem sp_good_t {f : Nat → Int} {p : Int} {spot many i s : Nat} (h : i < many) : (sp_good f p spot many i).testBit s = true ↔ s < 9 ∧ sp_isp f s ∧ ∃ t, (sp_on f p (f 26 + (i : Nat)) (sp_fog f (i : Nat)) (2 ^ s)).testBit t = true ∧ (sp_good f p spot many (i + 1)).testBit t = true := by
  rw [sp_good_s _ _ _ h, bset_t, Bool.and_eq_true, Bool.and_eq_true, decide_eq_true_iff, decide_eq_true_iff, decide_eq_true_iff, and_ne]
/-- some spot where one can be is one from which the way goes on -/
theorem sp_good_rc {B : Int} {f : Nat → Int} (hR : sp_ok B f) {p : Int} {s spot many : Nat} (hs : (s : Int) < 2 * f 1 ∨ s = 8) (h : (sp_rc f p 0 (2 ^ s) many).testBit spot = true) : ∀ j i, i + j = many → ∃ t, (sp_rc f p 0 (2 ^ s) i).testBit t = true ∧ (sp_good f p spot many i).testBit t = true
  | 0, i, e => by
    have e : i = many := by omega
    subst e
    exact ⟨spot, h, by rw [sp_good_e]; exact tb2.mpr rfl⟩
  | j + 1, i, e => by
    obtain ⟨t, h1, h2⟩ := sp_good_rc hR hs h j (i + 1) (by omega)
    have hi := sp_rc_sp hR (p := p) (later := 0) (isSp_1 hs) i
    obtain ⟨u, h3, h4⟩ := sp_on_1 hR hi (show (sp_on f p (f 26 + (0 + i : Nat)) (sp_fog f (0 + i : Nat)) (sp_rc f p 0 (2 ^ s) i)).testBit t = true from h1)
    rw [Nat.zero_add] at h4
    have hu := hi u h3
    have hg := hR.g
    exact ⟨u, h3, (sp_good_t (by omega)).mpr ⟨by omega, by unfold sp_isp; omega, t, h4, h2⟩⟩
/-- the first act that goes on -/
noncomputable def sp_ac (f : Nat → Int) (p h fog : Int) (s G : Nat) : Int := fst1 (fun a => decide (sp_can f p s a h fog ≠ -1) && G.testBit (sp_can f p s a h fog).toNat) 7 0
noncomputable def sp_pos (f : Nat → Int) (p : Nat) (spot many : Nat) : Nat → Nat
  | 0 => sp_s f p
  | i + 1 => (sp_can f p (sp_pos f p spot many i) (sp_ac f p (f 26 + (i : Nat)) (sp_fog f (i : Nat)) (sp_pos f p spot many i) (sp_good f p spot many (i + 1))) (f 26 + (i : Nat)) (sp_fog f (i : Nat))).toNat
/-- the acts of a way -/
noncomputable def sp_wa (f : Nat → Int) (p : Nat) (spot many i : Nat) : Int := sp_ac f p (f 26 + (i : Nat)) (sp_fog f (i : Nat)) (sp_pos f p spot many i) (sp_good f p spot many (i + 1))
theorem sp_can_0 {f : Nat → Int} {p s h fog : Int} : sp_can f p s 0 h fog = s := by
  unfold sp_can sp_why sp_leads
  simp
theorem sp_ac_ok {B : Int} {f : Nat → Int} (hR : sp_ok B f) {p h fog : Int} {s G : Nat} (hs : ∃ t, (sp_on f p h fog (2 ^ s)).testBit t = true ∧ G.testBit t = true) (hs9 : (s : Int) < 2 * f 1 ∨ s = 8) : ∃ a t : Nat, sp_ac f p h fog s G = a ∧ a ≤ 6 ∧ sp_can f p s a h fog = t ∧ G.testBit t = true ∧ ((t : Int) < 2 * f 1 ∨ t = 8) ∧ ∀ i : Nat, i < a → sp_can f p s i h fog = -1 ∨ ¬ G.testBit (sp_can f p s i h fog).toNat = true := by
  unfold sp_ac
  rcases fst1_ok (P := fun a => decide (sp_can f p s (a : Nat) h fog ≠ -1) && G.testBit (sp_can f p s (a : Nat) h fog).toNat) (n := 7) (k := 0) with e | ⟨a, e1, e2, e3, e4, e5⟩
  · exfalso
    obtain ⟨t, h1, h2⟩ := hs
    have hno := fst1_no e
    rcases (sp_on_t hR).mp h1 with q | ⟨s', a, q1, q2, q3, q4, q5⟩
    · have := tb2.mp q
      subst this
      have := hno 0 (by omega) (by omega)
      have e0 : sp_can f p s ((0 : Nat) : Int) h fog = s := sp_can_0
      simp only [e0] at this
      have hd : decide (¬ ((s : Nat) : Int) = -1) = true := by rw [decide_eq_true_iff]; omega
      simp only [ne_eq, hd, Int.toNat_natCast, h2] at this
      cases this
    · have := tb2.mp q2
      subst this
      have := hno a (by omega) (by omega)
      simp only [q5] at this
      have hd : decide (¬ ((t : Nat) : Int) = -1) = true := by rw [decide_eq_true_iff]; omega
      simp only [ne_eq, hd, Int.toNat_natCast, h2] at this
      cases this
  · rw [Bool.and_eq_true, decide_eq_true_iff] at e4
    have hb := sp_can_b hR (p := p) (s := s) (act := a) (h := h) (fog := fog) (by omega) (by omega) (by omega) (by omega)
    refine ⟨a, (sp_can f p s a h fog).toNat, e1, by omega, by omega, e4.2, by omega, fun i hi => ?_⟩
    have := e5 i (by omega) hi
    rw [Bool.and_eq_false_iff, decide_eq_false_iff_not] at this
    rcases this with q | q
    · exact Or.inl (Classical.not_not.mp q)
    · exact Or.inr (by rw [q]; simp)
theorem sp_pos_ok {B : Int} {f : Nat → Int} (hR : sp_ok B f) {p : Nat} (hp : p < 5) {spot many : Nat} (hm : sp_hto f p (sp_s f p) spot 0 = many) : ∀ i, i ≤ many → (sp_good f p spot many i).testBit (sp_pos f p spot many i) = true ∧ ((sp_pos f p spot many i : Int) < 2 * f 1 ∨ sp_pos f p spot many i = 8)
  | 0, _ => by
    have hs := sp_s_e hR hp
    have hm' : (sp_rc f p 0 (2 ^ sp_s f p) many).testBit spot = true := by
      unfold sp_hto at hm
      rcases fst1_ok (P := fun n => (sp_rc f p 0 (2 ^ sp_s f p) n).testBit spot) (n := 61) (k := 0) with e | ⟨j, e1, e2, e3, e4, e5⟩
      · omega
      · have : j = many := by omega
        subst this
        exact e4
    obtain ⟨t, h1, h2⟩ := sp_good_rc hR hs.2 hm' many 0 (by omega)
    have := tb2.mp h1
    subst this
    exact ⟨h2, hs.2⟩
  | i + 1, hi => by
    obtain ⟨h1, h2⟩ := sp_pos_ok hR hp hm i (by omega)
    obtain ⟨-, -, hx⟩ := (sp_good_t (by omega)).mp h1
    obtain ⟨a, t, c1, c2, c3, c4, c5, c6⟩ := sp_ac_ok hR hx h2
    have e : sp_pos f p spot many (i + 1) = t := by
      unfold sp_pos
      rw [c1, c3, Int.toNat_natCast]
    rw [e]
    exact ⟨c4, c5⟩
theorem sp_wa_ok {B : Int} {f : Nat → Int} (hR : sp_ok B f) {p : Nat} (hp : p < 5) {spot many : Nat} (hm : sp_hto f p (sp_s f p) spot 0 = many) {i : Nat} (hi : i < many) : ∃ a : Nat, sp_wa f p spot many i = a ∧ a ≤ 6 ∧ sp_can f p (sp_pos f p spot many i) a (f 26 + (i : Nat)) (sp_fog f (i : Nat)) = sp_pos f p spot many (i + 1) ∧ (sp_good f p spot many (i + 1)).testBit (sp_pos f p spot many (i + 1)) = true ∧ ∀ j : Nat, j < a → sp_can f p (sp_pos f p spot many i) j (f 26 + (i : Nat)) (sp_fog f (i : Nat)) = -1 ∨ ¬ (sp_good f p spot many (i + 1)).testBit (sp_can f p (sp_pos f p spot many i) j (f 26 + (i : Nat)) (sp_fog f (i : Nat))).toNat = true := by
  obtain ⟨h1, h2⟩ := sp_pos_ok hR hp hm i (by omega)
  obtain ⟨-, -, hx⟩ := (sp_good_t (by omega)).mp h1
  obtain ⟨a, t, c1, c2, c3, c4, c5, c6⟩ := sp_ac_ok hR hx h2
  have e : sp_pos f p spot many (i + 1) = t := by
    conv => lhs; unfold sp_pos
    rw [c1, c3, Int.toNat_natCast]
  rw [e]
  exact ⟨a, c1, c2, c3, c4, c6⟩
