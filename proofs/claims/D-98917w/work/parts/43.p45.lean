/-- the first place from k on, n of them, that P holds at; none: -1 -/
def fst1 (P : Nat → Bool) : Nat → Nat → Int
  | 0, _ => -1
  | n + 1, k => if P k then (k : Nat) else fst1 P n (k + 1)
theorem fst1_no {P : Nat → Bool} : ∀ {n k : Nat}, fst1 P n k = -1 → ∀ j, k ≤ j → j < k + n → P j = false
  | 0, k, _, j, h1, h2 => by omega
  | n + 1, k, h, j, h1, h2 => by
    unfold fst1 at h
    split at h
    · omega
    · rename_i c
      by_cases e : j = k
      · subst e; simpa using c
      · exact fst1_no h j (by omega) (by omega)
theorem fst1_ok {P : Nat → Bool} : ∀ {n k : Nat}, fst1 P n k = -1 ∨ ∃ j : Nat, fst1 P n k = j ∧ k ≤ j ∧ j < k + n ∧ P j = true ∧ ∀ i, k ≤ i → i < j → P i = false
  | 0, k => Or.inl rfl
  | n + 1, k => by
    unfold fst1
    split
    · rename_i c
      exact Or.inr ⟨k, rfl, by omega, by omega, c, fun i h1 h2 => by omega⟩
    · rename_i c
      rcases fst1_ok (P := P) (n := n) (k := k + 1) with h | ⟨j, h1, h2, h3, h4, h5⟩
      · exact Or.inl h
      · refine Or.inr ⟨j, h1, by omega, by omega, h4, fun i a b => ?_⟩
        by_cases e : i = k
        · subst e; simpa using c
        · exact h5 i (by omega) b
theorem fst1_is {P : Nat → Bool} {n k j : Nat} (h1 : k ≤ j) (h2 : j < k + n) (h3 : P j = true) (h4 : ∀ i, k ≤ i → i < j → P i = false) : fst1 P n k = j := by
  rcases fst1_ok (P := P) (n := n) (k := k) with h | ⟨i, e1, e2, e3, e4, e5⟩
  · have := fst1_no h j h1 h2
    rw [h3] at this; cases this
  · by_cases c : i < j
    · rw [h4 i e2 c] at e4; cases e4
    · by_cases c2 : j < i
      · rw [e5 j h1 c2] at h3; cases h3
      · rw [e1]; omega
theorem fst1_none {P : Nat → Bool} {n k : Nat} (h : ∀ j, k ≤ j → j < k + n → P j = false) : fst1 P n k = -1 := by
  rcases fst1_ok (P := P) (n := n) (k := k) with e | ⟨i, e1, e2, e3, e4, e5⟩
  · exact e
  · rw [h i e2 e3] at e4; cases e4
theorem fst1_b {P : Nat → Bool} {n k : Nat} : -1 ≤ fst1 P n k ∧ fst1 P n k < (k + n : Nat) := by
  rcases fst1_ok (P := P) (n := n) (k := k) with e | ⟨i, e1, e2, e3, e4, e5⟩ <;> omega
theorem fst1_c {P P' : Nat → Bool} {n k : Nat} (h : ∀ j, k ≤ j → j < k + n → P j = P' j) : fst1 P n k = fst1 P' n k := by
  rcases fst1_ok (P := P) (n := n) (k := k) with e | ⟨i, e1, e2, e3, e4, e5⟩
  · rw [e]
    exact (fst1_none (fun j a b => by rw [← h j a b]; exact fst1_no e j a b)).symm
  · rw [e1]
    exact (fst1_is e2 e3 (by rw [← h i e2 e3]; exact e4) (fun j a b => by rw [← h j a (by omega)]; exact e5 j a b)).symm
/-! where one can be -/
noncomputable def sp_rc (f : Nat → Int) (p : Int) (later m : Nat) : Nat → Nat
  | 0 => m
  | n + 1 => sp_on f p (f 26 + (later + n : Nat)) (sp_fog f (later + n : Nat)) (sp_rc f p later m n)
theorem sp_rc_sp {B : Int} {f : Nat → Int} (hR : sp_ok B f) {p : Int} {later m : Nat} (hm : isSp f m) : ∀ n, isSp f (sp_rc f p later m n)
  | 0 => hm
  | n + 1 => sp_on_sp hR (sp_rc_sp hR hm n)
theorem sp_on_1 {B : Int} {f : Nat → Int} (hR : sp_ok B f) {p h fog : Int} {m t : Nat} (hm : isSp f m) (ht : (sp_on f p h fog m).testBit t = true) : ∃ s, m.testBit s = true ∧ (sp_on f p h fog (2 ^ s)).testBit t = true := by
  rcases (sp_on_t hR).mp ht with q | ⟨s, a, h1, h2, h3, h4, h5⟩
  · exact ⟨t, q, (sp_on_t hR).mpr (Or.inl (tb2.mpr rfl))⟩
  · exact ⟨s, h2, (sp_on_t hR).mpr (Or.inr ⟨s, a, h1, tb2.mpr rfl, h3, h4, h5⟩)⟩
/-- the spot of a person as a place -/
def sp_s (f : Nat → Int) (p : Nat) : Nat := (f (35 + p)).toNat
theorem sp_s_e {B : Int} {f : Nat → Int} (hR : sp_ok B f) {p : Nat} (hp : p < 5) : f (35 + p) = sp_s f p ∧ ((sp_s f p : Int) < 2 * f 1 ∨ sp_s f p = 8) := by
  have := hR.at' p hp
  unfold sp_s
  omega
/-- how many hours from a spot to another one -/
noncomputable def sp_hto (f : Nat → Int) (p : Int) (s to later : Nat) : Int := fst1 (fun n => (sp_rc f p later (2 ^ s) n).testBit to) 61 0
theorem sp_hto_b (f : Nat → Int) (p : Int) (s to later : Nat) : -1 ≤ sp_hto f p s to later ∧ sp_hto f p s to later ≤ 60 := by
  have := fst1_b (P := fun n => (sp_rc f p later (2 ^ s) n).testBit to) (n := 61) (k := 0)
  unfold sp_hto
  omega
abbrev sp_isp (f : Nat → Int) (s : Int) : Prop := s = 8 ∨ 0 ≤ s ∧ s < 2 * f 1
