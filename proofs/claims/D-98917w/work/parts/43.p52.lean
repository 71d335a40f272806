/-! ===== rows while they are read ===== -/
/-- a row being read: well told, all else at its begin -/
def rOk (f : Nat → Int) : Prop := sp_ok 999 f ∧ f 27 = 0 ∧ f 28 = 0 ∧ (∀ p, p < 5 → f (40 + p) = 0) ∧ f 45 = 0 ∧ 0 ≤ f 236 ∧ (∀ law, law < 2 → f (5 + law) = 0 ∨ f (7 + law) + f (9 + law) ≤ f 236)
theorem sp_codes_e {f f' : Nat → Int} {law : Nat} (h7 : f' (7 + law) = f (7 + law)) (h9 : f' (9 + law) = f (9 + law)) (hc : ∀ j, 237 + (f (7 + law)).toNat ≤ j → j < 237 + (f (7 + law)).toNat + (f (9 + law)).toNat → f' j = f j) : sp_codes f' law = sp_codes f law := by
  unfold sp_codes
  rw [h7, h9]
  refine List.map_congr_left (fun k hk => ?_)
  have := List.mem_range.mp hk
  exact hc _ (by omega) (by omega)
theorem sp_lok_e {f f' : Nat → Int} {law : Nat} (h : sp_lok f law) (h5 : f' (5 + law) = f (5 + law)) (h7 : f' (7 + law) = f (7 + law)) (h9 : f' (9 + law) = f (9 + law)) (hc : ¬ f (5 + law) = 0 → ∀ j, 237 + (f (7 + law)).toNat ≤ j → j < 237 + (f (7 + law)).toNat + (f (9 + law)).toNat → f' j = f j) : sp_lok f' law := by
  unfold sp_lok at h ⊢
  rcases h with h | h
  · exact Or.inl (by rw [h5, h])
  · right
    rw [h5, h7, h9, sp_codes_e h7 h9 (hc (by omega))]
    exact h
/-- a number of a row told anew, but for laws -/
theorem rOk_up {f : Nat → Int} (h : rOk f) {k : Nat} {v : Int} (hk : k = 0 ∨ (k = 3 ∧ 0 ≤ v ∧ v ≤ 5) ∨ (k = 4 ∧ 0 ≤ v ∧ v ≤ 10) ∨ (11 ≤ k ∧ k < 16 ∧ 0 ≤ v ∧ v ≤ 99) ∨ (16 ≤ k ∧ k < 21 ∧ -1 ≤ v ∧ v < 2 * f 1) ∨ (21 ≤ k ∧ k < 26 ∧ -1 ≤ v ∧ v ≤ 999) ∨ (k = 26 ∧ 0 ≤ v ∧ v ≤ 999) ∨ (29 ≤ k ∧ k < 35 ∧ -1 ≤ v ∧ v < f 1) ∨ (35 ≤ k ∧ k < 40 ∧ 0 ≤ v ∧ v < 2 * f 1)) : rOk (up f k v) := by
  obtain ⟨h0, h27, h28, h40, h45, h236, hl⟩ := h
  have g := h0.g; have w := h0.w; have p := h0.p; have fy := h0.fy; have hr := h0.hr; have nd := h0.nd
  have e : ∀ j, j ≠ k → up f k v j = f j := fun j hj => up_n hj
  have e1 : up f k v 1 = f 1 := e 1 (by omega)
  refine ⟨⟨?_, ?_, ?_, ?_, ⟨?_, ?_⟩, ?_, ?_, ?_, ?_, ?_, ?_, ?_, ?_, ?_, ?_⟩, ?_, ?_, ?_, ?_, ?_, ?_⟩
  · rw [e1]; exact g
  · rw [e 2 (by omega)]; exact w
  · unfold up; split <;> omega
  · unfold up; split <;> omega
  · exact sp_lok_e h0.ll.1 (e _ (by omega)) (e _ (by omega)) (e _ (by omega)) (fun _ j h1 _ => e j (by omega))
  · exact sp_lok_e h0.ll.2 (e _ (by omega)) (e _ (by omega)) (e _ (by omega)) (fun _ j h1 _ => e j (by omega))
  · intro q hq; have := h0.ld q hq; unfold up; split <;> omega
  · intro q hq; have := h0.to q hq; rw [e1]; unfold up; split <;> omega
  · intro q hq; have := h0.by' q hq; unfold up; split <;> omega
  · unfold up; split <;> omega
  · rw [e 27 (by omega)]; omega
  · rw [e 28 (by omega)]; omega
  · intro q hq; have := h0.wk q hq; rw [e1]; unfold up; split <;> omega
  · intro q hq; have := h0.at' q hq; rw [e1]; unfold up; split <;> omega
  · intro q hq; rw [e _ (by omega), h40 q hq]; omega
  · rw [e 45 (by omega)]; omega
  · rw [e 27 (by omega)]; exact h27
  · rw [e 28 (by omega)]; exact h28
  · intro q hq; rw [e _ (by omega)]; exact h40 q hq
  · rw [e 45 (by omega)]; exact h45
  · rw [e 236 (by omega)]; exact h236
  · intro law h2
    rw [e (5 + law) (by omega), e (7 + law) (by omega), e (9 + law) (by omega), e 236 (by omega)]
    exact hl law h2
theorem app_236 {f : Nat → Int} {cs : List Int} : app f cs 236 = f 236 + cs.length := up_e
theorem app_n {f : Nat → Int} {cs : List Int} {j : Nat} (h1 : j ≠ 236) (h2 : j < 237 + (f 236).toNat ∨ 237 + (f 236).toNat + cs.length ≤ j) : app f cs j = f j := by
  unfold app
  rw [up_n h1, cp_n h2]
theorem app_i {f : Nat → Int} {cs : List Int} {i : Nat} (h : i < cs.length) : app f cs (237 + (f 236).toNat + i) = cs.getD i 0 := by
  unfold app
  rw [up_n (by omega), cp_i h rfl]
theorem app_nil {f : Nat → Int} : app f [] = f := by
  funext j
  unfold app
  by_cases e : j = 236
  · subst e; rw [up_e]; simp
  · rw [up_n e]
    exact cp_n (by simp; omega)
theorem app_app {f : Nat → Int} {a b : List Int} (h0 : 0 ≤ f 236) : app (app f a) b = app f (a ++ b) := by
  funext j
  by_cases e : j = 236
  · subst e
    rw [app_236, app_236, app_236]
    simp
    omega
  · have e2 : (app f a 236).toNat = (f 236).toNat + a.length := by rw [app_236]; omega
    by_cases c1 : j < 237 + (f 236).toNat
    · rw [app_n e (Or.inl (by omega)), app_n e (Or.inl c1), app_n e (Or.inl c1)]
    · by_cases c2 : j < 237 + (f 236).toNat + a.length
      · obtain ⟨i, rfl⟩ : ∃ i, j = 237 + (f 236).toNat + i := ⟨j - (237 + (f 236).toNat), by omega⟩
        rw [app_n e (Or.inl (by omega)), app_i (by omega), app_i (by simp; omega)]
        rw [List.getD_eq_getElem?_getD, List.getD_eq_getElem?_getD, List.getElem?_append_left (by omega)]
      · by_cases c3 : j < 237 + (f 236).toNat + a.length + b.length
        · obtain ⟨i, hi⟩ : ∃ i, j = 237 + (f 236).toNat + (a.length + i) := ⟨j - (237 + (f 236).toNat + a.length), by omega⟩
          have e3 : j = 237 + (app f a 236).toNat + i := by omega
          conv => lhs; rw [e3]
          rw [app_i (by omega), hi, app_i (by simp; omega)]
          rw [List.getD_eq_getElem?_getD, List.getD_eq_getElem?_getD, List.getElem?_append_right (by omega)]
          congr 2
          omega
        · rw [app_n e (Or.inr (by omega)), app_n e (Or.inr (by omega)), app_n e (Or.inr (by simp; omega))]
/-- a law read -/
theorem rOk_law {f : Nat → Int} (h : rOk f) {law : Nat} (hl2 : law < 2) {cs : List Int} (hty : sp_ty cs [] = some [true]) (hs : law = 1 → ∀ c ∈ cs, c ≠ 1005) (hn : f 236 + cs.length ≤ 900) : rOk (up (up (up (app f cs) (5 + law) 1) (7 + law) (f 236)) (9 + law) (app f cs 236 - f 236)) := by
  obtain ⟨h0, h27, h28, h40, h45, h236, hl⟩ := h
  have len : app f cs 236 - f 236 = cs.length := by rw [app_236]; omega
  rw [len]
  generalize hf' : up (up (up (app f cs) (5 + law) 1) (7 + law) (f 236)) (9 + law) (cs.length : Int) = f'
  have e : ∀ j, j ≠ 236 → j ≠ 5 + law → j ≠ 7 + law → j ≠ 9 + law → (j < 237 + (f 236).toNat) → f' j = f j := fun j a b c d k => by rw [← hf', up_n d, up_n c, up_n b, app_n a (Or.inl k)]
  have e5 : f' (5 + law) = 1 := by rw [← hf', up_n (by omega), up_n (by omega), up_e]
  have e7 : f' (7 + law) = f 236 := by rw [← hf', up_n (by omega), up_e]
  have e9 : f' (9 + law) = cs.length := by rw [← hf', up_e]
  have e236 : f' 236 = f 236 + cs.length := by rw [← hf', up_n (by omega), up_n (by omega), up_n (by omega), app_236]
  have ei : ∀ i, i < cs.length → f' (237 + (f 236).toNat + i) = cs.getD i 0 := fun i hi => by rw [← hf', up_n (by omega), up_n (by omega), up_n (by omega), app_i hi]
  have new : sp_lok f' law := by
    refine Or.inr ⟨e5, by omega, by omega, by omega, ?_⟩
    have ec : sp_codes f' law = cs := by
      unfold sp_codes
      rw [e9, e7, Int.toNat_natCast]
      refine List.ext_getElem? (fun i => ?_)
      by_cases hi : i < cs.length
      · rw [List.getElem?_map, List.getElem?_range hi]
        simp only [Option.map_some]
        rw [ei i hi, List.getD_eq_getElem?_getD, List.getElem?_eq_getElem hi]
        rfl
      · rw [List.getElem?_eq_none (by simp; omega), List.getElem?_eq_none (by omega)]
    rw [ec]
    exact ⟨hty, hs⟩
  have old : ∀ l, l < 2 → l ≠ law → sp_lok f' l := by
    intro l h2 hne
    have hlf : sp_lok f l := by
      have : l = 0 ∨ l = 1 := by omega
      rcases this with rfl | rfl
      · exact h0.ll.1
      · exact h0.ll.2
    refine sp_lok_e hlf (e _ (by omega) (by omega) (by omega) (by omega) (by omega)) (e _ (by omega) (by omega) (by omega) (by omega) (by omega)) (e _ (by omega) (by omega) (by omega) (by omega) (by omega)) (fun hne0 j j1 j2 => ?_)
    have h3 := hl l h2
    have h4 : f (5 + l) = 0 ∨ (0 ≤ f (9 + l) ∧ 0 ≤ f (7 + l)) := by
      unfold sp_lok at hlf
      omega
    exact e j (by omega) (by omega) (by omega) (by omega) (by omega)
  have lok : ∀ l, l < 2 → sp_lok f' l := fun l h2 => by
    by_cases c : l = law
    · subst c; exact new
    · exact old l h2 c
  have ej : ∀ j, j < 5 ∨ (11 ≤ j ∧ j < 236) → f' j = f j := fun j hj => e j (by omega) (by omega) (by omega) (by omega) (by omega)
  refine ⟨⟨?_, ?_, ?_, ?_, ⟨lok 0 (by omega), lok 1 (by omega)⟩, ?_, ?_, ?_, ?_, ?_, ?_, ?_, ?_, ?_, ?_⟩, ?_, ?_, ?_, ?_, ?_, ?_⟩
  · rw [ej 1 (by omega)]; exact h0.g
  · rw [ej 2 (by omega)]; exact h0.w
  · rw [ej 3 (by omega)]; exact h0.p
  · rw [ej 4 (by omega)]; exact h0.fy
  · intro q hq; rw [ej _ (by omega)]; exact h0.ld q hq
  · intro q hq; rw [ej _ (by omega), ej 1 (by omega)]; exact h0.to q hq
  · intro q hq; rw [ej _ (by omega)]; exact h0.by' q hq
  · rw [ej 26 (by omega)]; exact h0.hr
  · rw [ej 27 (by omega)]; exact h0.fg
  · rw [ej 28 (by omega)]; exact h0.rd
  · intro q hq; rw [ej _ (by omega), ej 1 (by omega)]; exact h0.wk q hq
  · intro q hq; rw [ej _ (by omega), ej 1 (by omega)]; exact h0.at' q hq
  · intro q hq; rw [ej _ (by omega)]; exact h0.ac q hq
  · rw [ej 45 (by omega)]; exact h0.nd
  · rw [ej 27 (by omega)]; exact h27
  · rw [ej 28 (by omega)]; exact h28
  · intro q hq; rw [ej _ (by omega)]; exact h40 q hq
  · rw [ej 45 (by omega)]; exact h45
  · omega
  · intro l h2
    by_cases c : l = law
    · subst c; rw [e7, e9, e236]; omega
    · rw [e (5 + l) (by omega) (by omega) (by omega) (by omega) (by omega), e (7 + l) (by omega) (by omega) (by omega) (by omega) (by omega), e (9 + l) (by omega) (by omega) (by omega) (by omega) (by omega), e236]
      have := hl l h2
      omega
