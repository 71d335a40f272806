/-! ===== sets of spots, an hour on ===== -/
theorem sp_evs_side {w w' : Nat → Int} (hw : ∀ i, i < 5 → w i = w' i) : ∀ (cs : List Int) (st : List Int), (∀ c ∈ cs, c ≠ 1005) → sp_ty cs ([] : List Bool) = sp_ty cs [] → (∀ c ∈ cs, c < 1000 ∨ 3000 ≤ c ∨ (1000 ≤ c ∧ c < 1006)) → sp_evs w cs st = sp_evs w' cs st
  | [], st, _, _, _ => rfl
  | c :: cs, st, h, _, h2 => by
    have e : sp_ev1 w st c = sp_ev1 w' st c := by
      have hc := h c (List.mem_cons_self ..)
      have hc2 := h2 c (List.mem_cons_self ..)
      unfold sp_ev1
      by_cases c1 : c < 1000
      · rw [if_pos c1, if_pos c1]
      · rw [if_neg c1, if_neg c1]
        by_cases c3 : c < 3000
        · rw [if_pos c3, if_pos c3, hw _ (by omega)]
        · rw [if_neg c3, if_neg c3]
    show sp_evs w cs (sp_ev1 w st c) = sp_evs w' cs (sp_ev1 w' st c)
    rw [e]
    exact sp_evs_side hw cs _ (fun x hx => h x (List.mem_cons_of_mem _ hx)) rfl (fun x hx => h2 x (List.mem_cons_of_mem _ hx))
theorem sp_ty_mem : ∀ (cs : List Int) (ks ks' : List Bool), sp_ty cs ks = some ks' → ∀ c ∈ cs, c < 1000 ∨ 3000 ≤ c ∨ (1000 ≤ c ∧ c < 1006)
  | [], _, _, _, c, hc => by cases hc
  | x :: cs, ks, ks', h, c, hc => by
    unfold sp_ty at h
    cases e : sp_ty1 x ks with
    | none => rw [e] at h; cases h
    | some k1 =>
      rw [e] at h
      rcases List.mem_cons.mp hc with rfl | hc
      · unfold sp_ty1 at e
        split at e
        · omega
        · split at e
          · split at e
            · omega
            · cases e
          · omega
      · exact sp_ty_mem cs k1 ks' h c hc
/-- the side is nothing to who is served -/
theorem sp_lb_side {f : Nat → Int} (h : sp_lok f 1) (p gap hour fog s s' : Int) : sp_lb f 1 p gap hour fog s = sp_lb f 1 p gap hour fog s' := by
  have key : sp_lets f 1 p gap hour fog s ↔ sp_lets f 1 p gap hour fog s' := by
    unfold sp_lets
    rcases h with h | ⟨h1, -, -, -, h2, h3⟩
    · rw [if_pos h, if_pos h]
    · rw [if_neg (by omega), if_neg (by omega), sp_evs_side (w' := sp_wd f p gap hour fog s') ?_ _ _ (h3 rfl) rfl (sp_ty_mem _ _ _ h2)]
      intro i hi
      unfold sp_wd
      match i, hi with
      | 0, _ => rfl
      | 1, _ => rfl
      | 2, _ => rfl
      | 3, _ => rfl
      | 4, _ => rfl
  by_cases c : sp_lets f 1 p gap hour fog s
  · rw [(sp_lb_iff ..).mpr c, (sp_lb_iff ..).mpr (key.mp c)]
  · rcases sp_lb_01 f 1 p gap hour fog s with a | a
    · rcases sp_lb_01 f 1 p gap hour fog s' with b | b
      · rw [a, b]
      · exact absurd (key.mpr ((sp_lb_iff ..).mp b)) c
    · exact absurd ((sp_lb_iff ..).mp a) c
/-- where an act leads, if it can be -/
noncomputable def sp_can (f : Nat → Int) (p s act h fog : Int) : Int := if sp_why f p s act h fog = 0 then sp_leads f s act (sp_span f h) else -1
noncomputable def sp_ona (f : Nat → Int) (p s h fog : Int) (m : Nat) : Nat → Nat
  | 0 => m
  | a + 1 => if sp_can f p s (a + 1 : Nat) h fog = -1 then sp_ona f p s h fog m a else sb (sp_ona f p s h fog m a) (sp_can f p s (a + 1 : Nat) h fog).toNat
noncomputable def sp_ons (f : Nat → Int) (p h fog : Int) (m : Nat) : Nat → Nat
  | 0 => m
  | s + 1 => if m.testBit s then sp_ona f p s h fog (sp_ons f p h fog m s) 6 else sp_ons f p h fog m s
/-- where one can be an hour on -/
noncomputable def sp_on (f : Nat → Int) (p h fog : Int) (m : Nat) : Nat := sp_ons f p h fog m 9
theorem sp_ona_t {f : Nat → Int} {p s h fog : Int} {m t : Nat} (hc : ∀ a, sp_can f p s a h fog = -1 ∨ 0 ≤ sp_can f p s a h fog) : ∀ n, (sp_ona f p s h fog m n).testBit t = true ↔ m.testBit t = true ∨ ∃ a : Nat, 1 ≤ a ∧ a ≤ n ∧ sp_can f p s a h fog = t
  | 0 => by
    unfold sp_ona
    exact ⟨Or.inl, fun q => q.elim id (fun ⟨a, h1, h2, _⟩ => by omega)⟩
  | n + 1 => by
    have ih := sp_ona_t (m := m) (t := t) hc n
    have h1 := hc (n + 1 : Nat)
    unfold sp_ona
    split
    · rename_i c
      rw [ih]
      refine ⟨fun q => q.elim Or.inl (fun ⟨a, x, y, z⟩ => Or.inr ⟨a, x, by omega, z⟩), fun q => q.elim Or.inl (fun ⟨a, x, y, z⟩ => ?_)⟩
      by_cases e : a = n + 1
      · subst e
        omega
      · exact Or.inr ⟨a, x, by omega, z⟩
    · rename_i c
      rw [sb_t, Bool.or_eq_true, ih, decide_eq_true_iff]
      refine ⟨fun q => ?_, fun q => ?_⟩
      · rcases q with (q | ⟨a, x, y, z⟩) | q
        · exact Or.inl q
        · exact Or.inr ⟨a, x, by omega, z⟩
        · exact Or.inr ⟨n + 1, by omega, by omega, by omega⟩
      · rcases q with q | ⟨a, x, y, z⟩
        · exact Or.inl (Or.inl q)
        · by_cases e : a = n + 1
          · subst e
            exact Or.inr (by omega)
          · exact Or.inl (Or.inr ⟨a, x, by omega, z⟩)
theorem sp_ons_t {f : Nat → Int} {p h fog : Int} {m t : Nat} (hc : ∀ (s : Nat) a, m.testBit s = true → sp_can f p s a h fog = -1 ∨ 0 ≤ sp_can f p s a h fog) : ∀ n, (sp_ons f p h fog m n).testBit t = true ↔ m.testBit t = true ∨ ∃ s a : Nat, s < n ∧ m.testBit s = true ∧ 1 ≤ a ∧ a ≤ 6 ∧ sp_can f p s a h fog = t
  | 0 => by
    unfold sp_ons
    exact ⟨Or.inl, fun q => q.elim id (fun ⟨s, a, h1, _⟩ => by omega)⟩
  | n + 1 => by
    have ih := sp_ons_t (t := t) hc n
    unfold sp_ons
    split
    · rename_i c
      rw [sp_ona_t (hc n · c), ih]
      refine ⟨fun q => ?_, fun q => ?_⟩
      · rcases q with (q | ⟨s, a, x, y⟩) | ⟨a, x, y, z⟩
        · exact Or.inl q
        · exact Or.inr ⟨s, a, by omega, y⟩
        · exact Or.inr ⟨n, a, by omega, c, x, y, z⟩
      · rcases q with q | ⟨s, a, x, y, z1, z2, z3⟩
        · exact Or.inl (Or.inl q)
        · by_cases e : s = n
          · subst e
            exact Or.inr ⟨a, z1, z2, z3⟩
          · exact Or.inl (Or.inr ⟨s, a, by omega, y, z1, z2, z3⟩)
    · rename_i c
      rw [ih]
      refine ⟨fun q => q.elim Or.inl (fun ⟨s, a, x, y⟩ => Or.inr ⟨s, a, by omega, y⟩), fun q => q.elim Or.inl (fun ⟨s, a, x, y, z⟩ => ?_)⟩
      by_cases e : s = n
      · subst e
        exact absurd y c
      · exact Or.inr ⟨s, a, by omega, y, z⟩
