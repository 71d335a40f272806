/-- where a reader stands in a text, its row -/
def lOk (x : TX) (q : LRS) : Prop := tOk x q.2 ∧ (tz_wr q.2 = 0 → rOk q.1 ∧ q.1 236 ≤ tz_at q.2)
theorem tOk.nx {x : TX} {s : TS} (h : tOk x s) : tOk x (tz_next x s) := (tz_next_ok h.2.1).1
theorem tOk.nl {x : TX} {s : TS} (h : tOk x s) : tz_at s ≤ tz_at (tz_next x s) := by
  have := (tz_next_ok (x := x) h.2.1).2
  have := h.1
  omega
theorem tOk.ns {x : TX} {s : TS} (h : tOk x s) (hk : tz_kd s ≠ 24) : tz_at s < tz_at (tz_next x s) := by
  have := (tz_next_ok (x := x) h.2.1).2
  have := h.2.2.1 hk
  omega
theorem pSpot_ok {x : TX} {G : Int} {s : TS} (h : tOk x s) : tOk x (pSpot x G s).2 ∧ tz_at s ≤ tz_at (pSpot x G s).2 ∧ (tz_wr (pSpot x G s).2 = 0 → tz_wr s = 0 ∧ tz_kd s = 23 ∧ 0 ≤ (pSpot x G s).1 ∧ (pSpot x G s).1 < 2 * G) := by
  have h1 := tz_take_ok (x := x) (lo := 0) (hi := G - 1) h
  unfold pSpot
  simp only
  split
  · rename_i c
    obtain ⟨w, -⟩ := tz_is_iff.mp c
    obtain ⟨a1, a2, a3, a4⟩ := tz_take_0 w
    exact ⟨h1.1.nx, by have := h1.1.nl; simp only; omega, fun _ => ⟨a1, a2, by simp only; omega, by simp only; omega⟩⟩
  · split
    · rename_i c
      obtain ⟨w, -⟩ := tz_is_iff.mp c
      obtain ⟨a1, a2, a3, a4⟩ := tz_take_0 w
      exact ⟨h1.1.nx, by have := h1.1.nl; simp only; omega, fun _ => ⟨a1, a2, by simp only; omega, by simp only; omega⟩⟩
    · refine ⟨tz_fail_ok h1.1, ?_, fun q => absurd q (tz_fail_wr (by decide))⟩
      simp only
      rw [tz_fail_tok.1]; exact h1.2
theorem pSpot_d {x : TX} {G : Int} {s : TS} (h : tz_wr s ≠ 0) : (pSpot x G s).2 = s := by
  unfold pSpot
  simp only [tz_take_d h, tz_is_d h, Bool.false_eq_true, if_false]
  exact tz_fail_d h
theorem pSpan_ok {x : TX} {q : LRS} (h : lOk x q) (hw : tz_wr q.2 = 0) : lOk x (pSpan x q) ∧ tz_bh q.2 ≤ tz_at (pSpan x q).2 := by
  obtain ⟨hr, hn⟩ := h.2 hw
  have h0 := tz_next_ok (x := x) h.1.2.1
  have h1 := tz_take_ok (x := x) (lo := 0) (hi := q.1 2 - 1) h0.1
  have hw2 := hr.1.w
  have hg := hr.1.g
  have hb := h.1.1
  unfold pSpan
  simp only
  split
  · rename_i c
    obtain ⟨w, -⟩ := tz_is_iff.mp c
    obtain ⟨a1, a2, a3, a4⟩ := tz_take_0 w
    have h3 := h1.1.nx
    have h3' := h1.1.nl
    have h4 := tz_take_ok (x := x) (lo := 0) (hi := q.1 1 - 1) h3
    refine ⟨⟨h4.1, fun z => ?_⟩, by simp only; omega⟩
    simp only at z ⊢
    rw [if_pos z]
    obtain ⟨b1, b2, b3, b4⟩ := tz_take_0 z
    exact ⟨rOk_up hr (by omega), by rw [up_n (by omega)]; omega⟩
  · split
    · rename_i c
      obtain ⟨w, -⟩ := tz_is_iff.mp c
      obtain ⟨a1, a2, a3, a4⟩ := tz_take_0 w
      have h3' := h1.1.nl
      refine ⟨⟨h1.1.nx, fun z => ⟨rOk_up hr (by omega), ?_⟩⟩, by simp only; omega⟩
      simp only
      rw [up_n (by omega)]; omega
    · refine ⟨⟨tz_fail_ok h1.1, fun z => absurd z (tz_fail_wr (by decide))⟩, ?_⟩
      simp only
      rw [tz_fail_tok.1]; omega
/-- flags keep a row -/
theorem pFlag_ok {x : TX} {p : Nat} (hp : p < 5) : ∀ m q, lOk x q → lOk x (pFlag x p m q) ∧ tz_at q.2 ≤ tz_at (pFlag x p m q).2 ∧ (tz_wr (pFlag x p m q).2 = 0 → (pFlag x p m q).1 3 = q.1 3 ∧ (pFlag x p m q).1 1 = q.1 1)
  | 0, q, h => ⟨h, Nat.le_refl _, fun _ => ⟨rfl, rfl⟩⟩
  | m + 1, q, h => by
    unfold pFlag
    simp only
    split
    · rename_i c
      obtain ⟨w, kd⟩ := tz_is_iff.mp c
      obtain ⟨hr, hn⟩ := h.2 w
      have h1 := h.1.nx
      have h1' := h.1.nl
      have h2 := tz_take_ok (x := x) (lo := 0) (hi := 99) h1
      have key : lOk x (up q.1 (11 + p) (tz_nu (tz_next x q.2)), tz_take x 0 99 (tz_next x q.2)) := by
        refine ⟨h2.1, fun z => ?_⟩
        obtain ⟨b1, b2, b3, b4⟩ := tz_take_0 z
        exact ⟨rOk_up hr (by omega), by show up q.1 _ _ 236 ≤ tz_at (tz_take x 0 99 (tz_next x q.2)); rw [up_n (by omega)]; omega⟩
      obtain ⟨i1, i2, i3⟩ := pFlag_ok hp m _ key
      refine ⟨i1, by simp only at i2; omega, fun z => ?_⟩
      obtain ⟨j1, j2⟩ := i3 z
      simp only at j1 j2 ⊢
      rw [j1, j2, up_n (by omega), up_n (by omega)]
      exact ⟨rfl, rfl⟩
    · split
      · rename_i c
        obtain ⟨w, kd⟩ := tz_is_iff.mp c
        obtain ⟨hr, hn⟩ := h.2 w
        have h1 := h.1.nx
        have h1' := h.1.nl
        have h2 := pSpot_ok (x := x) (G := q.1 1) h1
        have h3 := tz_must_ok (x := x) (k := 10) h2.1
        have h4 := tz_take_ok (x := x) (lo := 0) (hi := 999) h3.1
        have key : lOk x (up (up q.1 (16 + p) (pSpot x (q.1 1) (tz_next x q.2)).1) (21 + p) (tz_nu (tz_must x 10 (pSpot x (q.1 1) (tz_next x q.2)).2)), tz_take x 0 999 (tz_must x 10 (pSpot x (q.1 1) (tz_next x q.2)).2)) := by
          refine ⟨h4.1, fun z => ?_⟩
          obtain ⟨b1, b2, b3, b4⟩ := tz_take_0 z
          have c1 := tz_must_0 b1
          obtain ⟨d1, d2, d3, d4⟩ := h2.2.2 c1.1
          refine ⟨rOk_up (rOk_up hr (by omega)) (by omega), ?_⟩
          show up (up q.1 _ _) _ _ 236 ≤ tz_at (tz_take x 0 999 (tz_must x 10 (pSpot x (q.1 1) (tz_next x q.2)).2))
          rw [up_n (by omega), up_n (by omega)]; omega
        obtain ⟨i1, i2, i3⟩ := pFlag_ok hp m _ key
        refine ⟨i1, by simp only at i2; omega, fun z => ?_⟩
        obtain ⟨j1, j2⟩ := i3 z
        simp only at j1 j2 ⊢
        rw [j1, j2, up_n (by omega), up_n (by omega), up_n (by omega), up_n (by omega)]
        exact ⟨rfl, rfl⟩
      · exact ⟨h, Nat.le_refl _, fun _ => ⟨rfl, rfl⟩⟩
theorem pPerson_ok {x : TX} {q : LRS} (h : lOk x q) (hw : tz_wr q.2 = 0) : lOk x (pPerson x q) ∧ (tz_wr (pPerson x q).2 = 0 → tz_bh q.2 ≤ tz_at (pPerson x q).2) ∧ tz_at q.2 ≤ tz_at (pPerson x q).2 := by
  obtain ⟨hr, hn⟩ := h.2 hw
  have hp := hr.1.p
  unfold pPerson
  simp only
  split
  · rename_i c
    exact ⟨⟨tz_fail_ok h.1, fun z => absurd z (tz_fail_wr (by decide))⟩, fun z => absurd z (tz_fail_wr (by decide)), by simp only; rw [tz_fail_tok.1]; omega⟩
  · rename_i c
    have h0 := tz_next_ok (x := x) h.1.2.1
    have hb := h.1.1
    have h1 := tz_must_ok (x := x) (k := 3) h0.1
    have h2 := pSpot_ok (x := x) (G := q.1 1) h1.1
    have key : lOk x (up q.1 (35 + (q.1 3).toNat) (pSpot x (q.1 1) (tz_must x 3 (tz_next x q.2))).1, (pSpot x (q.1 1) (tz_must x 3 (tz_next x q.2))).2) := by
      refine ⟨h2.1, fun z => ?_⟩
      obtain ⟨d1, d2, d3, d4⟩ := h2.2.2 z
      refine ⟨rOk_up hr (by omega), ?_⟩
      show up q.1 _ _ 236 ≤ tz_at (pSpot x (q.1 1) (tz_must x 3 (tz_next x q.2))).2
      rw [up_n (by omega)]; omega
    have hf := pFlag_ok (x := x) (p := (q.1 3).toNat) (by omega) 1000 _ key
    obtain ⟨i1, i2, i3⟩ := hf
    simp only at i2
    split
    · rename_i z
      have j := i3 z
      obtain ⟨k1, k2⟩ := i1.2 z
      refine ⟨⟨i1.1, fun _ => ⟨rOk_up k1 (by omega), ?_⟩⟩, fun _ => ?_, ?_⟩
      · simp only
        rw [up_n (by omega)]; exact k2
      · simp only
        omega
      · simp only
        omega
    · rename_i z
      exact ⟨i1, fun y => absurd y z, by omega⟩
theorem pLaw_ok {x : TX} (hx : x.2 ≤ 900) {law : Nat} (hl : law < 2) {q : LRS} (h : lOk x q) (hw : tz_wr q.2 = 0) : lOk x (pLaw x law q) ∧ tz_bh q.2 ≤ tz_at (pLaw x law q).2 := by
  obtain ⟨hr, hn⟩ := h.2 hw
  have h0 := tz_next_ok (x := x) h.1.2.1
  have hb := h.1.1
  have h1 := tz_must_ok (x := x) (k := 31) h0.1
  have hU : gP x law true (pUnit x law 7) := gP_unit x law 6
  obtain ⟨r1, r2, r3, r4, r5⟩ := gP_truth hU _ h1.1
  have hnn := hr.2.2.2.2.2.1
  have ha := r1.1
  have hb2 := r1.2.1
  unfold pLaw
  simp only
  split
  · rename_i z
    refine ⟨⟨r1, fun _ => ⟨rOk_law hr hl (r4 z []) r5 (by omega), ?_⟩⟩, by simp only; omega⟩
    simp only
    rw [up_n (by omega), up_n (by omega), up_n (by omega), app_236]
    omega
  · rename_i z
    exact ⟨⟨r1, fun y => absurd y z⟩, by simp only; omega⟩
theorem pLine_ok {x : TX} (hx : x.2 ≤ 900) {q : LRS} (h : lOk x q) (hw : tz_wr q.2 = 0) : lOk x (pLine x q) ∧ tz_at q.2 ≤ tz_at (pLine x q).2 := by
  obtain ⟨hr, hn⟩ := h.2 hw
  have hb := h.1.1
  unfold pLine
  split
  · have := pSpan_ok h hw; exact ⟨this.1, by omega⟩
  · split
    · have := pPerson_ok h hw; exact ⟨this.1, this.2.2⟩
    · split
      · have := pLaw_ok hx (law := 0) (by omega) h hw; exact ⟨this.1, by omega⟩
      · split
        · have := pLaw_ok hx (law := 1) (by omega) h hw; exact ⟨this.1, by omega⟩
        · split
          · have h1 := h.1.nx
            have h1' := h.1.nl
            have h2 := tz_take_ok (x := x) (lo := 0) (hi := 10) h1
            refine ⟨⟨h2.1, fun z => ?_⟩, by simp only; omega⟩
            obtain ⟨b1, b2, b3, b4⟩ := tz_take_0 z
            exact ⟨rOk_up hr (by omega), by simp only; rw [up_n (by omega)]; omega⟩
          · split
            · have h1 := h.1.nx
              have h1' := h.1.nl
              have h2 := tz_take_ok (x := x) (lo := 0) (hi := 999) h1
              refine ⟨⟨h2.1, fun z => ?_⟩, by simp only; omega⟩
              obtain ⟨b1, b2, b3, b4⟩ := tz_take_0 z
              exact ⟨rOk_up hr (by omega), by simp only; rw [up_n (by omega)]; omega⟩
            · exact ⟨⟨tz_fail_ok h.1, fun z => absurd z (tz_fail_wr (by decide))⟩, by simp only; rw [tz_fail_tok.1]; omega⟩
theorem pEnds_ok {x : TX} {q : LRS} (h : lOk x q) : lOk x (pEnds x q) ∧ tz_at q.2 ≤ tz_at (pEnds x q).2 ∧ (tz_wr (pEnds x q).2 = 0 → tz_wr q.2 = 0 ∧ tz_at q.2 < tz_at (pEnds x q).2) := by
  have h1 := tz_must_ok (x := x) (k := 30) h.1
  unfold pEnds
  refine ⟨⟨h1.1, fun z => ?_⟩, h1.2, fun z => ?_⟩
  · have c := tz_must_0 z
    obtain ⟨hr, hn⟩ := h.2 c.1
    refine ⟨rOk_up hr (by omega), ?_⟩
    simp only
    rw [up_n (by omega)]; omega
  · have c := tz_must_0 z
    refine ⟨c.1, ?_⟩
    show tz_at q.2 < tz_at (tz_must x 30 q.2)
    rw [c.2.2]
    exact h.1.ns (by omega)
theorem pLines_ok {x : TX} (hx : x.2 ≤ 900) : ∀ m q, lOk x q → lOk x (pLines x m q)
  | 0, q, h => h
  | m + 1, q, h => by
    unfold pLines
    split
    · rename_i c
      exact pLines_ok hx m _ (pEnds_ok (pLine_ok hx h c.1).1).1
    · exact h
theorem row0_ok {G W : Int} (hG : 2 ≤ G ∧ G ≤ 4) (hW : 1 ≤ W ∧ W ≤ 6) : rOk (up (up row0 1 G) 2 W) := by
  have e1 : up (up row0 1 G) 2 W 1 = G := by rw [up_n (by omega), up_e]
  have e2 : up (up row0 1 G) 2 W 2 = W := up_e
  have e : ∀ j, j ≠ 1 → j ≠ 2 → up (up row0 1 G) 2 W j = row0 j := fun j a b => by rw [up_n b, up_n a]
  have z : ∀ j, j ≠ 1 → j ≠ 2 → ¬ (16 ≤ j ∧ j < 26) → up (up row0 1 G) 2 W j = 0 := fun j a b c => by
    rw [e j a b]; unfold row0; rw [if_neg a, if_neg b, if_neg c]
  have m : ∀ j, 16 ≤ j → j < 26 → up (up row0 1 G) 2 W j = -1 := fun j a b => by
    rw [e j (by omega) (by omega)]; unfold row0; rw [if_neg (by omega), if_neg (by omega), if_pos ⟨a, b⟩]
  refine ⟨⟨?_, ?_, ?_, ?_, ⟨?_, ?_⟩, ?_, ?_, ?_, ?_, ?_, ?_, ?_, ?_, ?_, ?_⟩, ?_, ?_, ?_, ?_, ?_, ?_⟩
  · rw [e1]; exact hG
  · rw [e2]; exact hW
  · rw [z 3 (by omega) (by omega) (by omega)]; omega
  · rw [z 4 (by omega) (by omega) (by omega)]; omega
  · exact Or.inl (z 5 (by omega) (by omega) (by omega))
  · exact Or.inl (z 6 (by omega) (by omega) (by omega))
  · intro q hq; rw [z _ (by omega) (by omega) (by omega)]; omega
  · intro q hq; rw [m _ (by omega) (by omega), e1]; omega
  · intro q hq; rw [m _ (by omega) (by omega)]; omega
  · rw [z 26 (by omega) (by omega) (by omega)]; omega
  · rw [z 27 (by omega) (by omega) (by omega)]; omega
  · rw [z 28 (by omega) (by omega) (by omega)]; omega
  · intro q hq; rw [z _ (by omega) (by omega) (by omega), e1]; omega
  · intro q hq; rw [z _ (by omega) (by omega) (by omega), e1]; omega
  · intro q hq; rw [z _ (by omega) (by omega) (by omega)]; omega
  · rw [z 45 (by omega) (by omega) (by omega)]; omega
  · exact z 27 (by omega) (by omega) (by omega)
  · exact z 28 (by omega) (by omega) (by omega)
  · intro q hq; exact z _ (by omega) (by omega) (by omega)
  · exact z 45 (by omega) (by omega) (by omega)
  · rw [z 236 (by omega) (by omega) (by omega)]; omega
  · intro l hl; exact Or.inl (z _ (by omega) (by omega) (by omega))
