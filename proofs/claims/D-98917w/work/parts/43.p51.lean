theorem findIdx_le {α : Type} (p : α → Bool) (l : List α) : l.findIdx p ≤ l.length := List.findIdx_le_length
theorem kws_len : kws.length = 22 := rfl
theorem sgs_len : sgs.length = 12 := rfl
theorem tx_key_le (x : TX) (a b : Nat) : tx_key x a b ≤ 22 := by
  have := findIdx_le (fun w => decide (w = tx_cut x a b)) kws
  rw [kws_len] at this
  exact this
theorem tx_sign_b (c : Int) : tx_sign c = 25 ∨ (30 ≤ tx_sign c ∧ tx_sign c < 42) := by
  unfold tx_sign
  split <;> omega
/-- a number of up to three digits -/
theorem num_b : ∀ (l : List Int) (n : Int) (m : Int), (∀ c ∈ l, 48 ≤ c ∧ c ≤ 57) → 0 ≤ n → n < m → 0 ≤ l.foldl (fun n c => 10 * n + c - 48) n ∧ l.foldl (fun n c => 10 * n + c - 48) n < m * 10 ^ l.length
  | [], n, m, _, h0, h1 => by simp; omega
  | c :: l, n, m, h, h0, h1 => by
    have hc := h c (List.mem_cons_self ..)
    have := num_b l (10 * n + c - 48) (m * 10) (fun d hd => h d (List.mem_cons_of_mem _ hd)) (by omega) (by omega)
    simp only [List.foldl_cons, List.length_cons]
    rw [Int.pow_succ]
    have e : m * (10 ^ l.length * 10) = m * 10 * 10 ^ l.length := by rw [Int.mul_comm (10 ^ l.length) 10, Int.mul_assoc]
    rw [e]
    exact this
theorem tx_cut_mem {x : TX} {a b : Nat} {c : Int} (h : c ∈ tx_cut x a b) : ∃ j, a ≤ j ∧ j < b ∧ c = x.1 j := by
  unfold tx_cut at h
  obtain ⟨i, hi, e⟩ := List.mem_map.mp h
  have := List.mem_range.mp hi
  exact ⟨a + i, by omega, by omega, e.symm⟩
theorem tx_cut_len (x : TX) (a b : Nat) : (tx_cut x a b).length = b - a := by simp [tx_cut]
theorem tx_num_b {x : TX} {a b : Nat} (h : ∀ j, a ≤ j → j < b → tx_digit x j = true) : 0 ≤ tx_num x a b ∧ tx_num x a b ≤ 999 := by
  unfold tx_num
  have hl : (tx_cut x a (if b - a ≤ 3 then b else a + 3)).length ≤ 3 := by rw [tx_cut_len]; split <;> omega
  have := num_b (tx_cut x a (if b - a ≤ 3 then b else a + 3)) 0 1 (fun c hc => by
    obtain ⟨j, h1, h2, rfl⟩ := tx_cut_mem hc
    have := h j h1 (by split at h2 <;> omega)
    unfold tx_digit at this
    simp only [Bool.and_eq_true, decide_eq_true_iff] at this
    omega) (by omega) (by omega)
  have hp : (10 : Int) ^ (tx_cut x a (if b - a ≤ 3 then b else a + 3)).length ≤ 10 ^ 3 := by
    have := Nat.pow_le_pow_right (n := 10) (by decide) hl
    have e1 : ((10 ^ (tx_cut x a (if b - a ≤ 3 then b else a + 3)).length : Nat) : Int) = 10 ^ (tx_cut x a (if b - a ≤ 3 then b else a + 3)).length := by simp
    omega
  omega
/-- tokens -/
def tkOk (x : TX) (q : Nat × Nat × Nat × Int) : Prop := q.1 ≤ q.2.1 ∧ q.2.1 ≤ x.2 ∧ (q.2.2.1 ≠ 24 → q.1 < q.2.1) ∧ q.2.2.1 < 42 ∧ (q.2.2.1 = 23 → 0 ≤ q.2.2.2 ∧ q.2.2.2 ≤ 999)
theorem tx_tok_ok (x : TX) {k : Nat} (hk : k ≤ x.2) : tkOk x (tx_tok x k) ∧ k ≤ (tx_tok x k).1 := by
  have ha := run1_ge (tx_blank x) (x.2 - k) k
  unfold tx_tok tkOk
  simp only
  split
  · simp only
    exact ⟨⟨by omega, by omega, fun q => absurd rfl q, by omega, fun q => by omega⟩, by omega⟩
  · rename_i c
    split
    · rename_i c2
      have hb := run1_ge (tx_small x) (x.2 - run1 (tx_blank x) (x.2 - k) k) (run1 (tx_blank x) (x.2 - k) k)
      have hb2 := run1_pos (m := x.2 - run1 (tx_blank x) (x.2 - k) k) c2 (by omega)
      have hk2 := tx_key_le x (run1 (tx_blank x) (x.2 - k) k) (run1 (tx_small x) (x.2 - run1 (tx_blank x) (x.2 - k) k) (run1 (tx_blank x) (x.2 - k) k))
      simp only
      exact ⟨⟨by omega, by omega, fun _ => by omega, by omega, fun q => by omega⟩, by omega⟩
    · split
      · rename_i c2
        have hb := run1_ge (tx_digit x) (x.2 - run1 (tx_blank x) (x.2 - k) k) (run1 (tx_blank x) (x.2 - k) k)
        have hb2 := run1_pos (m := x.2 - run1 (tx_blank x) (x.2 - k) k) c2 (by omega)
        have hn := tx_num_b (x := x) (a := run1 (tx_blank x) (x.2 - k) k) (b := run1 (tx_digit x) (x.2 - run1 (tx_blank x) (x.2 - k) k) (run1 (tx_blank x) (x.2 - k) k)) (fun j h1 h2 => run1_in _ _ _ j h1 h2)
        simp only
        exact ⟨⟨by omega, by omega, fun _ => by omega, by split <;> omega, fun _ => hn⟩, by omega⟩
      · have := tx_sign_b (x.1 (run1 (tx_blank x) (x.2 - k) k))
        simp only
        exact ⟨⟨by omega, by omega, fun _ => by omega, by omega, fun q => by omega⟩, by omega⟩
def tOk (x : TX) (s : TS) : Prop := tz_at s ≤ tz_bh s ∧ tz_bh s ≤ x.2 ∧ (tz_kd s ≠ 24 → tz_at s < tz_bh s) ∧ tz_kd s < 42 ∧ (tz_kd s = 23 → 0 ≤ tz_nu s ∧ tz_nu s ≤ 999)
theorem tz_next_ok {x : TX} {s : TS} (h : tz_bh s ≤ x.2) : tOk x (tz_next x s) ∧ tz_bh s ≤ tz_at (tz_next x s) := tx_tok_ok x h
theorem tz_next_wr {x : TX} {s : TS} : tz_wr (tz_next x s) = tz_wr s := rfl
theorem tz_next_wa {x : TX} {s : TS} : tz_wa (tz_next x s) = tz_wa s := rfl
theorem tz_fail_tok {k : Int} {s : TS} : tz_at (tz_fail k s) = tz_at s ∧ tz_bh (tz_fail k s) = tz_bh s ∧ tz_kd (tz_fail k s) = tz_kd s ∧ tz_nu (tz_fail k s) = tz_nu s := by
  unfold tz_fail
  split <;> exact ⟨rfl, rfl, rfl, rfl⟩
theorem tz_fail_ok {x : TX} {k : Int} {s : TS} (h : tOk x s) : tOk x (tz_fail k s) := by
  obtain ⟨a, b, c, d⟩ := tz_fail_tok (k := k) (s := s)
  unfold tOk
  rw [a, b, c, d]
  exact h
theorem tz_fail_wr {k : Int} {s : TS} (hk : k ≠ 0) : tz_wr (tz_fail k s) ≠ 0 := by
  unfold tz_fail
  split
  · show (if tz_kd s = 25 then (1 : Int) else k) ≠ 0
    split
    · decide
    · exact hk
  · assumption
theorem tz_fail_d {k : Int} {s : TS} (h : tz_wr s ≠ 0) : tz_fail k s = s := if_neg h
theorem tz_is_d {k : Nat} {s : TS} (h : tz_wr s ≠ 0) : tz_is k s = false := by simp [tz_is, h]
theorem tz_is_iff {k : Nat} {s : TS} : tz_is k s = true ↔ tz_wr s = 0 ∧ tz_kd s = k := by simp [tz_is]
theorem tz_must_d {x : TX} {k : Nat} {s : TS} (h : tz_wr s ≠ 0) : tz_must x k s = s := by
  unfold tz_must
  rw [tz_is_d h, if_neg (by decide), tz_fail_d h]
theorem tz_must_ok {x : TX} {k : Nat} {s : TS} (h : tOk x s) : tOk x (tz_must x k s) ∧ tz_at s ≤ tz_at (tz_must x k s) := by
  unfold tz_must
  split
  · have := tz_next_ok (x := x) h.2.1
    exact ⟨this.1, by have := h.1; omega⟩
  · exact ⟨tz_fail_ok h, by rw [tz_fail_tok.1]; omega⟩
theorem tz_must_0 {x : TX} {k : Nat} {s : TS} (h : tz_wr (tz_must x k s) = 0) : tz_wr s = 0 ∧ tz_kd s = k ∧ tz_must x k s = tz_next x s := by
  unfold tz_must at h ⊢
  by_cases c : tz_is k s = true
  · rw [if_pos c]
    exact ⟨(tz_is_iff.mp c).1, (tz_is_iff.mp c).2, rfl⟩
  · rw [if_neg c] at h
    exact absurd h (tz_fail_wr (by decide))
theorem tz_take_d {x : TX} {lo hi : Int} {s : TS} (h : tz_wr s ≠ 0) : tz_take x lo hi s = s := by
  unfold tz_take
  rw [tz_is_d h, if_neg (by decide), tz_fail_d h]
theorem tz_take_ok {x : TX} {lo hi : Int} {s : TS} (h : tOk x s) : tOk x (tz_take x lo hi s) ∧ tz_at s ≤ tz_at (tz_take x lo hi s) := by
  unfold tz_take
  split
  · split
    · have := tz_next_ok (x := x) h.2.1
      exact ⟨this.1, by have := h.1; omega⟩
    · exact ⟨tz_fail_ok h, by rw [tz_fail_tok.1]; omega⟩
  · exact ⟨tz_fail_ok h, by rw [tz_fail_tok.1]; omega⟩
theorem tz_take_0 {x : TX} {lo hi : Int} {s : TS} (h : tz_wr (tz_take x lo hi s) = 0) : tz_wr s = 0 ∧ tz_kd s = 23 ∧ (lo ≤ tz_nu s ∧ tz_nu s ≤ hi) ∧ tz_take x lo hi s = tz_next x s := by
  unfold tz_take at h ⊢
  by_cases c : tz_is 23 s = true
  · rw [if_pos c] at h ⊢
    by_cases c2 : lo ≤ tz_nu s ∧ tz_nu s ≤ hi
    · rw [if_pos c2] at h ⊢
      exact ⟨(tz_is_iff.mp c).1, (tz_is_iff.mp c).2, c2, rfl⟩
    · rw [if_neg c2] at h
      exact absurd h (tz_fail_wr (by decide))
  · rw [if_neg c] at h
    exact absurd h (tz_fail_wr (by decide))
theorem tz_in_ok {x : TX} {k : Nat} {s : TS} (h : tOk x s) : tOk x (tz_in x k s) ∧ tz_at s ≤ tz_at (tz_in x k s) ∧ (tz_wr (tz_in x k s) = 0 → k ≠ 1 ∧ tz_wr s = 0 ∧ tz_in x k s = tz_next x s ∧ tz_bh s ≤ tz_at (tz_in x k s)) := by
  unfold tz_in
  simp only
  by_cases ck : k = 1
  · rw [if_pos ck]
    have hw := tz_fail_wr (k := 4) (s := s) (by decide)
    rw [if_neg hw]
    exact ⟨tz_fail_ok h, by rw [tz_fail_tok.1]; omega, fun q => absurd q hw⟩
  · rw [if_neg ck]
    by_cases cw : tz_wr s = 0
    · rw [if_pos cw]
      have := tz_next_ok (x := x) h.2.1
      exact ⟨this.1, by have := h.1; omega, fun _ => ⟨ck, cw, rfl, this.2⟩⟩
    · rw [if_neg cw]
      exact ⟨h, Nat.le_refl _, fun q => absurd q cw⟩
theorem tz_code_len {c : Int} {s : TS} : (tz_code c s).length ≤ 1 := by
  unfold tz_code
  split <;> simp
theorem tz_code_mem {c d : Int} {s : TS} (h : d ∈ tz_code c s) : d = c := by
  unfold tz_code at h
  split at h
  · simpa using h
  · cases h
theorem sp_ty_app : ∀ (a b : List Int) (ks : List Bool), sp_ty (a ++ b) ks = (sp_ty a ks).bind (sp_ty b)
  | [], b, ks => rfl
  | c :: a, b, ks => by
    show (sp_ty1 c ks).bind (sp_ty (a ++ b)) = ((sp_ty1 c ks).bind (sp_ty a)).bind (sp_ty b)
    cases sp_ty1 c ks with
    | none => rfl
    | some k => exact sp_ty_app a b k
theorem sp_ty_1 {c : Int} {ks : List Bool} : sp_ty [c] ks = sp_ty1 c ks := by
  show (sp_ty1 c ks).bind (sp_ty []) = _
  cases sp_ty1 c ks <;> rfl
/-- a reader of numbers, of truths, is well -/
def gP (x : TX) (law : Nat) (b : Bool) (p : TP) : Prop := ∀ s, tOk x s → tOk x (p s).1 ∧ (p s).2.length + tz_at s ≤ tz_at (p s).1 ∧ (tz_wr s ≠ 0 → p s = (s, [])) ∧ (tz_wr (p s).1 = 0 → ∀ ks, sp_ty (p s).2 ks = some (b :: ks)) ∧ (law = 1 → ∀ c ∈ (p s).2, c ≠ 1005)
theorem gP.d {x : TX} {law : Nat} {b : Bool} {p : TP} (h : gP x law b p) {s : TS} (hs : tOk x s) (hw : tz_wr s ≠ 0) : p s = (s, []) := (h s hs).2.2.1 hw
theorem tz_word_b {law kd : Nat} {v : Int} (h : tz_word law kd = some v) : (0 ≤ v ∧ v ≤ 5) ∧ (law = 1 → v ≠ 5) ∧ kd ≤ 18 ∧ 8 ≤ kd := by
  unfold tz_word at h
  (repeat' split at h) <;> (first | cases h) <;> refine ⟨by omega, fun q => by omega, by omega, by omega⟩
theorem gP_atom {x : TX} {law k : Nat} {rec : TP} (hr : k ≠ 1 → gP x law false rec) : gP x law false (pAtom x law k rec) := by
  intro s hs
  have hn := tz_next_ok (x := x) hs.2.1
  unfold pAtom
  by_cases c1 : tz_is 23 s = true
  · rw [if_pos c1]
    obtain ⟨w, kd⟩ := tz_is_iff.mp c1
    have h1 := hs.2.2.1 (by omega)
    have h2 := hs.2.2.2.2 kd
    refine ⟨hn.1, by simp; omega, fun q => absurd w q, fun _ ks => ?_, fun _ c hc => ?_⟩
    · rw [sp_ty_1]
      unfold sp_ty1
      rw [if_pos (by omega), if_pos (by omega)]
    · simp at hc; omega
  · rw [if_neg c1]
    by_cases c2 : tz_wr s = 0 ∧ (tz_word law (tz_kd s)).isSome = true
    · rw [if_pos c2]
      obtain ⟨v, hv⟩ := Option.isSome_iff_exists.mp c2.2
      obtain ⟨b1, b2, b3, b4⟩ := tz_word_b hv
      have h1 := hs.2.2.1 (by omega)
      rw [hv]
      simp only [Option.getD_some]
      refine ⟨hn.1, by simp; omega, fun q => absurd c2.1 q, fun _ ks => ?_, fun hl c hc => ?_⟩
      · rw [sp_ty_1]
        unfold sp_ty1
        rw [if_neg (by omega), if_pos (by omega), if_pos (by omega)]
      · have := b2 hl
        simp at hc; omega
    · rw [if_neg c2]
      by_cases c3 : tz_is 35 s = true
      · rw [if_pos c3]
        obtain ⟨w, kd⟩ := tz_is_iff.mp c3
        have hi := tz_in_ok (k := k) hs
        simp only
        by_cases c4 : tz_wr (tz_in x k s) = 0
        · rw [if_pos c4]
          obtain ⟨i1, i2, i3, i4⟩ := hi.2.2 c4
          obtain ⟨r1, r2, r3, r4, r5⟩ := hr i1 _ hi.1
          have hm := tz_must_ok (k := 36) r1
          have h1 := hs.1
          refine ⟨hm.1, by simp only; omega, fun q => absurd w q, fun q ks => r4 (tz_must_0 q).1 ks, r5⟩
        · rw [if_neg c4]
          exact ⟨hi.1, by simp only [List.length_nil]; omega, fun q => absurd w q, fun q => absurd q c4, fun _ c hc => by cases hc⟩
      · rw [if_neg c3]
        refine ⟨tz_fail_ok hs, ?_, fun q => by rw [tz_fail_d q], fun q => absurd q (tz_fail_wr (by decide)), fun _ c hc => by cases hc⟩
        show 0 + tz_at s ≤ tz_at (tz_fail 2 s)
        rw [tz_fail_tok.1]; omega
/-- a sign between two of a kind -/
def sgOk (law : Nat) (b : Bool) (sign : Nat → Option Int) : Prop := ∀ k c, sign k = some c → k ≠ 24 ∧ c ≠ 1005 ∧ ∀ ks, sp_ty1 c (b :: b :: ks) = some (b :: ks)
theorem gP_loop {x : TX} {law : Nat} {b : Bool} {sign : Nat → Option Int} {p : TP} (hp : gP x law b p) (hg : sgOk law b sign) : ∀ m s, tOk x s → tOk x (pLoop x sign p m s).1 ∧ (pLoop x sign p m s).2.length + tz_at s ≤ tz_at (pLoop x sign p m s).1 ∧ (tz_wr s ≠ 0 → pLoop x sign p m s = (s, [])) ∧ (tz_wr (pLoop x sign p m s).1 = 0 → ∀ ks, sp_ty (pLoop x sign p m s).2 (b :: ks) = some (b :: ks)) ∧ (law = 1 → ∀ c ∈ (pLoop x sign p m s).2, c ≠ 1005)
  | 0, s, hs => ⟨hs, by simp [pLoop], fun _ => rfl, fun _ ks => rfl, fun _ c hc => by cases hc⟩
  | m + 1, s, hs => by
    unfold pLoop
    by_cases cw : tz_wr s = 0
    · rw [if_pos cw]
      cases hsg : sign (tz_kd s) with
      | none => exact ⟨hs, by simp, fun _ => rfl, fun _ ks => rfl, fun _ c hc => by cases hc⟩
      | some c =>
        obtain ⟨g1, g2, g3⟩ := hg _ _ hsg
        have hn := tz_next_ok (x := x) hs.2.1
        have h1 := hs.2.2.1 g1
        obtain ⟨r1, r2, r3, r4, r5⟩ := hp _ hn.1
        obtain ⟨l1, l2, l3, l4, l5⟩ := gP_loop hp hg m _ r1
        have hc1 := tz_code_len (c := c) (s := (p (tz_next x s)).1)
        simp only
        refine ⟨l1, by simp only [List.length_append]; omega, fun q => absurd cw q, fun q ks => ?_, fun hl d hd => ?_⟩
        · have w1 : tz_wr (p (tz_next x s)).1 = 0 := Classical.not_not.mp (fun z => by rw [l3 z] at q; exact z q)
          have e : tz_code c (p (tz_next x s)).1 = [c] := if_pos w1
          rw [sp_ty_app, sp_ty_app, r4 w1, e]
          show ((sp_ty [c] (b :: b :: ks))).bind _ = _
          rw [sp_ty_1, g3]
          exact l4 q ks
        · rcases List.mem_append.mp hd with hd | hd
          · rcases List.mem_append.mp hd with hd | hd
            · exact r5 hl d hd
            · rw [tz_code_mem hd]; exact g2
          · exact l5 hl d hd
    · rw [if_neg cw]
      exact ⟨hs, by simp, fun _ => rfl, fun q => absurd q cw, fun _ c hc => by cases hc⟩
theorem gP_rep {x : TX} {law : Nat} {b : Bool} {sign : Nat → Option Int} {p : TP} (hp : gP x law b p) (hg : sgOk law b sign) : gP x law b (pRep x sign p) := by
  intro s hs
  obtain ⟨r1, r2, r3, r4, r5⟩ := hp s hs
  obtain ⟨l1, l2, l3, l4, l5⟩ := gP_loop hp hg 1000 _ r1
  unfold pRep
  simp only
  refine ⟨l1, by simp only [List.length_append]; omega, fun q => ?_, fun q ks => ?_, fun hl d hd => ?_⟩
  · have e := r3 q
    have hd : tz_wr (p s).1 ≠ 0 := by rw [e]; exact q
    rw [l3 hd, e]
    rfl
  · have w1 : tz_wr (p s).1 = 0 := Classical.not_not.mp (fun z => by rw [l3 z] at q; exact z q)
    rw [sp_ty_app, r4 w1]
    exact l4 q ks
  · rcases List.mem_append.mp hd with hd | hd
    · exact r5 hl d hd
    · exact l5 hl d hd
theorem sg_star_ok (law : Nat) : sgOk law false sg_star := by
  intro k c h
  unfold sg_star at h
  split at h
  · cases h
    exact ⟨by omega, by decide, fun ks => rfl⟩
  · cases h
theorem sg_sum_ok (law : Nat) : sgOk law false sg_sum := by
  intro k c h
  unfold sg_sum at h
  (repeat' split at h) <;> (first | cases h) <;> exact ⟨by omega, by decide, fun ks => rfl⟩
theorem sg_and_ok (law : Nat) : sgOk law true sg_and := by
  intro k c h
  unfold sg_and at h
  (repeat' split at h) <;> (first | cases h) <;> exact ⟨by omega, by decide, fun ks => rfl⟩
theorem sg_or_ok (law : Nat) : sgOk law true sg_or := by
  intro k c h
  unfold sg_or at h
  (repeat' split at h) <;> (first | cases h) <;> exact ⟨by omega, by decide, fun ks => rfl⟩
theorem gP_sum (x : TX) (law : Nat) : ∀ k, gP x law false (pSum x law (k + 1))
  | 0 => gP_rep (gP_rep (gP_atom (fun h => absurd rfl h)) (sg_star_ok law)) (sg_sum_ok law)
  | k + 1 => gP_rep (gP_rep (gP_atom (fun _ => gP_sum x law k)) (sg_star_ok law)) (sg_sum_ok law)
theorem sg_cmp_b {k : Nat} {c : Int} (h : sg_cmp k = some c) : k ≠ 24 ∧ (c = 3003 ∨ c = 3004 ∨ c = 3005) := by
  unfold sg_cmp at h
  (repeat' split at h) <;> (first | cases h) <;> exact ⟨by omega, by decide⟩
theorem gP_cmp {x : TX} {law : Nat} {p : TP} (hp : gP x law false p) : gP x law true (pCmp x p) := by
  intro s hs
  obtain ⟨r1, r2, r3, r4, r5⟩ := hp s hs
  unfold pCmp
  simp only
  by_cases c : tz_wr (p s).1 = 0 ∧ (sg_cmp (tz_kd (p s).1)).isSome = true
  · rw [if_pos c]
    obtain ⟨v, hv⟩ := Option.isSome_iff_exists.mp c.2
    obtain ⟨b1, b2⟩ := sg_cmp_b hv
    have hn := tz_next_ok (x := x) r1.2.1
    have h1 := r1.2.2.1 b1
    obtain ⟨q1, q2, q3, q4, q5⟩ := hp _ hn.1
    have hc1 := tz_code_len (c := v) (s := (p (tz_next x (p s).1)).1)
    rw [hv]
    simp only [Option.getD_some]
    refine ⟨q1, by simp only [List.length_append]; omega, fun q => ?_, fun q ks => ?_, fun hl d hd => ?_⟩
    · exact absurd c.1 (by rw [r3 q]; exact q)
    · have e : tz_code v (p (tz_next x (p s).1)).1 = [v] := if_pos q
      rw [sp_ty_app, sp_ty_app, r4 c.1, e]
      show ((sp_ty _ (false :: ks))).bind _ = _
      rw [q4 q]
      show sp_ty [v] (false :: false :: ks) = _
      rw [sp_ty_1]
      rcases b2 with rfl | rfl | rfl <;> rfl
    · rcases List.mem_append.mp hd with hd | hd
      · rcases List.mem_append.mp hd with hd | hd
        · exact r5 hl d hd
        · exact q5 hl d hd
      · rw [tz_code_mem hd]
        omega
  · rw [if_neg c]
    have hw := tz_fail_wr (k := 2) (s := (p s).1) (by decide)
    have ok := tz_fail_ok (k := 2) r1
    have e := hp.d ok hw
    have e2 : tz_code ((sg_cmp (tz_kd (p s).1)).getD 3005) (tz_fail 2 (p s).1) = [] := if_neg hw
    rw [e]
    simp only [e2, List.append_nil]
    refine ⟨ok, by rw [tz_fail_tok.1]; omega, fun q => ?_, fun q => absurd q hw, r5⟩
    have e3 := r3 q
    have hd : tz_wr (p s).1 ≠ 0 := by rw [e3]; exact q
    rw [tz_fail_d hd, e3]
theorem gP_truth {x : TX} {law : Nat} {u : TP} (hu : gP x law true u) : gP x law true (pTruth x u) := gP_rep (gP_rep hu (sg_and_ok law)) (sg_or_ok law)
theorem gP_unit (x : TX) (law : Nat) : ∀ k, gP x law true (pUnit x law (k + 1)) := by
  have main : ∀ k, (k + 1 ≠ 1 → gP x law true (pUnit x law k)) → gP x law true (pUnit x law (k + 1)) := by
    intro k ih s hs
    unfold pUnit
    by_cases c1 : tz_is 21 s = true
    · rw [if_pos c1]
      obtain ⟨w, kd⟩ := tz_is_iff.mp c1
      have hi := tz_in_ok (k := k + 1) hs
      simp only
      by_cases c4 : tz_wr (tz_in x (k + 1) s) = 0
      · rw [if_pos c4]
        obtain ⟨i1, i2, i3, i4⟩ := hi.2.2 c4
        obtain ⟨r1, r2, r3, r4, r5⟩ := ih i1 _ hi.1
        have h1 := hs.2.2.1 (by omega)
        have hc1 := tz_code_len (c := 3006) (s := (pUnit x law k (tz_in x (k + 1) s)).1)
        refine ⟨r1, by simp only [List.length_append]; omega, fun q => absurd w q, fun q ks => ?_, fun hl d hd => ?_⟩
        · have e : tz_code 3006 (pUnit x law k (tz_in x (k + 1) s)).1 = [3006] := if_pos q
          rw [sp_ty_app, r4 q, e]
          rfl
        · rcases List.mem_append.mp hd with hd | hd
          · exact r5 hl d hd
          · rw [tz_code_mem hd]; decide
      · rw [if_neg c4]
        exact ⟨hi.1, by simp only [List.length_nil]; omega, fun q => absurd w q, fun q => absurd q c4, fun _ c hc => by cases hc⟩
    · rw [if_neg c1]
      by_cases c3 : tz_is 37 s = true
      · rw [if_pos c3]
        obtain ⟨w, kd⟩ := tz_is_iff.mp c3
        have hi := tz_in_ok (k := k + 1) hs
        simp only
        by_cases c4 : tz_wr (tz_in x (k + 1) s) = 0
        · rw [if_pos c4]
          obtain ⟨i1, i2, i3, i4⟩ := hi.2.2 c4
          obtain ⟨r1, r2, r3, r4, r5⟩ := gP_truth (ih i1) _ hi.1
          have hm := tz_must_ok (k := 38) r1
          have h1 := hs.1
          refine ⟨hm.1, by simp only; omega, fun q => absurd w q, fun q ks => r4 (tz_must_0 q).1 ks, r5⟩
        · rw [if_neg c4]
          exact ⟨hi.1, by simp only [List.length_nil]; omega, fun q => absurd w q, fun q => absurd q c4, fun _ c hc => by cases hc⟩
      · rw [if_neg c3]
        exact gP_cmp (gP_sum x law k) s hs
  intro k
  induction k with
  | zero => exact main 0 (fun h => absurd rfl h)
  | succ k ih => exact main (k + 1) (fun _ => ih)
