theorem gmax_0 (P : Nat → Bool) (v : Nat → Int) : ∀ n, 0 ≤ gmax P v n
  | 0 => Int.le_refl _
  | n + 1 => by
    have := gmax_0 P v n
    unfold gmax
    split <;> omega
theorem gmax_ge {P : Nat → Bool} {v : Nat → Int} {k : Nat} (h : P k = true) : ∀ {n : Nat}, k < n → v k ≤ gmax P v n
  | n + 1, hk => by
    unfold gmax
    by_cases e : k = n
    · subst e
      split
      · omega
      · rename_i c
        have : ¬ gmax P v k < v k := fun q => c ⟨h, q⟩
        omega
    · have := gmax_ge (v := v) h (n := n) (by omega)
      split <;> omega
theorem gmax_le {P : Nat → Bool} {v : Nat → Int} {x : Int} (h0 : 0 ≤ x) : ∀ {n : Nat}, (∀ k, k < n → P k = true → v k ≤ x) → gmax P v n ≤ x
  | 0, _ => h0
  | n + 1, h => by
    have := gmax_le (P := P) (v := v) h0 (n := n) (fun k hk => h k (by omega))
    unfold gmax
    split
    · rename_i c
      exact h n (by omega) c.1
    · exact this
theorem gmax_eq {P P' : Nat → Bool} {v v' : Nat → Int} {n n' : Nat} (h1 : ∀ k, k < n → P k = true → ∃ j, j < n' ∧ P' j = true ∧ v k = v' j) (h2 : ∀ j, j < n' → P' j = true → ∃ k, k < n ∧ P k = true ∧ v k = v' j) : gmax P v n = gmax P' v' n' := by
  refine Int.le_antisymm (gmax_le (gmax_0 ..) (fun k hk hP => ?_)) (gmax_le (gmax_0 ..) (fun j hj hP => ?_))
  · obtain ⟨j, a, b, c⟩ := h1 k hk hP
    rw [c]
    exact gmax_ge b a
  · obtain ⟨k, a, b, c⟩ := h2 j hj hP
    rw [← c]
    exact gmax_ge b a
/-- the model's way: over the spots where one can be -/
theorem sp_lk_on {B : Int} {f : Nat → Int} (hR : sp_ok B f) {p h fog : Int} {s : Nat} (hs : (s : Int) < 2 * f 1 ∨ s = 8) (c : Nat → Int) : gmax (fun t => (sp_on f p h fog (2 ^ s)).testBit t) c 9 = sp_lk f p s h fog c := by
  have hg := hR.g
  unfold sp_lk
  refine gmax_eq (fun t ht hP => ?_) (fun a ha hP => ?_)
  · rcases (sp_on_t hR).mp hP with q | ⟨s', a, q1, q2, q3, q4, q5⟩
    · have := tb2.mp q
      subst this
      refine ⟨0, by omega, ?_, ?_⟩
      · have e0 : sp_can f p s ((0 : Nat) : Int) h fog = s := sp_can_0
        rw [decide_eq_true_iff, e0]
        omega
      · have e0 : sp_can f p s ((0 : Nat) : Int) h fog = s := sp_can_0
        simp only [e0, Int.toNat_natCast]
    · have := tb2.mp q2
      subst this
      exact ⟨a, by omega, by rw [decide_eq_true_iff, q5]; omega, by simp only [q5, Int.toNat_natCast]⟩
  · rw [decide_eq_true_iff] at hP
    have hb := sp_can_b hR (p := p) (s := s) (act := a) (h := h) (fog := fog) (by omega) (by omega) (by omega) (by omega)
    refine ⟨(sp_can f p s a h fog).toNat, by omega, (sp_on_t hR).mpr ?_, rfl⟩
    by_cases e : a = 0
    · subst e
      have e0 : sp_can f p s ((0 : Nat) : Int) h fog = s := sp_can_0
      rw [e0, Int.toNat_natCast]
      exact Or.inl (tb2.mpr rfl)
    · exact Or.inr ⟨s, a, by omega, tb2.mpr rfl, by omega, by omega, by omega⟩
theorem sp_lk_b {f : Nat → Int} {p s h fog : Int} {c : Nat → Int} {x : Int} (h0 : 0 ≤ x) (hc : ∀ t, c t ≤ x) : 0 ≤ sp_lk f p s h fog c ∧ sp_lk f p s h fog c ≤ x := ⟨gmax_0 .., gmax_le h0 (fun k _ _ => hc _)⟩
theorem sp_lk_c {B : Int} {f : Nat → Int} (hR : sp_ok B f) {p h fog : Int} {s : Nat} (hs : (s : Int) < 2 * f 1 ∨ s = 8) {c c' : Nat → Int} (hc : ∀ t : Nat, sp_isp f t → c t = c' t) : sp_lk f p s h fog c = sp_lk f p s h fog c' := by
  have key : ∀ a : Nat, a < 7 → decide (sp_can f p s a h fog ≠ -1) = true → c (sp_can f p s a h fog).toNat = c' (sp_can f p s a h fog).toNat := by
    intro a ha hP
    rw [decide_eq_true_iff] at hP
    have hb := sp_can_b hR (p := p) (s := s) (act := a) (h := h) (fog := fog) (by omega) (by omega) (by omega) (by omega)
    exact hc _ (by unfold sp_isp; omega)
  exact gmax_eq (fun k a b => ⟨k, a, b, key k a b⟩) (fun k a b => ⟨k, a, b, key k a b⟩)
theorem pow10 (k : Nat) : (0 : Int) < 10 ^ k := by
  have : 0 < 10 ^ k := Nat.pow_pos (by decide)
  have e : ((10 ^ k : Nat) : Int) = 10 ^ k := by simp
  omega
theorem pow10_le {k : Nat} (h : k ≤ 9) : (10 : Int) ^ k ≤ 1000000000 := by
  have : (10 : Nat) ^ k ≤ 10 ^ 9 := Nat.pow_le_pow_right (by decide) h
  have e : ((10 ^ k : Nat) : Int) = 10 ^ k := by simp
  omega
theorem mix_b {a x y z : Int} (ha : 0 ≤ a ∧ a ≤ 10) (hx : 0 ≤ x ∧ x ≤ z) (hy : 0 ≤ y ∧ y ≤ z) : 0 ≤ a * x + (10 - a) * y ∧ a * x + (10 - a) * y ≤ 10 * z := by
  have h1 : 0 ≤ a * x := Int.mul_nonneg ha.1 hx.1
  have h2 : 0 ≤ (10 - a) * y := Int.mul_nonneg (by omega) hy.1
  have h3 : a * x ≤ a * z := Int.mul_le_mul_of_nonneg_left hx.2 ha.1
  have h4 : (10 - a) * y ≤ (10 - a) * z := Int.mul_le_mul_of_nonneg_left hy.2 (by omega)
  have h5 : a * z + (10 - a) * z = 10 * z := by rw [← Int.add_mul]; congr 1; omega
  omega
theorem sp_ch_b {f : Nat → Int} (hf : 0 ≤ f 4 ∧ f 4 ≤ 10) {p goal : Int} {n : Nat} : ∀ k s, 0 ≤ sp_ch f p goal n k s ∧ sp_ch f p goal n k s ≤ 10 ^ k
  | 0, s => by
    unfold sp_ch
    simp only [Int.pow_zero]
    split <;> omega
  | k + 1, s => by
    have ih := sp_ch_b hf (p := p) (goal := goal) (n := n) k
    have h10 := pow10 k
    have e : (10 : Int) ^ (k + 1) = 10 ^ k * 10 := Int.pow_succ ..
    have m := mix_b hf (sp_lk_b (f := f) (p := p) (s := s) (h := f 26 + (n - (k + 1) : Nat)) (fog := 1) (c := sp_ch f p goal n k) (x := 10 ^ k) (by omega) (fun t => (ih t).2)) (sp_lk_b (f := f) (p := p) (s := s) (h := f 26 + (n - (k + 1) : Nat)) (fog := 0) (c := sp_ch f p goal n k) (x := 10 ^ k) (by omega) (fun t => (ih t).2))
    unfold sp_ch
    split
    · omega
    · split
      · omega
      · omega
/-! ===== one more time: hours as the class counts them ===== -/
noncomputable def sp_hf (f : Nat → Int) (p : Int) (s to bg n : Nat) : Int := fst1 (fun k => (sp_rc f p bg (2 ^ s) (k - bg)).testBit to) n bg
theorem sp_hf_0 (f : Nat → Int) (p : Int) (s to : Nat) : sp_hf f p s to 0 61 = sp_hto f p s to 0 := rfl
theorem sp_hf_it {f : Nat → Int} {p later : Nat} {n : Nat} (hn : ∀ k : Nat, k < n ↔ k ≤ 60 ∧ f 26 + later + k ≤ f (21 + p)) : (decide ((f 28).toNat.testBit p = true) || decide (sp_hf f p (sp_s f p) (f (16 + p)).toNat later n ≠ -1)) = sp_it f p later := by
  rw [Bool.eq_iff_iff, sp_it_iff, Bool.or_eq_true, decide_eq_true_iff, decide_eq_true_iff]
  refine or_congr Iff.rfl ?_
  unfold sp_hf
  rcases fst1_ok (P := fun k => (sp_rc f p later (2 ^ sp_s f p) (k - later)).testBit (f (16 + p)).toNat) (n := n) (k := later) with e | ⟨j, e1, e2, e3, e4, e5⟩
  · rw [e]
    refine ⟨fun q => absurd rfl q, ?_⟩
    rintro ⟨k, h1, h2, h3⟩
    have := fst1_no e (later + k) (by omega) (by have := (hn k).mpr ⟨h1, h2⟩; omega)
    simp only [Nat.add_sub_cancel_left] at this
    rw [h3] at this
    cases this
  · rw [e1]
    refine ⟨fun _ => ?_, fun _ => by omega⟩
    obtain ⟨h1, h2⟩ := (hn (j - later)).mp (by omega)
    exact ⟨j - later, h1, h2, e4⟩
/-- all spots -/
def spots (f : Nat → Int) : Nat := bset (fun s => decide (sp_isp f s)) 9
theorem spots_t {f : Nat → Int} (hg : f 1 ≤ 4) {s : Nat} : (spots f).testBit s = true ↔ sp_isp f s := by
  unfold spots
  rw [bset_t, Bool.and_eq_true, decide_eq_true_iff, decide_eq_true_iff]
  refine ⟨fun q => q.2, fun q => ⟨?_, q⟩⟩
  unfold sp_isp at q
  omega
theorem spots_sp {f : Nat → Int} (hg : f 1 ≤ 4) : isSp f (spots f) := by
  intro t ht
  have := (spots_t hg).mp ht
  unfold sp_isp at this
  omega
theorem spots_on {B : Int} {f : Nat → Int} (hR : sp_ok B f) {p h fog : Int} : sp_on f p h fog (spots f) = spots f := by
  have hg := hR.g
  refine Nat.eq_of_testBit_eq (fun t => ?_)
  rw [Bool.eq_iff_iff]
  refine ⟨fun q => ?_, fun q => (sp_on_t hR).mpr (Or.inl q)⟩
  have := sp_on_sp hR (spots_sp hg.2) t q
  exact (spots_t hg.2).mpr (by unfold sp_isp; omega)
/-! ===== weeks, once more ===== -/
theorem gp_b {f : Nat → Int} {g : Nat} (hg : (g : Int) ≤ f 1) : -1 ≤ gp f g ∧ gp f g < f 1 ∨ f 1 ≤ 0 := by
  unfold gp
  split <;> omega
/-- rows that differ in the week alone -/
def wkEq (f f' : Nat → Int) : Prop := ∀ j, ¬ (29 ≤ j ∧ j < 35) → f' j = f j
theorem wkEq.up {f f' : Nat → Int} (h : wkEq f f') {k : Nat} (hk : k < 6) (v : Int) : wkEq f (up f' (29 + k) v) := fun j hj => by rw [up_n (by omega)]; exact h j hj
theorem wkEq.rfl' {f : Nat → Int} : wkEq f f := fun _ _ => rfl
theorem wkEq.ok {B : Int} {f f' : Nat → Int} (h : wkEq f f') (hR : sp_ok B f) (hw : ∀ k, k < 6 → -1 ≤ f' (29 + k) ∧ f' (29 + k) < f 1) : sp_ok B f' :=
  sp_ok_c hR (fun j hj => h j (by omega)) (by rw [h 26 (by omega)]; exact hR.hr) (by rw [h 27 (by omega)]; exact hR.fg) (by rw [h 28 (by omega)]; exact hR.rd) hw
    (fun p hp => by rw [h _ (by omega)]; exact hR.at' p hp) (fun p hp => by rw [h _ (by omega)]; exact hR.ac p hp) (by rw [h 45 (by omega)]; exact hR.nd)
theorem sp_lb_c {f f' : Nat → Int} {law : Nat} (hl : law < 2) (e : ∀ j, j < 26 ∨ 237 ≤ j → f' j = f j) {p gap hour fog side : Int} (hp : 0 ≤ p ∧ p < 5) : sp_lb f' law p gap hour fog side = sp_lb f law p gap hour fog side := by
  have key : sp_lets f' law p gap hour fog side ↔ sp_lets f law p gap hour fog side := by
    unfold sp_lets
    rw [e (5 + law) (by omega), sp_codes_c hl e]
    have ew : sp_wd f' p gap hour fog side = sp_wd f p gap hour fog side := by
      funext i
      unfold sp_wd
      split <;> first | rfl | exact e _ (by omega)
    rw [ew]
  by_cases c : sp_lets f law p gap hour fog side
  · rw [(sp_lb_iff ..).mpr c, (sp_lb_iff ..).mpr (key.mpr c)]
  · rcases sp_lb_01 f law p gap hour fog side with a | a
    · rcases sp_lb_01 f' law p gap hour fog side with b | b
      · rw [a, b]
      · exact absurd (key.mp ((sp_lb_iff ..).mp b)) c
    · exact absurd ((sp_lb_iff ..).mp a) c
/-- the tables of a person don't hang on the week -/
theorem tU_c {f f' : Nat → Int} (e : wkEq f f') {p h fog : Int} (hp : 0 ≤ p ∧ p < 5) : tU f' p h fog = tU f p h fog := by
  unfold tU
  rw [e 1 (by omega)]
  refine bset_c (fun s _ => ?_)
  rw [sp_lb_c (by omega) (fun j hj => e j (by omega)) hp]
theorem tD_c {f f' : Nat → Int} (e : wkEq f f') {p h fog : Int} (hp : 0 ≤ p ∧ p < 5) : tD f' p h fog = tD f p h fog := by
  unfold tD
  rw [e 1 (by omega)]
  refine bset_c (fun s _ => ?_)
  rw [sp_lb_c (by omega) (fun j hj => e j (by omega)) hp]
theorem tS_c {f f' : Nat → Int} (e : wkEq f f') {p h fog : Int} (hp : 0 ≤ p ∧ p < 5) : tS f' p h fog = tS f p h fog := by
  unfold tS
  rw [e 1 (by omega)]
  refine bset_c (fun s _ => ?_)
  rw [sp_lb_c (by omega) (fun j hj => e j (by omega)) hp]
theorem sp_leaf_some (x : (Nat → Int) × Option (Int × Int × (Nat → Int)) × Int) : (sp_leaf x).2.1 ≠ none := by
  unfold sp_leaf
  simp only
  split
  · simp
  · split <;> simp
theorem sp_gw_some (G : Nat) : ∀ r h x, (sp_gw G r h x).2.1 ≠ none
  | 0, h, x => sp_leaf_some x
  | r + 1, h, x => by
    unfold sp_gw
    show (sp_gw G r (h + 1) _).2.1 ≠ none
    exact sp_gw_some G r _ _
/-- what holds of all states in a walk through the weeks -/
theorem sp_gw_ind (G : Nat) {P : (Nat → Int) × Option (Int × Int × (Nat → Int)) × Int → Prop} {W : Nat} (hl : ∀ x, P x → P (sp_leaf x)) (hu : ∀ x h g, P x → h < W → g ≤ G → P (up x.1 (29 + h) (if g = G then -1 else (g : Nat)), x.2)) : ∀ r h x, h + r = W → P x → P (sp_gw G r h x)
  | 0, h, x, _, hx => hl x hx
  | r + 1, h, x, e, hx => by
    unfold sp_gw
    exact iter_ind (fun _ y => P y) hx (G + 1) (fun k y hk hy => sp_gw_ind G hl hu r (h + 1) _ (by omega) (hu y h k hy (by omega) (by omega)))
