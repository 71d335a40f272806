/-! ===== how many ways ===== -/
/-- a step done for 0, 1 .. n - 1 -/
def iter {α : Type} (s : Nat → α → α) : Nat → α → α
  | 0, x => x
  | n + 1, x => s n (iter s n x)
theorem iter_ind {α : Type} {s : Nat → α → α} {x : α} (P : Nat → α → Prop) (h0 : P 0 x) : ∀ n, (∀ k y, k < n → P k y → P (k + 1) (s k y)) → P n (iter s n x)
  | 0, _ => h0
  | n + 1, h => h n _ (by omega) (iter_ind P h0 n (fun k y hk => h k y (by omega)))
noncomputable def sp_wys (f : Nat → Int) (p h fog : Int) (w : Nat → Int) (s a : Nat) (r : Nat → Int) : Nat → Int :=
  if w s = 0 ∨ sp_can f p s a h fog = -1 then r else up r (sp_can f p s a h fog).toNat (r (sp_can f p s a h fog).toNat + w s)
noncomputable def sp_wyh (f : Nat → Int) (p h fog : Int) (w : Nat → Int) : Nat → Int := iter (fun s r => iter (sp_wys f p h fog w s) 7 r) 9 (fun _ => 0)
noncomputable def sp_wy (f : Nat → Int) (p : Nat) : Nat → (Nat → Int)
  | 0 => fun s => if (s : Int) = f (35 + p) then 1 else 0
  | k + 1 => sp_wyh f p (f 26 + (k : Nat)) (sp_fog f (k : Nat)) (sp_wy f p k)
def tot (r : Nat → Int) : Int := r 0 + r 1 + r 2 + r 3 + r 4 + r 5 + r 6 + r 7 + r 8
/-- none below 0, nothing beside spots -/
def wOk (f : Nat → Int) (r : Nat → Int) : Prop := ∀ s, 0 ≤ r s ∧ (¬ sp_isp f s → r s = 0)
theorem tot_up {r : Nat → Int} {c : Nat} (hc : c < 9) (x : Int) : tot (up r c (r c + x)) = tot r + x := by
  have : c = 0 ∨ c = 1 ∨ c = 2 ∨ c = 3 ∨ c = 4 ∨ c = 5 ∨ c = 6 ∨ c = 7 ∨ c = 8 := by omega
  rcases this with rfl | rfl | rfl | rfl | rfl | rfl | rfl | rfl | rfl <;> simp [tot, up] <;> omega
theorem tot_le {f r : Nat → Int} (h : wOk f r) {s : Nat} (hs : s < 9) : r s ≤ tot r := by
  have h0 := (h 0).1; have h1 := (h 1).1; have h2 := (h 2).1; have h3 := (h 3).1; have h4 := (h 4).1
  have h5 := (h 5).1; have h6 := (h 6).1; have h7 := (h 7).1; have h8 := (h 8).1
  have : s = 0 ∨ s = 1 ∨ s = 2 ∨ s = 3 ∨ s = 4 ∨ s = 5 ∨ s = 6 ∨ s = 7 ∨ s = 8 := by omega
  unfold tot
  rcases this with rfl | rfl | rfl | rfl | rfl | rfl | rfl | rfl | rfl <;> omega
theorem sp_wys_ok {B : Int} {f : Nat → Int} (hR : sp_ok B f) {p h fog : Int} {w r : Nat → Int} {s a : Nat} (hw : wOk f w) (ha : a < 7) (hr : wOk f r) : wOk f (sp_wys f p h fog w s a r) ∧ tot (sp_wys f p h fog w s a r) ≤ tot r + w s ∧ tot r ≤ tot (sp_wys f p h fog w s a r) := by
  have hg := hR.g
  have w0 := (hw s).1
  unfold sp_wys
  split
  · exact ⟨hr, by omega, by omega⟩
  · rename_i c
    have c1 : ¬ w s = 0 := fun q => c (Or.inl q)
    have c2 : ¬ sp_can f p s a h fog = -1 := fun q => c (Or.inr q)
    have hs : sp_isp f s := Classical.not_not.mp (fun q => c1 ((hw s).2 q))
    unfold sp_isp at hs
    have hb := sp_can_b hR (p := p) (s := s) (act := a) (h := h) (fog := fog) (by omega) (by omega) (by omega) (by omega)
    rw [tot_up (by omega)]
    refine ⟨fun t => ?_, by omega, by omega⟩
    have rt := hr t
    have rc := hr (sp_can f p s a h fog).toNat
    by_cases e : t = (sp_can f p s a h fog).toNat
    · subst e
      rw [up_e]
      exact ⟨by omega, fun q => absurd (by unfold sp_isp; omega) q⟩
    · rw [up_n e]
      exact rt
theorem sp_wyh_i {B : Int} {f : Nat → Int} (hR : sp_ok B f) {p h fog : Int} {w : Nat → Int} (hw : wOk f w) {s : Nat} {r : Nat → Int} (hr : wOk f r) (n : Nat) (hn : n ≤ 7) : wOk f (iter (sp_wys f p h fog w s) n r) ∧ tot (iter (sp_wys f p h fog w s) n r) ≤ tot r + n * w s := by
  refine iter_ind (fun n y => wOk f y ∧ tot y ≤ tot r + n * w s) ⟨hr, by simp⟩ n (fun k y hk q => ?_)
  have := sp_wys_ok hR (p := p) (h := h) (fog := fog) (s := s) (a := k) hw (by omega) q.1
  refine ⟨this.1, ?_⟩
  have e : ((k + 1 : Nat) : Int) * w s = k * w s + w s := by rw [Int.natCast_add, Int.add_mul]; simp
  omega
theorem sp_wyh_o {B : Int} {f : Nat → Int} (hR : sp_ok B f) {p h fog : Int} {w : Nat → Int} (hw : wOk f w) : ∀ n, n ≤ 9 → wOk f (iter (fun s r => iter (sp_wys f p h fog w s) 7 r) n (fun _ => 0)) ∧ tot (iter (fun s r => iter (sp_wys f p h fog w s) 7 r) n (fun _ => 0)) ≤ 7 * tot (fun s => if s < n then w s else 0)
  | 0, _ => ⟨fun s => ⟨Int.le_refl _, fun _ => rfl⟩, by simp [iter, tot]⟩
  | n + 1, hn => by
    obtain ⟨h1, h2⟩ := sp_wyh_o hR (p := p) (h := h) (fog := fog) hw n (by omega)
    obtain ⟨h3, h4⟩ := sp_wyh_i hR (p := p) (h := h) (fog := fog) (s := n) hw h1 7 (by omega)
    refine ⟨h3, ?_⟩
    have e : (fun s => if s < n + 1 then w s else 0) = up (fun s => if s < n then w s else 0) n ((fun s => if s < n then w s else 0) n + w n) := by
      funext s
      unfold up
      by_cases c : s = n
      · subst c; simp
      · rw [if_neg c]
        show _ = if s < n then w s else 0
        by_cases c2 : s < n
        · rw [if_pos c2, if_pos (by omega)]
        · rw [if_neg c2, if_neg (by omega)]
    rw [e, tot_up (by omega)]
    show tot (iter (sp_wys f p h fog w n) 7 _) ≤ _
    omega
theorem sp_wy_ok {B : Int} {f : Nat → Int} (hR : sp_ok B f) {p : Nat} (hp : p < 5) : ∀ k, wOk f (sp_wy f p k) ∧ tot (sp_wy f p k) ≤ 7 ^ k
  | 0 => by
    have hs := hR.at' p hp
    have hg := hR.g
    refine ⟨fun s => ?_, ?_⟩
    · unfold sp_wy
      by_cases c : (s : Int) = f (35 + p)
      · rw [if_pos c]
        exact ⟨by omega, fun q => absurd (by unfold sp_isp; omega) q⟩
      · rw [if_neg c]
        exact ⟨by omega, fun _ => rfl⟩
    · unfold tot sp_wy
      simp only [Int.pow_zero]
      (repeat' split) <;> omega
  | k + 1 => by
    obtain ⟨h1, h2⟩ := sp_wy_ok hR hp k
    obtain ⟨h3, h4⟩ := sp_wyh_o hR (p := p) (h := f 26 + (k : Nat)) (fog := sp_fog f (k : Nat)) h1 9 (by omega)
    refine ⟨h3, ?_⟩
    have e : tot (fun s => if s < 9 then sp_wy f p k s else 0) = tot (sp_wy f p k) := by simp [tot]
    rw [e] at h4
    have e2 : (7 : Int) ^ (k + 1) = 7 ^ k * 7 := Int.pow_succ ..
    show tot (sp_wyh _ _ _ _ _) ≤ _
    unfold sp_wyh
    omega
theorem pow7 {k : Nat} (h : k ≤ 12) : (7 : Int) ^ k ≤ 13841287201 := by
  have : (7 : Nat) ^ k ≤ 7 ^ 12 := Nat.pow_le_pow_right (by decide) h
  have e : ((7 ^ k : Nat) : Int) = 7 ^ k := by simp
  omega
noncomputable def sp_waysV (f : Nat → Int) (p s n : Int) : Int := if (0 ≤ p ∧ p < f 3) ∧ sp_isp f s then (if 0 ≤ n ∧ n ≤ 12 then sp_wy f p.toNat n.toNat s.toNat else -3) else -2
/-! ===== errands in time ===== -/
noncomputable def sp_it (f : Nat → Int) (p later : Nat) : Bool := (f 28).toNat.testBit p || (decide (sp_hto f p (sp_s f p) (f (16 + p)).toNat later ≠ -1) && decide (f 26 + later + sp_hto f p (sp_s f p) (f (16 + p)).toNat later ≤ f (21 + p)))
def sp_er (f : Nat → Int) (p : Nat) : Bool := decide (f (16 + p) ≠ -1)
noncomputable def sp_its (f : Nat → Int) : Nat := bset (fun p => sp_er f p && sp_it f p 0) (f 3).toNat
def cnt (P : Nat → Bool) : Nat → Int
  | 0 => 0
  | n + 1 => cnt P n + (if P n then 1 else 0)
theorem cnt_b (P : Nat → Bool) : ∀ n, 0 ≤ cnt P n ∧ cnt P n ≤ n
  | 0 => by simp [cnt]
  | n + 1 => by
    have := cnt_b P n
    unfold cnt
    split <;> omega
theorem cnt_c {P P' : Nat → Bool} : ∀ {n : Nat}, (∀ k, k < n → P k = P' k) → cnt P n = cnt P' n
  | 0, _ => rfl
  | n + 1, h => by
    unfold cnt
    rw [cnt_c (fun k hk => h k (by omega)), h n (by omega)]
theorem pop_0 : pop 0 = 0 := by decide
theorem pop_bset (P : Nat → Bool) : ∀ n, n ≤ 9 → pop (bset P n) = cnt P n
  | 0, _ => pop_0
  | n + 1, h => by
    have ih := pop_bset P n (by omega)
    unfold bset cnt
    split
    · rw [pop_sb (Nat.lt_of_lt_of_le (bset_lt P n) (Nat.pow_le_pow_right (by decide) (show n ≤ 9 by omega))) (by omega) (by rw [bset_t]; simp), ih]
    · rw [ih]; omega
noncomputable def sp_itn (f : Nat → Int) : Int := cnt (fun p => sp_er f p && sp_it f p 0) (f 3).toNat
theorem sp_itn_pop {f : Nat → Int} (h : f 3 ≤ 5) : pop (sp_its f) = sp_itn f := pop_bset _ _ (by omega)
def sp_ers (f : Nat → Int) : Nat := bset (sp_er f) (f 3).toNat
def sp_ern (f : Nat → Int) : Int := cnt (sp_er f) (f 3).toNat
/-- whether there is an hour in time -/
theorem sp_it_iff {f : Nat → Int} {p later : Nat} : sp_it f p later = true ↔ (f 28).toNat.testBit p = true ∨ ∃ n : Nat, n ≤ 60 ∧ f 26 + later + n ≤ f (21 + p) ∧ (sp_rc f p later (2 ^ sp_s f p) n).testBit (f (16 + p)).toNat = true := by
  unfold sp_it sp_hto
  rw [Bool.or_eq_true, Bool.and_eq_true, decide_eq_true_iff, decide_eq_true_iff]
  refine or_congr Iff.rfl ?_
  rcases fst1_ok (P := fun n => (sp_rc f p later (2 ^ sp_s f p) n).testBit (f (16 + p)).toNat) (n := 61) (k := 0) with e | ⟨j, e1, e2, e3, e4, e5⟩
  · rw [e]
    refine ⟨fun q => absurd rfl q.1, ?_⟩
    rintro ⟨n, h1, h2, h3⟩
    have := fst1_no e n (by omega) (by omega)
    rw [h3] at this
    cases this
  · rw [e1]
    refine ⟨fun q => ⟨j, by omega, by omega, e4⟩, ?_⟩
    rintro ⟨n, h1, h2, h3⟩
    refine ⟨by omega, ?_⟩
    by_cases c : n < j
    · rw [e5 n (by omega) c] at h3
      cases h3
    · omega
noncomputable def sp_inTimeV (f : Nat → Int) : Int := (sp_its f : Nat)
/-- the latest, from 0 to n - 1 -/
def lst (P : Nat → Bool) : Nat → Int
  | 0 => -1
  | n + 1 => if P n then (n : Nat) else lst P n
theorem lst_b (P : Nat → Bool) : ∀ n, -1 ≤ lst P n ∧ lst P n < n
  | 0 => by simp [lst]
  | n + 1 => by
    have := lst_b P n
    unfold lst
    split <;> omega
noncomputable def sp_spareV (f : Nat → Int) (p : Int) : Int := if 0 ≤ p ∧ p < f 3 then (if f (16 + p.toNat) = -1 then -5 else lst (fun n => sp_it f p.toNat n) 61) else -2
noncomputable def sp_needsV (f : Nat → Int) (p : Int) : Int := if 0 ≤ p ∧ p < f 3 then (if f (16 + p.toNat) = -1 then -5 else if sp_it f p.toNat 0 then (bset (fun h => !sp_it (up f (29 + h) (-1)) p.toNat 0) (f 2).toNat : Nat) else -1) else -2
/-! ===== weeks ===== -/
def sp_mv (f : Nat → Int) : Int := cnt (fun h => decide (f (29 + h) ≠ f (29 + (h + (f 2).toNat - 1) % (f 2).toNat))) (f 2).toNat
/-- a gap's number in a week; behind the last: none -/
def gp (f : Nat → Int) (g : Nat) : Int := if (g : Int) = f 1 then -1 else g
noncomputable def sp_leaf (x : (Nat → Int) × Option (Int × Int × (Nat → Int)) × Int) : (Nat → Int) × Option (Int × Int × (Nat → Int)) × Int :=
  (x.1, (match x.2.1 with
    | none => some (sp_itn x.1, sp_mv x.1, fun h => x.1 (29 + h))
    | some (a, b, w) => if sp_itn x.1 < a ∨ (sp_itn x.1 = a ∧ b ≤ sp_mv x.1) then some (a, b, w) else some (sp_itn x.1, sp_mv x.1, fun h => x.1 (29 + h))), x.2.2 + (if sp_itn x.1 = sp_ern x.1 then 1 else 0))
noncomputable def sp_gw (G : Nat) : Nat → Nat → (Nat → Int) × Option (Int × Int × (Nat → Int)) × Int → (Nat → Int) × Option (Int × Int × (Nat → Int)) × Int
  | 0, _, x => sp_leaf x
  | r + 1, h, x => iter (fun g y => sp_gw G r (h + 1) (up y.1 (29 + h) (if g = G then -1 else (g : Nat)), y.2)) (G + 1) x
noncomputable def sp_wks (f : Nat → Int) : (Nat → Int) × Option (Int × Int × (Nat → Int)) × Int := sp_gw (f 1).toNat (f 2).toNat 0 (f, none, 0)
noncomputable def sp_bestV (f : Nat → Int) (what : Int) : Int := if (0 ≤ what ∧ what ≤ 1) ∨ (10 ≤ what ∧ what ≤ 9 + f 2) then (match (sp_wks f).2.1 with
    | none => 0
    | some (a, b, w) => if what = 0 then a else if what = 1 then b else w (what - 10).toNat) else -2
noncomputable def sp_chg (f : Nat → Int) (h g : Nat) (x : Int × Int) : Int × Int :=
  if sp_itn (up f (29 + h) (gp f g)) ≤ x.1 then x else (sp_itn (up f (29 + h) (gp f g)), 10 * (h : Nat) + (if (g : Int) = f 1 then 9 else (g : Nat)))
noncomputable def sp_changeV (f : Nat → Int) : Int := (iter (fun h x => iter (sp_chg f h) ((f 1).toNat + 1) x) (f 2).toNat (sp_itn f, -1)).2
def sp_shf (f : Nat → Int) (s : Nat) : Nat → Int := cp f 29 (fun h => f (29 + (h + (f 2).toNat - s) % (f 2).toNat)) (f 2).toNat
noncomputable def sp_sh1 (f : Nat → Int) (s : Nat) (x : Int × Int) : Int × Int := if sp_itn (sp_shf f s) ≤ x.2 then x else ((s : Nat), sp_itn (sp_shf f s))
noncomputable def sp_shiftV (f : Nat → Int) : Int := (iter (sp_sh1 f) (f 2).toNat (0, -1)).1
/-! ===== seen ===== -/
noncomputable def sp_od (f : Nat → Int) (p : Int) (v : Nat → Int) : Nat → Nat → Option Nat → Int
  | 0, _, _ => -1
  | n + 1, k, st =>
    let st1 := st.map (sp_on f p (f 26 + (k - 1 : Nat)) (sp_fog f (k - 1 : Nat)))
    if v k = -1 then sp_od f p v n (k + 1) st1
    else if (match st1 with
      | none => true
      | some m => m.testBit (v k).toNat) then sp_od f p v n (k + 1) (some (2 ^ (v k).toNat)) else (k : Nat)
noncomputable def sp_odd (f : Nat → Int) (p : Int) (v : Nat → Int) (N : Nat) : Int := sp_od f p v N 0 none
noncomputable def sp_ft1 (f : Nat → Int) (p : Int) (v : Nat → Int) (N h : Nat) (g m : Nat) : Nat := if sp_odd (up f (29 + h) (gp f g)) p v N = -1 then sb m (if (g : Int) = f 1 then 4 else g) else m
noncomputable def sp_fit (f : Nat → Int) (p : Int) (v : Nat → Int) (N h : Nat) : Nat := iter (sp_ft1 f p v N h) ((f 1).toNat + 1) 0
noncomputable def sp_su1 (f : Nat → Int) (p : Int) (v : Nat → Int) (N h : Nat) (x : Int × Int) : Int × Int := if pop (sp_fit f p v N h) = 0 ∨ x.2 ≤ pop (sp_fit f p v N h) then x else ((h : Nat), pop (sp_fit f p v N h))
noncomputable def sp_surest (f : Nat → Int) (p : Int) (v : Nat → Int) (N : Nat) : Int := (iter (sp_su1 f p v N) (f 2).toNat (-1, 6)).1
/-! ===== chances ===== -/
/-- the greatest of some, 0 at least -/
def gmax (P : Nat → Bool) (v : Nat → Int) : Nat → Int
  | 0 => 0
  | n + 1 => if P n = true ∧ gmax P v n < v n then v n else gmax P v n
noncomputable def sp_lk (f : Nat → Int) (p s h fog : Int) (c : Nat → Int) : Int := gmax (fun a => decide (sp_can f p s a h fog ≠ -1)) (fun a => c (sp_can f p s a h fog).toNat) 7
/-- how likely, by hours left and spots, n hours in all -/
noncomputable def sp_ch (f : Nat → Int) (p : Int) (goal : Int) (n : Nat) : Nat → Nat → Int
  | 0 => fun s => if (s : Int) = goal then 1 else 0
  | k + 1 => fun s => if (s : Int) = goal then 10 ^ (k + 1) else if sp_isp f s then f 4 * sp_lk f p s (f 26 + (n - (k + 1) : Nat)) 1 (sp_ch f p goal n k) + (10 - f 4) * sp_lk f p s (f 26 + (n - (k + 1) : Nat)) 0 (sp_ch f p goal n k) else 0
noncomputable def sp_cho (f : Nat → Int) (p : Nat) (goal : Int) (n : Nat) : Int := sp_ch f p goal n n (sp_s f p)
noncomputable def sp_chanceV (f : Nat → Int) (p s n k : Int) : Int := if (0 ≤ p ∧ p < f 3) ∧ sp_isp f s ∧ 0 ≤ k ∧ k ≤ 1 then (if 0 ≤ n ∧ n ≤ 9 then (if k = 0 then sp_cho f p.toNat s n.toNat else 10 ^ n.toNat) / (Int.gcd (sp_cho f p.toNat s n.toNat) (10 ^ n.toNat) : Nat) else -3) else -2
noncomputable def sp_likelyV (f : Nat → Int) (p s m : Int) : Int := if (0 ≤ p ∧ p < f 3) ∧ sp_isp f s then (if 0 ≤ m ∧ m ≤ 100 then fst1 (fun n => decide (m * 10 ^ n ≤ sp_cho f p.toNat s n * 100)) 10 0 else -3) else -2
