/-! ===== weeks told alike in their hours ===== -/
/-- rows that are alike but for hours behind the week -/
def wkAl (f f' : Nat → Int) : Prop := (∀ j, ¬ (29 ≤ j ∧ j < 35) → f j = f' j) ∧ ∀ h : Nat, (h : Int) < f 2 → f (29 + h) = f' (29 + h)
theorem sp_span_al {f f' : Nat → Int} (h : wkAl f f') (hw : 1 ≤ f 2) (x : Int) : sp_span f x = sp_span f' x := by
  unfold sp_span
  rw [← h.1 2 (by omega)]
  have m1 := Int.emod_nonneg x (show f 2 ≠ 0 by omega)
  have m2 := Int.emod_lt_of_pos x (show 0 < f 2 by omega)
  exact h.2 _ (by omega)
theorem sp_can_al {f f' : Nat → Int} (h : wkAl f f') (hw : 1 ≤ f 2) {p : Int} (hp : 0 ≤ p ∧ p < 5) (s act x fog : Int) : sp_can f p s act x fog = sp_can f' p s act x fog := by
  have e1 := sp_span_al h hw x
  have el : sp_leads f s act (sp_span f x) = sp_leads f' s act (sp_span f' x) := by
    unfold sp_leads
    rw [e1, h.1 1 (by omega)]
  have ey : sp_why f p s act x fog = sp_why f' p s act x fog := by
    unfold sp_why
    rw [el, e1, h.1 2 (by omega), sp_lb_c (f := f') (f' := f) (by split <;> omega) (fun j hj => h.1 j (by omega)) hp]
  unfold sp_can
  rw [ey, el]
theorem sp_on_al {f f' : Nat → Int} (h : wkAl f f') (hw : 1 ≤ f 2) {p : Int} (hp : 0 ≤ p ∧ p < 5) (x fog : Int) (m : Nat) : sp_on f p x fog m = sp_on f' p x fog m := by
  have ea : ∀ (s : Int) (m a : Nat), sp_ona f p s x fog m a = sp_ona f' p s x fog m a := by
    intro s m a
    induction a with
    | zero => rfl
    | succ a ih =>
      unfold sp_ona
      rw [ih, sp_can_al h hw hp]
  unfold sp_on
  have : ∀ n, sp_ons f p x fog m n = sp_ons f' p x fog m n := by
    intro n
    induction n with
    | zero => rfl
    | succ n ih =>
      unfold sp_ons
      rw [ih, ea]
  exact this 9
theorem sp_rc_al {f f' : Nat → Int} (h : wkAl f f') (hw : 1 ≤ f 2) {p : Int} (hp : 0 ≤ p ∧ p < 5) (later m : Nat) : ∀ n, sp_rc f p later m n = sp_rc f' p later m n
  | 0 => rfl
  | n + 1 => by
    have e27 : ∀ x, sp_fog f x = sp_fog f' x := fun x => by unfold sp_fog; rw [h.1 27 (by omega)]
    unfold sp_rc
    rw [sp_rc_al h hw hp later m n, sp_on_al h hw hp, h.1 26 (by omega), e27]
theorem sp_it_al {f f' : Nat → Int} (h : wkAl f f') (hw : 1 ≤ f 2) {p : Nat} (hp : p < 5) (later : Nat) : sp_it f p later = sp_it f' p later := by
  have e1 : sp_s f p = sp_s f' p := by unfold sp_s; rw [h.1 _ (by omega)]
  have eh : sp_hto f p (sp_s f p) (f (16 + p)).toNat later = sp_hto f' p (sp_s f' p) (f' (16 + p)).toNat later := by
    unfold sp_hto
    rw [e1, h.1 (16 + p) (by omega)]
    refine fst1_c (fun j _ _ => ?_)
    rw [sp_rc_al h hw (by omega)]
  unfold sp_it
  rw [eh, h.1 28 (by omega), h.1 26 (by omega), h.1 (21 + p) (by omega)]
theorem sp_itn_al {f f' : Nat → Int} (h : wkAl f f') (hw : 1 ≤ f 2) (hp : f 3 ≤ 5) : sp_itn f = sp_itn f' := by
  unfold sp_itn
  rw [← h.1 3 (by omega)]
  refine cnt_c (fun k hk => ?_)
  rw [sp_it_al h hw (by omega)]
  unfold sp_er
  rw [h.1 _ (by omega)]
theorem sp_itn_c {B B' : Int} {f f' : Nat → Int} (hR : sp_ok B f) (hR' : sp_ok B' f') (h1 : ∀ j, ¬ (29 ≤ j ∧ j < 35) → f j = f' j) (h2 : ∀ h : Nat, (h : Int) < f 2 → f (29 + h) = f' (29 + h)) : sp_itn f = sp_itn f' := sp_itn_al ⟨h1, h2⟩ hR.w.1 hR.p.2
