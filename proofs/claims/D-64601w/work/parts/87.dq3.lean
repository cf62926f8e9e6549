/-! ArrayDeque: growth -/
set_option maxRecDepth 100000
theorem elOk_al {σ : AS} {k : Nat} {n s v : Int} {t : FieldType} (h : elOk σ t v) (hv : v ≠ nx σ) : elOk (al σ k n s) t v := by
  cases t <;> first | exact h | (
    rcases h with h | ⟨c, h1, h2⟩
    · exact Or.inl h
    · exact Or.inr ⟨c, by rw [kd_al, if_neg hv]; exact h1, h2⟩)
theorem f_J12_min_eq {a b : Int} {σ : AS} : f_J12_min a b σ = some (min a b, σ) := by
  unfold f_J12_min
  by_cases h : b < a
  · rw [if_pos h, Int.min_eq_right (by omega)]
  · rw [if_neg h, Int.min_eq_left (by omega)]
theorem f_J11_copyOf_eq {a m : Int} {σ : AS} (h : kd σ a = 105) (ha : a < nx σ) (h0 : 0 ≤ ln σ a) (h1 : ln σ a ≤ m) (h2 : m ≤ 67108864) (he : ∀ i, 0 ≤ i → i < ln σ a → elOk σ (.object "java/lang/Object") (ld σ a i) ∧ ld σ a i < nx σ) : f_J11_copyOf a m σ = some (nx σ, cpy (al σ 105 m m) a 0 (nx σ) 0 (ln σ a)) := by
  have e1 : kd (al σ 105 m m) a = 105 := by rw [kd_al, if_neg (by omega)]; exact h
  have e2 : kd (al σ 105 m m) (nx σ) = 105 := by rw [kd_al, if_pos rfl]
  have e3 : ln (al σ 105 m m) a = ln σ a := by rw [ln_al, if_neg (by omega)]
  have e4 : ln (al σ 105 m m) (nx σ) = m := by rw [ln_al, if_pos rfl]
  have e5 : min (ln σ a) m = ln σ a := Int.min_eq_left h1
  unfold f_J11_copyOf f_J11_copyOf_2
  rw [gd_pos h, gdc_pos (show cmpOk σ 130 130 from Or.inr (Or.inr (Or.inl rfl))), if_pos rfl, gd_pos ⟨by omega, h2⟩]
  dsimp only [nm]
  rw [gd_pos (Or.inl e1), f_J12_min_eq, c1_at, e3, e5, gd_pos ⟨Or.inl e1, e2, by omega, by omega, by omega, by omega, by rw [e4]; omega⟩, gdc_pos (fun i h3 h4 => ?_)]
  · rfl
  · have := he i h3 h4
    have e6 : ld (al σ 105 m m) a (0 + i) = ld σ a i := by rw [ld_al, if_neg (by omega)]; congr 1; omega
    rw [e6]
    exact elOk_al this.1 (by omega)
