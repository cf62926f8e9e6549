/-! THE PARSER'S PRIMITIVES: number, means, name -/
set_option maxRecDepth 100000
section PN
variable {σ σ0 σ' : AS} {n : Nat} {N0 U0 z k q q' c p v r C lo hi : Int} {T : List Int} {S : PS} {X : Int → Prop} {l : List Int} {s : Int}
theorem lcmp_lt {x y : Int} : lcmpW x y < 0 ↔ x < y := by
  unfold lcmpW
  by_cases a : y < x
  · rw [if_pos a]; omega
  · rw [if_neg a]
    by_cases b : x = y
    · rw [if_pos b]; omega
    · rw [if_neg b]; omega
theorem lcmp_le {x y : Int} : lcmpW x y ≤ 0 ↔ x ≤ y := by
  unfold lcmpW
  by_cases a : y < x
  · rw [if_pos a]; omega
  · rw [if_neg a]
    by_cases b : x = y
    · rw [if_pos b]; omega
    · rw [if_neg b]; omega
theorem kd_num {T : List Int} {q : Int} (h : 0 ≤ q) : kdOf (tkC T q) = 126 ↔ tkC T q = 2 := by
  rcases tkC_rng (T := T) h with e | e | e | e | e
  · rw [e]; decide
  · rw [e]; decide
  · rw [e]; decide
  · rw [e]; decide
  · have h1 := (kdOf_sp e).1
    unfold spC at e
    omega
theorem kd_nam {T : List Int} {q : Int} (h : 0 ≤ q) : kdOf (tkC T q) = 125 ↔ tkC T q = 1 := by
  rcases tkC_rng (T := T) h with e | e | e | e | e
  · rw [e]; decide
  · rw [e]; decide
  · rw [e]; decide
  · rw [e]; decide
  · have h1 := (kdOf_sp e).1
    unfold spC at e
    omega
theorem kd_end {T : List Int} {q : Int} (h : 0 ≤ q) : kdOf (tkC T q) = 124 ↔ tkC T q = 0 := by
  rcases tkC_rng (T := T) h with e | e | e | e | e
  · rw [e]; decide
  · rw [e]; decide
  · rw [e]; decide
  · rw [e]; decide
  · have h1 := (kdOf_sp e).1
    unfold spC at e
    omega
/-- number, where there is none or a fault stands -/
theorem number_fail (h : ShP T N0 U0 σ z k q S) (hf : CF T q σ c p) : Wp (f_X3_number n 1007 lo hi σ) fun y => y.1 = 0 ∧ ShP T N0 U0 y.2 z k q S ∧ Eff N0 σ y.2 ∧ CF1 y.2 c p := by
  have h7 := h.2.2.2.2.1
  have hl := h.2.2.1
  have hw : Wp (f_X3_number_20 n 1007 σ) fun y => y.1 = 0 ∧ ShP T N0 U0 y.2 z k q S ∧ Eff N0 σ y.2 ∧ CF1 y.2 c p := by
    unfold f_X3_number_20
    exact wp_gd h7.1 (wp_c0 (wp_mono (wrong_fail h hf) fun σ' h' => wp_ok ⟨rfl, h'⟩))
  unfold f_X3_number
  refine wp_gd h7.1 (wp_ite (fun h0 => wp_gd h7.1 ?_) fun _ => hw)
  rw [h7.2.1]
  refine wp_gd hl.1.1 (wp_gdc (cmp_kinds h.1 hl (by decide)) (wp_neg ?_ hw))
  rw [hl.2.2.2.1, (hf.code0 h0).1]; decide
theorem number_not (h : ShP T N0 U0 σ z k q S) (h0 : ld σ 1007 3 = 0) (he : tkC T q ≠ 2) : Wp (f_X3_number n 1007 lo hi σ) fun y => y.1 = 0 ∧ ShP T N0 U0 y.2 z k q S ∧ Eff N0 σ y.2 ∧ CF1 y.2 (if tkC T q = 50 then 1 else 2) q := by
  have h7 := h.2.2.2.2.1
  have hl := h.2.2.1
  unfold f_X3_number f_X3_number_20
  refine wp_gd h7.1 (wp_pos h0 (wp_gd h7.1 ?_))
  rw [h7.2.1]
  refine wp_gd hl.1.1 (wp_gdc (cmp_kinds h.1 hl (by decide)) (wp_neg ?_ (wp_gd h7.1 (wp_c0 (wp_mono (wrong_set h h0) fun σ' h' => wp_ok ⟨rfl, h'⟩)))))
  rw [hl.2.2.2.1]
  exact fun w => he ((kd_num hl.2.2.2.2.2.2.1).mp w)
theorem number_out (h : ShP T N0 U0 σ z k q S) (h0 : ld σ 1007 3 = 0) (he : tkC T q = 2) (hr : ¬ (lo ≤ nmA T q ∧ nmA T q ≤ hi)) : Wp (f_X3_number n 1007 lo hi σ) fun y => ShP T N0 U0 y.2 z k q S ∧ Eff N0 σ y.2 ∧ CF1 y.2 3 q := by
  have h7 := h.2.2.2.2.1
  have hl := h.2.2.1
  have hA : ld σ 1008 6 = nmA T q := hl.2.2.2.2.1 he
  have hw : Wp (f_X3_number_50 n (f_X3_number_55 n) 1007 σ) fun y => ShP T N0 U0 y.2 z k q S ∧ Eff N0 σ y.2 ∧ CF1 y.2 3 q := by
    unfold f_X3_number_50 f_X3_number_55
    refine wp_gd h7.1 (wp_c0 (wp_mono (fail_set h h0 (by decide)) fun σ' h' => ?_))
    have g7 := h'.1.2.2.2.2.1
    refine wp_gd g7.1 ?_
    rw [g7.2.1]
    exact wp_gd h'.1.2.2.1.1.1 (wp_nm0 (wp_gd g7.1 (wp_neg (by rw [h'.2.2.1]; exact h'.2.2.2.1) (wp_ok h'))))
  unfold f_X3_number
  refine wp_gd h7.1 (wp_pos h0 (wp_gd h7.1 ?_))
  rw [h7.2.1]
  refine wp_gd hl.1.1 (wp_gdc (cmp_kinds h.1 hl (by decide)) (wp_pos ?_ (wp_gd h7.1 ?_)))
  · rw [hl.2.2.2.1, he]; rfl
  refine wp_gd hl.1.1 ?_
  rw [hA]
  refine wp_ite (fun _ => hw) fun w1 => wp_gd h7.1 ?_
  refine wp_gd hl.1.1 ?_
  refine wp_neg (fun w2 => hr ⟨?_, ?_⟩) hw
  · rw [lcmp_lt] at w1; omega
  · exact lcmp_le.mp w2
theorem number_yes (hn : 1000000 ≤ n) (hb : BtOk T) (h : ShP T N0 U0 σ z k q S) (h0 : ld σ 1007 3 = 0) (he : tkC T q = 2) (hr : lo ≤ nmA T q ∧ nmA T q ≤ hi) (hlo : -2147483648 ≤ lo) (hhi : hi ≤ 2147483647) : Wp (f_X3_number n 1007 lo hi σ) fun y => y.1 = nmA T q ∧ ShP T N0 U0 y.2 z k (nxq T q) S ∧ Eff N0 σ y.2 ∧ ∀ j, ld y.2 1007 j = ld σ 1007 j := by
  have h7 := h.2.2.2.2.1
  have hl := h.2.2.1
  have hA : ld σ 1008 6 = nmA T q := hl.2.2.2.2.1 he
  unfold f_X3_number
  refine wp_gd h7.1 (wp_pos h0 (wp_gd h7.1 ?_))
  rw [h7.2.1]
  refine wp_gd hl.1.1 (wp_gdc (cmp_kinds h.1 hl (by decide)) (wp_pos ?_ (wp_gd h7.1 ?_)))
  · rw [hl.2.2.2.1, he]; rfl
  refine wp_gd hl.1.1 ?_
  rw [hA]
  refine wp_neg (fun w => ?_) (wp_gd h7.1 ?_)
  · rw [lcmp_lt] at w; omega
  refine wp_gd hl.1.1 ?_
  refine wp_pos (lcmp_le.mpr hr.2) ?_
  unfold f_X3_number_55
  refine wp_gd h7.1 ?_
  rw [h7.2.1]
  refine wp_gd hl.1.1 (wp_nm0 (wp_gd h7.1 (wp_pos h0 (wp_gd h7.1 ?_))))
  rw [hA, l2i_small ⟨by omega, by omega⟩]
  exact wp_gd hl.1.1 (wp_c0 (wp_mono (sh_next hn hb h) fun σ' h' => wp_ok ⟨rfl, h'⟩))
/-- means: the first misuse is kept -/
theorem means_wp (h : ShP T N0 U0 σ z k q S) : Wp (f_X3_means 1007 c p σ) fun σ' => ShP T N0 U0 σ' z k q S ∧ PF N0 σ σ' ∧ (∀ j, ld σ' (N0 + 4) j = ld σ (N0 + 4) j) ∧ (∀ j, ld σ' N0 j = ld σ N0 j) ∧ (∀ j, j ≠ 5 → j ≠ 6 → ld σ' 1007 j = ld σ 1007 j) ∧ (ld σ 1007 5 = 0 → ld σ' 1007 5 = c ∧ ld σ' 1007 6 = p) ∧ (ld σ 1007 5 ≠ 0 → σ' = σ) := by
  obtain ⟨a1, a2, a3, a4, ⟨b1, b2, b3, b4, b5⟩, ⟨c1, c2⟩, ⟨d1, d2, d3, d4⟩, e1, e2, f, g1⟩ := id h
  unfold f_X3_means
  refine wp_gd b1 (wp_ite (fun w => wp_gd b1 (wp_nm0 (wp_gd b1 (wp_nm0 (wp_ok ?_))))) fun w => wp_ok ⟨h, PF.rf, fun _ => rfl, fun _ => rfl, fun _ _ _ => rfl, fun y => absurd y w, fun _ => rfl⟩)
  have F : Fr (fun r => r = 1007) σ (wr (wr σ 1007 5 c) 1007 6 p) := by
    have g1 : Fr (fun r => r = 1007) σ (wr σ 1007 5 c) := Fr.wr rfl
    exact g1.trans (Fr.wr rfl)
  have o : ∀ j, j ≠ 5 → j ≠ 6 → ld (wr (wr σ 1007 5 c) 1007 6 p) 1007 j = ld σ 1007 j := fun j j3 j4 => by
    rw [ld_wr, if_neg (fun w => j4 w.2), ld_wr, if_neg (fun w => j3 w.2)]
  have o2 : ∀ r j, r ≠ 1007 → ld (wr (wr σ 1007 5 c) 1007 6 p) r j = ld σ r j := fun r j hr => by
    rw [ld_wr, if_neg (fun w => hr w.1), ld_wr, if_neg (fun w => hr w.1)]
  have hl : LxC (wr (wr σ 1007 5 c) 1007 6 p) 1008 T q := a3.frame F (fun r hr w => by
    have w' : r = 1007 := w
    rw [w', b1]; decide)
  refine ⟨h.keep F (fun r _ w => Or.inl w) hl (fun w1 w2 w3 => by rw [o2 _ _ (by decide)]; exact a4 w1 w2 w3) ⟨by rw [o 0 (by decide) (by decide)]; exact b2, by rw [o 1 (by decide) (by decide)]; exact b3, by rw [o 2 (by decide) (by decide)]; exact b4, by rw [o 2 (by decide) (by decide)]; exact b5⟩ (fun i _ _ => o2 _ _ (by omega)) (Int.le_refl _) g1, PF.of F (fun r hr w => ?_), fun j => o2 _ _ (by omega), fun j => o2 _ _ (by omega), o, fun _ => ⟨?_, ?_⟩, fun y => absurd w y⟩
  · have w' : r = 1007 := w
    rw [w']
    exact ⟨Or.inr (Or.inl rfl), by rw [b1]; exact Or.inr (Or.inl rfl)⟩
  · rw [ld_wr, if_neg (by omega), ld_wr, if_pos ⟨rfl, rfl⟩]
  · rw [ld_wr, if_pos ⟨rfl, rfl⟩]
end PN
