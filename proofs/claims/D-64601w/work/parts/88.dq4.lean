/-! ArrayDeque: growth of a full array of fewer than 64 places -/
set_option maxRecDepth 100000
theorem elOk_kd {σ σ' : AS} {t : FieldType} {v : Int} (h : elOk σ t v) (e : kd σ' v = kd σ v) : elOk σ' t v := by
  cases t <;> first | exact h | (
    rcases h with h | ⟨c, h1, h2⟩
    · exact Or.inl h
    · exact Or.inr ⟨c, by rw [e]; exact h1, h2⟩)
theorem f_J1_grow_145_wp {n : Nat} {e hi : Int} {S : Int → Prop} (hS : S e) : ∀ (m q : Nat) (k : Int) (σ : AS), k + m = hi → m < q → kd σ e = 105 → 0 ≤ k → hi ≤ ln σ e → ln σ e ≤ 100000 →
    Wp (f_J1_grow_145 n q e k hi σ) fun σ' => Fr S σ σ' ∧ nx σ' = nx σ ∧ us σ' = us σ ∧ (∀ a j, a ≠ e → ld σ' a j = ld σ a j) ∧ ∀ j, ld σ' e j = if k ≤ j ∧ j < hi then 0 else ld σ e j := by
  intro m
  induction m with
  | zero =>
    intro q k σ hk hq h1 h2 h3 h4
    obtain ⟨q, rfl⟩ : ∃ z, q = z + 1 := ⟨q - 1, by omega⟩
    unfold f_J1_grow_145
    refine wp_pos (by omega) ?_
    exact wp_ok ⟨Fr.rf, rfl, rfl, fun _ _ _ => rfl, fun j => by rw [if_neg (fun z => by omega)]⟩
  | succ m ih =>
    intro q k σ hk hq h1 h2 h3 h4
    obtain ⟨q, rfl⟩ : ∃ z, q = z + 1 := ⟨q - 1, by omega⟩
    unfold f_J1_grow_145
    refine wp_neg (by omega) ?_
    refine wp_gd ⟨h1, h2, by omega⟩ ?_
    refine wp_nm0 ?_
    refine wp_gI (by omega) ?_
    refine wp_nm0 ?_
    refine wp_mono (ih q (k + 1) (wr σ e k 0) (by omega) (by omega) h1 (by omega) h3 h4) fun σ' hq => ?_
    obtain ⟨g1, g2, g3, g4, g5⟩ := hq
    refine ⟨(Fr.wr hS).trans g1, g2, g3, fun a j ha => by rw [g4 a j ha, ld_wr, if_neg (fun z => ha z.1)], fun j => ?_⟩
    rw [g5, ld_wr]
    by_cases e2 : k + 1 ≤ j ∧ j < hi
    · rw [if_pos e2, if_pos ⟨by omega, e2.2⟩]
    · rw [if_neg e2]
      by_cases e1 : j = k
      · rw [if_pos ⟨rfl, e1⟩, if_pos ⟨by omega, by omega⟩]
      · rw [if_neg (fun z => e1 z.2), if_neg (fun z => e2 ⟨by omega, z.2⟩)]
theorem f_J1_grow_wp {n : Nat} {d e h : Int} {σ : AS} {S : Int → Prop} (hS : S d) (hn : 1000000 ≤ n) (h1 : kd σ d = 23) (h2 : ld σ d 0 = e) (h3 : kd σ e = 105) (hd : d < nx σ) (he : e < nx σ) (h4 : 17 ≤ ln σ e) (h5 : ln σ e < 64) (h6 : ld σ d 1 = h) (h7 : ld σ d 2 = h) (h8 : 0 ≤ h ∧ h < ln σ e) (h9 : ∀ i, 0 ≤ i → i < ln σ e → elOk σ (.object "java/lang/Object") (ld σ e i) ∧ ld σ e i ≠ 0 ∧ ld σ e i < nx σ) :
    Wp (f_J1_grow n d 1 σ) fun σ' => Fr S σ σ' ∧ nx σ' = nx σ + 1 ∧ us σ' = us σ + (2 * ln σ e + 2) ∧ ld σ' d 0 = nx σ ∧ kd σ' (nx σ) = 105 ∧ ln σ' (nx σ) = 2 * ln σ e + 2 ∧ ld σ' d 1 = h + (ln σ e + 2) ∧ ld σ' d 2 = h ∧ ∀ j, 0 ≤ j → j < 2 * ln σ e + 2 → ld σ' (nx σ) j = if j < h then ld σ e j else if j < h + (ln σ e + 2) then 0 else ld σ e (j - (ln σ e + 2)) := by
  have hde : d ≠ e := fun z => by rw [z, h3] at h1; cases h1
  have hc := f_J11_copyOf_eq (m := 2 * ln σ e + 2) h3 he (by omega) (by omega) (by omega) (fun i q1 q2 => ⟨(h9 i q1 q2).1, (h9 i q1 q2).2.2⟩)
  have key : Wp (f_J1_grow_49 n d (ln σ e) (2 * ln σ e + 2) σ) fun σ' => Fr S σ σ' ∧ nx σ' = nx σ + 1 ∧ us σ' = us σ + (2 * ln σ e + 2) ∧ ld σ' d 0 = nx σ ∧ kd σ' (nx σ) = 105 ∧ ln σ' (nx σ) = 2 * ln σ e + 2 ∧ ld σ' d 1 = h + (ln σ e + 2) ∧ ld σ' d 2 = h ∧ ∀ j, 0 ≤ j → j < 2 * ln σ e + 2 → ld σ' (nx σ) j = if j < h then ld σ e j else if j < h + (ln σ e + 2) then 0 else ld σ e (j - (ln σ e + 2)) := by
    unfold f_J1_grow_49
    refine wp_gd h1 ?_
    rw [h2, hc, c1_at]
    generalize hs1 : cpy (al σ 105 (2 * ln σ e + 2) (2 * ln σ e + 2)) e 0 (nx σ) 0 (ln σ e) = σ1
    have k1 : ∀ a, a ≠ nx σ → kd σ1 a = kd σ a ∧ ln σ1 a = ln σ a ∧ ∀ j, ld σ1 a j = ld σ a j := fun a ha => by
      rw [← hs1]
      exact ⟨by rw [kd_cpy, kd_al, if_neg ha], by rw [ln_cpy, ln_al, if_neg ha], fun j => by rw [ld_cpy, if_neg (fun z => ha z.1), ld_al, if_neg ha]⟩
    have k2 : kd σ1 (nx σ) = 105 := by rw [← hs1, kd_cpy, kd_al, if_pos rfl]
    have k3 : ln σ1 (nx σ) = 2 * ln σ e + 2 := by rw [← hs1, ln_cpy, ln_al, if_pos rfl]
    have k4 : ∀ j, 0 ≤ j → j < ln σ e → ld σ1 (nx σ) j = ld σ e j := fun j q1 q2 => by
      rw [← hs1, ld_cpy, if_pos ⟨rfl, by omega, by omega⟩, ld_al, if_neg (by omega)]
      congr 1; omega
    have k5 : nx σ1 = nx σ + 1 := by rw [← hs1, nx_cpy, nx_al]
    have k6 : us σ1 = us σ + (2 * ln σ e + 2) := by rw [← hs1, us_cpy, us_al]
    obtain ⟨d1, d2, d3⟩ := k1 d (by omega)
    refine wp_gd (d1.trans h1) ?_
    refine wp_nm0 ?_
    refine wp_gd (d1.trans h1) ?_
    refine wp_gd (d1.trans h1) ?_
    generalize hs2 : wr σ1 d 0 (nx σ) = σ2
    have m0 : ∀ a, kd σ2 a = kd σ1 a ∧ ln σ2 a = ln σ1 a := fun a => by rw [← hs2]; exact ⟨rfl, rfl⟩
    have m1 : ∀ a j, a ≠ d → ld σ2 a j = ld σ1 a j := fun a j ha => by rw [← hs2, ld_wr, if_neg (fun z => ha z.1)]
    have m2 : ld σ2 d 0 = nx σ := by rw [← hs2, ld_wr, if_pos ⟨rfl, rfl⟩]
    have m3 : ld σ2 d 1 = h := by rw [← hs2, ld_wr, if_neg (fun z => by omega), d3]; exact h6
    have m4 : ld σ2 d 2 = h := by rw [← hs2, ld_wr, if_neg (fun z => by omega), d3]; exact h7
    have m5 : nx σ2 = nx σ + 1 := by rw [← hs2, nx_wr]; exact k5
    have m6 : us σ2 = us σ + (2 * ln σ e + 2) := by rw [← hs2, us_wr]; exact k6
    have m7 : kd σ2 (nx σ) = 105 := (m0 _).1.trans k2
    have m8 : ln σ2 (nx σ) = 2 * ln σ e + 2 := (m0 _).2.trans k3
    have m9 : ∀ j, 0 ≤ j → j < ln σ e → ld σ2 (nx σ) j = ld σ e j := fun j q1 q2 => by rw [m1 _ _ (by omega)]; exact k4 j q1 q2
    have hd2 : kd σ2 d = 23 := ((m0 d).1.trans d1).trans h1
    rw [m3, m4]
    refine wp_neg (by omega) ?_
    refine wp_gd hd2 ?_
    refine wp_gd hd2 ?_
    refine wp_pos rfl ?_
    refine wp_gd hd2 ?_
    refine wp_gd ⟨Or.inl m7, h8.1, by omega⟩ ?_
    rw [m9 h h8.1 h8.2]
    refine wp_neg (h9 h h8.1 h8.2).2.1 ?_
    unfold f_J1_grow_96
    refine wp_gI (by omega) ?_
    refine wp_nm0 ?_
    have e1 : 2 * ln σ e + 2 - ln σ e = ln σ e + 2 := by omega
    rw [e1]
    refine wp_gd hd2 ?_
    refine wp_gd hd2 ?_
    rw [m3]
    refine wp_gI (by omega) ?_
    refine wp_gd hd2 ?_
    refine wp_gI (by omega) ?_
    refine wp_gd ⟨Or.inl m7, m7, h8.1, by omega, by omega, by omega, by omega⟩ ?_
    refine wp_gdc (fun i q1 q2 => ?_) ?_
    · rw [m9 _ (by omega) (by omega)]
      have := h9 (h + i) (by omega) (by omega)
      exact elOk_kd this.1 ((m0 _).1.trans (k1 _ (by omega)).1)
    · refine wp_nm0 ?_
      refine wp_gd hd2 ?_
      refine wp_nm0 ?_
      refine wp_gd hd2 ?_
      have e2 : ld (cpy σ2 (nx σ) h (nx σ) (h + (ln σ e + 2)) (ln σ e - h)) d 1 = h := by rw [ld_cpy, if_neg (fun z => by omega)]; exact m3
      rw [e2]
      refine wp_gI (by omega) ?_
      refine wp_nm0 ?_
      refine wp_gd hd2 ?_
      refine wp_nm0 ?_
      refine wp_mono (f_J1_grow_145_wp (S := fun r => S r ∨ r = nx σ) (Or.inr rfl) (ln σ e + 2).toNat n h _ (by omega) (by omega) m7 h8.1 (by show h + (ln σ e + 2) ≤ ln σ2 (nx σ); omega) (by show ln σ2 (nx σ) ≤ 100000; omega)) fun σ' hq => ?_
      obtain ⟨g1, g2, g3, g4, g5⟩ := hq
      have o1 : ∀ a, a < nx σ → a ≠ d → ∀ j, ld σ' a j = ld σ a j := fun a ha hb j => by
        rw [g4 a j (by omega), ld_wr, if_neg (fun z => hb z.1), ld_cpy, if_neg (fun z => by omega), m1 _ _ hb]
        exact (k1 a (by omega)).2.2 j
      have o2 : ∀ a, a < nx σ → kd σ' a = kd σ a ∧ ln σ' a = ln σ a := fun a ha => by
        have q := g1.2.2.1 a (by show a < nx σ2; omega)
        exact ⟨q.1.trans ((m0 a).1.trans (k1 a (by omega)).1), q.2.trans ((m0 a).2.trans (k1 a (by omega)).2.1)⟩
      have g2' : nx σ' = nx σ + 1 := g2.trans m5
      have g3' : us σ' = us σ + (2 * ln σ e + 2) := g3.trans m6
      have qn := g1.2.2.1 (nx σ) (by show nx σ < nx σ2; omega)
      refine ⟨⟨by omega, by omega, o2, fun r hr hs j => o1 r hr (fun z => hs (z ▸ hS)) j⟩, g2', g3', ?_, qn.1.trans m7, qn.2.trans m8, ?_, ?_, fun j q1 q2 => ?_⟩
      · rw [g4 d 0 (by omega), ld_wr, if_neg (fun z => by omega), ld_cpy, if_neg (fun z => by omega)]; exact m2
      · rw [g4 d 1 (by omega), ld_wr, if_pos ⟨rfl, rfl⟩]
      · rw [g4 d 2 (by omega), ld_wr, if_neg (fun z => by omega), ld_cpy, if_neg (fun z => by omega)]; exact m4
      · rw [g5]
        by_cases c1 : j < h
        · rw [if_pos c1, if_neg (fun z => by omega), ld_wr, if_neg (fun z => by omega), ld_cpy, if_neg (fun z => by omega)]
          exact m9 j q1 (by omega)
        · rw [if_neg c1]
          by_cases c2 : j < h + (ln σ e + 2)
          · rw [if_pos c2, if_pos ⟨by omega, c2⟩]
          · rw [if_neg c2, if_neg (fun z => c2 z.2), ld_wr, if_neg (fun z => by omega), ld_cpy, if_pos ⟨rfl, by omega, by omega⟩, m9 _ (by omega) (by omega)]
            congr 1; omega
  unfold f_J1_grow
  refine wp_gd h1 ?_
  rw [h2]
  refine wp_gd (Or.inl h3) ?_
  refine wp_nm0 ?_
  refine wp_neg (by omega) ?_
  refine wp_gI (by omega) ?_
  unfold f_J1_grow_21
  refine wp_neg (by omega) ?_
  refine wp_gI (by omega) ?_
  refine wp_nm0 ?_
  refine wp_gI (by omega) ?_
  refine wp_pos (by omega) ?_
  have e0 : ln σ e + (ln σ e + 2) = 2 * ln σ e + 2 := by omega
  rw [e0]
  exact key
