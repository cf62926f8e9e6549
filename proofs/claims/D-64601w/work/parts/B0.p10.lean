/-! TreeMap: the fix-up's loop -/
set_option maxRecDepth 100000
set_option maxHeartbeats 8000000 in
theorem fixI_wp {N : Int → Prop} {k : F1} {t : Int} {n : Nat} : ∀ (m q : Nat) (σ : AS) (lo hi ow : F1) (x : Int), kd σ t = 26 → MapN σ N → MapT σ t N k lo hi ow → N x → (66 - (hi x - lo x)).toNat < m → m + 1 ≤ q → Wp (f_J8_fixAfterInsertion_5 n q t x σ) (FPost N t k σ) := by
  intro m
  induction m with
  | zero => intro q σ lo hi ow x _ _ _ _ h; omega
  | succ m ih =>
    intro q σ lo hi ow x ht hN hT hx hm hq
    obtain ⟨q, rfl⟩ : ∃ z, q = z + 2 := ⟨q - 2, by omega⟩
    by_cases c1 : x = ld σ t 3
    · exact wp_mono (fixI_end (q := q + 1) ht hN hT hx (Or.inl c1)) fun σ1 h => ⟨h.1, h.2.1, _, _, _, h.2.2⟩
    by_cases c2 : ld σ (ld σ x 4) 5 = 0
    · have hx0 : x ≠ 0 := (hT.1 x hx).1
      have kx := (hN x hx).1
      have h8 := hT.2.2.2.2.2.2.2.1 x hx c1
      have hp : N (ld σ x 4) := h8.1
      have h82 : ld σ (ld σ x 4) 2 = x ∨ ld σ (ld σ x 4) 3 = x := h8.2
      have hr4 : ld σ (ld σ t 3) 4 = 0 := hT.2.2.2.2.2.2.2.2.2.1
      have bx := hT.1 x hx
      have hp0 : ld σ x 4 ≠ 0 := (hT.1 _ hp).1
      have kp := (hN _ hp).1
      have far : ∀ y, N y → (ld σ (ld σ x 4) 2 = x ∨ ld σ (ld σ x 4) 3 = x) → y = ld σ x 4 → lo y ≤ lo x ∧ hi x ≤ hi y ∧ hi x - lo x < hi y - lo y ∧ y ≠ x := fun y hy z e => by
        have b1 := hT.1 y hy
        have b2 := hT.2.1 y hy
        have b3 := hT.2.2.1 y hy
        dsimp only at b2 b3
        rw [← e] at z
        rcases z with z | z
        · rw [z] at b2
          have := b2 hx0
          exact ⟨by omega, by omega, by omega, fun e => by rw [e] at b1 this; omega⟩
        · rw [z] at b3
          have := b3 hx0
          exact ⟨by omega, by omega, by omega, fun e => by rw [e] at b1 this; omega⟩
      obtain ⟨w1, w2, w3, dpx⟩ := far _ hp h82 rfl
      clear far
      generalize ep : ld σ x 4 = p at *
      unfold f_J8_fixAfterInsertion_5
      refine wp_neg hx0 ?_
      refine wp_gd ht ?_
      refine wp_gdc (cmpA (Or.inr ⟨by rw [kx]; decide, by rw [kx]; decide⟩) (Or.inr (by rw [(hN _ hT.2.2.2.2.2.2.2.2.1).1]; decide))) ?_
      refine wp_neg c1 ?_
      refine wp_gd kx ?_
      rw [ep]
      refine wp_gd kp ?_
      refine wp_pos c2 ?_
      refine wp_c1e (parentOf_eq kx hx0) ?_
      rw [ep]
      refine wp_c1e (parentOf_eq kx hx0) ?_
      rw [ep]
      refine wp_c1e (parentOf_eq kp hp0) ?_
      by_cases hg : ld σ p 4 = 0
      · generalize eg : ld σ p 4 = g at *
        rw [hg]
        refine wp_c1e leftOf_z ?_
        refine wp_gdc (cmpA (Or.inr ⟨by rw [kp]; decide, by rw [kp]; decide⟩) (Or.inl rfl)) ?_
        refine wp_neg hp0 ?_
        refine wp_c1e (parentOf_eq kx hx0) ?_
        rw [ep]
        refine wp_c1e (parentOf_eq kp hp0) ?_
        rw [eg, hg]
        refine wp_c1e leftOf_z ?_
        refine wp_c1e colorOf_z ?_
        refine wp_neg (by decide) ?_
        refine wp_c1e (parentOf_eq kx hx0) ?_
        rw [ep]
        refine wp_c1e (leftOf_eq kp hp0) ?_
        refine wp_gdc (cmpA (Or.inr ⟨by rw [kx]; decide, by rw [kx]; decide⟩) ?_) ?_
        · by_cases z : ld σ p 2 = 0
          · exact Or.inl z
          · exact Or.inr (by rw [(hN _ (hT.2.1 p hp z).1).1]; decide)
        by_cases c6 : x = ld σ p 2
        · refine wp_pos c6 ?_
          refine wp_c1e (parentOf_eq kx hx0) ?_
          rw [ep]
          refine wp_gd ht ?_
          refine wp_c0 ?_
          have z0 : ld σ p 2 ≠ 0 := by rw [← c6]; exact hx0
          refine wp_mono (rotR_inv ht hN hT hp z0) fun σ1 hq => ?_
          obtain ⟨F1, N1, T1, C1, L1⟩ := hq
          have ht1 : kd σ1 t = 26 := (F1.1.kd t).trans ht
          rw [← c6, eg] at L1
          have d1 : ld σ1 p 4 = x := by
            have z := (L1 p hp).2.2
            clear ih L1 T1 hT
            unfold rrP at z
            grind
          have d2 : ld σ1 x 4 = g := by
            have z := (L1 x hx).2.2
            clear ih L1 T1 hT
            unfold rrP at z
            grind
          have d4 : ld σ1 x 2 ≠ p := by
            have z := (L1 x hx).1
            have y1 := hT.2.1 x hx
            clear ih L1 T1 hT
            unfold rrL at z
            dsimp only at z y1
            grind
          refine wp_mono (fixI_225 (q := q) ht1 N1 T1 hp (by rw [d1]; exact hx) (Or.inl (by rw [d1, d2]; exact hg)) (by rw [d1]; exact d4)) fun σ4 hq => ?_
          exact ⟨F1.trans hq.1, hq.2.1, hq.2.2⟩
        · refine wp_neg c6 ?_
          exact fixI_225 (q := q) ht hN hT hx (by rw [ep]; exact hp) (Or.inl (by rw [ep, eg]; exact hg)) (by rw [ep]; exact fun e => c6 e.symm)
      · have hpr : p ≠ ld σ t 3 := fun e => hg (by rw [e]; exact hr4)
        have g8 := hT.2.2.2.2.2.2.2.1 p hp hpr
        have hg0 := hg
        have hg : N (ld σ p 4) := g8.1
        have g82 : ld σ (ld σ p 4) 2 = p ∨ ld σ (ld σ p 4) 3 = p := g8.2
        have bg := hT.1 _ hg
        have bg2 := hT.2.1 _ hg
        have bg3 := hT.2.2.1 _ hg
        have kg := (hN _ hg).1
        dsimp only at bg2 bg3
        generalize eg : ld σ p 4 = g at *
        have far : hi p - lo p < hi g - lo g ∧ lo g ≤ lo p ∧ hi p ≤ hi g ∧ g ≠ p ∧ g ≠ x := by
          rcases g82 with z | z
          · rw [z] at bg2
            have := bg2 hp0
            exact ⟨by omega, by omega, by omega, fun e => by rw [e] at bg this; omega, fun e => by rw [e] at bg this; omega⟩
          · rw [z] at bg3
            have := bg3 hp0
            exact ⟨by omega, by omega, by omega, fun e => by rw [e] at bg this; omega, fun e => by rw [e] at bg this; omega⟩
        obtain ⟨w4, w5, w6, dgp, dgx⟩ := far
        clear bg2 bg3 g8 h8
        have hmeas : (66 - (hi g - lo g)).toNat < m := by omega
        have bgg := hT.1 g hg
        refine wp_c1e (leftOf_eq kg hg0) ?_
        refine wp_gdc (cmpA (Or.inr ⟨by rw [kp]; decide, by rw [kp]; decide⟩) ?_) ?_
        · by_cases z : ld σ g 2 = 0
          · exact Or.inl z
          · exact Or.inr (by rw [(hN _ (hT.2.1 g hg z).1).1]; decide)
        by_cases c4 : p = ld σ g 2
        · refine wp_pos c4 ?_
          have egl : ld σ g 2 = p := c4.symm
          refine wp_c1e (parentOf_eq kx hx0) ?_
          rw [ep]
          refine wp_c1e (parentOf_eq kp hp0) ?_
          rw [eg]
          refine wp_c1e (rightOf_eq kg hg0) ?_
          generalize eu : ld σ g 3 = u
          by_cases cu : u = 0
          · rw [cu]
            refine wp_c1e colorOf_z ?_
            refine wp_neg (by decide) ?_
            refine wp_c1e (parentOf_eq kx hx0) ?_
            rw [ep]
            refine wp_c1e (rightOf_eq kp hp0) ?_
            refine wp_gdc (cmpA (Or.inr ⟨by rw [kx]; decide, by rw [kx]; decide⟩) ?_) ?_
            · by_cases z : ld σ p 3 = 0
              · exact Or.inl z
              · exact Or.inr (by rw [(hN _ (hT.2.2.1 p hp z).1).1]; decide)
            by_cases c6 : x = ld σ p 3
            · refine wp_pos c6 ?_
              refine wp_c1e (parentOf_eq kx hx0) ?_
              rw [ep]
              refine wp_gd ht ?_
              refine wp_c0 ?_
              have z0 : ld σ p 3 ≠ 0 := by rw [← c6]; exact hx0
              refine wp_mono (rotL_inv ht hN hT hp z0) fun σ1 hq => ?_
              obtain ⟨F1, N1, T1, C1, L1⟩ := hq
              have ht1 : kd σ1 t = 26 := (F1.1.kd t).trans ht
              rw [← c6, eg] at L1
              have d1 : ld σ1 p 4 = x := by
                have z := (L1 p hp).2.2
                clear ih L1 T1 hT
                unfold rlP at z
                grind
              have d2 : ld σ1 x 4 = g := by
                have z := (L1 x hx).2.2
                clear ih L1 T1 hT
                unfold rlP at z
                grind
              have d3 : ld σ1 g 2 = x := by
                have z := (L1 g hg).1
                clear ih L1 T1 hT
                unfold rlL at z
                grind
              have d4 : ld σ1 x 3 ≠ p := by
                have z := (L1 x hx).2.1
                have y1 := hT.2.2.1 x hx
                clear ih L1 T1 hT
                unfold rlR at z
                dsimp only at z y1
                grind
              refine wp_mono (fixI_118 (q := q) ht1 N1 T1 hp (by rw [d1]; exact hx) (by rw [d1, d2]; exact hg) (by rw [d1, d2, d3]) (by rw [d1]; exact d4)) fun σ4 hq => ?_
              exact ⟨F1.trans hq.1, hq.2.1, hq.2.2⟩
            · refine wp_neg c6 ?_
              exact fixI_118 (q := q) ht hN hT hx (by rw [ep]; exact hp) (by rw [ep, eg]; exact hg) (by rw [ep, eg, egl]) (by rw [ep]; exact fun e => c6 e.symm)
          · have hu0 : u ≠ 0 := cu
            have hu : N u := by rw [← eu]; exact (hT.2.2.1 g hg (by show ld σ g 3 ≠ 0; rw [eu]; exact cu)).1
            refine wp_c1e (colorOf_eq (hN u hu).1 hu0 (hN u hu).2) ?_
            by_cases c5 : ld σ u 5 = 0
            · refine wp_pos c5 ?_
              refine wp_c1e (parentOf_eq kx hx0) ?_
              rw [ep]
              refine wp_c0e (setColor_eq kp hp0 ⟨by decide, by decide⟩) ?_
              obtain ⟨F1, N1, T1⟩ := col_inv (c := 1) ht hN hT hp ⟨by decide, by decide⟩
              have E1 : ∀ q j, j ≠ 5 → ld (wr σ p 5 1) q j = ld σ q j := fun q j e => by rw [ld_wr, if_neg (fun z => e z.2)]
              have ht1 : kd (wr σ p 5 1) t = 26 := ht
              generalize wr σ p 5 1 = σ1 at *
              refine wp_c0e (setColor_eq (N1 u hu).1 hu0 ⟨by decide, by decide⟩) ?_
              obtain ⟨F2, N2, T2⟩ := col_inv (c := 1) ht1 N1 T1 hu ⟨by decide, by decide⟩
              have E2 : ∀ q j, j ≠ 5 → ld (wr σ1 u 5 1) q j = ld σ q j := fun q j e => by rw [ld_wr, if_neg (fun z => e z.2), E1 q j e]
              have ht2 : kd (wr σ1 u 5 1) t = 26 := ht1
              generalize wr σ1 u 5 1 = σ2 at *
              refine wp_c1e (parentOf_eq (N2 x hx).1 hx0) ?_
              rw [E2 _ _ (by decide), ep]
              refine wp_c1e (parentOf_eq (N2 p hp).1 hp0) ?_
              rw [E2 _ _ (by decide), eg]
              refine wp_c0e (setColor_eq (N2 g hg).1 hg0 ⟨by decide, by decide⟩) ?_
              obtain ⟨F3, N3, T3⟩ := col_inv (c := 0) ht2 N2 T2 hg ⟨by decide, by decide⟩
              have E3 : ∀ q j, j ≠ 5 → ld (wr σ2 g 5 0) q j = ld σ q j := fun q j e => by rw [ld_wr, if_neg (fun z => e z.2), E2 q j e]
              have ht3 : kd (wr σ2 g 5 0) t = 26 := ht2
              generalize wr σ2 g 5 0 = σ3 at *
              refine wp_c1e (parentOf_eq (N3 x hx).1 hx0) ?_
              rw [E3 _ _ (by decide), ep]
              refine wp_c1e (parentOf_eq (N3 p hp).1 hp0) ?_
              rw [E3 _ _ (by decide), eg]
              unfold f_J8_fixAfterInsertion_148
              refine wp_mono (ih (q + 1) σ3 lo hi ow g ht3 N3 T3 hg hmeas (by omega)) fun σ4 hq => ?_
              exact ⟨((F1.trans F2).trans F3).trans hq.1, hq.2.1, hq.2.2⟩
            · refine wp_neg c5 ?_
              refine wp_c1e (parentOf_eq kx hx0) ?_
              rw [ep]
              refine wp_c1e (rightOf_eq kp hp0) ?_
              refine wp_gdc (cmpA (Or.inr ⟨by rw [kx]; decide, by rw [kx]; decide⟩) ?_) ?_
              · by_cases z : ld σ p 3 = 0
                · exact Or.inl z
                · exact Or.inr (by rw [(hN _ (hT.2.2.1 p hp z).1).1]; decide)
              by_cases c6 : x = ld σ p 3
              · refine wp_pos c6 ?_
                refine wp_c1e (parentOf_eq kx hx0) ?_
                rw [ep]
                refine wp_gd ht ?_
                refine wp_c0 ?_
                have z0 : ld σ p 3 ≠ 0 := by rw [← c6]; exact hx0
                refine wp_mono (rotL_inv ht hN hT hp z0) fun σ1 hq => ?_
                obtain ⟨F1, N1, T1, C1, L1⟩ := hq
                have ht1 : kd σ1 t = 26 := (F1.1.kd t).trans ht
                rw [← c6, eg] at L1
                have d1 : ld σ1 p 4 = x := by
                  have z := (L1 p hp).2.2
                  clear ih L1 T1 hT
                  unfold rlP at z
                  grind
                have d2 : ld σ1 x 4 = g := by
                  have z := (L1 x hx).2.2
                  clear ih L1 T1 hT
                  unfold rlP at z
                  grind
                have d3 : ld σ1 g 2 = x := by
                  have z := (L1 g hg).1
                  clear ih L1 T1 hT
                  unfold rlL at z
                  grind
                have d4 : ld σ1 x 3 ≠ p := by
                  have z := (L1 x hx).2.1
                  have y1 := hT.2.2.1 x hx
                  clear ih L1 T1 hT
                  unfold rlR at z
                  dsimp only at z y1
                  grind
                refine wp_mono (fixI_118 (q := q) ht1 N1 T1 hp (by rw [d1]; exact hx) (by rw [d1, d2]; exact hg) (by rw [d1, d2, d3]) (by rw [d1]; exact d4)) fun σ4 hq => ?_
                exact ⟨F1.trans hq.1, hq.2.1, hq.2.2⟩
              · refine wp_neg c6 ?_
                exact fixI_118 (q := q) ht hN hT hx (by rw [ep]; exact hp) (by rw [ep, eg]; exact hg) (by rw [ep, eg, egl]) (by rw [ep]; exact fun e => c6 e.symm)
        · refine wp_neg c4 ?_
          have egl : ld σ g 3 = p := g82.resolve_left (fun e => c4 e.symm)
          refine wp_c1e (parentOf_eq kx hx0) ?_
          rw [ep]
          refine wp_c1e (parentOf_eq kp hp0) ?_
          rw [eg]
          refine wp_c1e (leftOf_eq kg hg0) ?_
          generalize eu : ld σ g 2 = u
          by_cases cu : u = 0
          · rw [cu]
            refine wp_c1e colorOf_z ?_
            refine wp_neg (by decide) ?_
            refine wp_c1e (parentOf_eq kx hx0) ?_
            rw [ep]
            refine wp_c1e (leftOf_eq kp hp0) ?_
            refine wp_gdc (cmpA (Or.inr ⟨by rw [kx]; decide, by rw [kx]; decide⟩) ?_) ?_
            · by_cases z : ld σ p 2 = 0
              · exact Or.inl z
              · exact Or.inr (by rw [(hN _ (hT.2.1 p hp z).1).1]; decide)
            by_cases c6 : x = ld σ p 2
            · refine wp_pos c6 ?_
              refine wp_c1e (parentOf_eq kx hx0) ?_
              rw [ep]
              refine wp_gd ht ?_
              refine wp_c0 ?_
              have z0 : ld σ p 2 ≠ 0 := by rw [← c6]; exact hx0
              refine wp_mono (rotR_inv ht hN hT hp z0) fun σ1 hq => ?_
              obtain ⟨F1, N1, T1, C1, L1⟩ := hq
              have ht1 : kd σ1 t = 26 := (F1.1.kd t).trans ht
              rw [← c6, eg] at L1
              have d1 : ld σ1 p 4 = x := by
                have z := (L1 p hp).2.2
                clear ih L1 T1 hT
                unfold rrP at z
                grind
              have d2 : ld σ1 x 4 = g := by
                have z := (L1 x hx).2.2
                clear ih L1 T1 hT
                unfold rrP at z
                grind
              have d3 : ld σ1 g 3 = x := by
                have z := (L1 g hg).2.1
                clear ih L1 T1 hT
                unfold rrR at z
                grind
              have d4 : ld σ1 x 2 ≠ p := by
                have z := (L1 x hx).1
                have y1 := hT.2.1 x hx
                clear ih L1 T1 hT
                unfold rrL at z
                dsimp only at z y1
                grind
              refine wp_mono (fixI_225 (q := q) ht1 N1 T1 hp (by rw [d1]; exact hx) (Or.inr ⟨by rw [d1, d2]; exact hg, by rw [d1, d2, d3]⟩) (by rw [d1]; exact d4)) fun σ4 hq => ?_
              exact ⟨F1.trans hq.1, hq.2.1, hq.2.2⟩
            · refine wp_neg c6 ?_
              exact fixI_225 (q := q) ht hN hT hx (by rw [ep]; exact hp) (Or.inr ⟨by rw [ep, eg]; exact hg, by rw [ep, eg, egl]⟩) (by rw [ep]; exact fun e => c6 e.symm)
          · have hu0 : u ≠ 0 := cu
            have hu : N u := by rw [← eu]; exact (hT.2.1 g hg (by show ld σ g 2 ≠ 0; rw [eu]; exact cu)).1
            refine wp_c1e (colorOf_eq (hN u hu).1 hu0 (hN u hu).2) ?_
            by_cases c5 : ld σ u 5 = 0
            · refine wp_pos c5 ?_
              refine wp_c1e (parentOf_eq kx hx0) ?_
              rw [ep]
              refine wp_c0e (setColor_eq kp hp0 ⟨by decide, by decide⟩) ?_
              obtain ⟨F1, N1, T1⟩ := col_inv (c := 1) ht hN hT hp ⟨by decide, by decide⟩
              have E1 : ∀ q j, j ≠ 5 → ld (wr σ p 5 1) q j = ld σ q j := fun q j e => by rw [ld_wr, if_neg (fun z => e z.2)]
              have ht1 : kd (wr σ p 5 1) t = 26 := ht
              generalize wr σ p 5 1 = σ1 at *
              refine wp_c0e (setColor_eq (N1 u hu).1 hu0 ⟨by decide, by decide⟩) ?_
              obtain ⟨F2, N2, T2⟩ := col_inv (c := 1) ht1 N1 T1 hu ⟨by decide, by decide⟩
              have E2 : ∀ q j, j ≠ 5 → ld (wr σ1 u 5 1) q j = ld σ q j := fun q j e => by rw [ld_wr, if_neg (fun z => e z.2), E1 q j e]
              have ht2 : kd (wr σ1 u 5 1) t = 26 := ht1
              generalize wr σ1 u 5 1 = σ2 at *
              refine wp_c1e (parentOf_eq (N2 x hx).1 hx0) ?_
              rw [E2 _ _ (by decide), ep]
              refine wp_c1e (parentOf_eq (N2 p hp).1 hp0) ?_
              rw [E2 _ _ (by decide), eg]
              refine wp_c0e (setColor_eq (N2 g hg).1 hg0 ⟨by decide, by decide⟩) ?_
              obtain ⟨F3, N3, T3⟩ := col_inv (c := 0) ht2 N2 T2 hg ⟨by decide, by decide⟩
              have E3 : ∀ q j, j ≠ 5 → ld (wr σ2 g 5 0) q j = ld σ q j := fun q j e => by rw [ld_wr, if_neg (fun z => e z.2), E2 q j e]
              have ht3 : kd (wr σ2 g 5 0) t = 26 := ht2
              generalize wr σ2 g 5 0 = σ3 at *
              refine wp_c1e (parentOf_eq (N3 x hx).1 hx0) ?_
              rw [E3 _ _ (by decide), ep]
              refine wp_c1e (parentOf_eq (N3 p hp).1 hp0) ?_
              rw [E3 _ _ (by decide), eg]
              unfold f_J8_fixAfterInsertion_255
              refine wp_mono (ih (q + 1) σ3 lo hi ow g ht3 N3 T3 hg hmeas (by omega)) fun σ4 hq => ?_
              exact ⟨((F1.trans F2).trans F3).trans hq.1, hq.2.1, hq.2.2⟩
            · refine wp_neg c5 ?_
              refine wp_c1e (parentOf_eq kx hx0) ?_
              rw [ep]
              refine wp_c1e (leftOf_eq kp hp0) ?_
              refine wp_gdc (cmpA (Or.inr ⟨by rw [kx]; decide, by rw [kx]; decide⟩) ?_) ?_
              · by_cases z : ld σ p 2 = 0
                · exact Or.inl z
                · exact Or.inr (by rw [(hN _ (hT.2.1 p hp z).1).1]; decide)
              by_cases c6 : x = ld σ p 2
              · refine wp_pos c6 ?_
                refine wp_c1e (parentOf_eq kx hx0) ?_
                rw [ep]
                refine wp_gd ht ?_
                refine wp_c0 ?_
                have z0 : ld σ p 2 ≠ 0 := by rw [← c6]; exact hx0
                refine wp_mono (rotR_inv ht hN hT hp z0) fun σ1 hq => ?_
                obtain ⟨F1, N1, T1, C1, L1⟩ := hq
                have ht1 : kd σ1 t = 26 := (F1.1.kd t).trans ht
                rw [← c6, eg] at L1
                have d1 : ld σ1 p 4 = x := by
                  have z := (L1 p hp).2.2
                  clear ih L1 T1 hT
                  unfold rrP at z
                  grind
                have d2 : ld σ1 x 4 = g := by
                  have z := (L1 x hx).2.2
                  clear ih L1 T1 hT
                  unfold rrP at z
                  grind
                have d3 : ld σ1 g 3 = x := by
                  have z := (L1 g hg).2.1
                  clear ih L1 T1 hT
                  unfold rrR at z
                  grind
                have d4 : ld σ1 x 2 ≠ p := by
                  have z := (L1 x hx).1
                  have y1 := hT.2.1 x hx
                  clear ih L1 T1 hT
                  unfold rrL at z
                  dsimp only at z y1
                  grind
                refine wp_mono (fixI_225 (q := q) ht1 N1 T1 hp (by rw [d1]; exact hx) (Or.inr ⟨by rw [d1, d2]; exact hg, by rw [d1, d2, d3]⟩) (by rw [d1]; exact d4)) fun σ4 hq => ?_
                exact ⟨F1.trans hq.1, hq.2.1, hq.2.2⟩
              · refine wp_neg c6 ?_
                exact fixI_225 (q := q) ht hN hT hx (by rw [ep]; exact hp) (Or.inr ⟨by rw [ep, eg]; exact hg, by rw [ep, eg, egl]⟩) (by rw [ep]; exact fun e => c6 e.symm)
    · exact wp_mono (fixI_end (q := q + 1) ht hN hT hx (Or.inr c2)) fun σ1 h => ⟨h.1, h.2.1, _, _, _, h.2.2⟩
