/-! TreeMap: the loop of the fix-up behind a removal (wip/tools/gentm.py) -/
set_option maxRecDepth 100000
set_option maxHeartbeats 8000000 in
theorem fixD_wp {N : Int → Prop} {k : F1} {t z : Int} {n : Nat} : ∀ (m : Nat) (σ : AS) (lo hi ow : F1) (x : Int), kd σ t = 26 → MapN σ N → MapT σ t N k lo hi ow → N x → LeafIn σ N k lo hi z x → (66 - (hi x - lo x)).toNat < m → ∀ q : Nat, m ≤ q → Wp (f_J8_fixAfterDeletion_0 n q t x σ) (FPZ N t k z σ) := by
  intro m
  induction m with
  | zero => intro σ lo hi ow x _ _ _ _ _ h; omega
  | succ m ih =>
    intro σ lo hi ow x ht hN hT hx hz hm q hq
    by_cases hend : x = ld σ t 3 ∨ ld σ x 5 ≠ 1
    · obtain ⟨q, rfl⟩ : ∃ z, q = z + 1 := ⟨q - 1, by omega⟩
      exact wp_mono (fixD_end (q := q) ht hN hT hx hend) fun σ1 h => ⟨⟨h.1, h.2.1, _, _, _, h.2.2.1⟩, fun z0 => by rw [h.2.2.2 z 2 (by decide), h.2.2.2 z 3 (by decide)]; exact (hz z0).2.2.2⟩
    have c1 : ¬ x = ld σ t 3 := fun e => hend (Or.inl e)
    have c2 : ld σ x 5 = 1 := by
      by_cases z : ld σ x 5 = 1
      · exact z
      · exact absurd (Or.inr z) hend
    have hx0 : x ≠ 0 := (hT.1 x hx).1
    have kx := (hN x hx).1
    have h8 := hT.2.2.2.2.2.2.2.1 x hx c1
    have hp : N (ld σ x 4) := h8.1
    have h82 : ld σ (ld σ x 4) 2 = x ∨ ld σ (ld σ x 4) 3 = x := h8.2
    have hp0 : ld σ x 4 ≠ 0 := (hT.1 _ hp).1
    have kp := (hN _ hp).1
    have bx := hT.1 x hx
    cases m with
    | zero => 
      have bp := hT.1 _ hp
      have q2 := hT.2.1 _ hp
      have q3 := hT.2.2.1 _ hp
      dsimp only at q2 q3
      rcases h82 with z | z
      · rw [z] at q2; have := q2 hx0; omega
      · rw [z] at q3; have := q3 hx0; omega
    | succ m9 =>
    generalize hmm : m9 + 1 = m at *
    obtain ⟨q, rfl⟩ : ∃ z, q = z + 2 := ⟨q - 2, by omega⟩
    unfold f_J8_fixAfterDeletion_0
    refine wp_gd ht ?_
    refine wp_gdc (cmpA (Or.inr ⟨by rw [kx]; decide, by rw [kx]; decide⟩) (Or.inr (by rw [(hN _ hT.2.2.2.2.2.2.2.2.1).1]; decide))) ?_
    refine wp_neg c1 ?_
    refine wp_c1e (colorOf_eq kx hx0 (hN x hx).2) ?_
    refine wp_pos c2 ?_
    refine wp_c1e (parentOf_eq kx hx0) ?_
    refine wp_c1e (leftOf_eq kp hp0) ?_
    refine wp_gdc (cmpA (Or.inr ⟨by rw [kx]; decide, by rw [kx]; decide⟩) ?_) ?_
    · by_cases z : ld σ (ld σ x 4) 2 = 0
      · exact Or.inl z
      · exact Or.inr (by rw [(hN _ (hT.2.1 _ hp z).1).1]; decide)
    by_cases cl : x = ld σ (ld σ x 4) 2
    · refine wp_pos cl ?_
      have hl := cl.symm
      refine wp_c1e (parentOf_eq kx hx0) ?_
      refine wp_c1e (rightOf_eq kp hp0) ?_
      have g71 := fixD_71 (n := n) (q := q) (m := m) (fun σ lo hi ow x h1 h2 h3 h4 h5 h6 => ih σ lo hi ow x h1 h2 h3 h4 h5 h6 (q + 1) (by omega)) ht hN hT hx hp hl hz hm
      by_cases cs : ld σ (ld σ x 4) 3 = 0
      · rw [cs] at g71 ⊢
        refine wp_c1e colorOf_z ?_
        refine wp_neg (by decide) ?_
        exact g71
      · have hs : N (ld σ (ld σ x 4) 3) := (hT.2.2.1 _ hp cs).1
        refine wp_c1e (colorOf_eq (hN _ hs).1 cs (hN _ hs).2) ?_
        by_cases c5 : ld σ (ld σ (ld σ x 4) 3) 5 = 0
        · clear g71
          refine wp_pos c5 ?_
          have b1 := hT.1 _ hs
          have b3 := hT.1 _ hp
          have b4 := hT.2.2.1 _ hp cs
          have b7 := hT.2.1 _ hp (by show ld σ (ld σ x 4) 2 ≠ 0; rw [hl]; exact hx0)
          have b8 := hT.1 x hx
          have b9 := hT.2.1 _ hs
          dsimp only at b4 b7 b9
          rw [hl] at b7
          generalize ep : ld σ x 4 = p at *
          generalize es : ld σ p 3 = s at *
          refine wp_c0e (setColor_eq (hN s hs).1 cs ⟨by decide, by decide⟩) ?_
          obtain ⟨F1, N1, T1⟩ := col_inv (c := 1) ht hN hT hs ⟨by decide, by decide⟩
          have E1 : ∀ q j, j ≠ 5 → ld (wr σ s 5 1) q j = ld σ q j := fun q j e => by rw [ld_wr, if_neg (fun z => e z.2)]
          have ht1 : kd (wr σ s 5 1) t = 26 := ht
          generalize wr σ s 5 1 = σ1 at *
          refine wp_c1e (parentOf_eq (N1 x hx).1 hx0) ?_
          rw [E1 _ _ (by decide), ep]
          refine wp_c0e (setColor_eq (N1 p hp).1 hp0 ⟨by decide, by decide⟩) ?_
          obtain ⟨F2, N2, T2⟩ := col_inv (c := 0) ht1 N1 T1 hp ⟨by decide, by decide⟩
          have E2 : ∀ q j, j ≠ 5 → ld (wr σ1 p 5 0) q j = ld σ q j := fun q j e => by rw [ld_wr, if_neg (fun z => e z.2), E1 q j e]
          have ht2 : kd (wr σ1 p 5 0) t = 26 := ht1
          generalize wr σ1 p 5 0 = σ2 at *
          refine wp_c1e (parentOf_eq (N2 x hx).1 hx0) ?_
          rw [E2 _ _ (by decide), ep]
          refine wp_gd ht2 ?_
          refine wp_c0 ?_
          refine wp_mono (rotL_inv ht2 N2 T2 hp (by rw [E2 _ _ (by decide), es]; exact cs)) fun σ3 hq => ?_
          obtain ⟨F3, N3, T3, _, L3⟩ := hq
          have ht3 : kd σ3 t = 26 := (F3.1.kd t).trans ht2
          have d0 : x ≠ p := fun e => by rw [e] at b7; omega
          have d9 : x ≠ s := fun e => by rw [e] at b7; omega
          have w1 : p ≠ s := fun e => by rw [← e] at b4; omega
          have zp := hT.2.2.2.2.2.2.2.1 p hp
          have zr : ld σ (ld σ t 3) 4 = 0 := hT.2.2.2.2.2.2.2.2.2.1
          have w2 : p ≠ ld σ p 4 := fun e => by
            have z8 := hT.2.1 (ld σ p 4)
            have z9 := hT.2.2.1 (ld σ p 4)
            by_cases y : p = ld σ t 3
            · rw [y, zr] at e; exact hp0 (y.trans e)
            · have y2 := (zp y).2
              dsimp only at y2 z8 z9
              rw [← e] at y2 z8 z9
              rcases y2 with y2 | y2
              · rw [y2] at z8; have := z8 hp hp0; omega
              · rw [y2] at z9; have := z9 hp hp0; omega
          have d1 : ld σ3 x 4 = p := by
            have z := (L3 x hx).2.2
            have z2 := E2 x 4 (by decide)
            have z3 := E2 p 3 (by decide)
            have z4 := E2 s 2 (by decide)
            clear L3 T3 T2 T1 hT ih zp
            unfold rlP at z
            grind
          have d2 : ld σ3 p 2 = x := by
            have z := (L3 p hp).1
            have z2 := E2 p 3 (by decide)
            have z3 := E2 p 2 (by decide)
            have z4 := E2 p 4 (by decide)
            clear L3 T3 T2 T1 hT ih zp
            unfold rlL at z
            grind
          have zz : LeafIn σ3 N k (fun q => if q = ld σ2 p 3 then lo p else lo q) (fun q => if q = p then k (ld σ2 p 3) else hi q) z x := fun z0 => by
            obtain ⟨y1, y2, y3, y4, y5⟩ := hz z0
            have q1 := L3 z y1
            have e1 := E2 z 2 (by decide)
            have e2 := E2 z 3 (by decide)
            have e3 := E2 p 3 (by decide)
            have e4 := E2 p 4 (by decide)
            have y6 : z ≠ s := fun e => by rw [e] at y2 y3; omega
            have y7 : z ≠ p := fun e => by rw [e] at y4 y5; omega
            have y8 : z ≠ ld σ p 4 := fun e => by
              have h9 := zp (fun e2 => by
                rw [← e2, ← e] at zr
                exact z0 zr)
              have h10 := h9.2
              dsimp only at h10
              rw [← e, y4, y5] at h10
              exact h10.elim (fun y => hp0 y.symm) (fun y => hp0 y.symm)
            refine ⟨y1, ?_, ?_, ?_⟩
            · show (if x = _ then _ else lo x) < k z
              rw [E2 _ _ (by decide), es, if_neg d9]; exact y2
            · show k z < (if x = _ then _ else hi x)
              rw [if_neg d0]; exact y3
            · clear L3 T3 T2 T1 hT ih zp
              unfold rlL rlR rlP at q1
              grind
          refine wp_c1e (parentOf_eq (N3 x hx).1 hx0) ?_
          rw [d1]
          refine wp_c1e (rightOf_eq (N3 p hp).1 hp0) ?_
          have fin := fixD_71 (n := n) (q := q) (m := m) (fun σ lo hi ow x h1 h2 h3 h4 h5 h6 => ih σ lo hi ow x h1 h2 h3 h4 h5 h6 (q + 1) (by omega)) ht3 N3 T3 hx (by rw [d1]; exact hp) (by rw [d1]; exact d2) zz (by
            rw [E2 _ _ (by decide), es, if_neg d9, if_neg d0]
            exact hm)
          rw [d1] at fin
          refine wp_mono fin fun σ4 hq => ?_
          exact ⟨⟨((F1.trans F2).trans F3).trans hq.1.1, hq.1.2.1, hq.1.2.2⟩, hq.2⟩
        · refine wp_neg c5 ?_
          exact g71
    · refine wp_neg cl ?_
      have hl := h82.resolve_left (fun e => cl e.symm)
      refine wp_c1e (parentOf_eq kx hx0) ?_
      refine wp_c1e (leftOf_eq kp hp0) ?_
      have g71 := fixD_230 (n := n) (q := q) (m := m) (fun σ lo hi ow x h1 h2 h3 h4 h5 h6 => ih σ lo hi ow x h1 h2 h3 h4 h5 h6 (q + 1) (by omega)) ht hN hT hx hp hl hz hm
      by_cases cs : ld σ (ld σ x 4) 2 = 0
      · rw [cs] at g71 ⊢
        refine wp_c1e colorOf_z ?_
        refine wp_neg (by decide) ?_
        exact g71
      · have hs : N (ld σ (ld σ x 4) 2) := (hT.2.1 _ hp cs).1
        refine wp_c1e (colorOf_eq (hN _ hs).1 cs (hN _ hs).2) ?_
        by_cases c5 : ld σ (ld σ (ld σ x 4) 2) 5 = 0
        · clear g71
          refine wp_pos c5 ?_
          have b1 := hT.1 _ hs
          have b3 := hT.1 _ hp
          have b4 := hT.2.1 _ hp cs
          have b7 := hT.2.2.1 _ hp (by show ld σ (ld σ x 4) 3 ≠ 0; rw [hl]; exact hx0)
          have b8 := hT.1 x hx
          have b9 := hT.2.2.1 _ hs
          dsimp only at b4 b7 b9
          rw [hl] at b7
          generalize ep : ld σ x 4 = p at *
          generalize es : ld σ p 2 = s at *
          refine wp_c0e (setColor_eq (hN s hs).1 cs ⟨by decide, by decide⟩) ?_
          obtain ⟨F1, N1, T1⟩ := col_inv (c := 1) ht hN hT hs ⟨by decide, by decide⟩
          have E1 : ∀ q j, j ≠ 5 → ld (wr σ s 5 1) q j = ld σ q j := fun q j e => by rw [ld_wr, if_neg (fun z => e z.2)]
          have ht1 : kd (wr σ s 5 1) t = 26 := ht
          generalize wr σ s 5 1 = σ1 at *
          refine wp_c1e (parentOf_eq (N1 x hx).1 hx0) ?_
          rw [E1 _ _ (by decide), ep]
          refine wp_c0e (setColor_eq (N1 p hp).1 hp0 ⟨by decide, by decide⟩) ?_
          obtain ⟨F2, N2, T2⟩ := col_inv (c := 0) ht1 N1 T1 hp ⟨by decide, by decide⟩
          have E2 : ∀ q j, j ≠ 5 → ld (wr σ1 p 5 0) q j = ld σ q j := fun q j e => by rw [ld_wr, if_neg (fun z => e z.2), E1 q j e]
          have ht2 : kd (wr σ1 p 5 0) t = 26 := ht1
          generalize wr σ1 p 5 0 = σ2 at *
          refine wp_c1e (parentOf_eq (N2 x hx).1 hx0) ?_
          rw [E2 _ _ (by decide), ep]
          refine wp_gd ht2 ?_
          refine wp_c0 ?_
          refine wp_mono (rotR_inv ht2 N2 T2 hp (by rw [E2 _ _ (by decide), es]; exact cs)) fun σ3 hq => ?_
          obtain ⟨F3, N3, T3, _, L3⟩ := hq
          have ht3 : kd σ3 t = 26 := (F3.1.kd t).trans ht2
          have d0 : x ≠ p := fun e => by rw [e] at b7; omega
          have d9 : x ≠ s := fun e => by rw [e] at b7; omega
          have w1 : p ≠ s := fun e => by rw [← e] at b4; omega
          have zp := hT.2.2.2.2.2.2.2.1 p hp
          have zr : ld σ (ld σ t 3) 4 = 0 := hT.2.2.2.2.2.2.2.2.2.1
          have w2 : p ≠ ld σ p 4 := fun e => by
            have z8 := hT.2.1 (ld σ p 4)
            have z9 := hT.2.2.1 (ld σ p 4)
            by_cases y : p = ld σ t 3
            · rw [y, zr] at e; exact hp0 (y.trans e)
            · have y2 := (zp y).2
              dsimp only at y2 z8 z9
              rw [← e] at y2 z8 z9
              rcases y2 with y2 | y2
              · rw [y2] at z8; have := z8 hp hp0; omega
              · rw [y2] at z9; have := z9 hp hp0; omega
          have d1 : ld σ3 x 4 = p := by
            have z := (L3 x hx).2.2
            have z2 := E2 x 4 (by decide)
            have z3 := E2 p 2 (by decide)
            have z4 := E2 s 3 (by decide)
            clear L3 T3 T2 T1 hT ih zp
            unfold rrP at z
            grind
          have d2 : ld σ3 p 3 = x := by
            have z := (L3 p hp).2.1
            have z2 := E2 p 2 (by decide)
            have z3 := E2 p 3 (by decide)
            have z4 := E2 p 4 (by decide)
            clear L3 T3 T2 T1 hT ih zp
            unfold rrR at z
            grind
          have zz : LeafIn σ3 N k (fun q => if q = p then k (ld σ2 p 2) else lo q) (fun q => if q = ld σ2 p 2 then hi p else hi q) z x := fun z0 => by
            obtain ⟨y1, y2, y3, y4, y5⟩ := hz z0
            have q1 := L3 z y1
            have e1 := E2 z 2 (by decide)
            have e2 := E2 z 3 (by decide)
            have e3 := E2 p 2 (by decide)
            have e4 := E2 p 4 (by decide)
            have y6 : z ≠ s := fun e => by rw [e] at y2 y3; omega
            have y7 : z ≠ p := fun e => by rw [e] at y4 y5; omega
            have y8 : z ≠ ld σ p 4 := fun e => by
              have h9 := zp (fun e2 => by
                rw [← e2, ← e] at zr
                exact z0 zr)
              have h10 := h9.2
              dsimp only at h10
              rw [← e, y4, y5] at h10
              exact h10.elim (fun y => hp0 y.symm) (fun y => hp0 y.symm)
            refine ⟨y1, ?_, ?_, ?_⟩
            · show (if x = _ then _ else lo x) < k z
              rw [if_neg d0]; exact y2
            · show k z < (if x = _ then _ else hi x)
              rw [E2 _ _ (by decide), es, if_neg d9]; exact y3
            · clear L3 T3 T2 T1 hT ih zp
              unfold rrL rrR rrP at q1
              grind
          refine wp_c1e (parentOf_eq (N3 x hx).1 hx0) ?_
          rw [d1]
          refine wp_c1e (leftOf_eq (N3 p hp).1 hp0) ?_
          have fin := fixD_230 (n := n) (q := q) (m := m) (fun σ lo hi ow x h1 h2 h3 h4 h5 h6 => ih σ lo hi ow x h1 h2 h3 h4 h5 h6 (q + 1) (by omega)) ht3 N3 T3 hx (by rw [d1]; exact hp) (by rw [d1]; exact d2) zz (by
            rw [E2 _ _ (by decide), es, if_neg d9, if_neg d0]
            exact hm)
          rw [d1] at fin
          refine wp_mono fin fun σ4 hq => ?_
          exact ⟨⟨((F1.trans F2).trans F3).trans hq.1.1, hq.1.2.1, hq.1.2.2⟩, hq.2⟩
        · refine wp_neg c5 ?_
          exact g71
