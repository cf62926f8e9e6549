/-! TreeMap: the fix-up behind a removal (wip/tools/gentm.py) -/
set_option maxRecDepth 100000
/-- z (if any) is a leaf under x -/
def LeafIn (σ : AS) (N : Int → Prop) (k lo hi : F1) (z x : Int) : Prop := z ≠ 0 → N z ∧ lo x < k z ∧ k z < hi x ∧ ld σ z 2 = 0 ∧ ld σ z 3 = 0
def FPZ (N : Int → Prop) (t : Int) (k : F1) (z : Int) (σ σ' : AS) : Prop := FPost N t k σ σ' ∧ (z ≠ 0 → ld σ' z 2 = 0 ∧ ld σ' z 3 = 0)
section FD
variable {N : Int → Prop} {k lo hi ow : F1} {t x c z : Int} {σ : AS}
theorem fixD_end {n q : Nat} (ht : kd σ t = 26) (hN : MapN σ N) (hT : MapT σ t N k lo hi ow) (hx : N x) (he : x = ld σ t 3 ∨ ld σ x 5 ≠ 1) : Wp (f_J8_fixAfterDeletion_0 n (q + 1) t x σ) fun σ' => TFr N t σ σ' ∧ MapN σ' N ∧ MapT σ' t N k lo hi ow ∧ ∀ y j, j ≠ 5 → ld σ' y j = ld σ y j := by
  have hx0 : x ≠ 0 := (hT.1 x hx).1
  have kx := (hN x hx).1
  have hr : N (ld σ t 3) := hT.2.2.2.2.2.2.2.2.1
  have fin : Wp (f_J8_fixAfterDeletion_345 n x σ) fun σ' => TFr N t σ σ' ∧ MapN σ' N ∧ MapT σ' t N k lo hi ow ∧ ∀ y j, j ≠ 5 → ld σ' y j = ld σ y j := by
    unfold f_J8_fixAfterDeletion_345
    refine wp_c0e (setColor_eq kx hx0 ⟨by decide, by decide⟩) ?_
    obtain ⟨a1, a2, a3⟩ := col_inv (c := 1) ht hN hT hx ⟨by decide, by decide⟩
    exact wp_ok ⟨a1, a2, a3, fun y j e => by rw [ld_wr, if_neg (fun z => e z.2)]⟩
  unfold f_J8_fixAfterDeletion_0
  refine wp_gd ht ?_
  refine wp_gdc (cmpA (Or.inr ⟨by rw [kx]; decide, by rw [kx]; decide⟩) (Or.inr (by rw [(hN _ hr).1]; decide))) ?_
  by_cases c1 : x = ld σ t 3
  · exact wp_pos c1 fin
  · refine wp_neg c1 ?_
    refine wp_c1e (colorOf_eq kx hx0 (hN x hx).2) ?_
    exact wp_neg (he.resolve_left c1) fin
theorem fixD_143 {n q : Nat} (ht : kd σ t = 26) (hN : MapN σ N) (hT : MapT σ t N k lo hi ow) (hx : N x) (hp : N (ld σ x 4)) (hl : ld σ (ld σ x 4) 2 = x) (hs : N (ld σ (ld σ x 4) 3)) (hz : LeafIn σ N k lo hi z x) : Wp (f_J8_fixAfterDeletion_143 n (f_J8_fixAfterDeletion_183 n (f_J8_fixAfterDeletion_0 n (q + 1))) t x (ld σ (ld σ x 4) 3) σ) (FPZ N t k z σ) := by
  have hx0 : x ≠ 0 := (hT.1 x hx).1
  have hp0 : ld σ x 4 ≠ 0 := (hT.1 _ hp).1
  have hs0 : ld σ (ld σ x 4) 3 ≠ 0 := (hT.1 _ hs).1
  have hw : ld σ (ld σ (ld σ x 4) 3) 3 ≠ 0 → N (ld σ (ld σ (ld σ x 4) 3) 3) := fun e => (hT.2.2.1 _ hs e).1
  have zs : z ≠ 0 → z ≠ ld σ (ld σ x 4) 3 ∧ z ≠ ld σ x 4 ∧ z ≠ ld σ (ld σ x 4) 4 := fun z0 => by
    obtain ⟨z1, z2, z3, z4, z5⟩ := hz z0
    have b1 := hT.1 _ hs
    have b2 := hT.2.2.1 _ hp hs0
    have b3 := hT.2.1 _ hp (by show ld σ (ld σ x 4) 2 ≠ 0; rw [hl]; exact hx0)
    dsimp only at b2 b3
    rw [hl] at b3
    refine ⟨fun e => by rw [e] at z2 z3; omega, fun e => by rw [e] at z4 z5; omega, fun e => ?_⟩
    have h9 := hT.2.2.2.2.2.2.2.1 _ hp (fun e2 => by
      have : ld σ (ld σ t 3) 4 = 0 := hT.2.2.2.2.2.2.2.2.2.1
      rw [← e2, ← e] at this
      exact z0 this)
    have h10 := h9.2
    dsimp only at h10
    rw [← e, z4, z5] at h10
    exact h10.elim (fun y => hp0 y.symm) (fun y => hp0 y.symm)
  generalize ep : ld σ x 4 = p at *
  generalize es : ld σ p 3 = s at *
  unfold f_J8_fixAfterDeletion_143 f_J8_fixAfterDeletion_183
  refine wp_c1e (parentOf_eq (hN x hx).1 hx0) ?_
  rw [ep]
  refine wp_c1e (colorOf_eq (hN p hp).1 hp0 (hN p hp).2) ?_
  refine wp_c0e (setColor_eq (hN s hs).1 hs0 (hN p hp).2) ?_
  obtain ⟨F1, N1, T1⟩ := col_inv (c := ld σ p 5) ht hN hT hs (hN p hp).2
  have E1 : ∀ q j, j ≠ 5 → ld (wr σ s 5 (ld σ p 5)) q j = ld σ q j := fun q j e => by rw [ld_wr, if_neg (fun z => e z.2)]
  have ht1 : kd (wr σ s 5 (ld σ p 5)) t = 26 := ht
  generalize wr σ s 5 (ld σ p 5) = σ1 at *
  refine wp_c1e (parentOf_eq (N1 x hx).1 hx0) ?_
  rw [E1 _ _ (by decide), ep]
  refine wp_c0e (setColor_eq (N1 p hp).1 hp0 ⟨by decide, by decide⟩) ?_
  obtain ⟨F2, N2, T2⟩ := col_inv (c := 1) ht1 N1 T1 hp ⟨by decide, by decide⟩
  have E2 : ∀ q j, j ≠ 5 → ld (wr σ1 p 5 1) q j = ld σ q j := fun q j e => by rw [ld_wr, if_neg (fun z => e z.2), E1 q j e]
  have ht2 : kd (wr σ1 p 5 1) t = 26 := ht1
  generalize wr σ1 p 5 1 = σ2 at *
  refine wp_c1e (rightOf_eq (N2 s hs).1 hs0) ?_
  rw [E2 _ _ (by decide)]
  have tail : ∀ σ3, TFr N t σ2 σ3 → MapN σ3 N → MapT σ3 t N k lo hi ow → (∀ q j, j ≠ 5 → ld σ3 q j = ld σ q j) → kd σ3 t = 26 → Wp (c1 (f_J8_parentOf x σ3) fun v22 σ23 => gd (kd σ23 t = 26) <| c0 (f_J8_rotateLeft t v22 σ23) fun σ27 => gd (kd σ27 t = 26) <| nm (ld σ27 t 3) fun u30 => f_J8_fixAfterDeletion_0 n (q + 1) t u30 σ27) (FPZ N t k z σ) := by
    intro σ3 F3 N3 T3 E3 ht3
    refine wp_c1e (parentOf_eq (N3 x hx).1 hx0) ?_
    rw [E3 _ _ (by decide), ep]
    refine wp_gd ht3 ?_
    refine wp_c0 ?_
    refine wp_mono (rotL_inv ht3 N3 T3 hp (by rw [E3 _ _ (by decide), es]; exact hs0)) fun σ4 hq => ?_
    obtain ⟨F4, N4, T4, _, L4⟩ := hq
    have ht4 : kd σ4 t = 26 := (F4.1.kd t).trans ht3
    have zz : z ≠ 0 → ld σ4 z 2 = 0 ∧ ld σ4 z 3 = 0 := fun z0 => by
      obtain ⟨y1, y2, y3⟩ := zs z0
      obtain ⟨w1, w2, w3, w4, w5⟩ := hz z0
      have q1 := L4 z w1
      have e1 := E3 z 2 (by decide)
      have e2 := E3 z 3 (by decide)
      have e3 := E3 p 3 (by decide)
      have e4 := E3 p 4 (by decide)
      clear L4 T4 T3 T2 T1 hT
      unfold rlL rlR rlP at q1
      grind
    refine wp_gd ht4 ?_
    refine wp_nm0 ?_
    refine wp_mono (fixD_end (q := q) ht4 N4 T4 T4.2.2.2.2.2.2.2.2.1 (Or.inl rfl)) fun σ5 hq => ?_
    exact ⟨⟨(((F1.trans F2).trans F3).trans F4).trans hq.1, hq.2.1, _, _, _, hq.2.2.1⟩, fun z0 => by rw [hq.2.2.2 z 2 (by decide), hq.2.2.2 z 3 (by decide)]; exact zz z0⟩
  by_cases c : ld σ s 3 = 0
  · rw [c]
    refine wp_c0e setColor_z ?_
    exact tail σ2 TFr.rf N2 T2 E2 ht2
  · have hw' := hw c
    generalize ld σ s 3 = w at *
    refine wp_c0e (setColor_eq (N2 w hw').1 c ⟨by decide, by decide⟩) ?_
    obtain ⟨F3, N3, T3⟩ := col_inv (c := 1) ht2 N2 T2 hw' ⟨by decide, by decide⟩
    exact tail _ F3 N3 T3 (fun q j e => by rw [ld_wr, if_neg (fun z => e z.2), E2 q j e]) ht2
theorem fixD_106 {n q : Nat} (ht : kd σ t = 26) (hN : MapN σ N) (hT : MapT σ t N k lo hi ow) (hx : N x) (hp : N (ld σ x 4)) (hl : ld σ (ld σ x 4) 2 = x) (hs : N (ld σ (ld σ x 4) 3)) (hz : LeafIn σ N k lo hi z x) (h2 : ld σ (ld σ (ld σ x 4) 3) 2 ≠ 0 ∨ (ld σ (ld σ (ld σ x 4) 3) 3 ≠ 0 ∧ ld σ (ld σ (ld σ (ld σ x 4) 3) 3) 5 ≠ 1)) : Wp (f_J8_fixAfterDeletion_106 n (f_J8_fixAfterDeletion_183 n (f_J8_fixAfterDeletion_0 n (q + 1))) t x (ld σ (ld σ x 4) 3) σ) (FPZ N t k z σ) := by
  have hx0 : x ≠ 0 := (hT.1 x hx).1
  have hp0 : ld σ x 4 ≠ 0 := (hT.1 _ hp).1
  have hs0 : ld σ (ld σ x 4) 3 ≠ 0 := (hT.1 _ hs).1
  have hw : ld σ (ld σ (ld σ x 4) 3) 3 ≠ 0 → N (ld σ (ld σ (ld σ x 4) 3) 3) := fun e => (hT.2.2.1 _ hs e).1
  have hu : ld σ (ld σ (ld σ x 4) 3) 2 ≠ 0 → N (ld σ (ld σ (ld σ x 4) 3) 2) := fun e => (hT.2.1 _ hs e).1
  have goal := fun hs9 => fixD_143 (n := n) (q := q) ht hN hT hx hp hl hs9 hz
  by_cases cz : ld σ (ld σ (ld σ x 4) 3) 3 ≠ 0 ∧ ld σ (ld σ (ld σ (ld σ x 4) 3) 3) 5 ≠ 1
  · unfold f_J8_fixAfterDeletion_106
    refine wp_c1e (rightOf_eq (hN _ hs).1 hs0) ?_
    have hw' := hw cz.1
    refine wp_c1e (colorOf_eq (hN _ hw').1 cz.1 (hN _ hw').2) ?_
    refine wp_neg cz.2 ?_
    exact goal hs
  · clear goal
    have cu : ld σ (ld σ (ld σ x 4) 3) 2 ≠ 0 := h2.resolve_right cz
    have hu' := hu cu
    have b1 := hT.1 _ hs
    have b2 := hT.2.1 _ hs cu
    have b3 := hT.1 _ hp
    have b4 := hT.2.2.1 _ hp hs0
    have b5 := hT.1 _ hu'
    have b6 := hT.2.2.1 _ hu'
    have b7 := hT.2.1 _ hp (by show ld σ (ld σ x 4) 2 ≠ 0; rw [hl]; exact hx0)
    have b8 := hT.1 x hx
    dsimp only at b2 b4 b6 b7
    have zs : z ≠ 0 → z ≠ ld σ (ld σ x 4) 3 ∧ z ≠ ld σ x 4 ∧ z ≠ ld σ (ld σ (ld σ x 4) 3) 2 := fun z0 => by
      obtain ⟨z1, z2, z3, z4, z5⟩ := hz z0
      have b7' := b7
      rw [hl] at b7'
      refine ⟨fun e => by rw [e] at z2 z3; omega, fun e => by rw [e] at z4 z5; omega, fun e => by rw [e] at z2 z3; omega⟩
    have hrest : Wp (c1 (f_J8_leftOf (ld σ (ld σ x 4) 3) σ) fun v39 σ40 => c0 (f_J8_setColor v39 1 σ40) fun σ43 => c0 (f_J8_setColor (ld σ (ld σ x 4) 3) 0 σ43) fun σ46 => gd (kd σ46 t = 26) <| c0 (f_J8_rotateRight t (ld σ (ld σ x 4) 3) σ46) fun σ50 => c1 (f_J8_parentOf x σ50) fun v52 σ53 => c1 (f_J8_rightOf v52 σ53) fun v55 σ56 => f_J8_fixAfterDeletion_143 n (f_J8_fixAfterDeletion_183 n (f_J8_fixAfterDeletion_0 n (q + 1))) t x v55 σ56) (FPZ N t k z σ) := by
      generalize ep : ld σ x 4 = p at *
      generalize es : ld σ p 3 = s at *
      generalize eu : ld σ s 2 = u at *
      refine wp_c1e (leftOf_eq (hN s hs).1 hs0) ?_
      rw [eu]
      refine wp_c0e (setColor_eq (hN u hu').1 cu ⟨by decide, by decide⟩) ?_
      obtain ⟨F1, N1, T1⟩ := col_inv (c := 1) ht hN hT hu' ⟨by decide, by decide⟩
      have E1 : ∀ q j, j ≠ 5 → ld (wr σ u 5 1) q j = ld σ q j := fun q j e => by rw [ld_wr, if_neg (fun z => e z.2)]
      have ht1 : kd (wr σ u 5 1) t = 26 := ht
      generalize wr σ u 5 1 = σ1 at *
      refine wp_c0e (setColor_eq (N1 s hs).1 hs0 ⟨by decide, by decide⟩) ?_
      obtain ⟨F2, N2, T2⟩ := col_inv (c := 0) ht1 N1 T1 hs ⟨by decide, by decide⟩
      have E2 : ∀ q j, j ≠ 5 → ld (wr σ1 s 5 0) q j = ld σ q j := fun q j e => by rw [ld_wr, if_neg (fun z => e z.2), E1 q j e]
      have ht2 : kd (wr σ1 s 5 0) t = 26 := ht1
      generalize wr σ1 s 5 0 = σ2 at *
      refine wp_gd ht2 ?_
      refine wp_c0 ?_
      refine wp_mono (rotR_inv ht2 N2 T2 hs (by rw [E2 _ _ (by decide), eu]; exact cu)) fun σ3 hq => ?_
      obtain ⟨F3, N3, T3, _, L3⟩ := hq
      rw [E2 _ _ (by decide), E2 _ _ (by decide), eu, b4.2.1] at L3
      have ht3 : kd σ3 t = 26 := (F3.1.kd t).trans ht2
      have d1 : ld σ3 x 4 = p := by
        have z := (L3 x hx).2.2
        have z2 := E2 x 4 (by decide)
        have z3 := E2 u 3 (by decide)
        clear L3 T3 T2 T1 hT
        unfold rrP at z
        grind
      have d2 : ld σ3 p 3 = u := by
        have z := (L3 p hp).2.1
        have z2 := E2 p 3 (by decide)
        have z3 := E2 p 2 (by decide)
        have z4 := E2 u 3 (by decide)
        clear L3 T3 T2 T1 hT
        unfold rrR at z
        grind
      have d3 : ld σ3 p 2 = x := by
        have z := (L3 p hp).1
        have z2 := E2 p 3 (by decide)
        have z3 := E2 p 2 (by decide)
        have z4 := E2 u 3 (by decide)
        clear L3 T3 T2 T1 hT
        unfold rrL at z
        grind
      have nxs : x ≠ s := fun e => by rw [hl, e] at b7; omega
      have nxu : x ≠ u := fun e => by rw [hl] at b7; rw [e] at b7; omega
      have zz : LeafIn σ3 N k (fun q => if q = s then k (ld σ2 s 2) else lo q) (fun q => if q = ld σ2 s 2 then hi s else hi q) z x := fun z0 => by
        obtain ⟨y1, y2, y3⟩ := zs z0
        obtain ⟨w1, w2, w3, w4, w5⟩ := hz z0
        have q1 := L3 z w1
        have e1 := E2 z 2 (by decide)
        have e2 := E2 z 3 (by decide)
        have e3 := E2 p 3 (by decide)
        have e4 := E2 p 4 (by decide)
        have e5 := E2 s 2 (by decide)
        refine ⟨w1, ?_, ?_, ?_⟩
        · show (if x = _ then _ else lo x) < k z
          rw [if_neg nxs]; exact w2
        · show k z < (if x = _ then _ else hi x)
          rw [E2 _ _ (by decide), eu, if_neg nxu]; exact w3
        · clear L3 T3 T2 T1 hT
          unfold rrL rrR rrP at q1
          grind
      refine wp_c1e (parentOf_eq (N3 x hx).1 hx0) ?_
      rw [d1]
      refine wp_c1e (rightOf_eq (N3 p hp).1 hp0) ?_
      have fin := fixD_143 (n := n) (q := q) ht3 N3 T3 hx (by rw [d1]; exact hp) (by rw [d1, d3]) (by rw [d1, d2]; exact hu') zz
      rw [d1] at fin
      refine wp_mono fin fun σ4 hq => ?_
      exact ⟨⟨((F1.trans F2).trans F3).trans hq.1.1, hq.1.2.1, hq.1.2.2⟩, hq.2⟩
    unfold f_J8_fixAfterDeletion_106
    refine wp_c1e (rightOf_eq (hN _ hs).1 hs0) ?_
    by_cases cw : ld σ (ld σ (ld σ x 4) 3) 3 = 0
    · rw [cw]
      refine wp_c1e colorOf_z ?_
      refine wp_pos rfl ?_
      exact hrest
    · have hw' := hw cw
      refine wp_c1e (colorOf_eq (hN _ hw').1 cw (hN _ hw').2) ?_
      have c5 : ld σ (ld σ (ld σ (ld σ x 4) 3) 3) 5 = 1 := by
        by_cases z : ld σ (ld σ (ld σ (ld σ x 4) 3) 3) 5 = 1
        · exact z
        · exact absurd ⟨cw, z⟩ cz
      refine wp_pos c5 ?_
      exact hrest
theorem fixD_71 {n q m : Nat} (ih : ∀ (σ : AS) (lo hi ow : F1) (x : Int), kd σ t = 26 → MapN σ N → MapT σ t N k lo hi ow → N x → LeafIn σ N k lo hi z x → (66 - (hi x - lo x)).toNat < m → Wp (f_J8_fixAfterDeletion_0 n (q + 1) t x σ) (FPZ N t k z σ)) (ht : kd σ t = 26) (hN : MapN σ N) (hT : MapT σ t N k lo hi ow) (hx : N x) (hp : N (ld σ x 4)) (hl : ld σ (ld σ x 4) 2 = x) (hz : LeafIn σ N k lo hi z x) (hm : (66 - (hi x - lo x)).toNat < m + 1) : Wp (f_J8_fixAfterDeletion_71 n (f_J8_fixAfterDeletion_0 n (q + 1)) t x (ld σ (ld σ x 4) 3) σ) (FPZ N t k z σ) := by
  have hx0 : x ≠ 0 := (hT.1 x hx).1
  have hp0 : ld σ x 4 ≠ 0 := (hT.1 _ hp).1
  have b7 := hT.2.1 _ hp (by show ld σ (ld σ x 4) 2 ≠ 0; rw [hl]; exact hx0)
  have b8 := hT.1 _ hp
  have b9 := hT.1 x hx
  dsimp only at b7
  rw [hl] at b7
  have hmp : (66 - (hi (ld σ x 4) - lo (ld σ x 4))).toNat < m := by omega
  have hzp : LeafIn σ N k lo hi z (ld σ x 4) := fun z0 => by
    obtain ⟨w1, w2, w3, w4⟩ := hz z0
    exact ⟨w1, by omega, by omega, w4⟩
  by_cases cs : ld σ (ld σ x 4) 3 = 0
  · rw [cs]
    unfold f_J8_fixAfterDeletion_71 f_J8_fixAfterDeletion_183
    refine wp_c1e leftOf_z ?_
    refine wp_c1e colorOf_z ?_
    refine wp_pos rfl ?_
    refine wp_c1e rightOf_z ?_
    refine wp_c1e colorOf_z ?_
    refine wp_pos rfl ?_
    refine wp_c0e setColor_z ?_
    refine wp_c1e (parentOf_eq (hN x hx).1 hx0) ?_
    exact ih σ lo hi ow _ ht hN hT hp hzp hmp
  · have hs : N (ld σ (ld σ x 4) 3) := (hT.2.2.1 _ hp cs).1
    have hw : ld σ (ld σ (ld σ x 4) 3) 3 ≠ 0 → N (ld σ (ld σ (ld σ x 4) 3) 3) := fun e => (hT.2.2.1 _ hs e).1
    have hu : ld σ (ld σ (ld σ x 4) 3) 2 ≠ 0 → N (ld σ (ld σ (ld σ x 4) 3) 2) := fun e => (hT.2.1 _ hs e).1
    have g106 := fixD_106 (n := n) (q := q) ht hN hT hx hp hl hs hz
    have both : Wp (c0 (f_J8_setColor (ld σ (ld σ x 4) 3) 0 σ) fun σ73 => c1 (f_J8_parentOf x σ73) fun v75 σ76 => f_J8_fixAfterDeletion_183 n (f_J8_fixAfterDeletion_0 n (q + 1)) t v75 σ76) (FPZ N t k z σ) := by
      unfold f_J8_fixAfterDeletion_183
      refine wp_c0e (setColor_eq (hN _ hs).1 cs ⟨by decide, by decide⟩) ?_
      obtain ⟨F1, N1, T1⟩ := col_inv (c := 0) ht hN hT hs ⟨by decide, by decide⟩
      have e1 : ∀ y j, j ≠ 5 → ld (wr σ (ld σ (ld σ x 4) 3) 5 0) y j = ld σ y j := fun y j e => by rw [ld_wr, if_neg (fun z => e z.2)]
      refine wp_c1e (parentOf_eq (N1 x hx).1 hx0) ?_
      rw [e1 _ _ (by decide)]
      refine wp_mono (ih _ lo hi ow _ ht N1 T1 hp (fun z0 => ?_) hmp) fun σ2 hq => ?_
      · obtain ⟨w1, w2, w3, w4⟩ := hzp z0
        exact ⟨w1, w2, w3, by rw [e1 _ _ (by decide), e1 _ _ (by decide)]; exact w4⟩
      · exact ⟨⟨F1.trans hq.1.1, hq.1.2.1, hq.1.2.2⟩, hq.2⟩
    unfold f_J8_fixAfterDeletion_71
    refine wp_c1e (leftOf_eq (hN _ hs).1 cs) ?_
    have right : (ld σ (ld σ (ld σ x 4) 3) 2 = 0 ∨ ld σ (ld σ (ld σ (ld σ x 4) 3) 2) 5 = 1) → Wp (c1 (f_J8_rightOf (ld σ (ld σ x 4) 3) σ) fun v65 σ66 => c1 (f_J8_colorOf v65 σ66) fun v68 σ69 => if v68 = 1 then (c0 (f_J8_setColor (ld σ (ld σ x 4) 3) 0 σ69) fun σ73 => c1 (f_J8_parentOf x σ73) fun v75 σ76 => f_J8_fixAfterDeletion_183 n (f_J8_fixAfterDeletion_0 n (q + 1)) t v75 σ76) else (f_J8_fixAfterDeletion_106 n (f_J8_fixAfterDeletion_183 n (f_J8_fixAfterDeletion_0 n (q + 1))) t x (ld σ (ld σ x 4) 3) σ69)) (FPZ N t k z σ) := by
      intro _
      refine wp_c1e (rightOf_eq (hN _ hs).1 cs) ?_
      by_cases cw : ld σ (ld σ (ld σ x 4) 3) 3 = 0
      · rw [cw]
        refine wp_c1e colorOf_z ?_
        refine wp_pos rfl ?_
        exact both
      · have hw' := hw cw
        refine wp_c1e (colorOf_eq (hN _ hw').1 cw (hN _ hw').2) ?_
        by_cases c5 : ld σ (ld σ (ld σ (ld σ x 4) 3) 3) 5 = 1
        · refine wp_pos c5 ?_
          exact both
        · refine wp_neg c5 ?_
          exact g106 (Or.inr ⟨cw, c5⟩)
    by_cases cu : ld σ (ld σ (ld σ x 4) 3) 2 = 0
    · rw [cu]
      refine wp_c1e colorOf_z ?_
      refine wp_pos rfl ?_
      exact right (Or.inl cu)
    · have hu' := hu cu
      refine wp_c1e (colorOf_eq (hN _ hu').1 cu (hN _ hu').2) ?_
      by_cases c5 : ld σ (ld σ (ld σ (ld σ x 4) 3) 2) 5 = 1
      · refine wp_pos c5 ?_
        exact right (Or.inr c5)
      · refine wp_neg c5 ?_
        exact g106 (Or.inl cu)
theorem fixD_302 {n q : Nat} (ht : kd σ t = 26) (hN : MapN σ N) (hT : MapT σ t N k lo hi ow) (hx : N x) (hp : N (ld σ x 4)) (hl : ld σ (ld σ x 4) 3 = x) (hs : N (ld σ (ld σ x 4) 2)) (hz : LeafIn σ N k lo hi z x) : Wp (f_J8_fixAfterDeletion_302 n (f_J8_fixAfterDeletion_342 n (f_J8_fixAfterDeletion_0 n (q + 1))) t x (ld σ (ld σ x 4) 2) σ) (FPZ N t k z σ) := by
  have hx0 : x ≠ 0 := (hT.1 x hx).1
  have hp0 : ld σ x 4 ≠ 0 := (hT.1 _ hp).1
  have hs0 : ld σ (ld σ x 4) 2 ≠ 0 := (hT.1 _ hs).1
  have hw : ld σ (ld σ (ld σ x 4) 2) 2 ≠ 0 → N (ld σ (ld σ (ld σ x 4) 2) 2) := fun e => (hT.2.1 _ hs e).1
  have zs : z ≠ 0 → z ≠ ld σ (ld σ x 4) 2 ∧ z ≠ ld σ x 4 ∧ z ≠ ld σ (ld σ x 4) 4 := fun z0 => by
    obtain ⟨z1, z2, z3, z4, z5⟩ := hz z0
    have b1 := hT.1 _ hs
    have b2 := hT.2.1 _ hp hs0
    have b3 := hT.2.2.1 _ hp (by show ld σ (ld σ x 4) 3 ≠ 0; rw [hl]; exact hx0)
    dsimp only at b2 b3
    rw [hl] at b3
    refine ⟨fun e => by rw [e] at z2 z3; omega, fun e => by rw [e] at z4 z5; omega, fun e => ?_⟩
    have h9 := hT.2.2.2.2.2.2.2.1 _ hp (fun e2 => by
      have : ld σ (ld σ t 3) 4 = 0 := hT.2.2.2.2.2.2.2.2.2.1
      rw [← e2, ← e] at this
      exact z0 this)
    have h10 := h9.2
    dsimp only at h10
    rw [← e, z4, z5] at h10
    exact h10.elim (fun y => hp0 y.symm) (fun y => hp0 y.symm)
  generalize ep : ld σ x 4 = p at *
  generalize es : ld σ p 2 = s at *
  unfold f_J8_fixAfterDeletion_302 f_J8_fixAfterDeletion_342
  refine wp_c1e (parentOf_eq (hN x hx).1 hx0) ?_
  rw [ep]
  refine wp_c1e (colorOf_eq (hN p hp).1 hp0 (hN p hp).2) ?_
  refine wp_c0e (setColor_eq (hN s hs).1 hs0 (hN p hp).2) ?_
  obtain ⟨F1, N1, T1⟩ := col_inv (c := ld σ p 5) ht hN hT hs (hN p hp).2
  have E1 : ∀ q j, j ≠ 5 → ld (wr σ s 5 (ld σ p 5)) q j = ld σ q j := fun q j e => by rw [ld_wr, if_neg (fun z => e z.2)]
  have ht1 : kd (wr σ s 5 (ld σ p 5)) t = 26 := ht
  generalize wr σ s 5 (ld σ p 5) = σ1 at *
  refine wp_c1e (parentOf_eq (N1 x hx).1 hx0) ?_
  rw [E1 _ _ (by decide), ep]
  refine wp_c0e (setColor_eq (N1 p hp).1 hp0 ⟨by decide, by decide⟩) ?_
  obtain ⟨F2, N2, T2⟩ := col_inv (c := 1) ht1 N1 T1 hp ⟨by decide, by decide⟩
  have E2 : ∀ q j, j ≠ 5 → ld (wr σ1 p 5 1) q j = ld σ q j := fun q j e => by rw [ld_wr, if_neg (fun z => e z.2), E1 q j e]
  have ht2 : kd (wr σ1 p 5 1) t = 26 := ht1
  generalize wr σ1 p 5 1 = σ2 at *
  refine wp_c1e (leftOf_eq (N2 s hs).1 hs0) ?_
  rw [E2 _ _ (by decide)]
  have tail : ∀ σ3, TFr N t σ2 σ3 → MapN σ3 N → MapT σ3 t N k lo hi ow → (∀ q j, j ≠ 5 → ld σ3 q j = ld σ q j) → kd σ3 t = 26 → Wp (c1 (f_J8_parentOf x σ3) fun v22 σ23 => gd (kd σ23 t = 26) <| c0 (f_J8_rotateRight t v22 σ23) fun σ27 => gd (kd σ27 t = 26) <| nm (ld σ27 t 3) fun u30 => f_J8_fixAfterDeletion_0 n (q + 1) t u30 σ27) (FPZ N t k z σ) := by
    intro σ3 F3 N3 T3 E3 ht3
    refine wp_c1e (parentOf_eq (N3 x hx).1 hx0) ?_
    rw [E3 _ _ (by decide), ep]
    refine wp_gd ht3 ?_
    refine wp_c0 ?_
    refine wp_mono (rotR_inv ht3 N3 T3 hp (by rw [E3 _ _ (by decide), es]; exact hs0)) fun σ4 hq => ?_
    obtain ⟨F4, N4, T4, _, L4⟩ := hq
    have ht4 : kd σ4 t = 26 := (F4.1.kd t).trans ht3
    have zz : z ≠ 0 → ld σ4 z 2 = 0 ∧ ld σ4 z 3 = 0 := fun z0 => by
      obtain ⟨y1, y2, y3⟩ := zs z0
      obtain ⟨w1, w2, w3, w4, w5⟩ := hz z0
      have q1 := L4 z w1
      have e1 := E3 z 2 (by decide)
      have e2 := E3 z 3 (by decide)
      have e3 := E3 p 2 (by decide)
      have e4 := E3 p 4 (by decide)
      clear L4 T4 T3 T2 T1 hT
      unfold rrL rrR rrP at q1
      grind
    refine wp_gd ht4 ?_
    refine wp_nm0 ?_
    refine wp_mono (fixD_end (q := q) ht4 N4 T4 T4.2.2.2.2.2.2.2.2.1 (Or.inl rfl)) fun σ5 hq => ?_
    exact ⟨⟨(((F1.trans F2).trans F3).trans F4).trans hq.1, hq.2.1, _, _, _, hq.2.2.1⟩, fun z0 => by rw [hq.2.2.2 z 2 (by decide), hq.2.2.2 z 3 (by decide)]; exact zz z0⟩
  by_cases c : ld σ s 2 = 0
  · rw [c]
    refine wp_c0e setColor_z ?_
    exact tail σ2 TFr.rf N2 T2 E2 ht2
  · have hw' := hw c
    generalize ld σ s 2 = w at *
    refine wp_c0e (setColor_eq (N2 w hw').1 c ⟨by decide, by decide⟩) ?_
    obtain ⟨F3, N3, T3⟩ := col_inv (c := 1) ht2 N2 T2 hw' ⟨by decide, by decide⟩
    exact tail _ F3 N3 T3 (fun q j e => by rw [ld_wr, if_neg (fun z => e z.2), E2 q j e]) ht2
theorem fixD_265 {n q : Nat} (ht : kd σ t = 26) (hN : MapN σ N) (hT : MapT σ t N k lo hi ow) (hx : N x) (hp : N (ld σ x 4)) (hl : ld σ (ld σ x 4) 3 = x) (hs : N (ld σ (ld σ x 4) 2)) (hz : LeafIn σ N k lo hi z x) (h2 : ld σ (ld σ (ld σ x 4) 2) 3 ≠ 0 ∨ (ld σ (ld σ (ld σ x 4) 2) 2 ≠ 0 ∧ ld σ (ld σ (ld σ (ld σ x 4) 2) 2) 5 ≠ 1)) : Wp (f_J8_fixAfterDeletion_265 n (f_J8_fixAfterDeletion_342 n (f_J8_fixAfterDeletion_0 n (q + 1))) t x (ld σ (ld σ x 4) 2) σ) (FPZ N t k z σ) := by
  have hx0 : x ≠ 0 := (hT.1 x hx).1
  have hp0 : ld σ x 4 ≠ 0 := (hT.1 _ hp).1
  have hs0 : ld σ (ld σ x 4) 2 ≠ 0 := (hT.1 _ hs).1
  have hw : ld σ (ld σ (ld σ x 4) 2) 2 ≠ 0 → N (ld σ (ld σ (ld σ x 4) 2) 2) := fun e => (hT.2.1 _ hs e).1
  have hu : ld σ (ld σ (ld σ x 4) 2) 3 ≠ 0 → N (ld σ (ld σ (ld σ x 4) 2) 3) := fun e => (hT.2.2.1 _ hs e).1
  have goal := fun hs9 => fixD_302 (n := n) (q := q) ht hN hT hx hp hl hs9 hz
  by_cases cz : ld σ (ld σ (ld σ x 4) 2) 2 ≠ 0 ∧ ld σ (ld σ (ld σ (ld σ x 4) 2) 2) 5 ≠ 1
  · unfold f_J8_fixAfterDeletion_265
    refine wp_c1e (leftOf_eq (hN _ hs).1 hs0) ?_
    have hw' := hw cz.1
    refine wp_c1e (colorOf_eq (hN _ hw').1 cz.1 (hN _ hw').2) ?_
    refine wp_neg cz.2 ?_
    exact goal hs
  · clear goal
    have cu : ld σ (ld σ (ld σ x 4) 2) 3 ≠ 0 := h2.resolve_right cz
    have hu' := hu cu
    have b1 := hT.1 _ hs
    have b2 := hT.2.2.1 _ hs cu
    have b3 := hT.1 _ hp
    have b4 := hT.2.1 _ hp hs0
    have b5 := hT.1 _ hu'
    have b6 := hT.2.1 _ hu'
    have b7 := hT.2.2.1 _ hp (by show ld σ (ld σ x 4) 3 ≠ 0; rw [hl]; exact hx0)
    have b8 := hT.1 x hx
    dsimp only at b2 b4 b6 b7
    have zs : z ≠ 0 → z ≠ ld σ (ld σ x 4) 2 ∧ z ≠ ld σ x 4 ∧ z ≠ ld σ (ld σ (ld σ x 4) 2) 3 := fun z0 => by
      obtain ⟨z1, z2, z3, z4, z5⟩ := hz z0
      have b7' := b7
      rw [hl] at b7'
      refine ⟨fun e => by rw [e] at z2 z3; omega, fun e => by rw [e] at z4 z5; omega, fun e => by rw [e] at z2 z3; omega⟩
    have hrest : Wp (c1 (f_J8_rightOf (ld σ (ld σ x 4) 2) σ) fun v39 σ40 => c0 (f_J8_setColor v39 1 σ40) fun σ43 => c0 (f_J8_setColor (ld σ (ld σ x 4) 2) 0 σ43) fun σ46 => gd (kd σ46 t = 26) <| c0 (f_J8_rotateLeft t (ld σ (ld σ x 4) 2) σ46) fun σ50 => c1 (f_J8_parentOf x σ50) fun v52 σ53 => c1 (f_J8_leftOf v52 σ53) fun v55 σ56 => f_J8_fixAfterDeletion_302 n (f_J8_fixAfterDeletion_342 n (f_J8_fixAfterDeletion_0 n (q + 1))) t x v55 σ56) (FPZ N t k z σ) := by
      generalize ep : ld σ x 4 = p at *
      generalize es : ld σ p 2 = s at *
      generalize eu : ld σ s 3 = u at *
      refine wp_c1e (rightOf_eq (hN s hs).1 hs0) ?_
      rw [eu]
      refine wp_c0e (setColor_eq (hN u hu').1 cu ⟨by decide, by decide⟩) ?_
      obtain ⟨F1, N1, T1⟩ := col_inv (c := 1) ht hN hT hu' ⟨by decide, by decide⟩
      have E1 : ∀ q j, j ≠ 5 → ld (wr σ u 5 1) q j = ld σ q j := fun q j e => by rw [ld_wr, if_neg (fun z => e z.2)]
      have ht1 : kd (wr σ u 5 1) t = 26 := ht
      generalize wr σ u 5 1 = σ1 at *
      refine wp_c0e (setColor_eq (N1 s hs).1 hs0 ⟨by decide, by decide⟩) ?_
      obtain ⟨F2, N2, T2⟩ := col_inv (c := 0) ht1 N1 T1 hs ⟨by decide, by decide⟩
      have E2 : ∀ q j, j ≠ 5 → ld (wr σ1 s 5 0) q j = ld σ q j := fun q j e => by rw [ld_wr, if_neg (fun z => e z.2), E1 q j e]
      have ht2 : kd (wr σ1 s 5 0) t = 26 := ht1
      generalize wr σ1 s 5 0 = σ2 at *
      refine wp_gd ht2 ?_
      refine wp_c0 ?_
      refine wp_mono (rotL_inv ht2 N2 T2 hs (by rw [E2 _ _ (by decide), eu]; exact cu)) fun σ3 hq => ?_
      obtain ⟨F3, N3, T3, _, L3⟩ := hq
      rw [E2 _ _ (by decide), E2 _ _ (by decide), eu, b4.2.1] at L3
      have ht3 : kd σ3 t = 26 := (F3.1.kd t).trans ht2
      have d1 : ld σ3 x 4 = p := by
        have z := (L3 x hx).2.2
        have z2 := E2 x 4 (by decide)
        have z3 := E2 u 2 (by decide)
        clear L3 T3 T2 T1 hT
        unfold rlP at z
        grind
      have d2 : ld σ3 p 2 = u := by
        have z := (L3 p hp).1
        have z2 := E2 p 2 (by decide)
        have z3 := E2 p 3 (by decide)
        have z4 := E2 u 2 (by decide)
        clear L3 T3 T2 T1 hT
        unfold rlL at z
        grind
      have d3 : ld σ3 p 3 = x := by
        have z := (L3 p hp).2.1
        have z2 := E2 p 2 (by decide)
        have z3 := E2 p 3 (by decide)
        have z4 := E2 u 2 (by decide)
        clear L3 T3 T2 T1 hT
        unfold rlR at z
        grind
      have nxs : x ≠ s := fun e => by rw [hl, e] at b7; omega
      have nxu : x ≠ u := fun e => by rw [hl] at b7; rw [e] at b7; omega
      have zz : LeafIn σ3 N k (fun q => if q = ld σ2 s 3 then lo s else lo q) (fun q => if q = s then k (ld σ2 s 3) else hi q) z x := fun z0 => by
        obtain ⟨y1, y2, y3⟩ := zs z0
        obtain ⟨w1, w2, w3, w4, w5⟩ := hz z0
        have q1 := L3 z w1
        have e1 := E2 z 2 (by decide)
        have e2 := E2 z 3 (by decide)
        have e3 := E2 p 2 (by decide)
        have e4 := E2 p 4 (by decide)
        have e5 := E2 s 3 (by decide)
        refine ⟨w1, ?_, ?_, ?_⟩
        · show (if x = _ then _ else lo x) < k z
          rw [E2 _ _ (by decide), eu, if_neg nxu]; exact w2
        · show k z < (if x = _ then _ else hi x)
          rw [if_neg nxs]; exact w3
        · clear L3 T3 T2 T1 hT
          unfold rlL rlR rlP at q1
          grind
      refine wp_c1e (parentOf_eq (N3 x hx).1 hx0) ?_
      rw [d1]
      refine wp_c1e (leftOf_eq (N3 p hp).1 hp0) ?_
      have fin := fixD_302 (n := n) (q := q) ht3 N3 T3 hx (by rw [d1]; exact hp) (by rw [d1, d3]) (by rw [d1, d2]; exact hu') zz
      rw [d1] at fin
      refine wp_mono fin fun σ4 hq => ?_
      exact ⟨⟨((F1.trans F2).trans F3).trans hq.1.1, hq.1.2.1, hq.1.2.2⟩, hq.2⟩
    unfold f_J8_fixAfterDeletion_265
    refine wp_c1e (leftOf_eq (hN _ hs).1 hs0) ?_
    by_cases cw : ld σ (ld σ (ld σ x 4) 2) 2 = 0
    · rw [cw]
      refine wp_c1e colorOf_z ?_
      refine wp_pos rfl ?_
      exact hrest
    · have hw' := hw cw
      refine wp_c1e (colorOf_eq (hN _ hw').1 cw (hN _ hw').2) ?_
      have c5 : ld σ (ld σ (ld σ (ld σ x 4) 2) 2) 5 = 1 := by
        by_cases z : ld σ (ld σ (ld σ (ld σ x 4) 2) 2) 5 = 1
        · exact z
        · exact absurd ⟨cw, z⟩ cz
      refine wp_pos c5 ?_
      exact hrest
theorem fixD_230 {n q m : Nat} (ih : ∀ (σ : AS) (lo hi ow : F1) (x : Int), kd σ t = 26 → MapN σ N → MapT σ t N k lo hi ow → N x → LeafIn σ N k lo hi z x → (66 - (hi x - lo x)).toNat < m → Wp (f_J8_fixAfterDeletion_0 n (q + 1) t x σ) (FPZ N t k z σ)) (ht : kd σ t = 26) (hN : MapN σ N) (hT : MapT σ t N k lo hi ow) (hx : N x) (hp : N (ld σ x 4)) (hl : ld σ (ld σ x 4) 3 = x) (hz : LeafIn σ N k lo hi z x) (hm : (66 - (hi x - lo x)).toNat < m + 1) : Wp (f_J8_fixAfterDeletion_230 n (f_J8_fixAfterDeletion_0 n (q + 1)) t x (ld σ (ld σ x 4) 2) σ) (FPZ N t k z σ) := by
  have hx0 : x ≠ 0 := (hT.1 x hx).1
  have hp0 : ld σ x 4 ≠ 0 := (hT.1 _ hp).1
  have b7 := hT.2.2.1 _ hp (by show ld σ (ld σ x 4) 3 ≠ 0; rw [hl]; exact hx0)
  have b8 := hT.1 _ hp
  have b9 := hT.1 x hx
  dsimp only at b7
  rw [hl] at b7
  have hmp : (66 - (hi (ld σ x 4) - lo (ld σ x 4))).toNat < m := by omega
  have hzp : LeafIn σ N k lo hi z (ld σ x 4) := fun z0 => by
    obtain ⟨w1, w2, w3, w4⟩ := hz z0
    exact ⟨w1, by omega, by omega, w4⟩
  by_cases cs : ld σ (ld σ x 4) 2 = 0
  · rw [cs]
    unfold f_J8_fixAfterDeletion_230 f_J8_fixAfterDeletion_342
    refine wp_c1e rightOf_z ?_
    refine wp_c1e colorOf_z ?_
    refine wp_pos rfl ?_
    refine wp_c1e leftOf_z ?_
    refine wp_c1e colorOf_z ?_
    refine wp_pos rfl ?_
    refine wp_c0e setColor_z ?_
    refine wp_c1e (parentOf_eq (hN x hx).1 hx0) ?_
    exact ih σ lo hi ow _ ht hN hT hp hzp hmp
  · have hs : N (ld σ (ld σ x 4) 2) := (hT.2.1 _ hp cs).1
    have hw : ld σ (ld σ (ld σ x 4) 2) 2 ≠ 0 → N (ld σ (ld σ (ld σ x 4) 2) 2) := fun e => (hT.2.1 _ hs e).1
    have hu : ld σ (ld σ (ld σ x 4) 2) 3 ≠ 0 → N (ld σ (ld σ (ld σ x 4) 2) 3) := fun e => (hT.2.2.1 _ hs e).1
    have g106 := fixD_265 (n := n) (q := q) ht hN hT hx hp hl hs hz
    have both : Wp (c0 (f_J8_setColor (ld σ (ld σ x 4) 2) 0 σ) fun σ73 => c1 (f_J8_parentOf x σ73) fun v75 σ76 => f_J8_fixAfterDeletion_342 n (f_J8_fixAfterDeletion_0 n (q + 1)) t v75 σ76) (FPZ N t k z σ) := by
      unfold f_J8_fixAfterDeletion_342
      refine wp_c0e (setColor_eq (hN _ hs).1 cs ⟨by decide, by decide⟩) ?_
      obtain ⟨F1, N1, T1⟩ := col_inv (c := 0) ht hN hT hs ⟨by decide, by decide⟩
      have e1 : ∀ y j, j ≠ 5 → ld (wr σ (ld σ (ld σ x 4) 2) 5 0) y j = ld σ y j := fun y j e => by rw [ld_wr, if_neg (fun z => e z.2)]
      refine wp_c1e (parentOf_eq (N1 x hx).1 hx0) ?_
      rw [e1 _ _ (by decide)]
      refine wp_mono (ih _ lo hi ow _ ht N1 T1 hp (fun z0 => ?_) hmp) fun σ2 hq => ?_
      · obtain ⟨w1, w2, w3, w4⟩ := hzp z0
        exact ⟨w1, w2, w3, by rw [e1 _ _ (by decide), e1 _ _ (by decide)]; exact w4⟩
      · exact ⟨⟨F1.trans hq.1.1, hq.1.2.1, hq.1.2.2⟩, hq.2⟩
    unfold f_J8_fixAfterDeletion_230
    refine wp_c1e (rightOf_eq (hN _ hs).1 cs) ?_
    have right : (ld σ (ld σ (ld σ x 4) 2) 3 = 0 ∨ ld σ (ld σ (ld σ (ld σ x 4) 2) 3) 5 = 1) → Wp (c1 (f_J8_leftOf (ld σ (ld σ x 4) 2) σ) fun v65 σ66 => c1 (f_J8_colorOf v65 σ66) fun v68 σ69 => if v68 = 1 then (c0 (f_J8_setColor (ld σ (ld σ x 4) 2) 0 σ69) fun σ73 => c1 (f_J8_parentOf x σ73) fun v75 σ76 => f_J8_fixAfterDeletion_342 n (f_J8_fixAfterDeletion_0 n (q + 1)) t v75 σ76) else (f_J8_fixAfterDeletion_265 n (f_J8_fixAfterDeletion_342 n (f_J8_fixAfterDeletion_0 n (q + 1))) t x (ld σ (ld σ x 4) 2) σ69)) (FPZ N t k z σ) := by
      intro _
      refine wp_c1e (leftOf_eq (hN _ hs).1 cs) ?_
      by_cases cw : ld σ (ld σ (ld σ x 4) 2) 2 = 0
      · rw [cw]
        refine wp_c1e colorOf_z ?_
        refine wp_pos rfl ?_
        exact both
      · have hw' := hw cw
        refine wp_c1e (colorOf_eq (hN _ hw').1 cw (hN _ hw').2) ?_
        by_cases c5 : ld σ (ld σ (ld σ (ld σ x 4) 2) 2) 5 = 1
        · refine wp_pos c5 ?_
          exact both
        · refine wp_neg c5 ?_
          exact g106 (Or.inr ⟨cw, c5⟩)
    by_cases cu : ld σ (ld σ (ld σ x 4) 2) 3 = 0
    · rw [cu]
      refine wp_c1e colorOf_z ?_
      refine wp_pos rfl ?_
      exact right (Or.inl cu)
    · have hu' := hu cu
      refine wp_c1e (colorOf_eq (hN _ hu').1 cu (hN _ hu').2) ?_
      by_cases c5 : ld σ (ld σ (ld σ (ld σ x 4) 2) 3) 5 = 1
      · refine wp_pos c5 ?_
        exact right (Or.inr c5)
      · refine wp_neg c5 ?_
        exact g106 (Or.inl cu)
end FD
