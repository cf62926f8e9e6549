/-! TreeMap: the fix-up behind an insertion -/
set_option maxRecDepth 100000
/-- what the fix-ups leave as it was -/
def TFr (N : Int → Prop) (t : Int) (σ σ' : AS) : Prop := SameK σ σ' ∧ (∀ q, ¬ N q → q ≠ t → ∀ j, ld σ' q j = ld σ q j) ∧ (∀ j, j ≠ 3 → ld σ' t j = ld σ t j) ∧ ∀ q, N q → ld σ' q 0 = ld σ q 0 ∧ ld σ' q 1 = ld σ q 1
theorem TFr.rf {N : Int → Prop} {t : Int} {σ : AS} : TFr N t σ σ := ⟨⟨rfl, rfl, rfl, rfl⟩, fun _ _ _ _ => rfl, fun _ _ => rfl, fun _ _ => ⟨rfl, rfl⟩⟩
theorem SameK.trans {σ σ1 σ2 : AS} (h : SameK σ σ1) (h1 : SameK σ1 σ2) : SameK σ σ2 := ⟨h1.1.trans h.1, h1.2.1.trans h.2.1, h1.2.2.1.trans h.2.2.1, h1.2.2.2.trans h.2.2.2⟩
theorem SameK.kd {σ σ' : AS} (h : SameK σ σ') (r : Int) : kd σ' r = kd σ r := congrFun h.1 r
theorem SameK.ln {σ σ' : AS} (h : SameK σ σ') (r : Int) : ln σ' r = ln σ r := congrFun h.2.1 r
theorem TFr.trans {N : Int → Prop} {t : Int} {σ σ1 σ2 : AS} (h : TFr N t σ σ1) (h1 : TFr N t σ1 σ2) : TFr N t σ σ2 :=
  ⟨h.1.trans h1.1, fun q a b j => (h1.2.1 q a b j).trans (h.2.1 q a b j), fun j a => (h1.2.2.1 j a).trans (h.2.2.1 j a), fun q a => ⟨(h1.2.2.2 q a).1.trans (h.2.2.2 q a).1, (h1.2.2.2 q a).2.trans (h.2.2.2 q a).2⟩⟩
section FI
variable {N : Int → Prop} {k lo hi ow : F1} {t x c : Int} {σ : AS}
theorem parentOf_eq (h : kd σ x = 27) (h0 : x ≠ 0) : f_J8_parentOf x σ = some (ld σ x 4, σ) := by
  unfold f_J8_parentOf
  rw [if_neg h0, gd_pos h]
theorem leftOf_eq (h : kd σ x = 27) (h0 : x ≠ 0) : f_J8_leftOf x σ = some (ld σ x 2, σ) := by
  unfold f_J8_leftOf
  rw [if_neg h0, gd_pos h]
theorem rightOf_eq (h : kd σ x = 27) (h0 : x ≠ 0) : f_J8_rightOf x σ = some (ld σ x 3, σ) := by
  unfold f_J8_rightOf
  rw [if_neg h0, gd_pos h]
theorem colorOf_eq (h : kd σ x = 27) (h0 : x ≠ 0) (hc : 0 ≤ ld σ x 5 ∧ ld σ x 5 ≤ 1) : f_J8_colorOf x σ = some (ld σ x 5, σ) := by
  unfold f_J8_colorOf
  rw [if_neg h0, gd_pos h, gd_pos hc]
theorem setColor_eq (h : kd σ x = 27) (h0 : x ≠ 0) (hc : 0 ≤ c ∧ c ≤ 1) : f_J8_setColor x c σ = some (wr σ x 5 c) := by
  unfold f_J8_setColor
  rw [if_neg h0, gd_pos h, gd_pos hc]
  rfl
theorem parentOf_z : f_J8_parentOf 0 σ = some (0, σ) := if_pos rfl
theorem leftOf_z : f_J8_leftOf 0 σ = some (0, σ) := if_pos rfl
theorem rightOf_z : f_J8_rightOf 0 σ = some (0, σ) := if_pos rfl
theorem colorOf_z : f_J8_colorOf 0 σ = some (1, σ) := if_pos rfl
theorem setColor_z : f_J8_setColor 0 c σ = some σ := if_pos rfl
theorem rotL_inv (ht : kd σ t = 26) (hN : MapN σ N) (hT : MapT σ t N k lo hi ow) (hx : N x) (h0 : ld σ x 3 ≠ 0) : Wp (f_J8_rotateLeft t x σ) fun σ' => TFr N t σ σ' ∧ MapN σ' N ∧ MapT σ' t N k (fun q => if q = ld σ x 3 then lo x else lo q) (fun q => if q = x then k (ld σ x 3) else hi q) (fun i => if ld σ (ld σ x 3) 2 = 0 ∧ k x < i ∧ i < k (ld σ x 3) then x else ow i) ∧ (∀ q, N q → ld σ' q 5 = ld σ q 5) ∧ ∀ q, N q → ld σ' q 2 = rlL (fun q => ld σ q 2) x (ld σ x 3) (ld σ x 4) q ∧ ld σ' q 3 = rlR (fun q => ld σ q 3) (fun q => ld σ q 2) (fun q => ld σ q 4) x (ld σ x 3) (ld σ x 4) q ∧ ld σ' q 4 = rlP (fun q => ld σ q 2) (fun q => ld σ q 4) x (ld σ x 3) (ld σ x 4) q := by
  refine wp_mono (rotL_wp ht hN hT hx h0) fun σ' hq => ?_
  obtain ⟨h1, h2, h3, h4, h5, h6⟩ := hq
  refine ⟨⟨h1, h2, h3, fun q a => ⟨h4 q 0 a (by decide) (by decide) (by decide), h4 q 1 a (by decide) (by decide) (by decide)⟩⟩, fun q a => ?_, ?_, fun q a => h4 q 5 a (by decide) (by decide) (by decide), h5⟩
  · rw [h1.kd, h4 q 5 a (by decide) (by decide) (by decide)]
    exact hN q a
  · unfold MapT
    rw [h6]
    exact tree_congr (rl_all hT hx rfl h0 rfl) (fun q => Iff.rfl) (fun q a => ⟨rfl, (h5 q a).1, (h5 q a).2.1, (h5 q a).2.2, rfl, rfl⟩) fun i => rfl
theorem rotR_inv (ht : kd σ t = 26) (hN : MapN σ N) (hT : MapT σ t N k lo hi ow) (hx : N x) (h0 : ld σ x 2 ≠ 0) : Wp (f_J8_rotateRight t x σ) fun σ' => TFr N t σ σ' ∧ MapN σ' N ∧ MapT σ' t N k (fun q => if q = x then k (ld σ x 2) else lo q) (fun q => if q = ld σ x 2 then hi x else hi q) (fun i => if ld σ (ld σ x 2) 3 = 0 ∧ k (ld σ x 2) < i ∧ i < k x then x else ow i) ∧ (∀ q, N q → ld σ' q 5 = ld σ q 5) ∧ ∀ q, N q → ld σ' q 2 = rrL (fun q => ld σ q 2) (fun q => ld σ q 3) (fun q => ld σ q 4) x (ld σ x 2) (ld σ x 4) q ∧ ld σ' q 3 = rrR (fun q => ld σ q 3) x (ld σ x 2) (ld σ x 4) q ∧ ld σ' q 4 = rrP (fun q => ld σ q 3) (fun q => ld σ q 4) x (ld σ x 2) (ld σ x 4) q := by
  refine wp_mono (rotR_wp ht hN hT hx h0) fun σ' hq => ?_
  obtain ⟨h1, h2, h3, h4, h5, h6⟩ := hq
  refine ⟨⟨h1, h2, h3, fun q a => ⟨h4 q 0 a (by decide) (by decide) (by decide), h4 q 1 a (by decide) (by decide) (by decide)⟩⟩, fun q a => ?_, ?_, fun q a => h4 q 5 a (by decide) (by decide) (by decide), h5⟩
  · rw [h1.kd, h4 q 5 a (by decide) (by decide) (by decide)]
    exact hN q a
  · unfold MapT
    rw [h6]
    exact tree_congr (rr_all hT hx rfl h0 rfl) (fun q => Iff.rfl) (fun q a => ⟨rfl, (h5 q a).1, (h5 q a).2.1, (h5 q a).2.2, rfl, rfl⟩) fun i => rfl
/-- a colour is set -/
theorem col_inv (ht : kd σ t = 26) (hN : MapN σ N) (hT : MapT σ t N k lo hi ow) (hx : N x) (hc : 0 ≤ c ∧ c ≤ 1) : TFr N t σ (wr σ x 5 c) ∧ MapN (wr σ x 5 c) N ∧ MapT (wr σ x 5 c) t N k lo hi ow := by
  have nt : x ≠ t := fun e => by rw [e] at hx; have := (hN t hx).1; omega
  refine ⟨⟨⟨rfl, rfl, rfl, rfl⟩, fun q a b j => ?_, fun j a => ?_, fun q a => ⟨?_, ?_⟩⟩, fun q a => ⟨(hN q a).1, ?_⟩, ?_⟩
  · rw [ld_wr, if_neg (fun e : q = x ∧ j = 5 => a (e.1 ▸ hx))]
  · rw [ld_wr, if_neg (fun e => nt e.1.symm)]
  · rw [ld_wr, if_neg (fun e => by omega)]
  · rw [ld_wr, if_neg (fun e => by omega)]
  · rw [ld_wr]
    by_cases e : q = x ∧ (5 : Int) = 5
    · rw [if_pos e]; exact hc
    · rw [if_neg e]; exact (hN q a).2
  · unfold MapT
    have e3 : ld (wr σ x 5 c) t 3 = ld σ t 3 := by rw [ld_wr, if_neg (fun e => nt e.1.symm)]
    rw [e3]
    refine tree_congr hT (fun q => Iff.rfl) (fun q a => ⟨rfl, ?_, ?_, ?_, rfl, rfl⟩) fun i => rfl <;> (show ld (wr σ x 5 c) _ _ = _; rw [ld_wr, if_neg (fun e => by omega)])
/-- the ends of the fix-up -/
theorem fixI_end {n q : Nat} (ht : kd σ t = 26) (hN : MapN σ N) (hT : MapT σ t N k lo hi ow) (hx : N x) (he : x = ld σ t 3 ∨ ld σ (ld σ x 4) 5 ≠ 0) : Wp (f_J8_fixAfterInsertion_5 n (q + 1) t x σ) fun σ' => TFr N t σ σ' ∧ MapN σ' N ∧ MapT σ' t N k lo hi ow := by
  have hr : N (ld σ t 3) := hT.2.2.2.2.2.2.2.2.1
  have hx0 : x ≠ 0 := (hT.1 x hx).1
  have hr0 : ld σ t 3 ≠ 0 := (hT.1 _ hr).1
  have kr := (hN _ hr).1
  unfold f_J8_fixAfterInsertion_5
  refine wp_neg hx0 ?_
  refine wp_gd ht ?_
  refine wp_gdc (cmpA (Or.inr ⟨by rw [(hN x hx).1]; decide, by rw [(hN x hx).1]; decide⟩) (Or.inr (by rw [kr]; decide))) ?_
  by_cases c1 : x = ld σ t 3
  · refine wp_pos c1 ?_
    refine wp_gd ht ?_
    refine wp_gd kr ?_
    refine wp_nm0 ?_
    exact wp_ok (col_inv ht hN hT hr ⟨by decide, by decide⟩)
  · refine wp_neg c1 ?_
    refine wp_gd (hN x hx).1 ?_
    have hp : N (ld σ x 4) := (hT.2.2.2.2.2.2.2.1 x hx c1).1
    refine wp_gd (hN _ hp).1 ?_
    refine wp_neg (he.resolve_left c1) ?_
    refine wp_gd ht ?_
    refine wp_gd kr ?_
    refine wp_nm0 ?_
    exact wp_ok (col_inv ht hN hT hr ⟨by decide, by decide⟩)
end FI
def FPost (N : Int → Prop) (t : Int) (k : F1) (σ σ' : AS) : Prop := TFr N t σ σ' ∧ MapN σ' N ∧ ∃ lo hi ow, MapT σ' t N k lo hi ow
section FJ
variable {N : Int → Prop} {k lo hi ow : F1} {t x c : Int} {σ : AS}
theorem fixI_118 {n q : Nat} (ht : kd σ t = 26) (hN : MapN σ N) (hT : MapT σ t N k lo hi ow) (hx : N x) (hp : N (ld σ x 4)) (hg : N (ld σ (ld σ x 4) 4)) (hgl : ld σ (ld σ (ld σ x 4) 4) 2 = ld σ x 4) (hxr : ld σ (ld σ x 4) 3 ≠ x) : Wp (f_J8_fixAfterInsertion_118 n (f_J8_fixAfterInsertion_148 n (f_J8_fixAfterInsertion_5 n (q + 1))) t x σ) (FPost N t k σ) := by
  have hx0 : x ≠ 0 := (hT.1 x hx).1
  have hp0 : ld σ x 4 ≠ 0 := (hT.1 _ hp).1
  have kx := (hN x hx).1
  have kp := (hN _ hp).1
  have dxp : ld σ x 4 ≠ x := fun e => by
    have h8 := (hT.2.2.2.2.2.2.2.1 x hx (fun e2 => hp0 (by rw [e2]; exact hT.2.2.2.2.2.2.2.2.2.1))).2
    have a2 := hT.2.1 x hx
    have a3 := hT.2.2.1 x hx
    have a1 := hT.1 x hx
    dsimp only at h8 a2 a3
    rw [e] at h8
    rcases h8 with h8 | h8
    · rw [h8] at a2; have := a2 hx0; omega
    · rw [h8] at a3; have := a3 hx0; omega
  generalize ep : ld σ x 4 = p at *
  generalize eg : ld σ p 4 = g at *
  unfold f_J8_fixAfterInsertion_118 f_J8_fixAfterInsertion_148
  refine wp_c1e (parentOf_eq kx hx0) ?_
  rw [ep]
  refine wp_c0e (setColor_eq kp hp0 ⟨by decide, by decide⟩) ?_
  obtain ⟨F1, N1, T1⟩ := col_inv (c := 1) ht hN hT hp ⟨by decide, by decide⟩
  have E1 : ∀ q j, j ≠ 5 → ld (wr σ p 5 1) q j = ld σ q j := fun q j e => by rw [ld_wr, if_neg (fun z => e z.2)]
  have C1 : ld (wr σ p 5 1) p 5 = 1 := by rw [ld_wr, if_pos ⟨rfl, rfl⟩]
  have ht1 : kd (wr σ p 5 1) t = 26 := ht
  generalize wr σ p 5 1 = σ1 at *
  refine wp_c1e (parentOf_eq (N1 x hx).1 hx0) ?_
  rw [E1 _ _ (by decide), ep]
  refine wp_c1e (parentOf_eq (N1 p hp).1 hp0) ?_
  rw [E1 _ _ (by decide), eg]
  have hg0 : g ≠ 0 := (hT.1 g hg).1
  have dpg : p ≠ g := fun e => by
    have a := hT.2.1 g hg (by show ld σ g 2 ≠ 0; rw [hgl]; exact hp0)
    have b := hT.1 g hg
    dsimp only at a
    rw [hgl, e] at a
    omega
  have dxg : x ≠ g := fun e => by
    have a := hT.2.1 g hg (by show ld σ g 2 ≠ 0; rw [hgl]; exact hp0)
    have b := hT.1 g hg
    have c := hT.1 p hp
    have h8 := (hT.2.2.2.2.2.2.2.1 x hx (fun e2 => hp0 (by rw [← ep, e2]; exact hT.2.2.2.2.2.2.2.2.2.1))).2
    dsimp only at a h8
    rw [ep] at h8
    rw [hgl] at a
    have h9 := h8.resolve_right hxr
    have d := hT.2.1 p hp (by show ld σ p 2 ≠ 0; rw [h9]; exact hx0)
    dsimp only at d
    rw [h9, e] at d
    omega
  refine wp_c0e (setColor_eq (N1 g hg).1 hg0 ⟨by decide, by decide⟩) ?_
  obtain ⟨F2, N2, T2⟩ := col_inv (c := 0) ht1 N1 T1 hg ⟨by decide, by decide⟩
  have E2 : ∀ q j, j ≠ 5 → ld (wr σ1 g 5 0) q j = ld σ q j := fun q j e => by rw [ld_wr, if_neg (fun z => e z.2), E1 q j e]
  have C2 : ld (wr σ1 g 5 0) p 5 = 1 := by rw [ld_wr, if_neg (fun z => dpg z.1), C1]
  have ht2 : kd (wr σ1 g 5 0) t = 26 := ht1
  generalize wr σ1 g 5 0 = σ2 at *
  refine wp_c1e (parentOf_eq (N2 x hx).1 hx0) ?_
  rw [E2 _ _ (by decide), ep]
  refine wp_c1e (parentOf_eq (N2 p hp).1 hp0) ?_
  rw [E2 _ _ (by decide), eg]
  refine wp_gd ht2 ?_
  refine wp_c0 ?_
  refine wp_mono (rotR_inv ht2 N2 T2 hg (by rw [E2 _ _ (by decide), hgl]; exact hp0)) fun σ3 hq => ?_
  obtain ⟨F3, N3, T3, C3, L3⟩ := hq
  have ht3 : kd σ3 t = 26 := (F3.1.kd t).trans ht2
  have e4 : ld σ3 x 4 = p := by
    have z := (L3 x hx).2.2
    have z2 := E2 g 2 (by decide)
    have z3 := E2 p 3 (by decide)
    have z4 := E2 x 4 (by decide)
    clear L3 T3 T2 T1 hT
    unfold rrP at z
    grind
  refine wp_mono (fixI_end (q := q) ht3 N3 T3 hx (Or.inr (by rw [e4, C3 p hp, C2]; decide))) fun σ4 hq => ?_
  obtain ⟨F4, N4, T4⟩ := hq
  exact ⟨((F1.trans F2).trans F3).trans F4, N4, _, _, _, T4⟩
theorem fixI_225 {n q : Nat} (ht : kd σ t = 26) (hN : MapN σ N) (hT : MapT σ t N k lo hi ow) (hx : N x) (hp : N (ld σ x 4)) (hg : ld σ (ld σ x 4) 4 = 0 ∨ (N (ld σ (ld σ x 4) 4) ∧ ld σ (ld σ (ld σ x 4) 4) 3 = ld σ x 4)) (hxr : ld σ (ld σ x 4) 2 ≠ x) : Wp (f_J8_fixAfterInsertion_225 n (f_J8_fixAfterInsertion_255 n (f_J8_fixAfterInsertion_5 n (q + 1))) t x σ) (FPost N t k σ) := by
  have hx0 : x ≠ 0 := (hT.1 x hx).1
  have hp0 : ld σ x 4 ≠ 0 := (hT.1 _ hp).1
  have kx := (hN x hx).1
  have kp := (hN _ hp).1
  have dxp : ld σ x 4 ≠ x := fun e => by
    have h8 := (hT.2.2.2.2.2.2.2.1 x hx (fun e2 => hp0 (by rw [e2]; exact hT.2.2.2.2.2.2.2.2.2.1))).2
    have a2 := hT.2.1 x hx
    have a3 := hT.2.2.1 x hx
    have a1 := hT.1 x hx
    dsimp only at h8 a2 a3
    rw [e] at h8
    rcases h8 with h8 | h8
    · rw [h8] at a2; have := a2 hx0; omega
    · rw [h8] at a3; have := a3 hx0; omega
  generalize ep : ld σ x 4 = p at *
  generalize eg : ld σ p 4 = g at *
  unfold f_J8_fixAfterInsertion_225 f_J8_fixAfterInsertion_255
  refine wp_c1e (parentOf_eq kx hx0) ?_
  rw [ep]
  refine wp_c0e (setColor_eq kp hp0 ⟨by decide, by decide⟩) ?_
  obtain ⟨F1, N1, T1⟩ := col_inv (c := 1) ht hN hT hp ⟨by decide, by decide⟩
  have E1 : ∀ q j, j ≠ 5 → ld (wr σ p 5 1) q j = ld σ q j := fun q j e => by rw [ld_wr, if_neg (fun z => e z.2)]
  have C1 : ld (wr σ p 5 1) p 5 = 1 := by rw [ld_wr, if_pos ⟨rfl, rfl⟩]
  have ht1 : kd (wr σ p 5 1) t = 26 := ht
  generalize wr σ p 5 1 = σ1 at *
  refine wp_c1e (parentOf_eq (N1 x hx).1 hx0) ?_
  rw [E1 _ _ (by decide), ep]
  refine wp_c1e (parentOf_eq (N1 p hp).1 hp0) ?_
  rw [E1 _ _ (by decide), eg]
  rcases hg with hg | ⟨hg, hgl⟩
  · rw [hg]
    refine wp_c0e setColor_z ?_
    refine wp_c1e (parentOf_eq (N1 x hx).1 hx0) ?_
    rw [E1 _ _ (by decide), ep]
    refine wp_c1e (parentOf_eq (N1 p hp).1 hp0) ?_
    rw [E1 _ _ (by decide), eg, hg]
    refine wp_gd ht1 ?_
    refine wp_c0e (show f_J8_rotateLeft t 0 σ1 = some σ1 from if_pos rfl) ?_
    refine wp_mono (fixI_end (q := q) ht1 N1 T1 hx (Or.inr (by rw [show ld σ1 x 4 = p from (E1 _ _ (by decide)).trans ep, C1]; decide))) fun σ4 hq => ?_
    obtain ⟨F4, N4, T4⟩ := hq
    exact ⟨F1.trans F4, N4, _, _, _, T4⟩
  · have hg0 : g ≠ 0 := (hT.1 g hg).1
    have dpg : p ≠ g := fun e => by
      have a := hT.2.2.1 g hg (by show ld σ g 3 ≠ 0; rw [hgl]; exact hp0)
      have b := hT.1 g hg
      dsimp only at a
      rw [hgl, e] at a
      omega
    have dxg : x ≠ g := fun e => by
      have a := hT.2.2.1 g hg (by show ld σ g 3 ≠ 0; rw [hgl]; exact hp0)
      have b := hT.1 g hg
      have c := hT.1 p hp
      have h8 := (hT.2.2.2.2.2.2.2.1 x hx (fun e2 => hp0 (by rw [← ep, e2]; exact hT.2.2.2.2.2.2.2.2.2.1))).2
      dsimp only at a h8
      rw [ep] at h8
      rw [hgl] at a
      have h9 := h8.resolve_left hxr
      have d := hT.2.2.1 p hp (by show ld σ p 3 ≠ 0; rw [h9]; exact hx0)
      dsimp only at d
      rw [h9, e] at d
      omega
    refine wp_c0e (setColor_eq (N1 g hg).1 hg0 ⟨by decide, by decide⟩) ?_
    obtain ⟨F2, N2, T2⟩ := col_inv (c := 0) ht1 N1 T1 hg ⟨by decide, by decide⟩
    have E2 : ∀ q j, j ≠ 5 → ld (wr σ1 g 5 0) q j = ld σ q j := fun q j e => by rw [ld_wr, if_neg (fun z => e z.2), E1 q j e]
    have C2 : ld (wr σ1 g 5 0) p 5 = 1 := by rw [ld_wr, if_neg (fun z => dpg z.1), C1]
    have ht2 : kd (wr σ1 g 5 0) t = 26 := ht1
    generalize wr σ1 g 5 0 = σ2 at *
    refine wp_c1e (parentOf_eq (N2 x hx).1 hx0) ?_
    rw [E2 _ _ (by decide), ep]
    refine wp_c1e (parentOf_eq (N2 p hp).1 hp0) ?_
    rw [E2 _ _ (by decide), eg]
    refine wp_gd ht2 ?_
    refine wp_c0 ?_
    refine wp_mono (rotL_inv ht2 N2 T2 hg (by rw [E2 _ _ (by decide), hgl]; exact hp0)) fun σ3 hq => ?_
    obtain ⟨F3, N3, T3, C3, L3⟩ := hq
    have ht3 : kd σ3 t = 26 := (F3.1.kd t).trans ht2
    have e4 : ld σ3 x 4 = p := by
      have z := (L3 x hx).2.2
      have z2 := E2 g 3 (by decide)
      have z3 := E2 p 2 (by decide)
      have z4 := E2 x 4 (by decide)
      clear L3 T3 T2 T1 hT
      unfold rlP at z
      grind
    refine wp_mono (fixI_end (q := q) ht3 N3 T3 hx (Or.inr (by rw [e4, C3 p hp, C2]; decide))) fun σ4 hq => ?_
    obtain ⟨F4, N4, T4⟩ := hq
    exact ⟨((F1.trans F2).trans F3).trans F4, N4, _, _, _, T4⟩
end FJ
