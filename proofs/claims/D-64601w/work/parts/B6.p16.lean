/-! TreeMap: an entry goes -/
set_option maxRecDepth 100000
/-- what is left behind: z has gone -/
def UnP (N : Int → Prop) (t : Int) (k : F1) (z : Int) (σ σ' : AS) : Prop := SameK σ σ' ∧ (∀ q, ¬ N q → q ≠ t → ∀ j, ld σ' q j = ld σ q j) ∧ (∀ j, j ≠ 3 → ld σ' t j = ld σ t j) ∧ (∀ q, N q → q ≠ z → ld σ' q 0 = ld σ q 0 ∧ ld σ' q 1 = ld σ q 1) ∧ ((ld σ' t 3 = 0 ∧ ∀ q, N q → q = z) ∨ (MapN σ' (fun q => N q ∧ q ≠ z) ∧ ∃ lo hi ow, MapT σ' t (fun q => N q ∧ q ≠ z) k lo hi ow))
section UN
variable {N : Int → Prop} {k lo hi ow : F1} {t x c z : Int} {σ : AS}
/-- a root without children is alone -/
theorem tree_alone {l r p : F1} {rt : Int} (h : Tree N k l r p lo hi ow rt) (h1 : l rt = 0) (h2 : r rt = 0) (q : Int) (hq : N q) : q = rt := by
  obtain ⟨a1, a2, a3, a4⟩ := h.2.2.2.2.2.2.2.2
  have b := h.1 q hq
  have e := h.2.2.2.2.2.1 q hq
  have e2 := h.2.2.2.2.2.1 rt a1
  by_cases c1 : k q = k rt
  · rw [← e, c1, e2]
  · by_cases c2 : k q < k rt
    · rw [← e]; exact h.2.2.2.1 rt a1 h1 _ (by omega) c2
    · rw [← e]; exact h.2.2.2.2.1 rt a1 h2 _ (by omega) (by omega)
theorem unlink_R {n : Nat} (hn : 100 ≤ n) (ht : kd σ t = 26) (hN : MapN σ N) (hT : MapT σ t N k lo hi ow) (hz : N z) (h0 : ld σ z 2 = 0) (hc : ld σ z 3 ≠ 0) : Wp (f_J8_deleteEntry_75 n t z (ld σ z 3) σ) (UnP N t k z σ) := by
  have kz := (hN z hz).1
  have hz0 : z ≠ 0 := (hT.1 z hz).1
  obtain ⟨c1, c2, c3, c4⟩ := hT.2.2.1 z hz hc
  dsimp only at c1 c2 c3 c4
  have bz := hT.1 z hz
  have ncz : ld σ z 3 ≠ z := fun e => by rw [e] at c3 c4; omega
  have nt : ∀ q, N q → q ≠ t := fun q hq y => by rw [y] at hq; have := (hN t hq).1; omega
  have zr : ld σ (ld σ t 3) 4 = 0 := hT.2.2.2.2.2.2.2.2.2.1
  have h8 : ld σ z 4 ≠ 0 → N (ld σ z 4) ∧ (ld σ (ld σ z 4) 2 = z ∨ ld σ (ld σ z 4) 3 = z) := fun e => hT.2.2.2.2.2.2.2.1 z hz (fun y => e (by rw [y]; exact zr))
  have hgz : ld σ z 4 ≠ 0 → ld σ z 4 ≠ z ∧ ld σ z 4 ≠ ld σ z 3 := fun e => by
    obtain ⟨g1, g2⟩ := h8 e
    have y2 := hT.2.1 _ g1
    have y3 := hT.2.2.1 _ g1
    have y1 := hT.1 _ g1
    dsimp only at y2 y3
    have w : lo (ld σ z 4) ≤ lo z ∧ hi z ≤ hi (ld σ z 4) ∧ hi z - lo z < hi (ld σ z 4) - lo (ld σ z 4) := by
      rcases g2 with g2 | g2
      · rw [g2] at y2; have := y2 hz0; omega
      · rw [g2] at y3; have := y3 hz0; omega
    exact ⟨fun y => by rw [y] at w; omega, fun y => by rw [y] at w; omega⟩
  have tr := tree_outR (c := ld σ z 3) (g := ld σ z 4) hT hz h0 rfl hc rfl
  have fin : ∀ σ2 : AS, SameK σ σ2 → (∀ q, q ≠ ld σ z 3 → q ≠ t → (ld σ z 4 ≠ 0 → q ≠ ld σ z 4) → ∀ j, ld σ2 q j = ld σ q j) → (∀ j, j ≠ 3 → ld σ2 t j = ld σ t j) → (∀ q, N q → q ≠ z → (∀ j, j ≠ 2 → j ≠ 3 → j ≠ 4 → ld σ2 q j = ld σ q j) ∧ ld σ2 q 2 = (if q = ld σ z 4 ∧ ld σ (ld σ z 4) 2 = z then ld σ z 3 else ld σ q 2) ∧ ld σ2 q 3 = (if q = ld σ z 4 ∧ ld σ (ld σ z 4) 2 ≠ z then ld σ z 3 else ld σ q 3) ∧ ld σ2 q 4 = (if q = ld σ z 3 then ld σ z 4 else ld σ q 4)) → ld σ2 t 3 = (if ld σ z 4 = 0 then ld σ z 3 else ld σ t 3) → ld σ2 z 5 = ld σ z 5 → Wp (f_J8_deleteEntry_133 n t z (ld σ z 3) σ2) (UnP N t k z σ) := by
    intro σ2 S E1 E2 E3 E4 E5
    unfold f_J8_deleteEntry_133 f_J8_fixAfterDeletion
    have kz2 : kd σ2 z = 27 := (S.kd z).trans kz
    refine wp_gd kz2 ?_
    refine wp_nm0 ?_
    refine wp_gd kz2 ?_
    refine wp_nm0 ?_
    refine wp_gd kz2 ?_
    refine wp_nm0 ?_
    refine wp_gd kz2 ?_
    have C : ∀ q, q ≠ z → ∀ j, ld (wr (wr (wr σ2 z 4 0) z 3 0) z 2 0) q j = ld σ2 q j := fun q hq j => by rw [ld_wr, if_neg (fun y => hq y.1), ld_wr, if_neg (fun y => hq y.1), ld_wr, if_neg (fun y => hq y.1)]
    have kS : SameK σ (wr (wr (wr σ2 z 4 0) z 3 0) z 2 0) := S
    have e5 : ld (wr (wr (wr σ2 z 4 0) z 3 0) z 2 0) z 5 = ld σ z 5 := by rw [ld_wr, if_neg (fun y => by omega), ld_wr, if_neg (fun y => by omega), ld_wr, if_neg (fun y => by omega), E5]
    generalize wr (wr (wr σ2 z 4 0) z 3 0) z 2 0 = σ3 at *
    have N3 : MapN σ3 (fun q => N q ∧ q ≠ z) := fun q hq => by
      rw [kS.kd, C q hq.2, (E3 q hq.1 hq.2).1 5 (by decide) (by decide) (by decide)]
      exact hN q hq.1
    have T3 : MapT σ3 t (fun q => N q ∧ q ≠ z) k (fun q => if lo q = k z then lo z else lo q) hi (fun j => if lo z < j ∧ j ≤ k z then ow (k z + 1) else ow j) := by
      unfold MapT
      rw [C t (fun y => nt z hz y.symm), E4]
      refine tree_congr tr (fun q => Iff.rfl) (fun q hq => ⟨rfl, ?_, ?_, ?_, rfl, rfl⟩) fun i => rfl
      · show ld σ3 q 2 = _
        rw [C q hq.2]; exact (E3 q hq.1 hq.2).2.1
      · show ld σ3 q 3 = _
        rw [C q hq.2]; exact (E3 q hq.1 hq.2).2.2.1
      · show ld σ3 q 4 = _
        rw [C q hq.2]; exact (E3 q hq.1 hq.2).2.2.2
    have base : ∀ q, ¬ N q → q ≠ t → ∀ j, ld σ3 q j = ld σ q j := fun q hq hq2 j => by
      rw [C q (fun y => hq (y ▸ hz)), E1 q (fun y => hq (y ▸ c1)) hq2 (fun w y => hq (y ▸ (h8 w).1))]
    have ht3 : kd σ3 t = 26 := (kS.kd t).trans ht
    by_cases cc : ld σ3 z 5 = 1
    · refine wp_pos cc ?_
      refine wp_gd ht3 ?_
      refine wp_c0 ?_
      refine wp_mono (fixD_wp (z := 0) (n := n) 67 σ3 _ _ _ (ld σ z 3) ht3 N3 T3 ⟨c1, ncz⟩ (fun y => absurd rfl y) ?_ n (by omega)) fun σ4 hq => ?_
      · have := T3.1 (ld σ z 3) ⟨c1, ncz⟩
        omega
      · obtain ⟨⟨F4, N4, T4⟩, _⟩ := hq
        refine wp_ok ⟨kS.trans F4.1, fun q a b j => ?_, fun j a => ?_, fun q a b => ?_, Or.inr ⟨N4, T4⟩⟩
        · rw [F4.2.1 q (fun y => a y.1) b, base q a b]
        · rw [F4.2.2.1 j a, C t (fun y => nt z hz y.symm), E2 j a]
        · have w := F4.2.2.2 q ⟨a, b⟩
          rw [C q b, C q b, (E3 q a b).1 0 (by decide) (by decide) (by decide), (E3 q a b).1 1 (by decide) (by decide) (by decide)] at w
          exact w
    · refine wp_neg cc ?_
      refine wp_ok ⟨kS, base, fun j a => ?_, fun q a b => ?_, Or.inr ⟨N3, _, _, _, T3⟩⟩
      · rw [C t (fun y => nt z hz y.symm), E2 j a]
      · rw [C q b, C q b, (E3 q a b).1 0 (by decide) (by decide) (by decide), (E3 q a b).1 1 (by decide) (by decide) (by decide)]
        exact ⟨rfl, rfl⟩
  have hnz : ∀ q, N q → q ≠ 0 := fun q hq => (hT.1 q hq).1
  have kc := (hN _ c1).1
  have czt := nt _ c1
  have zt := nt z hz
  have kg : ld σ z 4 ≠ 0 → kd σ (ld σ z 4) = 27 ∧ ld σ z 4 ≠ t ∧ (ld σ (ld σ z 4) 2 = 0 ∨ kd σ (ld σ (ld σ z 4) 2) = 27) := fun e => by
    refine ⟨(hN _ (h8 e).1).1, nt _ (h8 e).1, ?_⟩
    by_cases w : ld σ (ld σ z 4) 2 = 0
    · exact Or.inl w
    · exact Or.inr (hN _ (hT.2.1 _ (h8 e).1 w).1).1
  clear hT tr
  unfold f_J8_deleteEntry_75
  refine wp_neg hc ?_
  refine wp_gd kz ?_
  refine wp_gd kc ?_
  refine wp_nm0 ?_
  refine wp_gd kz ?_
  have e4 : ld (wr σ (ld σ z 3) 4 (ld σ z 4)) z 4 = ld σ z 4 := by rw [ld_wr, if_neg (fun y => ncz y.1.symm)]
  rw [e4]
  generalize ec : ld σ z 3 = c at *
  generalize eg : ld σ z 4 = g at *
  by_cases cg : g = 0
  · refine wp_pos cg ?_
    refine wp_gd ht ?_
    refine wp_nm0 ?_
    refine fin _ ⟨rfl, rfl, rfl, rfl⟩ ?_ ?_ ?_ ?_ ?_ <;> (clear fin; grind [ld_wr])
  · refine wp_neg cg ?_
    obtain ⟨g1, g2⟩ := h8 cg
    obtain ⟨g3, g4⟩ := hgz cg
    obtain ⟨g5, g6, g7⟩ := kg cg
    refine wp_gd kz ?_
    refine wp_gd (by grind [kd_wr]) ?_
    have e6 : ld (wr σ c 4 g) g 2 = ld σ g 2 := by rw [ld_wr, if_neg (fun y => by omega)]
    rw [e6]
    refine wp_gdc (cmpA (Or.inr ⟨by rw [kd_wr, kz]; decide, by rw [kd_wr, kz]; decide⟩) (by rw [kd_wr]; exact g7.imp id (fun y => by rw [y]; decide))) ?_
    by_cases cl : z = ld σ g 2
    · refine wp_pos cl ?_
      refine wp_gd kz ?_
      refine wp_gd (by grind [kd_wr]) ?_
      refine wp_nm0 ?_
      refine fin _ ⟨rfl, rfl, rfl, rfl⟩ ?_ ?_ ?_ ?_ ?_ <;> (clear fin; grind [ld_wr])
    · refine wp_neg cl ?_
      refine wp_gd kz ?_
      refine wp_gd (by grind [kd_wr]) ?_
      refine wp_nm0 ?_
      refine fin _ ⟨rfl, rfl, rfl, rfl⟩ ?_ ?_ ?_ ?_ ?_ <;> (clear fin; grind [ld_wr])
theorem unlink_L {n : Nat} (hn : 100 ≤ n) (ht : kd σ t = 26) (hN : MapN σ N) (hT : MapT σ t N k lo hi ow) (hz : N z) (h0 : ld σ z 3 = 0) (hc : ld σ z 2 ≠ 0) : Wp (f_J8_deleteEntry_75 n t z (ld σ z 2) σ) (UnP N t k z σ) := by
  have kz := (hN z hz).1
  have hz0 : z ≠ 0 := (hT.1 z hz).1
  obtain ⟨c1, c2, c3, c4⟩ := hT.2.1 z hz hc
  dsimp only at c1 c2 c3 c4
  have bz := hT.1 z hz
  have ncz : ld σ z 2 ≠ z := fun e => by rw [e] at c3 c4; omega
  have nt : ∀ q, N q → q ≠ t := fun q hq y => by rw [y] at hq; have := (hN t hq).1; omega
  have zr : ld σ (ld σ t 3) 4 = 0 := hT.2.2.2.2.2.2.2.2.2.1
  have h8 : ld σ z 4 ≠ 0 → N (ld σ z 4) ∧ (ld σ (ld σ z 4) 2 = z ∨ ld σ (ld σ z 4) 3 = z) := fun e => hT.2.2.2.2.2.2.2.1 z hz (fun y => e (by rw [y]; exact zr))
  have hgz : ld σ z 4 ≠ 0 → ld σ z 4 ≠ z ∧ ld σ z 4 ≠ ld σ z 2 := fun e => by
    obtain ⟨g1, g2⟩ := h8 e
    have y2 := hT.2.1 _ g1
    have y3 := hT.2.2.1 _ g1
    have y1 := hT.1 _ g1
    dsimp only at y2 y3
    have w : lo (ld σ z 4) ≤ lo z ∧ hi z ≤ hi (ld σ z 4) ∧ hi z - lo z < hi (ld σ z 4) - lo (ld σ z 4) := by
      rcases g2 with g2 | g2
      · rw [g2] at y2; have := y2 hz0; omega
      · rw [g2] at y3; have := y3 hz0; omega
    exact ⟨fun y => by rw [y] at w; omega, fun y => by rw [y] at w; omega⟩
  have tr := tree_outL (c := ld σ z 2) (g := ld σ z 4) hT hz h0 rfl hc rfl
  have fin : ∀ σ2 : AS, SameK σ σ2 → (∀ q, q ≠ ld σ z 2 → q ≠ t → (ld σ z 4 ≠ 0 → q ≠ ld σ z 4) → ∀ j, ld σ2 q j = ld σ q j) → (∀ j, j ≠ 3 → ld σ2 t j = ld σ t j) → (∀ q, N q → q ≠ z → (∀ j, j ≠ 2 → j ≠ 3 → j ≠ 4 → ld σ2 q j = ld σ q j) ∧ ld σ2 q 2 = (if q = ld σ z 4 ∧ ld σ (ld σ z 4) 2 = z then ld σ z 2 else ld σ q 2) ∧ ld σ2 q 3 = (if q = ld σ z 4 ∧ ld σ (ld σ z 4) 2 ≠ z then ld σ z 2 else ld σ q 3) ∧ ld σ2 q 4 = (if q = ld σ z 2 then ld σ z 4 else ld σ q 4)) → ld σ2 t 3 = (if ld σ z 4 = 0 then ld σ z 2 else ld σ t 3) → ld σ2 z 5 = ld σ z 5 → Wp (f_J8_deleteEntry_133 n t z (ld σ z 2) σ2) (UnP N t k z σ) := by
    intro σ2 S E1 E2 E3 E4 E5
    unfold f_J8_deleteEntry_133 f_J8_fixAfterDeletion
    have kz2 : kd σ2 z = 27 := (S.kd z).trans kz
    refine wp_gd kz2 ?_
    refine wp_nm0 ?_
    refine wp_gd kz2 ?_
    refine wp_nm0 ?_
    refine wp_gd kz2 ?_
    refine wp_nm0 ?_
    refine wp_gd kz2 ?_
    have C : ∀ q, q ≠ z → ∀ j, ld (wr (wr (wr σ2 z 4 0) z 3 0) z 2 0) q j = ld σ2 q j := fun q hq j => by rw [ld_wr, if_neg (fun y => hq y.1), ld_wr, if_neg (fun y => hq y.1), ld_wr, if_neg (fun y => hq y.1)]
    have kS : SameK σ (wr (wr (wr σ2 z 4 0) z 3 0) z 2 0) := S
    have e5 : ld (wr (wr (wr σ2 z 4 0) z 3 0) z 2 0) z 5 = ld σ z 5 := by rw [ld_wr, if_neg (fun y => by omega), ld_wr, if_neg (fun y => by omega), ld_wr, if_neg (fun y => by omega), E5]
    generalize wr (wr (wr σ2 z 4 0) z 3 0) z 2 0 = σ3 at *
    have N3 : MapN σ3 (fun q => N q ∧ q ≠ z) := fun q hq => by
      rw [kS.kd, C q hq.2, (E3 q hq.1 hq.2).1 5 (by decide) (by decide) (by decide)]
      exact hN q hq.1
    have T3 : MapT σ3 t (fun q => N q ∧ q ≠ z) k lo (fun q => if hi q = k z then hi z else hi q) (fun j => if k z ≤ j ∧ j < hi z then ow (k z - 1) else ow j) := by
      unfold MapT
      rw [C t (fun y => nt z hz y.symm), E4]
      refine tree_congr tr (fun q => Iff.rfl) (fun q hq => ⟨rfl, ?_, ?_, ?_, rfl, rfl⟩) fun i => rfl
      · show ld σ3 q 2 = _
        rw [C q hq.2]; exact (E3 q hq.1 hq.2).2.1
      · show ld σ3 q 3 = _
        rw [C q hq.2]; exact (E3 q hq.1 hq.2).2.2.1
      · show ld σ3 q 4 = _
        rw [C q hq.2]; exact (E3 q hq.1 hq.2).2.2.2
    have base : ∀ q, ¬ N q → q ≠ t → ∀ j, ld σ3 q j = ld σ q j := fun q hq hq2 j => by
      rw [C q (fun y => hq (y ▸ hz)), E1 q (fun y => hq (y ▸ c1)) hq2 (fun w y => hq (y ▸ (h8 w).1))]
    have ht3 : kd σ3 t = 26 := (kS.kd t).trans ht
    by_cases cc : ld σ3 z 5 = 1
    · refine wp_pos cc ?_
      refine wp_gd ht3 ?_
      refine wp_c0 ?_
      refine wp_mono (fixD_wp (z := 0) (n := n) 67 σ3 _ _ _ (ld σ z 2) ht3 N3 T3 ⟨c1, ncz⟩ (fun y => absurd rfl y) ?_ n (by omega)) fun σ4 hq => ?_
      · have := T3.1 (ld σ z 2) ⟨c1, ncz⟩
        omega
      · obtain ⟨⟨F4, N4, T4⟩, _⟩ := hq
        refine wp_ok ⟨kS.trans F4.1, fun q a b j => ?_, fun j a => ?_, fun q a b => ?_, Or.inr ⟨N4, T4⟩⟩
        · rw [F4.2.1 q (fun y => a y.1) b, base q a b]
        · rw [F4.2.2.1 j a, C t (fun y => nt z hz y.symm), E2 j a]
        · have w := F4.2.2.2 q ⟨a, b⟩
          rw [C q b, C q b, (E3 q a b).1 0 (by decide) (by decide) (by decide), (E3 q a b).1 1 (by decide) (by decide) (by decide)] at w
          exact w
    · refine wp_neg cc ?_
      refine wp_ok ⟨kS, base, fun j a => ?_, fun q a b => ?_, Or.inr ⟨N3, _, _, _, T3⟩⟩
      · rw [C t (fun y => nt z hz y.symm), E2 j a]
      · rw [C q b, C q b, (E3 q a b).1 0 (by decide) (by decide) (by decide), (E3 q a b).1 1 (by decide) (by decide) (by decide)]
        exact ⟨rfl, rfl⟩
  have hnz : ∀ q, N q → q ≠ 0 := fun q hq => (hT.1 q hq).1
  have kc := (hN _ c1).1
  have czt := nt _ c1
  have zt := nt z hz
  have kg : ld σ z 4 ≠ 0 → kd σ (ld σ z 4) = 27 ∧ ld σ z 4 ≠ t ∧ (ld σ (ld σ z 4) 2 = 0 ∨ kd σ (ld σ (ld σ z 4) 2) = 27) := fun e => by
    refine ⟨(hN _ (h8 e).1).1, nt _ (h8 e).1, ?_⟩
    by_cases w : ld σ (ld σ z 4) 2 = 0
    · exact Or.inl w
    · exact Or.inr (hN _ (hT.2.1 _ (h8 e).1 w).1).1
  clear hT tr
  unfold f_J8_deleteEntry_75
  refine wp_neg hc ?_
  refine wp_gd kz ?_
  refine wp_gd kc ?_
  refine wp_nm0 ?_
  refine wp_gd kz ?_
  have e4 : ld (wr σ (ld σ z 2) 4 (ld σ z 4)) z 4 = ld σ z 4 := by rw [ld_wr, if_neg (fun y => ncz y.1.symm)]
  rw [e4]
  generalize ec : ld σ z 2 = c at *
  generalize eg : ld σ z 4 = g at *
  by_cases cg : g = 0
  · refine wp_pos cg ?_
    refine wp_gd ht ?_
    refine wp_nm0 ?_
    refine fin _ ⟨rfl, rfl, rfl, rfl⟩ ?_ ?_ ?_ ?_ ?_ <;> (clear fin; grind [ld_wr])
  · refine wp_neg cg ?_
    obtain ⟨g1, g2⟩ := h8 cg
    obtain ⟨g3, g4⟩ := hgz cg
    obtain ⟨g5, g6, g7⟩ := kg cg
    refine wp_gd kz ?_
    refine wp_gd (by grind [kd_wr]) ?_
    have e6 : ld (wr σ c 4 g) g 2 = ld σ g 2 := by rw [ld_wr, if_neg (fun y => by omega)]
    rw [e6]
    refine wp_gdc (cmpA (Or.inr ⟨by rw [kd_wr, kz]; decide, by rw [kd_wr, kz]; decide⟩) (by rw [kd_wr]; exact g7.imp id (fun y => by rw [y]; decide))) ?_
    by_cases cl : z = ld σ g 2
    · refine wp_pos cl ?_
      refine wp_gd kz ?_
      refine wp_gd (by grind [kd_wr]) ?_
      refine wp_nm0 ?_
      refine fin _ ⟨rfl, rfl, rfl, rfl⟩ ?_ ?_ ?_ ?_ ?_ <;> (clear fin; grind [ld_wr])
    · refine wp_neg cl ?_
      refine wp_gd kz ?_
      refine wp_gd (by grind [kd_wr]) ?_
      refine wp_nm0 ?_
      refine fin _ ⟨rfl, rfl, rfl, rfl⟩ ?_ ?_ ?_ ?_ ?_ <;> (clear fin; grind [ld_wr])
end UN
