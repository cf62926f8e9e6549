/-! TreeMap: a leaf goes; remove -/
set_option maxRecDepth 100000
section UM
variable {N : Int → Prop} {k lo hi ow : F1} {t x c z : Int} {σ : AS}
/-- a leaf that isn't the root is cut off -/
theorem unlink_192 {n : Nat} (ht : kd σ t = 26) (hN : MapN σ N) (hT : MapT σ t N k lo hi ow) (hz : N z) (h1 : ld σ z 2 = 0) (h2 : ld σ z 3 = 0) (hm : ∃ g, N g ∧ g ≠ z) : Wp (f_J8_deleteEntry_192 n z σ) (UnP N t k z σ) := by
  have kz := (hN z hz).1
  have hz0 : z ≠ 0 := (hT.1 z hz).1
  have hzr : z ≠ ld σ t 3 := fun e => by
    obtain ⟨g, g1, g2⟩ := hm
    apply g2
    have := tree_alone hT (by show ld σ (ld σ t 3) 2 = 0; rw [← e]; exact h1) (by show ld σ (ld σ t 3) 3 = 0; rw [← e]; exact h2) g g1
    rw [this, e]
  obtain ⟨g1, g2⟩ := hT.2.2.2.2.2.2.2.1 z hz hzr
  dsimp only at g1 g2
  have hg0 : ld σ z 4 ≠ 0 := (hT.1 _ g1).1
  have nt : ∀ q, N q → q ≠ t := fun q hq y => by rw [y] at hq; have := (hN t hq).1; omega
  have tr := tree_outZ hT hz h1 h2 rfl hg0
  have hgz : ld σ z 4 ≠ z := fun e => by
    rw [e, h1, h2] at g2
    exact g2.elim (fun y => hz0 y.symm) (fun y => hz0 y.symm)
  have hT2 := hT.2.1
  have hT3 := hT.2.2.1
  have kg := (hN _ g1).1
  have k2 : ld σ (ld σ z 4) 2 = 0 ∨ kd σ (ld σ (ld σ z 4) 2) ≠ 0 := by
    by_cases w : ld σ (ld σ z 4) 2 = 0
    · exact Or.inl w
    · exact Or.inr (by rw [(hN _ (hT2 _ g1 w).1).1]; decide)
  have k3 : ld σ (ld σ z 4) 3 = 0 ∨ kd σ (ld σ (ld σ z 4) 3) ≠ 0 := by
    by_cases w : ld σ (ld σ z 4) 3 = 0
    · exact Or.inl w
    · exact Or.inr (by rw [(hN _ (hT3 _ g1 w).1).1]; decide)
  have l2 : ld σ (ld σ z 4) 2 = z → ld σ (ld σ z 4) 3 ≠ z := fun e1 e2 => by
    have y2 := hT2 _ g1 (by show ld σ (ld σ z 4) 2 ≠ 0; rw [e1]; exact hz0)
    have y3 := hT3 _ g1 (by show ld σ (ld σ z 4) 3 ≠ 0; rw [e2]; exact hz0)
    have y1 := hT.1 _ g1
    dsimp only at y2 y3
    rw [e1] at y2
    rw [e2] at y3
    omega
  have fin : ∀ σ2 : AS, SameK σ σ2 → (∀ q, q ≠ z → q ≠ ld σ z 4 → ∀ j, ld σ2 q j = ld σ q j) → (∀ j, j ≠ 2 → j ≠ 3 → ld σ2 (ld σ z 4) j = ld σ (ld σ z 4) j) → ld σ2 (ld σ z 4) 2 = (if ld σ (ld σ z 4) 2 = z then 0 else ld σ (ld σ z 4) 2) → ld σ2 (ld σ z 4) 3 = (if ld σ (ld σ z 4) 2 ≠ z then 0 else ld σ (ld σ z 4) 3) → UnP N t k z σ σ2 := by
    intro σ2 S E1 E2 E3 E4
    have K : ∀ q, N q → q ≠ z → ∀ j, j ≠ 2 → j ≠ 3 → ld σ2 q j = ld σ q j := fun q a b j c d => by
      by_cases e : q = ld σ z 4
      · rw [e]; exact E2 j c d
      · exact E1 q b e j
    refine ⟨S, fun q a b j => E1 q (fun y => a (y ▸ hz)) (fun y => a (y ▸ g1)) j, fun j _ => E1 t (fun y => nt z hz y.symm) (fun y => nt _ g1 y.symm) j, fun q a b => ⟨K q a b 0 (by decide) (by decide), K q a b 1 (by decide) (by decide)⟩, Or.inr ⟨fun q hq => ?_, lo, hi, (fun j => if lo z < j ∧ j < hi z then ld σ z 4 else ow j), ?_⟩⟩
    · rw [S.kd, K q hq.1 hq.2 5 (by decide) (by decide)]
      exact hN q hq.1
    · unfold MapT
      rw [E1 t (fun y => nt z hz y.symm) (fun y => nt _ g1 y.symm)]
      refine tree_congr tr (fun q => Iff.rfl) (fun q hq => ⟨rfl, ?_, ?_, ?_, rfl, rfl⟩) fun i => rfl
      · show ld σ2 q 2 = if q = ld σ z 4 ∧ ld σ (ld σ z 4) 2 = z then 0 else ld σ q 2
        by_cases e : q = ld σ z 4
        · rw [e, E3]
          by_cases w : ld σ (ld σ z 4) 2 = z
          · rw [if_pos w, if_pos ⟨rfl, w⟩]
          · rw [if_neg w, if_neg (fun y => w y.2)]
        · rw [if_neg (fun y => e y.1), E1 q hq.2 e]
      · show ld σ2 q 3 = if q = ld σ z 4 ∧ ld σ (ld σ z 4) 2 ≠ z then 0 else ld σ q 3
        by_cases e : q = ld σ z 4
        · rw [e, E4]
          by_cases w : ld σ (ld σ z 4) 2 ≠ z
          · rw [if_pos w, if_pos ⟨rfl, w⟩]
          · rw [if_neg w, if_neg (fun y => w y.2)]
        · rw [if_neg (fun y => e y.1), E1 q hq.2 e]
      · exact K q hq.1 hq.2 4 (by decide) (by decide)
  clear hT tr hT2 hT3
  generalize eg : ld σ z 4 = g at *
  unfold f_J8_deleteEntry_192
  refine wp_gd kz ?_
  refine wp_neg (by rw [eg]; exact hg0) ?_
  refine wp_gd kz ?_
  rw [eg]
  refine wp_gd kg ?_
  refine wp_gdc (cmpA (Or.inr ⟨by rw [kz]; decide, by rw [kz]; decide⟩) k2) ?_
  by_cases cl : z = ld σ g 2
  · refine wp_pos cl ?_
    refine wp_gd kz ?_
    refine wp_gd kg ?_
    refine wp_nm0 ?_
    refine wp_gd kz ?_
    refine wp_nm0 ?_
    refine wp_ok (fin _ ⟨rfl, rfl, rfl, rfl⟩ ?_ ?_ ?_ ?_) <;> (clear fin; grind [ld_wr])
  · refine wp_neg cl ?_
    refine wp_gd kz ?_
    refine wp_gd kg ?_
    refine wp_gdc (cmpA (Or.inr ⟨by rw [kz]; decide, by rw [kz]; decide⟩) k3) ?_
    have cr : z = ld σ g 3 := (g2.resolve_left (fun e => cl e.symm)).symm
    refine wp_pos cr ?_
    refine wp_gd kz ?_
    refine wp_gd kg ?_
    refine wp_nm0 ?_
    refine wp_gd kz ?_
    refine wp_nm0 ?_
    refine wp_ok (fin _ ⟨rfl, rfl, rfl, rfl⟩ ?_ ?_ ?_ ?_) <;> (clear fin; grind [ld_wr])
theorem UnP.trans {σ1 σ2 : AS} (h : TFr N t σ σ1) (h1 : UnP N t k z σ1 σ2) : UnP N t k z σ σ2 :=
  ⟨h.1.trans h1.1, fun q a b j => (h1.2.1 q a b j).trans (h.2.1 q a b j), fun j a => (h1.2.2.1 j a).trans (h.2.2.1 j a), fun q a b => ⟨(h1.2.2.2.1 q a b).1.trans (h.2.2.2 q a).1, (h1.2.2.2.1 q a b).2.trans (h.2.2.2 q a).2⟩, h1.2.2.2.2⟩
/-- a node with at most one child goes -/
theorem unlink_wp {n : Nat} (hn : 100 ≤ n) (ht : kd σ t = 26) (hN : MapN σ N) (hT : MapT σ t N k lo hi ow) (hz : N z) (h1 : ld σ z 2 = 0 ∨ ld σ z 3 = 0) : Wp (f_J8_deleteEntry_57 n t z σ) (UnP N t k z σ) := by
  have kz := (hN z hz).1
  have hz0 : z ≠ 0 := (hT.1 z hz).1
  unfold f_J8_deleteEntry_57
  refine wp_gd kz ?_
  by_cases cl : ld σ z 2 = 0
  · refine wp_pos cl ?_
    refine wp_gd kz ?_
    by_cases cr : ld σ z 3 = 0
    · rw [cr]
      unfold f_J8_deleteEntry_75
      refine wp_pos rfl ?_
      refine wp_gd kz ?_
      by_cases c4 : ld σ z 4 = 0
      · refine wp_pos c4 ?_
        refine wp_gd ht ?_
        refine wp_nm0 ?_
        have hr : z = ld σ t 3 := by
          by_cases y : z = ld σ t 3
          · exact y
          · have := hT.2.2.2.2.2.2.2.1 z hz y
            exact absurd c4 (hT.1 _ this.1).1
        have nt : ∀ q, N q → q ≠ t := fun q hq y => by rw [y] at hq; have := (hN t hq).1; omega
        refine wp_ok ⟨⟨rfl, rfl, rfl, rfl⟩, fun q a b j => by rw [ld_wr, if_neg (fun y => b y.1)], fun j a => by rw [ld_wr, if_neg (fun y => a y.2)], fun q a b => ⟨by rw [ld_wr, if_neg (fun y => nt q a y.1)], by rw [ld_wr, if_neg (fun y => nt q a y.1)]⟩, Or.inl ⟨by rw [ld_wr, if_pos ⟨rfl, rfl⟩], fun q hq => ?_⟩⟩
        rw [hr]
        exact tree_alone hT (by show ld σ (ld σ t 3) 2 = 0; rw [← hr]; exact cl) (by show ld σ (ld σ t 3) 3 = 0; rw [← hr]; exact cr) q hq
      · refine wp_neg c4 ?_
        refine wp_gd kz ?_
        have hzr : z ≠ ld σ t 3 := fun e => c4 (by rw [e]; exact hT.2.2.2.2.2.2.2.2.2.1)
        obtain ⟨g1, g2⟩ := hT.2.2.2.2.2.2.2.1 z hz hzr
        dsimp only at g1 g2
        have hgz : ld σ z 4 ≠ z := fun e => by
          rw [e, cl, cr] at g2
          exact g2.elim (fun y => hz0 y.symm) (fun y => hz0 y.symm)
        by_cases c5 : ld σ z 5 = 1
        · refine wp_pos c5 ?_
          refine wp_gd ht ?_
          refine wp_c0 ?_
          unfold f_J8_fixAfterDeletion
          have bz := hT.1 z hz
          refine wp_mono (fixD_wp (z := z) (n := n) 67 σ lo hi ow z ht hN hT hz (fun _ => ⟨hz, bz.2.1, bz.2.2.1, cl, cr⟩) (by omega) n (by omega)) fun σ1 hq => ?_
          obtain ⟨⟨F1, N1, lo1, hi1, ow1, T1⟩, L1⟩ := hq
          obtain ⟨y1, y2⟩ := L1 hz0
          refine wp_mono (unlink_192 (n := n) ((F1.1.kd t).trans ht) N1 T1 hz y1 y2 ⟨_, g1, hgz⟩) fun σ2 hq => ?_
          exact UnP.trans F1 hq
        · refine wp_neg c5 ?_
          exact unlink_192 ht hN hT hz cl cr ⟨_, g1, hgz⟩
    · exact unlink_R hn ht hN hT hz cl cr
  · refine wp_neg cl ?_
    refine wp_gd kz ?_
    exact unlink_L hn ht hN hT hz (h1.resolve_left cl) cl
theorem succ_eq {n : Nat} (hN : MapN σ N) (hT : MapT σ t N k lo hi ow) : ∀ (m q : Nat) (u : Int), N u → (hi u - lo u).toNat < m → m ≤ q → ∃ s, f_J8_successor_18 n q u σ = some (s, σ) ∧ N s ∧ ld σ s 2 = 0 ∧ lo s = lo u ∧ hi s ≤ hi u := by
  intro m
  induction m with
  | zero => intro q u _ h; omega
  | succ m ih =>
    intro q u hu hm hq
    obtain ⟨q, rfl⟩ : ∃ y, q = y + 1 := ⟨q - 1, by omega⟩
    unfold f_J8_successor_18
    rw [gd_pos (hN u hu).1]
    by_cases c : ld σ u 2 = 0
    · rw [if_pos c]
      exact ⟨u, rfl, hu, c, rfl, Int.le_refl _⟩
    · rw [if_neg c, gd_pos (hN u hu).1]
      have b := hT.1 u hu
      obtain ⟨a1, a2, a3, a4⟩ := hT.2.1 u hu c
      dsimp only at a1 a2 a3 a4
      obtain ⟨s, s1, s2, s3, s4, s5⟩ := ih q (ld σ u 2) a1 (by rw [a3, a4]; omega) (by omega)
      exact ⟨s, s1, s2, s3, by omega, by omega⟩
end UM
/-- what remove leaves -/
def RemP (σ : AS) (t : Int) (D : Int → Prop) (f : Int → Int) (mc v : Int) (p : Int × AS) : Prop :=
  p.1 = f v ∧ MapOk p.2 t D (ud f v 0) (mc + 1) ∧ Fr (fun q => q = t ∨ D q) σ p.2 ∧ nx p.2 = nx σ ∧ us p.2 = us σ
