/-! TreeMap: put -/
set_option maxRecDepth 100000
section PU
variable {N : Int → Prop} {k lo hi ow : F1} {t x c v e : Int} {σ : AS}
theorem addEntry32_wp {n : Nat} (hn : 100 ≤ n) (ht : kd σ t = 26) (hN : MapN σ N) (hT : MapT σ t N k lo hi ow) (he : N e) (hz : 0 ≤ ld σ t 4 ∧ ld σ t 4 ≤ 1000) (hm : 0 ≤ ld σ t 5 ∧ ld σ t 5 ≤ 1000000) : Wp (f_J8_addEntry_32 n t e σ) fun σ' => (∃ lo hi ow, MapT σ' t N k lo hi ow) ∧ MapN σ' N ∧ SameK σ σ' ∧ (∀ q, ¬ N q → q ≠ t → ∀ j, ld σ' q j = ld σ q j) ∧ ld σ' t 2 = ld σ t 2 ∧ ld σ' t 4 = ld σ t 4 + 1 ∧ ld σ' t 5 = ld σ t 5 + 1 ∧ ∀ q, N q → ld σ' q 0 = ld σ q 0 ∧ ld σ' q 1 = ld σ q 1 := by
  have nt : ∀ q, N q → q ≠ t := fun q hq z => by rw [z] at hq; have := (hN t hq).1; omega
  unfold f_J8_addEntry_32 f_J8_fixAfterInsertion
  refine wp_gd ht ?_
  refine wp_c0 ?_
  refine wp_gd (hN e he).1 ?_
  refine wp_nm0 ?_
  obtain ⟨F1, N1, T1⟩ := col_inv (c := 0) ht hN hT he ⟨by decide, by decide⟩
  have ht1 : kd (wr σ e 5 0) t = 26 := ht
  generalize wr σ e 5 0 = σ1 at *
  refine wp_mono (fixI_wp (n := n) 67 n σ1 lo hi ow e ht1 N1 T1 he ?_ (by omega)) fun σ2 hq => ?_
  · have := hT.1 e he
    omega
  · obtain ⟨F2, N2, lo2, hi2, ow2, T2⟩ := hq
    have F := F1.trans F2
    have ht2 : kd σ2 t = 26 := (F.1.kd t).trans ht
    have e4 := F.2.2.1 4 (by decide)
    have e5 := F.2.2.1 5 (by decide)
    have e2 := F.2.2.1 2 (by decide)
    refine wp_gd ht2 ?_
    refine wp_gI (by omega) ?_
    refine wp_gd ht2 ?_
    refine wp_nm0 ?_
    refine wp_gd ht2 ?_
    have e6 : ld (wr σ2 t 4 (ld σ2 t 4 + 1)) t 5 = ld σ2 t 5 := by rw [ld_wr, if_neg (fun z => by omega)]
    rw [e6]
    refine wp_gI (by omega) ?_
    refine wp_gd ht2 ?_
    refine wp_nm0 ?_
    have E : ∀ q, q ≠ t → ∀ j, ld (wr (wr σ2 t 4 (ld σ2 t 4 + 1)) t 5 (ld σ2 t 5 + 1)) q j = ld σ2 q j := fun q hq j => by rw [ld_wr, if_neg (fun z => hq z.1), ld_wr, if_neg (fun z => hq z.1)]
    refine wp_ok ⟨⟨lo2, hi2, ow2, ?_⟩, fun q hq => ?_, F.1, fun q a b j => (E q b j).trans (F.2.1 q a b j), ?_, ?_, ?_, fun q hq => ⟨(E q (nt q hq) 0).trans (F.2.2.2 q hq).1, (E q (nt q hq) 1).trans (F.2.2.2 q hq).2⟩⟩
    · unfold MapT
      have e3 : ld (wr (wr σ2 t 4 (ld σ2 t 4 + 1)) t 5 (ld σ2 t 5 + 1)) t 3 = ld σ2 t 3 := by rw [ld_wr, if_neg (fun z => by omega), ld_wr, if_neg (fun z => by omega)]
      rw [e3]
      exact tree_congr T2 (fun q => Iff.rfl) (fun q hq => ⟨rfl, E q (nt q hq) 2, E q (nt q hq) 3, E q (nt q hq) 4, rfl, rfl⟩) fun i => rfl
    · rw [E q (nt q hq) 5]; exact N2 q hq
    · rw [ld_wr, if_neg (fun z => by omega), ld_wr, if_neg (fun z => by omega), e2]
    · rw [ld_wr, if_neg (fun z => by omega), ld_wr, if_pos ⟨rfl, rfl⟩, e4]
    · rw [ld_wr, if_pos ⟨rfl, rfl⟩, e5]
theorem addEntry_wp {n : Nat} {key r d i : Int} (hn : 100 ≤ n) (hnx : 1000 ≤ nx σ) (ht : kd σ t = 26) (htn : t < nx σ) (hN : MapN σ N) (hT : MapT σ t N k lo hi ow) (hx : N x) (hlt : ∀ q, N q → q < nx σ) (hz : 0 ≤ ld σ t 4 ∧ ld σ t 4 ≤ 1000) (hm : 0 ≤ ld σ t 5 ∧ ld σ t 5 ≤ 1000000) (hi2 : ∃ j, i = 2 * j) (hd : (d = 0 ∧ ld σ x 3 = 0 ∧ k x < i ∧ i < hi x) ∨ (d ≠ 0 ∧ ld σ x 2 = 0 ∧ lo x < i ∧ i < k x)) : Wp (f_J8_addEntry n t key r x d σ) fun σ' => (∃ lo hi ow, MapT σ' t (fun q => N q ∨ q = nx σ) (fun q => if q = nx σ then i else k q) lo hi ow) ∧ MapN σ' (fun q => N q ∨ q = nx σ) ∧ nx σ' = nx σ + 1 ∧ us σ' = us σ + 6 ∧ (∀ q, q < nx σ → kd σ' q = kd σ q ∧ ln σ' q = ln σ q) ∧ (∀ q, q < nx σ → ¬ N q → q ≠ t → ∀ j, ld σ' q j = ld σ q j) ∧ ld σ' t 2 = ld σ t 2 ∧ ld σ' t 4 = ld σ t 4 + 1 ∧ ld σ' t 5 = ld σ t 5 + 1 ∧ (∀ q, N q → ld σ' q 0 = ld σ q 0 ∧ ld σ' q 1 = ld σ q 1) ∧ ld σ' (nx σ) 0 = key ∧ ld σ' (nx σ) 1 = r := by
  have nt : ∀ q, N q → q ≠ t := fun q hq z => by rw [z] at hq; have := (hN t hq).1; omega
  have he : ¬ N (nx σ) := fun z => by have := hlt _ z; omega
  have he0 : nx σ ≠ 0 := by omega
  have het : nx σ ≠ t := by omega
  have hex : nx σ ≠ x := fun z => he (z ▸ hx)
  have kx := (hN x hx).1
  unfold f_J8_addEntry f_J25_init
  refine wp_nm (fun e1 ee => ?_)
  rw [ee]
  refine wp_nm0 ?_
  refine wp_gd he0 ?_
  refine wp_c0 ?_
  have k1 : kd (al σ 27 0 6) (nx σ) = 27 := by rw [kd_al, if_pos rfl]
  refine wp_gd he0 ?_
  refine wp_gd k1 ?_
  refine wp_nm0 ?_
  refine wp_gd k1 ?_
  refine wp_nm0 ?_
  refine wp_gd k1 ?_
  refine wp_nm0 ?_
  refine wp_gd k1 ?_
  refine wp_nm0 ?_
  refine wp_ok ?_
  have A : ∀ q, q ≠ nx σ → kd (wr (wr (wr (wr (al σ 27 0 6) (nx σ) 5 1) (nx σ) 0 key) (nx σ) 1 r) (nx σ) 4 x) q = kd σ q ∧ ln (wr (wr (wr (wr (al σ 27 0 6) (nx σ) 5 1) (nx σ) 0 key) (nx σ) 1 r) (nx σ) 4 x) q = ln σ q ∧ ∀ j, ld (wr (wr (wr (wr (al σ 27 0 6) (nx σ) 5 1) (nx σ) 0 key) (nx σ) 1 r) (nx σ) 4 x) q j = ld σ q j := by
    intro q hq
    refine ⟨by rw [kd_wr, kd_wr, kd_wr, kd_wr, kd_al, if_neg hq], by rw [ln_wr, ln_wr, ln_wr, ln_wr, ln_al, if_neg hq], fun j => ?_⟩
    rw [ld_wr, if_neg (fun z => hq z.1), ld_wr, if_neg (fun z => hq z.1), ld_wr, if_neg (fun z => hq z.1), ld_wr, if_neg (fun z => hq z.1), ld_al, if_neg hq]
  have B : ∀ j, ld (wr (wr (wr (wr (al σ 27 0 6) (nx σ) 5 1) (nx σ) 0 key) (nx σ) 1 r) (nx σ) 4 x) (nx σ) j = if j = 4 then x else if j = 1 then r else if j = 0 then key else if j = 5 then 1 else 0 := by
    intro j
    simp only [ld_wr, ld_al, true_and, if_true]
  have kE : kd (wr (wr (wr (wr (al σ 27 0 6) (nx σ) 5 1) (nx σ) 0 key) (nx σ) 1 r) (nx σ) 4 x) (nx σ) = 27 := k1
  have nE : nx (wr (wr (wr (wr (al σ 27 0 6) (nx σ) 5 1) (nx σ) 0 key) (nx σ) 1 r) (nx σ) 4 x) = nx σ + 1 := rfl
  have uE : us (wr (wr (wr (wr (al σ 27 0 6) (nx σ) 5 1) (nx σ) 0 key) (nx σ) 1 r) (nx σ) 4 x) = us σ + 6 := rfl
  generalize wr (wr (wr (wr (al σ 27 0 6) (nx σ) 5 1) (nx σ) 0 key) (nx σ) 1 r) (nx σ) 4 x = σ1 at *
  generalize hE : nx σ = E at *
  have fin : ∀ (fld : Int) (l2 h2 o2 : F1), (fld = 2 ∨ fld = 3) → MapT (wr σ1 x fld E) t (fun q => N q ∨ q = E) (fun q => if q = E then i else k q) l2 h2 o2 → Wp (f_J8_addEntry_32 n t E (wr σ1 x fld E)) fun σ' => (∃ lo hi ow, MapT σ' t (fun q => N q ∨ q = E) (fun q => if q = E then i else k q) lo hi ow) ∧ MapN σ' (fun q => N q ∨ q = E) ∧ nx σ' = E + 1 ∧ us σ' = us σ + 6 ∧ (∀ q, q < E → kd σ' q = kd σ q ∧ ln σ' q = ln σ q) ∧ (∀ q, q < E → ¬ N q → q ≠ t → ∀ j, ld σ' q j = ld σ q j) ∧ ld σ' t 2 = ld σ t 2 ∧ ld σ' t 4 = ld σ t 4 + 1 ∧ ld σ' t 5 = ld σ t 5 + 1 ∧ (∀ q, N q → ld σ' q 0 = ld σ q 0 ∧ ld σ' q 1 = ld σ q 1) ∧ ld σ' E 0 = key ∧ ld σ' E 1 = r := by
    intro fld l2 h2 o2 hf hT2
    have tA := A t (fun z => het z.symm)
    have C : ∀ q, q ≠ x → ∀ j, ld (wr σ1 x fld E) q j = ld σ1 q j := fun q hq j => by rw [ld_wr, if_neg (fun z => hq z.1)]
    have C2 : ∀ q j, j ≠ fld → ld (wr σ1 x fld E) q j = ld σ1 q j := fun q j hj => by rw [ld_wr, if_neg (fun z => hj z.2)]
    have hxt := nt x hx
    refine wp_mono (addEntry32_wp (σ := wr σ1 x fld E) hn (tA.1.trans ht) (fun q hq => ?_) hT2 (Or.inr rfl) ?_ ?_) fun σ' hq => ?_
    · rw [kd_wr, C2 q 5 (by omega)]
      rcases hq with hq | hq
      · rw [(A q (fun z => he (z ▸ hq))).1, (A q (fun z => he (z ▸ hq))).2.2]
        exact hN q hq
      · rw [hq, kE, B]; exact ⟨rfl, by simp, by simp⟩
    · rw [C t (fun z => hxt z.symm), tA.2.2]; exact hz
    · rw [C t (fun z => hxt z.symm), tA.2.2]; exact hm
    · obtain ⟨g1, g2, g3, g4, g5, g6, g7, g8⟩ := hq
      rw [C t (fun z => hxt z.symm), tA.2.2] at g5 g6 g7
      refine ⟨g1, g2, g3.2.2.1.trans nE, g3.2.2.2.trans uE, fun q hq => ?_, fun q a b c j => ?_, g5, g6, g7, fun q hq => ?_, ?_, ?_⟩
      · have := A q (by omega)
        exact ⟨(g3.kd q).trans this.1, (g3.ln q).trans this.2.1⟩
      · rw [g4 q (fun z => z.elim b (by omega)) c, C q (fun z => b (z ▸ hx)), (A q (by omega)).2.2]
      · have a := A q (fun z => he (z ▸ hq))
        have b := g8 q (Or.inl hq)
        rw [C2 q 0 (by omega), C2 q 1 (by omega), a.2.2, a.2.2] at b
        exact b
      · have b := g8 E (Or.inr rfl)
        rw [C E (fun z => hex z), B] at b
        exact b.1
      · have b := g8 E (Or.inr rfl)
        rw [C E (fun z => hex z) 1, B] at b
        exact b.2
  have hT3 : Tree N k (fun q => ld σ q 2) (fun q => ld σ q 3) (fun q => ld σ q 4) lo hi ow (ld σ t 3) := hT
  have k1x : kd σ1 x = 27 := (A x (fun z => hex z.symm)).1.trans kx
  rcases hd with ⟨d1, d2, d3, d4⟩ | ⟨d1, d2, d3, d4⟩
  · refine wp_pos d1 ?_
    refine wp_gd k1x ?_
    refine wp_nm0 ?_
    refine fin 3 (fun q => if q = E then k x else lo q) (fun q => if q = E then hi x else hi q) (fun j => if k x < j ∧ j < hi x then E else ow j) (Or.inr rfl) ?_
    unfold MapT
    have e3 : ld (wr σ1 x 3 E) t 3 = ld σ t 3 := by rw [ld_wr, if_neg (fun z => nt x hx z.1.symm), (A t (fun z => het z.symm)).2.2]
    rw [e3]
    refine tree_congr (tree_leafR hT3 hx d2 he he0 d3 d4 hi2) (fun q => Iff.rfl) (fun q hq => ⟨rfl, ?_, ?_, ?_, rfl, rfl⟩) fun i => rfl
    all_goals
      rcases hq with hq | hq
      · have a := A q (fun z => he (z ▸ hq))
        have ne : q ≠ E := fun z => he (z ▸ hq)
        clear hT hT3 fin
        grind [ld_wr]
      · subst hq
        clear hT hT3 fin
        grind [ld_wr]
  · refine wp_neg d1 ?_
    refine wp_gd k1x ?_
    refine wp_nm0 ?_
    refine fin 2 (fun q => if q = E then lo x else lo q) (fun q => if q = E then k x else hi q) (fun j => if lo x < j ∧ j < k x then E else ow j) (Or.inl rfl) ?_
    unfold MapT
    have e3 : ld (wr σ1 x 2 E) t 3 = ld σ t 3 := by rw [ld_wr, if_neg (fun z => nt x hx z.1.symm), (A t (fun z => het z.symm)).2.2]
    rw [e3]
    refine tree_congr (tree_leafL hT3 hx d2 he he0 d3 d4 hi2) (fun q => Iff.rfl) (fun q hq => ⟨rfl, ?_, ?_, ?_, rfl, rfl⟩) fun i => rfl
    all_goals
      rcases hq with hq | hq
      · have a := A q (fun z => he (z ▸ hq))
        have ne : q ≠ E := fun z => he (z ▸ hq)
        clear hT hT3 fin
        grind [ld_wr]
      · subst hq
        clear hT hT3 fin
        grind [ld_wr]
end PU
