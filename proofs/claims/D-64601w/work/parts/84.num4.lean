/-! Numbers.remove -/
set_option maxRecDepth 100000
def delAt (L : List Int) (j : Nat) : List Int := L.take j ++ L.drop (j + 1)
theorem delAt_len {L : List Int} {j : Nat} (h : j < L.length) : (delAt L j).length + 1 = L.length := by
  unfold delAt
  simp; omega
theorem delAt_get {L : List Int} {j : Nat} (h : j < L.length) (i : Nat) : (delAt L j).getD i 0 = if i < j then L.getD i 0 else L.getD (i + 1) 0 := by
  unfold delAt
  by_cases h1 : i < j
  · rw [if_pos h1]
    simp only [List.getD_eq_getElem?_getD]
    rw [List.getElem?_append_left (by simp; omega), List.getElem?_take, if_pos h1]
  · rw [if_neg h1]
    simp only [List.getD_eq_getElem?_getD]
    rw [List.getElem?_append_right (by simp; omega)]
    have e : (L.take j).length = j := by simp; omega
    rw [e]
    obtain ⟨d, rfl⟩ : ∃ d, i = j + d := ⟨i - j, by omega⟩
    have e1 : j + d - j = d := by omega
    rw [e1, List.getElem?_drop]
    have e2 : j + 1 + d = j + d + 1 := by omega
    rw [e2]
theorem f_X10_remove_28_wp {n : Nat} {p c : Int} {L : List Int} {S : Int → Prop} {j : Nat} (hS : S c) (hj : j < L.length) : ∀ (m k q : Nat) (σ : AS), m + k + 1 = L.length → m < q → j ≤ k → kd σ p = 3 → ld σ p 0 = c → kd σ c = 100 → ld σ p 1 = (L.length : Int) - 1 → (L.length : Int) ≤ ln σ c → ln σ c ≤ 1048576 → (∀ i : Nat, i < k → ld σ c i = (delAt L j).getD i 0) → (∀ i : Nat, k < i → i < L.length → ld σ c i = L.getD i 0) →
    Wp (f_X10_remove_28 n q p k σ) fun σ' => Fr S σ σ' ∧ nx σ' = nx σ ∧ us σ' = us σ ∧ ld σ' p 0 = c ∧ ld σ' p 1 = (L.length : Int) - 1 ∧ kd σ' p = 3 ∧ kd σ' c = 100 ∧ ln σ' c = ln σ c ∧ ∀ i : Nat, i + 1 < L.length → ld σ' c i = (delAt L j).getD i 0 := by
  intro m
  induction m with
  | zero =>
    intro k q σ hk hq hjk h1 h2 h3 h4 h5 h6 h7 h8
    obtain ⟨q, rfl⟩ : ∃ z, q = z + 1 := ⟨q - 1, by omega⟩
    unfold f_X10_remove_28
    refine wp_gd h1 ?_
    rw [h4]
    refine wp_pos (by omega) ?_
    exact wp_ok ⟨Fr.rf, rfl, rfl, h2, h4, h1, h3, rfl, fun i hi => h7 i (by omega)⟩
  | succ m ih =>
    intro k q σ hk hq hjk h1 h2 h3 h4 h5 h6 h7 h8
    have hpc : p ≠ c := fun e => by rw [e, h3] at h1; cases h1
    obtain ⟨q, rfl⟩ : ∃ z, q = z + 1 := ⟨q - 1, by omega⟩
    unfold f_X10_remove_28
    refine wp_gd h1 ?_
    rw [h4]
    refine wp_neg (by omega) ?_
    refine wp_gd h1 ?_
    refine wp_gd h1 ?_
    refine wp_gI (by omega) ?_
    rw [h2]
    refine wp_gd ⟨h3, by omega, by omega⟩ ?_
    refine wp_gd ⟨h3, by omega, by omega⟩ ?_
    refine wp_nm0 ?_
    refine wp_gI (by omega) ?_
    refine wp_nm0 ?_
    have e1 : (k : Int) + 1 = ((k + 1 : Nat) : Int) := by omega
    rw [e1]
    have e2 := h8 (k + 1) (by omega) (by omega)
    rw [e2]
    refine wp_mono (ih (k + 1) q (wr σ c (k : Int) (L.getD (k + 1) 0)) (by omega) (by omega) (by omega) h1 (by rw [ld_wr, if_neg (fun e => hpc e.1)]; exact h2) h3 (by rw [ld_wr, if_neg (fun e => hpc e.1)]; exact h4) h5 h6 (fun i hi => ?_) (fun i hi hl => ?_)) fun σ' hq => ?_
    · rw [ld_wr]
      by_cases e : i = k
      · subst e
        rw [if_pos ⟨rfl, rfl⟩, delAt_get hj, if_neg (by omega)]
      · rw [if_neg (fun z => by omega)]
        exact h7 i (by omega)
    · rw [ld_wr, if_neg (fun z => by omega)]
      exact h8 i (by omega) hl
    · obtain ⟨g1, g2, g3, g4, g5, g6, g7, g8, g9⟩ := hq
      exact ⟨(Fr.wr hS).trans g1, g2, g3, g4, g5, g6, g7, g8, g9⟩
theorem f_X10_remove_2_wp {n : Nat} {p v c : Int} {L : List Int} {S : Int → Prop} {σ : AS} (hSp : S p) (hS : S c) (hn : 1000000 ≤ n) (h1 : kd σ p = 3) (h2 : ld σ p 0 = c) (h3 : kd σ c = 100) (h4 : ld σ p 1 = (L.length : Int)) (h5 : (L.length : Int) ≤ ln σ c) (h6 : ln σ c ≤ 100000) (h7 : ∀ i : Nat, i < L.length → ld σ c i = L.getD i 0) : ∀ (m k q : Nat) (j : Nat), k + m = j → j < L.length → L.getD j 0 = v → (∀ i : Nat, k ≤ i → i < j → L.getD i 0 ≠ v) → m < q →
    Wp (f_X10_remove_2 n q p v k σ) fun σ' => Fr S σ σ' ∧ nx σ' = nx σ ∧ us σ' = us σ ∧ ld σ' p 0 = c ∧ ld σ' p 1 = (L.length : Int) - 1 ∧ kd σ' p = 3 ∧ kd σ' c = 100 ∧ ln σ' c = ln σ c ∧ ∀ i : Nat, i + 1 < L.length → ld σ' c i = (delAt L j).getD i 0 := by
  have hpc : c ≠ p := fun e => by rw [← e, h3] at h1; cases h1
  intro m
  induction m with
  | zero =>
    intro k q j hk hj hv hne hq
    obtain ⟨q, rfl⟩ : ∃ z, q = z + 1 := ⟨q - 1, by omega⟩
    have hk : k = j := by omega
    subst hk
    unfold f_X10_remove_2
    refine wp_gd h1 ?_
    rw [h2]
    refine wp_gd ⟨h3, by omega, by omega⟩ ?_
    rw [h7 k hj]
    refine wp_pos hv ?_
    refine wp_gd h1 ?_
    rw [h4]
    refine wp_gI (by omega) ?_
    refine wp_gd h1 ?_
    refine wp_nm0 ?_
    refine wp_mono (f_X10_remove_28_wp (S := S) (L := L) (j := k) (c := c) hS hj (L.length - 1 - k) k n _ (by omega) (by omega) (Nat.le_refl k) h1 (by rw [ld_wr, if_neg (fun e => by omega)]; exact h2) h3 (by rw [ld_wr, if_pos ⟨rfl, rfl⟩]) h5 (by show ln σ c ≤ 1048576; omega) (fun i hi => ?_) (fun i hi hl => ?_)) fun σ' hq => ?_
    · rw [ld_wr, if_neg (fun e => hpc e.1), delAt_get hj, if_pos hi]
      exact h7 i (by omega)
    · rw [ld_wr, if_neg (fun e => hpc e.1)]
      exact h7 i hl
    · obtain ⟨g1, g2, g3, g4, g5, g6, g7, g8, g9⟩ := hq
      exact ⟨(Fr.wr hSp).trans g1, g2, g3, g4, g5, g6, g7, g8, g9⟩
  | succ m ih =>
    intro k q j hk hj hv hne hq
    obtain ⟨q, rfl⟩ : ∃ z, q = z + 1 := ⟨q - 1, by omega⟩
    unfold f_X10_remove_2
    refine wp_gd h1 ?_
    rw [h2]
    refine wp_gd ⟨h3, by omega, by omega⟩ ?_
    rw [h7 k (by omega)]
    refine wp_neg (hne k (Nat.le_refl k) (by omega)) ?_
    refine wp_gI (by omega) ?_
    refine wp_nm0 ?_
    have e1 : (k : Int) + 1 = ((k + 1 : Nat) : Int) := by omega
    rw [e1]
    exact ih (k + 1) q j (by omega) hj hv (fun i hi hl => hne i (by omega) hl) (by omega)
theorem f_X10_remove_wp {n : Nat} {p v : Int} {L : List Int} {σ : AS} {S : Int → Prop} {j : Nat} (hSp : S p) (hSc : S (ld σ p 0)) (hn : 1000000 ≤ n) (h : NumOk σ p L) (h5 : ln σ (ld σ p 0) ≤ 4096) (hj : j < L.length) (hv : L.getD j 0 = v) (hne : ∀ i : Nat, i < j → L.getD i 0 ≠ v) :
    Wp (f_X10_remove n p v σ) fun σ' => Fr S σ σ' ∧ nx σ' = nx σ ∧ us σ' = us σ ∧ NumOk σ' p (delAt L j) ∧ ln σ' (ld σ' p 0) ≤ 4096 ∧ ld σ' p 0 = ld σ p 0 := by
  obtain ⟨h1, h3, h7, h4, h6, h8⟩ := h
  unfold f_X10_remove
  refine wp_mono (f_X10_remove_2_wp (S := S) (L := L) (c := ld σ p 0) hSp hSc hn h1 rfl h3 h7 h4 (by omega) h8 j 0 n j (by omega) hj hv (fun i _ hi => hne i hi) (by omega)) fun σ' hq => ?_
  obtain ⟨g1, g2, g3, g4, g5, g6, g7, g8, g9⟩ := hq
  have hl := delAt_len hj
  refine ⟨g1, g2, g3, ⟨g6, by rw [g4]; exact g7, by rw [g5]; omega, by rw [g4, g8]; omega, by rw [g4, g8]; exact h6, fun i hi => by rw [g4]; exact g9 i (by omega)⟩, by rw [g4, g8]; exact h5, g4⟩
