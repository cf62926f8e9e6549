/-! Numbers: numbers in rising order -/
set_option maxRecDepth 100000
/-- the object p holds the list L in its array -/
def NumOk (σ : AS) (p : Int) (L : List Int) : Prop :=
  kd σ p = 3 ∧ kd σ (ld σ p 0) = 100 ∧ ld σ p 1 = L.length ∧ (L.length : Int) ≤ ln σ (ld σ p 0) ∧ 4 ≤ ln σ (ld σ p 0) ∧ ∀ i : Nat, i < L.length → ld σ (ld σ p 0) i = L.getD i 0
theorem f_X10_add_88_eq {n : Nat} {p v k : Int} {σ : AS} (h1 : kd σ p = 3) (h2 : kd σ (ld σ p 0) = 100) (h3 : 0 ≤ k ∧ k < ln σ (ld σ p 0)) : f_X10_add_88 n p v k σ = some (wr σ (ld σ p 0) k v) := by
  unfold f_X10_add_88
  rw [gd_pos h1, gd_pos ⟨h2, h3.1, h3.2⟩]
  rfl
theorem f_X10_add_52_wp {n : Nat} {p v c : Int} {L : List Int} {S : Int → Prop} (hS : S c) : ∀ (k q : Nat) (σ : AS), k < q → kd σ p = 3 → ld σ p 0 = c → kd σ c = 100 → (L.length : Int) < ln σ c → ln σ c ≤ 1048576 → k ≤ L.length → (∀ i : Nat, i < k → ld σ c i = L.getD i 0) → (∀ i : Nat, k ≤ i → i < L.length → ld σ c (i + 1) = L.getD i 0) →
    Wp (f_X10_add_52 n q p v k σ) fun σ' => Fr S σ σ' ∧ nx σ' = nx σ ∧ us σ' = us σ ∧ kd σ' p = 3 ∧ ld σ' p 0 = c ∧ ld σ' p 1 = ld σ p 1 ∧ kd σ' c = 100 ∧ ln σ' c = ln σ c ∧ ∃ j : Nat, j ≤ k ∧ (j = 0 ∨ L.getD (j - 1) 0 ≤ v) ∧ (∀ i : Nat, j ≤ i → i < k → v < L.getD i 0) ∧ (∀ i : Nat, i < j → ld σ' c i = L.getD i 0) ∧ ld σ' c j = v ∧ ∀ i : Nat, j ≤ i → i < L.length → ld σ' c (i + 1) = L.getD i 0 := by
  intro k
  induction k with
  | zero =>
    intro q σ hq h1 h2 h3 h4 h5 h6 h7 h8
    have hpc : p ≠ c := fun e => by rw [e, h3] at h1; cases h1
    obtain ⟨q, rfl⟩ : ∃ z, q = z + 1 := ⟨q - 1, by omega⟩
    unfold f_X10_add_52
    refine wp_pos (by omega) ?_
    refine wp_of_eq (f_X10_add_88_eq h1 (by rw [h2]; exact h3) ⟨by omega, by rw [h2]; omega⟩) ?_
    rw [h2]
    refine ⟨Fr.wr hS, rfl, rfl, h1, by rw [ld_wr, if_neg (fun e => hpc e.1)]; exact h2, by rw [ld_wr, if_neg (fun e => hpc e.1)], h3, rfl, 0, Nat.le_refl 0, Or.inl rfl, fun i _ hi => absurd hi (Nat.not_lt_zero i), fun i hi => absurd hi (Nat.not_lt_zero i), by rw [ld_wr, if_pos ⟨rfl, rfl⟩], fun i hi hl => ?_⟩
    rw [ld_wr, if_neg (fun e => by omega)]
    exact h8 i hi hl
  | succ k ih =>
    intro q σ hq h1 h2 h3 h4 h5 h6 h7 h8
    have hpc : p ≠ c := fun e => by rw [e, h3] at h1; cases h1
    obtain ⟨q, rfl⟩ : ∃ z, q = z + 1 := ⟨q - 1, by omega⟩
    unfold f_X10_add_52
    refine wp_neg (by omega) ?_
    refine wp_gd h1 ?_
    refine wp_gI (by omega) ?_
    have e1 : ((k + 1 : Nat) : Int) - 1 = (k : Int) := by omega
    rw [e1, h2]
    refine wp_gd ⟨h3, by omega, by omega⟩ ?_
    rw [h7 k (by omega)]
    refine wp_ite (fun hc => ?_) (fun hc => ?_)
    · refine wp_of_eq (f_X10_add_88_eq h1 (by rw [h2]; exact h3) ⟨by omega, by rw [h2]; omega⟩) ?_
      rw [h2]
      refine ⟨Fr.wr hS, rfl, rfl, h1, by rw [ld_wr, if_neg (fun e => hpc e.1)]; exact h2, by rw [ld_wr, if_neg (fun e => hpc e.1)], h3, rfl, k + 1, Nat.le_refl _, Or.inr (by simpa using hc), fun i _ hi => by omega, fun i hi => ?_, by rw [ld_wr, if_pos ⟨rfl, rfl⟩], fun i hi hl => ?_⟩
      · rw [ld_wr, if_neg (fun e => by omega)]
        exact h7 i hi
      · rw [ld_wr, if_neg (fun e => by omega)]
        exact h8 i hi hl
    · refine wp_gd h1 ?_
      refine wp_gd h1 ?_
      refine wp_gI (by omega) ?_
      refine wp_gd ⟨h3, by omega, by omega⟩ ?_
      refine wp_gd ⟨h3, by omega, by omega⟩ ?_
      refine wp_nm0 ?_
      refine wp_gI (by omega) ?_
      refine wp_nm0 ?_
      have e2 : ((k + 1 : Nat) : Int) + -1 = (k : Int) := by omega
      rw [e2]
      refine wp_mono (ih q (wr σ c ((k + 1 : Nat) : Int) (L.getD k 0)) (by omega) h1 (by rw [ld_wr, if_neg (fun e => hpc e.1)]; exact h2) h3 h4 h5 (by omega) (fun i hi => ?_) (fun i hi hl => ?_)) fun σ' hq => ?_
      · rw [ld_wr, if_neg (fun e => by omega)]
        exact h7 i (by omega)
      · rw [ld_wr]
        by_cases e : i = k
        · subst e
          rw [if_pos ⟨rfl, rfl⟩]
        · rw [if_neg (fun z => by omega)]
          exact h8 i (by omega) hl
      · obtain ⟨g1, g2, g3, g4, g5, g6, g7, g8, j, g9, g10, g11, g12, g13, g14⟩ := hq
        refine ⟨(Fr.wr hS).trans g1, g2, g3, g4, g5, by rw [g6, ld_wr, if_neg (fun e => hpc e.1)], g7, g8, j, by omega, g10, fun i hi hl => ?_, g12, g13, g14⟩
        by_cases e : i = k
        · subst e; omega
        · exact g11 i hi (by omega)
