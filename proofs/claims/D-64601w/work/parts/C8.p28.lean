/-! THE GRAPH: the first free place -/
set_option maxRecDepth 100000
section GFree
variable {σ : AS} {l K : Int}
theorem free_loop {n : Nat} (hk : kd σ l = 106 ∨ kd σ l = 107) (hK : 0 ≤ K ∧ K < ln σ l ∧ ln σ l ≤ 1000) (h0 : ld σ l K = 0) : ∀ (m q : Nat) (i : Int), m < q → 0 ≤ i → i + m = K → (∀ j, 0 ≤ j → j < i → ld σ l j ≠ 0) → Wp (f_X2_free_2 n q l i σ) fun y => y.2 = σ ∧ 0 ≤ y.1 ∧ y.1 ≤ K ∧ ld σ l y.1 = 0 ∧ ∀ j, 0 ≤ j → j < y.1 → ld σ l j ≠ 0 := by
  intro m
  induction m with
  | zero =>
    intro q i hq hi hm hj
    obtain ⟨q, rfl⟩ : ∃ d, q = d + 1 := ⟨q - 1, by omega⟩
    have e : i = K := by omega
    unfold f_X2_free_2
    refine wp_gd ⟨hk, hi, by omega⟩ ?_
    refine wp_pos (by rw [e]; exact h0) ?_
    exact wp_ok ⟨rfl, hi, by show i ≤ K; omega, by show ld σ l i = 0; rw [e]; exact h0, hj⟩
  | succ m ih =>
    intro q i hq hi hm hj
    obtain ⟨q, rfl⟩ : ∃ d, q = d + 1 := ⟨q - 1, by omega⟩
    unfold f_X2_free_2
    refine wp_gd ⟨hk, hi, by omega⟩ ?_
    refine wp_ite (fun c => ?_) (fun c => ?_)
    · exact wp_ok ⟨rfl, hi, by show i ≤ K; omega, c, hj⟩
    · refine wp_gI (by omega) ?_
      refine wp_nm0 ?_
      refine ih q (i + 1) (by omega) (by omega) (by omega) fun j x y => ?_
      by_cases d : j = i
      · rw [d]; exact c
      · exact hj j x (by omega)
theorem free_wp {n : Nat} (hn : 1000000 ≤ n) (hk : kd σ l = 106 ∨ kd σ l = 107) (hK : 0 ≤ K ∧ K < ln σ l ∧ ln σ l ≤ 1000) (h0 : ld σ l K = 0) : Wp (f_X2_free n l σ) fun y => y.2 = σ ∧ 0 ≤ y.1 ∧ y.1 ≤ K ∧ ld σ l y.1 = 0 ∧ ∀ j, 0 ≤ j → j < y.1 → ld σ l j ≠ 0 := by
  unfold f_X2_free
  exact free_loop hk hK h0 K.toNat n 0 (by omega) (by omega) (by omega) fun j x y => by omega
end GFree
