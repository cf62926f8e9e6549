/-! ArrayDeque: a stack of references -/
set_option maxRecDepth 100000
/-- round the array -/
def wrp (N x : Int) : Int := if x < N then x else x - N
theorem wrp_in {N x : Int} (h : 0 ≤ x ∧ x < 2 * N) : 0 ≤ wrp N x ∧ wrp N x < N := by
  unfold wrp
  split <;> omega
/-- the deque d holds L, the first one in front -/
def DqOk (σ : AS) (d : Int) (L : List Int) : Prop :=
  kd σ d = 23 ∧ kd σ (ld σ d 0) = 105 ∧ 17 ≤ ln σ (ld σ d 0) ∧ (L.length : Int) < ln σ (ld σ d 0) ∧ 0 ≤ ld σ d 1 ∧ ld σ d 1 < ln σ (ld σ d 0) ∧ ld σ d 2 = wrp (ln σ (ld σ d 0)) (ld σ d 1 + L.length) ∧
    (∀ i : Nat, i < L.length → ld σ (ld σ d 0) (wrp (ln σ (ld σ d 0)) (ld σ d 1 + i)) = L.getD i 0 ∧ L.getD i 0 ≠ 0) ∧ ∀ i : Nat, L.length ≤ i → (i : Int) < ln σ (ld σ d 0) → ld σ (ld σ d 0) (wrp (ln σ (ld σ d 0)) (ld σ d 1 + i)) = 0
theorem f_J1_sub_eq {a b m : Int} {σ : AS} (h : 0 ≤ a ∧ a < m ∧ 0 ≤ b ∧ b < m ∧ m ≤ 1000000) : f_J1_sub a b m σ = some (if a - b < 0 then a - b + m else a - b, σ) := by
  unfold f_J1_sub
  rw [gI_pos (by omega)]
  dsimp only [nm]
  by_cases e : 0 ≤ a - b
  · rw [if_pos e, if_neg (by omega)]
  · rw [if_neg e, if_pos (by omega), gI_pos (by omega)]
theorem f_J1_size_eq {d : Int} {L : List Int} {σ : AS} (h : DqOk σ d L) (hN : ln σ (ld σ d 0) ≤ 1000000) : f_J1_size d σ = some ((L.length : Int), σ) := by
  obtain ⟨h1, h2, h3, h4, h5, h6, h7, h8, h9⟩ := h
  unfold f_J1_size
  rw [gd_pos h1, gd_pos h1, gd_pos h1, gd_pos (Or.inl h2)]
  have hw := wrp_in (N := ln σ (ld σ d 0)) (x := ld σ d 1 + L.length) ⟨by omega, by omega⟩
  rw [f_J1_sub_eq ⟨by rw [h7]; exact hw.1, by rw [h7]; exact hw.2, h5, h6, hN⟩, c1_at, h7]
  unfold wrp
  congr 2
  split <;> split <;> omega
theorem f_J1_inc_eq {a m : Int} {σ : AS} (h : 0 ≤ a ∧ a < m ∧ m ≤ 1000000) : f_J1_inc a m σ = some (wrp m (a + 1), σ) := by
  unfold f_J1_inc wrp
  rw [gI_pos (by omega)]
  dsimp only [nm]
  by_cases e : a + 1 < m
  · rw [if_pos e, if_pos e]
  · rw [if_neg e, if_neg e]
    have : a + 1 - m = 0 := by omega
    rw [this]
theorem f_J1_pollFirst_eq {d v : Int} {L : List Int} {σ : AS} (h : DqOk σ d (v :: L)) (hN : ln σ (ld σ d 0) ≤ 1000000) : f_J1_pollFirst d σ = some (v, wr (wr σ (ld σ d 0) (ld σ d 1) 0) d 1 (wrp (ln σ (ld σ d 0)) (ld σ d 1 + 1))) := by
  obtain ⟨h1, h2, h3, h4, h5, h6, h7, h8, h9⟩ := h
  have e0 := h8 0 (by simp)
  have e1 : wrp (ln σ (ld σ d 0)) (ld σ d 1 + ((0 : Nat) : Int)) = ld σ d 1 := by unfold wrp; rw [if_pos (by omega)]; omega
  rw [e1] at e0
  have e2 : (v :: L).getD 0 0 = v := rfl
  rw [e2] at e0
  unfold f_J1_pollFirst
  rw [gd_pos h1]
  dsimp only [nm]
  rw [gd_pos h1]
  unfold f_J1_elementAt
  rw [gd_pos ⟨Or.inl h2, h5, h6⟩, c1_at, e0.1, if_neg e0.2, gd_pos ⟨h2, h5, h6⟩]
  refine (gd_pos (Or.inl h2)).trans ?_
  rw [f_J1_inc_eq (m := ln (wr σ (ld σ d 0) (ld σ d 1) 0) (ld σ d 0)) ⟨h5, h6, hN⟩, c1_at]
  exact gd_pos h1
theorem f_J1_pop_eq {d v : Int} {L : List Int} {σ : AS} (h : DqOk σ d (v :: L)) (hN : ln σ (ld σ d 0) ≤ 1000000) : f_J1_pop d σ = some (v, wr (wr σ (ld σ d 0) (ld σ d 1) 0) d 1 (wrp (ln σ (ld σ d 0)) (ld σ d 1 + 1))) := by
  have hv : v ≠ 0 := (h.2.2.2.2.2.2.2.1 0 (by simp)).2
  have h1 := h.1
  unfold f_J1_pop f_J1_removeFirst
  rw [gd_pos h1, gd_pos h1, f_J1_pollFirst_eq h hN, c1_at, if_neg hv, c1_at]
