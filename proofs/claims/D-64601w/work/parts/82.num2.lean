/-! Numbers.add -/
set_option maxRecDepth 100000
/-- v stands at the place j -/
def insAt (L : List Int) (j : Nat) (v : Int) : List Int := L.take j ++ v :: L.drop j
theorem insAt_len {L : List Int} {j : Nat} {v : Int} (h : j ≤ L.length) : (insAt L j v).length = L.length + 1 := by
  unfold insAt
  simp; omega
theorem insAt_get {L : List Int} {j : Nat} {v : Int} (h : j ≤ L.length) (i : Nat) : (insAt L j v).getD i 0 = if i < j then L.getD i 0 else if i = j then v else L.getD (i - 1) 0 := by
  unfold insAt
  by_cases h1 : i < j
  · rw [if_pos h1]
    simp only [List.getD_eq_getElem?_getD]
    rw [List.getElem?_append_left (by simp; omega), List.getElem?_take, if_pos h1]
  · rw [if_neg h1]
    simp only [List.getD_eq_getElem?_getD]
    rw [List.getElem?_append_right (by simp; omega)]
    have e : (L.take j).length = j := by simp; omega
    rw [e]
    by_cases h2 : i = j
    · rw [if_pos h2]; subst h2; simp
    · rw [if_neg h2]
      obtain ⟨d, rfl⟩ : ∃ d, i = j + 1 + d := ⟨i - j - 1, by omega⟩
      have e1 : j + 1 + d - j = d + 1 := by omega
      have e2 : j + 1 + d - 1 = j + d := by omega
      rw [e1, e2]
      simp
theorem f_X10_add_40_wp {n : Nat} {p v c : Int} {L : List Int} {σ : AS} {S : Int → Prop} (hSp : S p) (hSc : S c) (hn : 1000000 ≤ n) (h1 : kd σ p = 3) (h2 : ld σ p 0 = c) (h3 : kd σ c = 100) (h4 : (L.length : Int) < ln σ c) (h5 : ln σ c ≤ 1048576) (hL : L.length ≤ 4096) (h6 : 4 ≤ ln σ c) (h7 : ld σ p 1 = L.length) (h8 : ∀ i : Nat, i < L.length → ld σ c i = L.getD i 0) :
    Wp (f_X10_add_40 n p v σ) fun σ' => Fr S σ σ' ∧ nx σ' = nx σ ∧ us σ' = us σ ∧ ∃ j : Nat, j ≤ L.length ∧ (j = 0 ∨ L.getD (j - 1) 0 ≤ v) ∧ (∀ i : Nat, j ≤ i → i < L.length → v < L.getD i 0) ∧ NumOk σ' p (insAt L j v) ∧ ld σ' p 0 = c := by
  have hpc : c ≠ p := fun e => by rw [← e, h3] at h1; cases h1
  unfold f_X10_add_40
  refine wp_gd h1 ?_
  refine wp_nm0 ?_
  rw [h7]
  refine wp_gI (by omega) ?_
  refine wp_gd h1 ?_
  refine wp_nm0 ?_
  refine wp_mono (f_X10_add_52_wp (S := S) (L := L) (c := c) hSc L.length n _ (by omega) h1 (by rw [ld_wr, if_neg (fun e => by omega)]; exact h2) h3 h4 h5 (Nat.le_refl _) (fun i hi => ?_) (fun i hi hl => absurd hl (by omega))) fun σ' hq => ?_
  · rw [ld_wr, if_neg (fun e => hpc e.1)]
    exact h8 i hi
  · obtain ⟨g1, g2, g3, g4, g5, g6, g7, g8, j, g9, g10, g11, g12, g13, g14⟩ := hq
    refine ⟨(Fr.wr hSp).trans g1, g2, g3, j, g9, g10, fun i hi hl => g11 i hi hl, ⟨g4, by rw [g5]; exact g7, ?_, ?_, by rw [g5, g8]; exact h6, fun i hi => ?_⟩, g5⟩
    · rw [g6, ld_wr, if_pos ⟨rfl, rfl⟩, insAt_len g9]; omega
    · rw [insAt_len g9, g5, g8]
      show ((L.length + 1 : Nat) : Int) ≤ ln σ c
      omega
    · rw [insAt_len g9] at hi
      rw [insAt_get g9, g5]
      by_cases e1 : i < j
      · rw [if_pos e1]; exact g12 i e1
      · rw [if_neg e1]
        by_cases e2 : i = j
        · rw [if_pos e2, e2]; exact g13
        · rw [if_neg e2]
          have := g14 (i - 1) (by omega) (by omega)
          have e3 : ((i - 1 : Nat) : Int) + 1 = (i : Int) := by omega
          rw [e3] at this
          exact this
