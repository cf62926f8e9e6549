/-! ArrayDeque: behind pop -/
set_option maxRecDepth 100000
theorem wrp_wrp {N h i : Int} (h0 : 0 ≤ h ∧ h < N) (hi : 0 ≤ i ∧ i + 1 < N + 1) : wrp N (wrp N (h + 1) + i) = wrp N (h + (i + 1)) := by
  unfold wrp
  split <;> split <;> split <;> omega
theorem wrp_inj {N h i j : Int} (h0 : 0 ≤ h ∧ h < N) (hi : 0 ≤ i ∧ i < N) (hj : 0 ≤ j ∧ j < N) (e : wrp N (h + i) = wrp N (h + j)) : i = j := by
  unfold wrp at e
  split at e <;> split at e <;> omega
theorem DqOk.pop {d v : Int} {L : List Int} {σ : AS} (h : DqOk σ d (v :: L)) : DqOk (wr (wr σ (ld σ d 0) (ld σ d 1) 0) d 1 (wrp (ln σ (ld σ d 0)) (ld σ d 1 + 1))) d L := by
  obtain ⟨h1, h2, h3, h4, h5, h6, h7, h8, h9⟩ := h
  have hde : d ≠ ld σ d 0 := fun e => by rw [← e, h1] at h2; cases h2
  have hl : (v :: L).length = L.length + 1 := rfl
  rw [hl] at h4 h7 h8 h9
  generalize hes : ld σ d 0 = es at *
  generalize hh : ld σ d 1 = hd at *
  generalize hN : ln σ es = N at *
  have w1 := wrp_in (N := N) (x := hd + 1) ⟨by omega, by omega⟩
  have a0 : ∀ x y z w : Int, ld (wr (wr σ es hd 0) d 1 w) d 0 = es := fun _ _ _ w => by
    rw [ld_wr, if_neg (fun e => by omega), ld_wr, if_neg (fun e => hde e.1)]; exact hes
  have a1 : ∀ w : Int, ld (wr (wr σ es hd 0) d 1 w) d 1 = w := fun w => by rw [ld_wr, if_pos ⟨rfl, rfl⟩]
  have a2 : ∀ w : Int, ld (wr (wr σ es hd 0) d 1 w) d 2 = ld σ d 2 := fun w => by
    rw [ld_wr, if_neg (fun e => by omega), ld_wr, if_neg (fun e => hde e.1)]
  have a3 : ∀ w j : Int, j ≠ hd → ld (wr (wr σ es hd 0) d 1 w) es j = ld σ es j := fun w j hj => by
    rw [ld_wr, if_neg (fun e => hde e.1.symm), ld_wr, if_neg (fun e => hj e.2)]
  have a4 : ∀ w : Int, ld (wr (wr σ es hd 0) d 1 w) es hd = 0 := fun w => by
    rw [ld_wr, if_neg (fun e => hde e.1.symm), ld_wr, if_pos ⟨rfl, rfl⟩]
  have hne : ∀ i : Nat, (i : Int) + 1 < N → wrp N (hd + ((i : Int) + 1)) ≠ hd := fun i hi e => by
    have e0 : wrp N (hd + 0) = hd := by unfold wrp; rw [if_pos (by omega)]; omega
    have := wrp_inj (N := N) (h := hd) (i := (i : Int) + 1) (j := 0) ⟨h5, h6⟩ ⟨by omega, by omega⟩ ⟨by omega, by omega⟩ (e.trans e0.symm)
    omega
  unfold DqOk
  rw [a0 0 0 0, a1, a2]
  simp only [kd_wr, ln_wr]
  rw [hN]
  refine ⟨h1, h2, h3, by omega, w1.1, w1.2, ?_, fun i hi => ?_, fun i hi hl => ?_⟩
  · rw [wrp_wrp ⟨h5, h6⟩ ⟨by omega, by omega⟩, h7]
    congr 1
  · rw [wrp_wrp ⟨h5, h6⟩ ⟨by omega, by omega⟩, a3 _ _ (hne i (by omega))]
    exact h8 (i + 1) (by omega)
  · rw [wrp_wrp ⟨h5, h6⟩ ⟨by omega, by omega⟩]
    by_cases e : (i : Int) + 1 < N
    · rw [a3 _ _ (hne i e)]
      exact h9 (i + 1) (by omega) (by omega)
    · have e0 : wrp N (hd + ((i : Int) + 1)) = hd := by unfold wrp; rw [if_neg (by omega)]; omega
      rw [e0, a4]
