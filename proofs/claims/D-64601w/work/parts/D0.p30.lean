/-! THE STACK OF CHANGES: pop, clear -/
set_option maxRecDepth 100000
section StkP
variable {σ σ' : AS} {Ow Ow' : F1} {v : Int} {L : List Int}
theorem StkOk.pop (h : StkOk σ Ow (v :: L)) (hx : 1054 ≤ nx σ) : Rec σ Ow v ∧ ∃ σ', f_J1_pop 1004 σ = some (v, σ') ∧ StkOk σ' Ow L ∧ Fr (SD Ow) σ σ' ∧ nx σ' = nx σ ∧ us σ' = us σ := by
  obtain ⟨h1, h2, h3, h4, h5, h6, h7, h8, h9, h10⟩ := h
  have hp := h4.pop
  have he := f_J1_pop_eq h4 (by omega)
  have hF : Fr (SD Ow) σ (wr (wr σ (ld σ 1004 0) (ld σ 1004 1) 0) 1004 1 (wrp (ln σ (ld σ 1004 0)) (ld σ 1004 1 + 1))) := (Fr.wr (Or.inr ⟨h5, h7⟩)).trans (Fr.wr (Or.inl rfl))
  have e0 : ld (wr (wr σ (ld σ 1004 0) (ld σ 1004 1) 0) 1004 1 (wrp (ln σ (ld σ 1004 0)) (ld σ 1004 1 + 1))) 1004 0 = ld σ 1004 0 := by
    rw [ld_wr, if_neg (fun z => by omega), ld_wr, if_neg (fun z => by omega)]
  have n0 : nx (wr (wr σ (ld σ 1004 0) (ld σ 1004 1) 0) 1004 1 (wrp (ln σ (ld σ 1004 0)) (ld σ 1004 1 + 1))) = nx σ := rfl
  have u0 : us (wr (wr σ (ld σ 1004 0) (ld σ 1004 1) 0) 1004 1 (wrp (ln σ (ld σ 1004 0)) (ld σ 1004 1 + 1))) = us σ := rfl
  generalize wr (wr σ (ld σ 1004 0) (ld σ 1004 1) 0) 1004 1 (wrp (ln σ (ld σ 1004 0)) (ld σ 1004 1 + 1)) = σ' at *
  have x0 : ∀ j, ld σ' 1000 j = ld σ 1000 j := hF.ld (by omega) (fun z => by unfold SD at z; omega)
  refine ⟨h10 v List.mem_cons_self, σ', he, ⟨by rw [hF.kd (by omega)]; exact h1, by rw [x0]; exact h2, by rw [x0]; exact h3, hp, by rw [e0]; exact h5, by rw [e0, n0]; exact h6, by rw [e0]; exact h7, by rw [e0]; exact h8, by rw [e0, hF.ln h6]; exact h9, fun r hr => (h10 r (List.mem_cons_of_mem _ hr)).frame hF (fun _ _ => rfl)⟩, hF, n0, u0⟩
theorem StkOk.clear {n : Nat} (hn : 1000000 ≤ n) (h : StkOk σ Ow L) (hx : 1054 ≤ nx σ) : Wp (f_J1_clear n 1004 σ) fun σ' => StkOk σ' Ow [] ∧ Fr (SD Ow) σ σ' ∧ nx σ' = nx σ ∧ us σ' = us σ := by
  obtain ⟨h1, h2, h3, h4, h5, h6, h7, h8, h9, h10⟩ := h
  refine wp_mono (f_J1_clear_wp (S := SD Ow) (Or.inl rfl) (Or.inr ⟨h5, h7⟩) hn h4 (by omega) h6 (by omega)) fun σ' hq => ?_
  obtain ⟨hF, n0, u0, g4, e0⟩ := hq
  have x0 : ∀ j, ld σ' 1000 j = ld σ 1000 j := hF.ld (by omega) (fun z => by unfold SD at z; omega)
  exact ⟨⟨by rw [hF.kd (by omega)]; exact h1, by rw [x0]; exact h2, by rw [x0]; exact h3, g4, by rw [e0]; exact h5, by rw [e0, n0]; exact h6, by rw [e0]; exact h7, by rw [e0]; exact h8, by rw [e0, hF.ln h6]; exact h9, fun r hr => absurd hr List.not_mem_nil⟩, hF, n0, u0⟩
end StkP
