/-! A NODE, side by side: the end -/
set_option maxRecDepth 100000
section NE
variable {σ σ0 σ' : AS} {τ : TT} {n : Nat} {N0 U0 z k q q' c p v r C lo hi l1 l2 s0 : Int} {T : List Int} {S : PS} {ps : List Part} {ops eo : List Op} {tl : Tl}
theorem okb_op {τ' : TT} (hO : OKB T σ τ q S) (hF : OpF τ τ') : OKB T σ τ' q S := by
  obtain ⟨o1, ⟨t1', t2, t3, t4, t5, t6⟩, o3, o4, o5⟩ := hO
  have e : ∀ i, i ≠ 32 → τ' 1022 i = τ 1022 i := fun i hi => hF _ _ (by decide) (fun w => hi w.2)
  have e2 : ∀ r i, r ≠ 1022 → r ≠ 1037 → τ' r i = τ r i := fun r i hr h2 => hF _ _ h2 (fun w => hr w.1)
  refine ⟨o1, ⟨by rw [e _ (by decide)]; exact t1', by rw [e _ (by decide)]; exact t2, by rw [e _ (by decide)]; exact t3, fun w => by rw [e _ (by decide)]; exact t4 w, t5, t6⟩, ⟨by rw [e _ (by decide)]; exact o3.1, fun i hi => by rw [e2 _ _ (by decide) (by decide)]; exact o3.2 i hi⟩, ?_, o5.congr (e _ (by decide)) fun i => ⟨e2 _ _ (by decide) (by decide), e2 _ _ (by decide) (by decide)⟩⟩
  unfold Lt
  rw [e _ (by decide), e _ (by decide)]
  exact o4
theorem okb_same (hO : OKB T σ τ q S) {S' : PS} (h7 : ∀ j, ld σ' 1007 j = ld σ 1007 j) (hS : S'.1 = S.1) : OKB T σ' τ q S' := by
  obtain ⟨o1, o2, o3, o4, o5⟩ := hO
  refine ⟨by rw [h7]; exact o1, o2, o3, o4.congr (h7 5) (h7 6) rfl rfl, ?_⟩
  rw [hS]; exact o5
end NE
