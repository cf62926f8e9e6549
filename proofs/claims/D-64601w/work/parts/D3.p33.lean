/-! THE COMPONENT: a node by its number -/
set_option maxRecDepth 100000
section XOf
variable {σ : AS} {Ow : F1} {v : Int} {L : List Int} {TH : Int → Prop} {fm : Int → F1} {no ed ty fr too : F1} {mc cN cE cP : Int}
theorem nodeOf_eq (h : GI σ Ow TH fm no ed ty fr too mc cN cE cP) (hs : StkOk σ Ow L) : f_X1_nodeOf 1000 v σ = if no v = 0 then some (.inl 1, al σ 0 0 6) else some (.inr (no v), σ) := by
  obtain ⟨k0, x0, -⟩ := hs
  obtain ⟨g1, g2, g3, g4, g5, -⟩ := h.2.2.1
  have a5 := h.2.2.2.2.1
  have a7 := h.2.2.2.2.2.2.1
  have z : ¬ (0 ≤ v ∧ v < 400) → no v = 0 := fun q => by
    by_cases c : no v = 0
    · exact c
    · have := a7 v c
      omega
  unfold f_X1_nodeOf f_X1_nodeOf_23
  by_cases c1 : v < 0
  · rw [if_pos c1, if_pos (z (by omega))]
    rfl
  · rw [if_neg c1]
    by_cases c2 : 400 ≤ v
    · rw [if_pos c2, if_pos (z (by omega))]
      rfl
    · rw [if_neg c2, gd_pos k0, x0, gd_pos g1, g2, gd_pos ⟨g4, by omega, by omega⟩, a5 v (by omega) (by omega)]
      unfold f_X1_nodeOf_24
      by_cases c : no v = 0
      · rw [if_pos c, if_pos c]
        rfl
      · rw [if_neg c, if_neg c]
        unfold f_X1_nodeOf_34 f_X1_inside
        rw [if_neg (by decide), cx_inr]
end XOf
