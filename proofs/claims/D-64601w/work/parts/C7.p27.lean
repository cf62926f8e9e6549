/-! THE GRAPH: a new thing, not yet in it -/
set_option maxRecDepth 100000
section GNew
variable {σ σ' : AS} {Ow Ow' : F1} {p tp a b : Int} {TH : Int → Prop} {fm : Int → F1} {no ed ty fr too : F1} {mc cN cE cP : Int}
theorem GI.new (h : GI σ Ow TH fm no ed ty fr too mc cN cE cP) (hF : Fr (fun _ => False) σ σ') (hO : ∀ r, r < nx σ → Ow' r = Ow r) (hp : nx σ ≤ p) (hm : 0 ≤ mc) (hT : ∀ Po Pi : Int → Prop, (kd σ' p = 4 → ∀ e, ¬ Po e ∧ ¬ Pi e) → ThOk σ' Ow' p (fun _ => 0) Po Pi 0) (hl : ld σ' p 1 = tp) (he : kd σ' p = 5 → ld σ' p 2 = a ∧ ld σ' p 3 = b) : GI σ' Ow' (fun q => TH q ∨ q = p) (fun q => if q = p then fun _ => 0 else fm q) no ed (ud ty p tp) (ud fr p a) (ud too p b) mc cN cE cP := by
  obtain ⟨a1, a2, a3, a4, a5, a6, a7, a8, a9, a10, a11, a12⟩ := h
  have n1 := hF.1
  have lt : ∀ q, TH q → q < nx σ := fun q hq => (a12 q hq).2.1
  have ne : ∀ q, TH q → q ≠ p := fun q hq => by have := lt q hq; omega
  have ee : ∀ e, ed e ≠ 0 → ud fr p a (ed e) = fr (ed e) ∧ ud too p b (ed e) = too (ed e) := fun e x => by
    have y := ne _ (a8 e x).2.2.1
    exact ⟨ud_ne y, ud_ne y⟩
  have nn : ∀ i, no i ≠ p := fun i x => by
    by_cases c : no i = 0
    · omega
    · exact ne _ (a7 i c).2.2.1 x
  have all : ∀ r, r < nx σ → ∀ j, ld σ' r j = ld σ r j := fun r x => hF.ld x (fun z => z)
  refine ⟨by omega, a2.frame hF a1 (fun r z => z.elim), ⟨by rw [hF.kd (by omega)]; exact a3.1, by rw [all _ (by omega)]; exact a3.2.1, by rw [all _ (by omega)]; exact a3.2.2.1, by rw [hF.kd (by omega)]; exact a3.2.2.2.1, by rw [hF.ln (by omega)]; exact a3.2.2.2.2.1, by rw [hF.kd (by omega)]; exact a3.2.2.2.2.2.1, by rw [hF.ln (by omega)]; exact a3.2.2.2.2.2.2⟩, by rw [all _ (by omega), all _ (by omega), all _ (by omega)]; exact a4, fun i x y => ?_, fun i x y => ?_, fun i x => ?_, fun i x => ?_, a9, a10, fun q hq => ?_, fun q hq => ?_⟩
  · rw [all _ (by omega)]; exact a5 i x y
  · rw [all _ (by omega)]; exact a6 i x y
  · obtain ⟨b1, b2, b3, b4⟩ := a7 i x
    exact ⟨b1, b2, Or.inl b3, by rw [hF.kd (lt _ b3)]; exact b4⟩
  · obtain ⟨b1, b2, b3, b4, b5, b6⟩ := a8 i x
    exact ⟨b1, b2, Or.inl b3, by rw [hF.kd (lt _ b3)]; exact b4, by rw [(ee i x).1]; exact b5, by rw [(ee i x).2]; exact b6⟩
  · by_cases c : q = p
    · rw [c, ud_at, ud_at, ud_at, if_pos rfl, if_pos rfl, if_pos rfl]
      exact ⟨hl, he⟩
    · have hq' := hq.resolve_right c
      rw [ud_ne c, ud_ne c, ud_ne c, all _ (lt q hq'), all _ (lt q hq'), all _ (lt q hq'), hF.kd (lt q hq')]
      exact a11 q hq'
  · by_cases c : q = p
    · dsimp only
      rw [c, if_pos rfl]
      refine (hT _ _ fun _ e => ⟨fun z => nn _ z.2, fun z => nn _ z.2⟩).frame (S := fun _ => False) Fr.rf (fun _ _ => rfl) (fun r x z => z.elim) hm
    · have hq' := hq.resolve_right c
      dsimp only
      rw [if_neg c]
      refine ((a12 q hq').frame hF hO (fun r x z => z.elim) (Int.le_refl _)).pcongr fun _ e => ?_
      by_cases d : ed e = 0
      · exact ⟨⟨fun z => absurd d z.1, fun z => absurd d z.1⟩, ⟨fun z => absurd d z.1, fun z => absurd d z.1⟩⟩
      · rw [(ee e d).1, (ee e d).2]
        exact ⟨Iff.rfl, Iff.rfl⟩
end GNew
