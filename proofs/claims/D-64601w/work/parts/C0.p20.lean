/-! THINGS: nodes and edges on the heap; who owns what -/
set_option maxRecDepth 100000
/-- a number that is never written -/
def Box (σ : AS) (Ow : F1) (r : Int) : Prop := r ≠ 0 ∧ r < nx σ ∧ Ow r = 0 ∧ (kd σ r = 25 ∨ kd σ r = 1025) ∧ (r < 1000 ∨ 1054 ≤ r)
/-- numbers in rising order: those of P -/
def NumAt (σ : AS) (Ow : F1) (o t1 t2 : Int) (P : Int → Prop) : Prop := 1054 ≤ o ∧ o < nx σ ∧ Ow o = t1 ∧ 1054 ≤ ld σ o 0 ∧ ld σ o 0 < nx σ ∧ Ow (ld σ o 0) = t2 ∧ ln σ (ld σ o 0) ≤ 4096 ∧ ∃ L, NumOk σ o L ∧ L.Pairwise (· < ·) ∧ ∀ e, e ∈ L ↔ P e
def ThOk (σ : AS) (Ow : F1) (p : Int) (f : F1) (Po Pi : Int → Prop) (mc : Int) : Prop :=
  1054 ≤ p ∧ p < nx σ ∧ Ow p = 8 * p + 7 ∧ 1054 ≤ ld σ p 0 ∧ ld σ p 0 < nx σ ∧ Ow (ld σ p 0) = 8 * p + 4 ∧ MapOk σ (ld σ p 0) (fun q => 1054 ≤ q ∧ Ow q = 8 * p + 1) f mc ∧ (∀ i, f i ≠ 0 → Box σ Ow (f i)) ∧ (kd σ p = 5 ∨ (kd σ p = 4 ∧ NumAt σ Ow (ld σ p 2) (8 * p + 5) (8 * p + 2) Po ∧ NumAt σ Ow (ld σ p 3) (8 * p + 6) (8 * p + 3) Pi))
section TF
variable {σ σ' : AS} {Ow Ow' : F1} {S : Int → Prop} {p r : Int} {f : F1} {Po Pi : Int → Prop} {mc mc' : Int}
theorem Box.frame (h : Box σ Ow r) (hF : Fr S σ σ') (hO : ∀ r, r < nx σ → Ow' r = Ow r) : Box σ' Ow' r := by
  obtain ⟨h0, h1, h2, h3, h4⟩ := h
  exact ⟨h0, Int.lt_of_lt_of_le h1 hF.1, by rw [hO r h1]; exact h2, by rw [hF.kd h1]; exact h3, h4⟩
theorem NumAt.frame {o t1 t2 : Int} {P : Int → Prop} (h : NumAt σ Ow o t1 t2 P) (hF : Fr S σ σ') (hO : ∀ r, r < nx σ → Ow' r = Ow r) (hS : ∀ r, 1054 ≤ r → S r → Ow r ≠ t1 ∧ Ow r ≠ t2) : NumAt σ' Ow' o t1 t2 P := by
  obtain ⟨h1, h2, h3, h4, h5, h6, h7, L, h8, h9, h10⟩ := h
  have e1 : ∀ j, ld σ' o j = ld σ o j := hF.ld h2 (fun z => (hS o h1 z).1 h3)
  have e2 : ∀ j, ld σ' (ld σ o 0) j = ld σ (ld σ o 0) j := hF.ld h5 (fun z => (hS _ h4 z).2 h6)
  have n1 := hF.1
  refine ⟨h1, by omega, by rw [hO o h2]; exact h3, by rw [e1]; exact h4, by rw [e1]; omega, by rw [e1, hO _ h5]; exact h6, by rw [e1, hF.ln h5]; exact h7, L, ?_, h9, h10⟩
  obtain ⟨a1, a2, a3, a4, a5, a6⟩ := h8
  exact ⟨by rw [hF.kd h2]; exact a1, by rw [e1, hF.kd h5]; exact a2, by rw [e1]; exact a3, by rw [e1, hF.ln h5]; exact a4, by rw [e1, hF.ln h5]; exact a5, fun i hi => by rw [e1, e2]; exact a6 i hi⟩
theorem ThOk.frame (h : ThOk σ Ow p f Po Pi mc) (hF : Fr S σ σ') (hO : ∀ r, r < nx σ → Ow' r = Ow r) (hS : ∀ r, 1054 ≤ r → S r → ¬ (8 * p + 1 ≤ Ow r ∧ Ow r ≤ 8 * p + 7)) (hm : mc ≤ mc') : ThOk σ' Ow' p f Po Pi mc' := by
  obtain ⟨h1, h2, h3, h4, h5, h6, h7, h8, h9⟩ := h
  have n1 := hF.1
  have ep : ∀ j, ld σ' p j = ld σ p j := hF.ld h2 (fun z => hS p h1 z (by omega))
  have et : ∀ j, ld σ' (ld σ p 0) j = ld σ (ld σ p 0) j := hF.ld h5 (fun z => hS _ h4 z (by omega))
  refine ⟨h1, by omega, by rw [hO p h2]; exact h3, by rw [ep]; exact h4, by rw [ep]; omega, by rw [ep, hO _ h5]; exact h6, ?_, fun i hi => (h8 i hi).frame hF hO, ?_⟩
  · rw [ep]
    refine h7.frame hm n1 ⟨hF.kd h5, et⟩ fun q hq hlt => ⟨⟨hq.1, by rw [hO q hlt]; exact hq.2⟩, hF.kd hlt, hF.ld hlt (fun z => hS q hq.1 z (by omega))⟩
  · rw [hF.kd h2]
    refine h9.imp id (fun q => ⟨q.1, ?_, ?_⟩)
    · rw [ep]; exact q.2.1.frame hF hO (fun r h z => ⟨fun e => hS r h z (by omega), fun e => hS r h z (by omega)⟩)
    · rw [ep]; exact q.2.2.frame hF hO (fun r h z => ⟨fun e => hS r h z (by omega), fun e => hS r h z (by omega)⟩)
/-- what belongs to the things' parts: p's map -/
def SMap (σ : AS) (Ow : F1) (p : Int) : Int → Prop := fun q => q = ld σ p 0 ∨ (1054 ≤ q ∧ Ow q = 8 * p + 1)
theorem SMap.own (h : ThOk σ Ow p f Po Pi mc) (q : Int) (hq : SMap σ Ow p q) : 1054 ≤ q ∧ (Ow q = 8 * p + 1 ∨ Ow q = 8 * p + 4) := by
  rcases hq with e | e
  · rw [e]; exact ⟨h.2.2.2.1, Or.inr h.2.2.2.2.2.1⟩
  · exact ⟨e.1, Or.inl e.2⟩
/-- a new map in thing p; the new cells (if any) are its entries -/
theorem ThOk.map {g : F1} (h : ThOk σ Ow p f Po Pi mc) (hF : Fr (SMap σ Ow p) σ σ') (hO : ∀ r, r < nx σ → Ow' r = Ow r) (hm : MapOk σ' (ld σ p 0) (fun q => 1054 ≤ q ∧ Ow' q = 8 * p + 1) g mc') (hb : ∀ i, g i ≠ 0 → Box σ' Ow' (g i)) : ThOk σ' Ow' p g Po Pi mc' := by
  have own := SMap.own h
  obtain ⟨h1, h2, h3, h4, h5, h6, h7, h8, h9⟩ := h
  have n1 := hF.1
  have ep : ∀ j, ld σ' p j = ld σ p j := hF.ld h2 (fun z => by have := own p z; omega)
  refine ⟨h1, by omega, by rw [hO p h2]; exact h3, by rw [ep]; exact h4, by rw [ep]; omega, by rw [ep, hO _ h5]; exact h6, by rw [ep]; exact hm, hb, ?_⟩
  rw [hF.kd h2]
  refine h9.imp id (fun q => ⟨q.1, ?_, ?_⟩)
  · rw [ep]; exact q.2.1.frame hF hO (fun r _ z => by have := own r z; exact ⟨by omega, by omega⟩)
  · rw [ep]; exact q.2.2.frame hF hO (fun r _ z => by have := own r z; exact ⟨by omega, by omega⟩)
end TF
/-- THE GRAPH on the heap. TH: all things that ever were; fm: their maps; no, ed: references by numbers (0 none); ty fr too: what never changes of a thing (label or type, ends) -/
def GI (σ : AS) (Ow : F1) (TH : Int → Prop) (fm : Int → F1) (no ed ty fr too : F1) (mc cN cE cP : Int) : Prop :=
  1054 ≤ nx σ ∧ IntC σ ∧
  (kd σ 1001 = 2 ∧ ld σ 1001 0 = 1002 ∧ ld σ 1001 1 = 1003 ∧ kd σ 1002 = 106 ∧ ln σ 1002 = 400 ∧ kd σ 1003 = 107 ∧ ln σ 1003 = 1000) ∧
  (ld σ 1001 2 = cN ∧ ld σ 1001 3 = cE ∧ ld σ 1001 4 = cP) ∧
  (∀ i, 0 ≤ i → i < 400 → ld σ 1002 i = no i) ∧ (∀ i, 0 ≤ i → i < 1000 → ld σ 1003 i = ed i) ∧
  (∀ i, no i ≠ 0 → 0 ≤ i ∧ i < 400 ∧ TH (no i) ∧ kd σ (no i) = 4) ∧
  (∀ i, ed i ≠ 0 → 0 ≤ i ∧ i < 1000 ∧ TH (ed i) ∧ kd σ (ed i) = 5 ∧ no (fr (ed i)) ≠ 0 ∧ no (too (ed i)) ≠ 0) ∧
  (∀ i j, no i ≠ 0 → no i = no j → i = j) ∧ (∀ i j, ed i ≠ 0 → ed i = ed j → i = j) ∧
  (∀ p, TH p → ld σ p 1 = ty p ∧ (kd σ p = 5 → ld σ p 2 = fr p ∧ ld σ p 3 = too p)) ∧
  ∀ p, TH p → ThOk σ Ow p (fm p) (fun e => ed e ≠ 0 ∧ no (fr (ed e)) = p) (fun e => ed e ≠ 0 ∧ no (too (ed e)) = p) mc
theorem IntC.frame {S : Int → Prop} {σ σ' : AS} (h : IntC σ) (hF : Fr S σ σ') (hn : 1054 ≤ nx σ) (hS : ∀ r, S r → 1000 ≤ r) : IntC σ' := by
  refine ⟨by rw [hF.kd (by omega)]; exact h.1, by rw [hF.ln (by omega)]; exact h.2.1, fun j h1 h2 => ?_⟩
  obtain ⟨a1, a2, a3⟩ := h.2.2 j h1 h2
  refine ⟨?_, ?_, ?_⟩
  · rw [hF.ld (by omega) (fun z => by have := hS _ z; omega)]; exact a1
  · rw [hF.kd (by omega)]; exact a2
  · rw [hF.ld (by omega) (fun z => by have := hS _ z; omega)]; exact a3
