/-! A NEW RECORD ON THE STACK -/
set_option maxRecDepth 100000
section RecN
variable {σ σ' : AS} {Ow Ow' : F1} {v : Int} {L : List Int} {TH : Int → Prop} {fm : Int → F1} {no ed ty fr too : F1} {mc cN cE cP : Int}
/-- behind the making and filling of a record r = nx σ: graph, stack and the record itself -/
theorem rec_push {n : Nat} (hn : 1000000 ≤ n) (h : GI σ Ow TH fm no ed ty fr too mc cN cE cP) (hs : StkOk σ Ow L) (hF : Fr (fun _ => False) σ σ') (n1 : nx σ' = nx σ + 1) (hk : 6 ≤ kd σ' (nx σ) ∧ kd σ' (nx σ) ≤ 10) (hL : L.length < 64) : Wp (f_J1_push n 1004 (nx σ) σ') fun τ => ∃ Ow' : F1, GI τ Ow' TH fm no ed ty fr too mc cN cE cP ∧ StkOk τ Ow' (nx σ :: L) ∧ Fr (SD Ow) σ τ ∧ (∀ r, r < nx σ → Ow' r = Ow r) ∧ kd τ (nx σ) = kd σ' (nx σ) ∧ (∀ j, ld τ (nx σ) j = ld σ' (nx σ) j) ∧ nx τ ≤ nx σ + 2 ∧ us τ ≤ us σ' + 130 := by
  have hx := h.1
  have hO : ∀ r, r < nx σ → ud Ow (nx σ) 1 r = Ow r := fun r hr => ud_ne (by omega)
  have h1 : GI σ' (ud Ow (nx σ) 1) TH fm no ed ty fr too mc cN cE cP := by
    have s3 := h.2.2.1
    have s4 := h.2.2.2.1
    have e : ∀ j, ld σ' 1001 j = ld σ 1001 j := hF.ld (by omega) (fun z => z)
    exact h.frame hF hO (fun r z => z.elim) ⟨by rw [e]; exact s3.2.1, by rw [e]; exact s3.2.2.1, by rw [e]; exact s4.1, by rw [e]; exact s4.2.1, by rw [e]; exact s4.2.2⟩ (fun r _ z => z.elim) (Int.le_refl _)
  have h2 : StkOk σ' (ud Ow (nx σ) 1) L := hs.frame hx hF hO (fun r z => z.elim)
  have h3 : Rec σ' (ud Ow (nx σ) 1) (nx σ) := ⟨hx, by omega, ud_eq, hk.1, hk.2⟩
  refine wp_mono (h2.push hn h1.1 h3 hL) fun τ hq => ?_
  obtain ⟨Ow2, g1, g2, g3, g4, g5, g6⟩ := hq
  have hr : ∀ r, SD (ud Ow (nx σ) 1) r → r = 1004 ∨ (1005 ≤ r ∧ ud Ow (nx σ) 1 r = 2) := fun r z => z
  refine ⟨Ow2, ?_, g1, (hF.sub (S' := SD Ow) fun r _ z => z.elim).tr2 g2 fun r x z => ?_, fun r x => by rw [g3 r (by omega), hO r x], g2.kd (by omega), g2.ld (by omega) (fun z => ?_), by omega, g6⟩
  · have s3 := h1.2.2.1
    have s4 := h1.2.2.2.1
    have e : ∀ j, ld τ 1001 j = ld σ' 1001 j := g2.ld (by omega) (fun z => by have := hr _ z; omega)
    exact h1.frame g2 g3 (fun r z => by have := hr _ z; omega) ⟨by rw [e]; exact s3.2.1, by rw [e]; exact s3.2.2.1, by rw [e]; exact s4.1, by rw [e]; exact s4.2.1, by rw [e]; exact s4.2.2⟩ (fun r x z => by have := hr _ z; omega) (Int.le_refl _)
  · rcases hr _ z with q | q
    · exact Or.inl q
    · exact Or.inr ⟨q.1, by rw [← hO r x]; exact q.2⟩
  · rcases hr _ z with q | q
    · omega
    · rw [ud_eq] at q; omega
end RecN
