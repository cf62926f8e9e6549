/-! THE PATTERN: what both have read -/
set_option maxRecDepth 100000
abbrev Tl : Type := Int × Int × Int × Int × Nat × Nat
def tl0 : Tl := (0, -1, -1, 0, 1, 1)
/-- an edge that waits for its node -/
def PndE (σ : AS) (e : Int) (tl : Tl) (eo : List Op) : Prop := (∀ v l, EdAt σ e (v, l, tl)) ∧ ∀ v l, PartOps (v, l, tl) (eo ++ [(if tl.1 = 0 then 0 else 2, v, l, 0, 0)])
/-- its place among the names: m names before it, m1 behind it -/
def WFE (K : Int → Prop) (m : Int) (tl : Tl) (m1 : Int) : Prop := (tl.1 = 0 ∨ (1 ≤ tl.2.2.2.2.1 ∧ tl.2.2.2.2.1 ≤ tl.2.2.2.2.2 ∧ tl.2.2.2.2.2 ≤ 4)) ∧ (((tl.1 = 0 ∨ tl.2.1 = -1) ∧ m1 = m) ∨ (tl.1 ≠ 0 ∧ tl.2.1 = m ∧ K m ∧ m1 = m + 1 ∧ tl.2.2.2.2.1 = 1 ∧ tl.2.2.2.2.2 = 1))
theorem wfp_one {K : Int → Prop} {m m1 m2 v l : Int} {tl : Tl} (h0 : 0 ≤ m) (h : WFE K m tl m1) (h2 : (v = -1 ∧ m2 = m1) ∨ (0 ≤ v ∧ v < m1 ∧ ¬ K v ∧ m2 = m1) ∨ (v = m1 ∧ ¬ K m1 ∧ m2 = m1 + 1)) : WFp K m [(v, l, tl)] m2 := by
  refine ⟨h0, m1, m2, h.1, h.2, h2, rfl, ?_⟩
  rcases h.2 with ⟨-, w⟩ | ⟨-, -, -, w, -⟩ <;> omega
theorem pnd0 {σ : AS} : PndE σ 0 tl0 [] := ⟨fun v l => Or.inl ⟨rfl, rfl⟩, fun v l => Or.inl ⟨rfl, rfl⟩⟩
theorem PndE.pf {N0 : Int} {σ σ' : AS} {e : Int} {tl : Tl} {eo : List Op} (h : PndE σ e tl eo) (hF : PF N0 σ σ') : PndE σ' e tl eo := ⟨fun v l => (h.1 v l).pf hF, h.2⟩
/-- the pattern so far -/
def OKP (T : List Int) (N0 : Int) (σ : AS) (τ : TT) (q : Int) (S : PS) (ps : List Part) (ops : List Op) : Prop :=
  OKA T N0 σ τ q S ∧ PsAt σ (S.2 0) (S.2 1) ps ∧ (ps.length ≤ 12 ∧ τ 1022 29 = ps.length) ∧ (ld σ 1007 2 = τ 1022 30 ∧ 0 ≤ τ 1022 30 ∧ τ 1022 30 ≤ 8) ∧ (S.2 2 = [] ∧ S.2 3 = [] ∧ S.2 4 = [])
