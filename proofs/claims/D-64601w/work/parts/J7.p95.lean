/-! PARTS on the heap, ops of the twin -/
set_option maxRecDepth 100000
theorem getD_snocG {γ : Type} {L : List γ} {b d : γ} {i : Nat} (h : i < L.length + 1) : (L ++ [b]).getD i d = if i = L.length then b else L.getD i d := by
  by_cases c : i = L.length
  · rw [if_pos c, c, List.getD_eq_getElem?_getD, List.getElem?_append_right (Nat.le_refl _), Nat.sub_self]; rfl
  · rw [if_neg c, List.getD_eq_getElem?_getD, List.getD_eq_getElem?_getD, List.getElem?_append_left (by omega)]
def op0 : Op := (0, 0, 0, 0, 0)
def OpT (τ : TT) (ops : List Op) : Prop := τ 1022 32 = ops.length ∧ ∀ i : Nat, i < ops.length → τ 1037 (5 * i) = (ops.getD i op0).1 ∧ τ 1037 (5 * i + 1) = (ops.getD i op0).2.1 ∧ τ 1037 (5 * i + 2) = (ops.getD i op0).2.2.1 ∧ τ 1037 (5 * i + 3) = (ops.getD i op0).2.2.2.1 ∧ τ 1037 (5 * i + 4) = (ops.getD i op0).2.2.2.2
def OpF (τ τ' : TT) : Prop := ∀ r j, r ≠ 1037 → ¬ (r = 1022 ∧ j = 32) → τ' r j = τ r j
theorem OpT.congr {τ τ' : TT} {ops : List Op} (h : OpT τ ops) (h1 : τ' 1022 32 = τ 1022 32) (h2 : ∀ j, τ' 1037 j = τ 1037 j) : OpT τ' ops :=
  ⟨h1.trans h.1, fun i hi => by rw [h2, h2, h2, h2, h2]; exact h.2 i hi⟩
theorem op_eq {τ : TT} {ops : List Op} {a b c d e : Int} (h : OpT τ ops) (hl : ops.length < 60) : ∃ τ', g_X7_op 1022 a b c d e τ = some τ' ∧ OpT τ' (ops ++ [(a, b, c, d, e)]) ∧ OpF τ τ' := by
  obtain ⟨h1, h2⟩ := h
  unfold g_X7_op
  rw [h1, gI_pos (by omega), nm_eq, gd_pos ⟨by omega, by omega⟩, nm_eq, gI_pos (by omega), gd_pos ⟨by omega, by omega⟩, nm_eq, gI_pos (by omega), gd_pos ⟨by omega, by omega⟩, nm_eq, gI_pos (by omega), gd_pos ⟨by omega, by omega⟩, nm_eq, gI_pos (by omega), gd_pos ⟨by omega, by omega⟩, nm_eq]
  have e32 : sa (sa (sa (sa (sa τ 1037 (5 * (ops.length : Int)) a) 1037 (5 * (ops.length : Int) + 1) b) 1037 (5 * (ops.length : Int) + 2) c) 1037 (5 * (ops.length : Int) + 3) d) 1037 (5 * (ops.length : Int) + 4) e 1022 32 = ops.length := by
    rw [sa_at, if_neg (by omega), sa_at, if_neg (by omega), sa_at, if_neg (by omega), sa_at, if_neg (by omega), sa_at, if_neg (by omega)]; exact h1
  rw [e32, gI_pos (by omega), nm_eq]
  refine ⟨_, rfl, ⟨?_, fun i hi => ?_⟩, fun r j hr hj => ?_⟩
  · rw [sa_at, if_pos ⟨rfl, rfl⟩]; simp
  · have hi' : i < ops.length + 1 := by simpa using hi
    rw [getD_snocG hi']
    by_cases z : i = ops.length
    · subst z
      rw [if_pos rfl]
      refine ⟨?_, ?_, ?_, ?_, ?_⟩
      · rw [sa_at, if_neg (by omega), sa_at, if_neg (by omega), sa_at, if_neg (by omega), sa_at, if_neg (by omega), sa_at, if_neg (by omega), sa_at, if_pos ⟨rfl, rfl⟩]
      · rw [sa_at, if_neg (by omega), sa_at, if_neg (by omega), sa_at, if_neg (by omega), sa_at, if_neg (by omega), sa_at, if_pos ⟨rfl, rfl⟩]
      · rw [sa_at, if_neg (by omega), sa_at, if_neg (by omega), sa_at, if_neg (by omega), sa_at, if_pos ⟨rfl, rfl⟩]
      · rw [sa_at, if_neg (by omega), sa_at, if_neg (by omega), sa_at, if_pos ⟨rfl, rfl⟩]
      · rw [sa_at, if_neg (by omega), sa_at, if_pos ⟨rfl, rfl⟩]
    · rw [if_neg z]
      have o : ∀ j : Int, j < 5 * (ops.length : Int) → sa (sa (sa (sa (sa (sa τ 1037 (5 * (ops.length : Int)) a) 1037 (5 * (ops.length : Int) + 1) b) 1037 (5 * (ops.length : Int) + 2) c) 1037 (5 * (ops.length : Int) + 3) d) 1037 (5 * (ops.length : Int) + 4) e) 1022 32 (ops.length + 1) 1037 j = τ 1037 j := fun j hj => by
        rw [sa_at, if_neg (by omega), sa_at, if_neg (by omega), sa_at, if_neg (by omega), sa_at, if_neg (by omega), sa_at, if_neg (by omega), sa_at, if_neg (by omega)]
      rw [o _ (by omega), o _ (by omega), o _ (by omega), o _ (by omega), o _ (by omega)]
      exact h2 i (by omega)
  · rw [sa_at, if_neg hj, sa_at, if_neg (fun w => hr w.1), sa_at, if_neg (fun w => hr w.1), sa_at, if_neg (fun w => hr w.1), sa_at, if_neg (fun w => hr w.1), sa_at, if_neg (fun w => hr w.1)]
/-! parts -/
def p0 : Part := (0, 0, 0, 0, 0, 0, 0, 0)
def NdAt (σ : AS) (r : Int) (p : Part) : Prop := kd σ r = 13 ∧ r < nx σ ∧ ld σ r 0 = pV p ∧ ld σ r 1 = pL p
def EdAt (σ : AS) (r : Int) (p : Part) : Prop := (pH p = 0 ∧ r = 0) ∨ ((pH p ≠ 0 ∧ 0 < r) ∧ kd σ r = 14 ∧ r < nx σ ∧ ld σ r 0 = pE p ∧ ld σ r 1 = pT p ∧ ld σ r 2 = pW p ∧ ld σ r 3 = pLo p ∧ ld σ r 4 = pHi p)
def PsAt (σ : AS) (L0 L1 : List Int) (ps : List Part) : Prop := L0.length = ps.length ∧ L1.length = ps.length ∧ ∀ i : Nat, i < ps.length → NdAt σ (L0.getD i 0) (ps.getD i p0) ∧ EdAt σ (L1.getD i 0) (ps.getD i p0)
theorem PF.old {N0 : Int} {σ σ' : AS} (h : PF N0 σ σ') {r : Int} (hr : r < nx σ) (hk : kd σ r = 13 ∨ kd σ r = 14 ∨ kd σ r = 15 ∨ kd σ r = 16 ∨ kd σ r = 17) : kd σ' r = kd σ r ∧ r < nx σ' ∧ ∀ j, ld σ' r j = ld σ r j := by
  have hn := h.1.1
  refine ⟨h.1.kd hr, by omega, fun j => (h.2.1 r hr (by unfold wkd; omega) j).resolve_right fun w => by omega⟩
theorem NdAt.pf {N0 : Int} {σ σ' : AS} {r : Int} {p : Part} (h : NdAt σ r p) (hF : PF N0 σ σ') : NdAt σ' r p := by
  obtain ⟨h1, h2, h3, h4⟩ := h
  obtain ⟨k1, k2, k3⟩ := hF.old h2 (Or.inl h1)
  exact ⟨k1.trans h1, k2, (k3 0).trans h3, (k3 1).trans h4⟩
theorem EdAt.pf {N0 : Int} {σ σ' : AS} {r : Int} {p : Part} (h : EdAt σ r p) (hF : PF N0 σ σ') : EdAt σ' r p := by
  rcases h with h | ⟨h0, h1, h2, h3, h4, h5, h6, h7⟩
  · exact Or.inl h
  · obtain ⟨k1, k2, k3⟩ := hF.old h2 (Or.inr (Or.inl h1))
    exact Or.inr ⟨h0, k1.trans h1, k2, (k3 0).trans h3, (k3 1).trans h4, (k3 2).trans h5, (k3 3).trans h6, (k3 4).trans h7⟩
theorem PsAt.pf {N0 : Int} {σ σ' : AS} {L0 L1 : List Int} {ps : List Part} (h : PsAt σ L0 L1 ps) (hF : PF N0 σ σ') : PsAt σ' L0 L1 ps :=
  ⟨h.1, h.2.1, fun i hi => ⟨(h.2.2 i hi).1.pf hF, (h.2.2 i hi).2.pf hF⟩⟩
theorem PsAt.snoc {σ : AS} {L0 L1 : List Int} {ps : List Part} {r e : Int} {p : Part} (h : PsAt σ L0 L1 ps) (h1 : NdAt σ r p) (h2 : EdAt σ e p) : PsAt σ (L0 ++ [r]) (L1 ++ [e]) (ps ++ [p]) := by
  obtain ⟨a1, a2, a3⟩ := h
  refine ⟨by simp [a1], by simp [a2], fun i hi => ?_⟩
  have hi' : i < ps.length + 1 := by simpa using hi
  rw [getD_snocG (L := L0) (by omega), getD_snocG (L := L1) (by omega), getD_snocG hi', a1, a2]
  by_cases c : i = ps.length
  · rw [if_pos c, if_pos c, if_pos c]; exact ⟨h1, h2⟩
  · rw [if_neg c, if_neg c, if_neg c]; exact a3 i (by omega)
