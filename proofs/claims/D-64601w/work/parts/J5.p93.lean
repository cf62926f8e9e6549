/-! SIDE BY SIDE: a node's name -/
set_option maxRecDepth 100000
/-- in the pattern: the kinds of the names -/
def KR (N0 : Int) (σ : AS) (τ : TT) (m : Nat) : Prop := ∀ i : Nat, i < 8 → (i < m → (τ 1036 i = 1 ∨ τ 1036 i = 2) ∧ ld σ (N0 + 4) i = (if τ 1036 i = 2 then 1 else 0)) ∧ (m ≤ i → ld σ (N0 + 4) i = 0)
def OKA (T : List Int) (N0 : Int) (σ : AS) (τ : TT) (q : Int) (S : PS) : Prop := OKB T σ τ q S ∧ KR N0 σ τ S.1.1.length
def Fl (T : List Int) (N0 U0 : Int) (z k : Int) (σ : AS) (τ : TT) : Prop := ∃ S, FlR T N0 U0 z k S σ τ
/-- what a name's step writes in the component -/
def EfW (N0 : Int) (σ σ' : AS) : Prop := PF N0 σ σ' ∧ (∀ j, ld σ' N0 j = ld σ N0 j) ∧ ld σ' 1007 2 = ld σ 1007 2 ∧ (ld σ' 1007 5 = 0 → ld σ 1007 5 = 0)
theorem EfW.rf {N0 : Int} {σ : AS} : EfW N0 σ σ := ⟨PF.rf, fun _ => rfl, rfl, fun w => w⟩
theorem EfW.trans {N0 : Int} {σ σ1 σ2 : AS} (h : EfW N0 σ σ1) (h' : EfW N0 σ1 σ2) : EfW N0 σ σ2 := ⟨h.1.trans h'.1, fun j => (h'.2.1 j).trans (h.2.1 j), h'.2.2.1.trans h.2.2.1, fun w => h.2.2.2 (h'.2.2.2 w)⟩
theorem Eff.w {N0 : Int} {σ σ' : AS} (h : Eff N0 σ σ') : EfW N0 σ σ' := ⟨h.1, h.2.2.1, h.2.2.2.1, fun w => by rw [← h.2.2.2.2.1]; exact w⟩
/-- the name that was read: none, an old one, a new one -/
def NdR (a : Int) (S S' : PS) (σ' : AS) (τ τ' : TT) (v : Int) : Prop := S'.2 = S.2 ∧ τ' 1022 41 = v ∧
  ((v = -1 ∧ S' = S ∧ ∀ i, τ' 1036 i = τ 1036 i) ∨
   (∃ i : Nat, v = i ∧ i < S.1.1.length ∧ S' = S ∧ (∀ j, τ' 1036 j = τ 1036 j) ∧ (ld σ' 1007 5 = 0 → a = 1 ∧ τ 1036 i = 1)) ∨
   (v = S.1.1.length ∧ S.1.1.length < 8 ∧ S'.1.1.length = S.1.1.length + 1 ∧ τ' 1036 v = a ∧ ∀ j, j ≠ v → τ' 1036 j = τ 1036 j))
noncomputable def ndNm (n : Nat) (K : Int → AS → Option AS) (l0 : Int) (σ36 : AS) : Option AS :=
  gd (kd σ36 l0 = 18) <|
  if (ld σ36 l0 3) = 0 then (
    gd (kd σ36 l0 = 18) <|
    gd (kd σ36 (ld σ36 l0 0) = 19) <|
    gdc (cmpOk σ36 (ld σ36 (ld σ36 l0 0) 4) 125) <|
    if (ld σ36 (ld σ36 l0 0) 4) = 125 then (
      gd (kd σ36 l0 = 18) <|
      gd (kd σ36 (ld σ36 l0 0) = 19) <|
      nm (ld σ36 (ld σ36 l0 0) 2) fun u46 =>
      gd (kd σ36 l0 = 18) <|
      gd (kd σ36 (ld σ36 l0 1) = 12) <|
      gd (kd σ36 (ld σ36 (ld σ36 l0 1) 2) = 32) <|
      c1 (f_J33_size (ld σ36 (ld σ36 l0 1) 2) σ36) fun v51 σ52 =>
      gd (kd σ52 l0 = 18) <|
      c1 (f_X3_name n l0 σ52) fun v55 σ56 =>
      gd (kd σ56 l0 = 18) <|
      if (ld σ56 l0 3) = 0 then (
        if v51 ≤ v55 then (
          K v55 σ56)
        else (
          gd (kd σ56 l0 = 18) <|
          gd (kd σ56 (ld σ56 l0 1) = 12) <|
          gd (kd σ56 (ld σ56 (ld σ56 l0 1) 3) = 103 ∧ (0 : Int) ≤ v55 ∧ v55 < ln σ56 (ld σ56 (ld σ56 l0 1) 3)) <|
          if (ld σ56 (ld σ56 (ld σ56 l0 1) 3) v55) = 0 then (
            K v55 σ56)
          else (
            gd (kd σ56 l0 = 18) <|
            c0 (f_X3_means l0 4 u46 σ56) fun σ67 =>
            K v55 σ67)))
      else (
        K v55 σ56))
    else (
      K (-1) σ36))
  else (
    K (-1) σ36)
theorem node_32_eq {n : Nat} {l0 l1 : Int} {σ : AS} : f_X3_node_32 n l0 l1 σ = gd (kd σ l0 = 18) (c0 (f_X3_need n l0 17 σ) fun σ36 => ndNm n (fun v s => f_X3_node_116 n l0 l1 v s) l0 σ36) := rfl
section JNM
variable {α β : Type} {R : α → β → Prop} {σ σ0 σ' : AS} {τ : TT} {n : Nat} {N0 U0 z k q q' c p v r C lo hi : Int} {T : List Int} {S : PS}
/-- the next token on the twin's side, joined to the component -/
theorem join_next {w : Int × TT} {S' : PS} (h' : ShP T N0 U0 σ' z k (nxq T q) S') (h0 : ld σ' 1007 3 = 0) (hw : NxR T (nxq T q) w) (hT : TpT w.2 T) (hL : Lt σ' w.2 (nxq T q)) (hN : NmT w.2 T (S'.1.1.map S'.1.2)) : (w.1 = 1 ∧ OKB T σ' w.2 (nxq T q) S') ∨ (w.1 = 0 ∧ Fl T N0 U0 z k σ' w.2) := by
  rcases hw with ⟨w1, w2⟩ | ⟨w1, w2, w3, w4⟩
  · exact Or.inl ⟨w1, h0, w2, hT, hL, hN⟩
  · exact Or.inr ⟨w1, S', nxq T q, h', Or.inr ⟨h0, w2, w3, w4.symm⟩⟩
theorem Lt.le {q1 : Int} (h : Lt σ τ q) (hq : q ≤ q1) : Lt σ τ q1 := by
  rcases h with u | ⟨u1, u2, u3, u4⟩
  · exact Or.inl u
  · exact Or.inr ⟨u1, u2, u3, by omega⟩
theorem Lt.congr {τ' : TT} (h : Lt σ τ q) (h5 : ld σ' 1007 5 = ld σ 1007 5) (h6 : ld σ' 1007 6 = ld σ 1007 6) (h27 : τ' 1022 27 = τ 1022 27) (h28 : τ' 1022 28 = τ 1022 28) : Lt σ' τ' q := by
  unfold Lt
  rw [h5, h6, h27, h28]
  exact h
/-- both note a misuse at q -/
theorem Lt.both (h : Lt σ τ q) (hq : q < 100000) (hc : c ≠ 0) (h1 : ld σ 1007 5 = 0 → ld σ' 1007 5 = c ∧ ld σ' 1007 6 = q) (h2 : ld σ 1007 5 ≠ 0 → σ' = σ) : Lt σ' (wrg τ c q) q ∧ ld σ' 1007 5 ≠ 0 := by
  rcases h with ⟨u1, u2⟩ | ⟨u1, u2, u3, u4⟩
  · obtain ⟨g1, g2⟩ := h1 u1
    refine ⟨Or.inr ?_, by omega⟩
    unfold wrg
    rw [if_neg (by omega)]
    simp [sa_at, g1, g2, hc]
  · have := h2 (by omega)
    subst this
    refine ⟨Or.inr ?_, by omega⟩
    unfold wrg
    rw [if_pos u4]
    exact ⟨u1, u2, u3, u4⟩
/-- what the twin's nameOf leaves of an old name -/
theorem no_old {X τ' : TT} {NL : List (List Int)} {i : Nat} (hX : ∀ r j, ¬ (r = 1022 ∧ (j = 27 ∨ j = 28 ∨ j = 41)) → X r j = τ r j) (hL : LxF (sa (sa X 1036 i (τ 1036 i)) 1022 41 i) τ') : τ' 1022 41 = i ∧ (∀ j, τ' 1036 j = τ 1036 j) ∧ NoF τ τ' ∧ (TpT τ T → TpT τ' T) ∧ (NmT τ T NL → NmT τ' T NL) ∧ τ' 1022 27 = X 1022 27 ∧ τ' 1022 28 = X 1022 28 := by
  have e : ∀ r j : Int, ¬ (r = 1022 ∧ ((17 ≤ j ∧ j ≤ 22) ∨ (26 ≤ j ∧ j ≤ 28) ∨ j = 41)) → τ' r j = τ r j := fun r j h => by
    rw [hL r j (fun w => h ⟨w.1, Or.inl w.2⟩), sa_at, if_neg (fun w => h ⟨w.1, Or.inr (Or.inr w.2)⟩), sa_at]
    by_cases c : r = 1036 ∧ j = i
    · rw [if_pos c, c.1, c.2]
    · rw [if_neg c]; exact hX r j (fun w => h ⟨w.1, by omega⟩)
  have e26 : τ' 1022 26 = τ 1022 26 := by
    rw [hL 1022 26 (by omega), sa_at, if_neg (by omega), sa_at, if_neg (by omega)]
    exact hX _ _ (by omega)
  have e16 : τ' 1022 16 = τ 1022 16 := e _ _ (by omega)
  refine ⟨?_, fun j => e _ _ (by omega), fun r j h h' => e r j h, fun hT => ⟨e16.trans hT.1, fun j hj => (e _ _ (by omega)).trans (hT.2 j hj)⟩, fun hN => hN.congr e26 fun j => ⟨e _ _ (by omega), e _ _ (by omega)⟩, ?_, ?_⟩
  · rw [hL 1022 41 (by omega), sa_at, if_pos ⟨rfl, rfl⟩]
  · rw [hL 1022 27 (by omega), sa_at, if_neg (by omega), sa_at, if_neg (by omega)]
  · rw [hL 1022 28 (by omega), sa_at, if_neg (by omega), sa_at, if_neg (by omega)]
/-- what it leaves of a new name -/
theorem no_new {τ' : TT} {NL : List (List Int)} {a e : Int} (hN : NmT τ T NL) (hl : NL.length < 8) (h0 : 0 ≤ q ∧ q ≤ e) (he : e ≤ T.length) (hL : LxF (sa (sa (addT (sa τ 1022 41 (-1)) NL.length q e) 1036 NL.length a) 1022 41 NL.length) τ') : τ' 1022 41 = NL.length ∧ τ' 1036 NL.length = a ∧ (∀ j : Int, j ≠ NL.length → τ' 1036 j = τ 1036 j) ∧ NoF τ τ' ∧ (TpT τ T → TpT τ' T) ∧ NmT τ' T (NL ++ [slc T q e]) ∧ τ' 1022 27 = τ 1022 27 ∧ τ' 1022 28 = τ 1022 28 := by
  have hA := (hN.congr (τ' := sa τ 1022 41 (-1)) (by rw [sa_at, if_neg (by omega)]) fun i => ⟨by rw [sa_at, if_neg (by omega)], by rw [sa_at, if_neg (by omega)]⟩).add hl h0 he
  have e1 : ∀ r j : Int, ¬ (r = 1022 ∧ ((17 ≤ j ∧ j ≤ 22) ∨ j = 41)) → ¬ (r = 1036 ∧ j = NL.length) → τ' r j = addT (sa τ 1022 41 (-1)) NL.length q e r j := fun r j h h' => by
    rw [hL r j (fun w => h ⟨w.1, Or.inl w.2⟩), sa_at, if_neg (fun w => h ⟨w.1, Or.inr w.2⟩), sa_at, if_neg h']
  have e2 : ∀ r j : Int, ¬ (r = 1022 ∧ (j = 26 ∨ j = 41)) → ¬ (1034 ≤ r ∧ r ≤ 1036 ∧ j = NL.length) → addT (sa τ 1022 41 (-1)) NL.length q e r j = τ r j := fun r j h h' => by
    unfold addT
    rw [sa_at, if_neg (by omega), sa_at, if_neg (by omega), sa_at, if_neg (by omega), sa_at, if_neg (by omega), sa_at, if_neg (by omega)]
  refine ⟨?_, ?_, fun j hj => ?_, fun r j h h' => ?_, fun hT => ⟨?_, fun j hj => ?_⟩, hA.congr (e1 _ _ (by omega) (by omega)) fun i => ⟨e1 _ _ (by omega) (by omega), e1 _ _ (by omega) (by omega)⟩, ?_, ?_⟩
  · rw [hL 1022 41 (by omega), sa_at, if_pos ⟨rfl, rfl⟩]
  · rw [hL 1036 _ (by omega), sa_at, if_neg (by omega), sa_at, if_pos ⟨rfl, rfl⟩]
  · rw [e1 _ _ (by omega) (by omega), e2 _ _ (by omega) (by omega)]
  · rw [e1 _ _ (by omega) (by omega), e2 _ _ (by omega) (by omega)]
  · rw [e1 _ _ (by omega) (by omega), e2 _ _ (by omega) (by omega)]; exact hT.1
  · rw [e1 _ _ (by omega) (by omega), e2 _ _ (by omega) (by omega)]; exact hT.2 j hj
  · rw [e1 _ _ (by omega) (by omega), e2 _ _ (by omega) (by omega)]
  · rw [e1 _ _ (by omega) (by omega), e2 _ _ (by omega) (by omega)]
end JNM
