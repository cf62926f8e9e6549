/-! THE PARSER'S SHAPE, in both modes -/
set_option maxRecDepth 100000
abbrev PS : Type := (List Int × (Int → List Int)) × (Nat → List Int)
def lref (N0 : Int) (i : Nat) : Int := if i = 0 then N0 + 1 else if i = 1 then N0 + 2 else N0 + 3 + i
def updF (F : Nat → List Int) (i : Nat) (v : Int) : Nat → List Int := fun j => if j = i then F j ++ [v] else F j
def LsOk (σ : AS) (N0 : Int) (F : Nat → List Int) : Prop := ∃ (t : Nat → Int) (Ow : Int → Nat), ∀ i, i < 5 → AlOk σ (lref N0 i) (t i) (F i) ∧ (kd σ (t i) = 105 → Ow (t i) = i ∧ N0 < t i)
theorem lref_inj {N0 : Int} {i j : Nat} (h : i < 5) (h' : j < 5) (e : lref N0 i = lref N0 j) : i = j := by
  unfold lref at e
  split at e <;> split at e <;> (try split at e) <;> (try split at e) <;> omega
theorem lref_rng {N0 : Int} {i : Nat} (h : i < 5) : N0 < lref N0 i ∧ lref N0 i ≤ N0 + 7 ∧ lref N0 i ≠ N0 + 3 ∧ lref N0 i ≠ N0 + 4 := by
  unfold lref
  split
  · omega
  split <;> omega
section SH
variable {σ σ0 σ' : AS} {n : Nat} {N0 U0 z k q q' c p v : Int} {T : List Int} {S : PS} {F : Nat → List Int} {X : Int → Prop}
theorem LsOk.frame (h : LsOk σ N0 F) (hF : Fr X σ σ') (hX : ∀ r, r < nx σ → X r → kd σ r ≠ 31 ∧ kd σ r ≠ 105) : LsOk σ' N0 F := by
  obtain ⟨t, Ow, h⟩ := h
  refine ⟨t, Ow, fun i hi => ?_⟩
  obtain ⟨h1, h2⟩ := h i hi
  have hkt : kd σ' (t i) = 105 → kd σ (t i) = 105 := fun w => by
    rcases h1.2.2.2.2.2.2.2.1 with y | y
    · rw [y.1, hF.kd h1.2.2.2.2.2.2.1.2.2, h1.2.2.2.2.2.2.1.1] at w; exact absurd w (by decide)
    · exact y.1
  refine ⟨h1.frame hF (fun w => (hX _ h1.2.1 w).1 h1.1) (fun w y => ?_), fun w => h2 (hkt w)⟩
  rcases h1.2.2.2.2.2.2.2.1 with u | u
  · rw [u.1, h1.2.2.2.2.2.2.1.1] at w; exact absurd w (by decide)
  · exact (hX _ u.2.2.2.2 y).2 w
theorem LsOk.add {i : Nat} (h : LsOk σ N0 F) (hi : i < 5) (hl : (F i).length < 20) (hv : elQ σ v) (hN : N0 < nx σ) : Wp (f_J32_add (lref N0 i) v σ) fun y => LsOk y.2 N0 (updF F i v) ∧ nx y.2 ≤ nx σ + 1 ∧ us y.2 ≤ us σ + 30 ∧ Fr (fun r => N0 < r ∧ (kd σ r = 31 ∨ kd σ r = 105)) σ y.2 := by
  obtain ⟨t, Ow, h⟩ := h
  obtain ⟨h1, h2⟩ := h i hi
  refine wp_mono (list_add h1 hl hv) fun y hy => ?_
  obtain ⟨t', g1, g2, g3, g4, g5, g6⟩ := hy
  have hlr := lref_rng (N0 := N0) hi
  have hnn := g6.1
  refine ⟨⟨fun j => if j = i then t' else t j, fun r => if r = t' then i else Ow r, fun j hj => ?_⟩, g4, g5, g6.sub fun r _ w => ?_⟩
  · by_cases e : j = i
    · subst e
      refine ⟨?_, fun _ => ?_⟩
      · show AlOk y.2 (lref N0 j) (if j = j then t' else t j) (if j = j then F j ++ [v] else F j)
        rw [if_pos rfl, if_pos rfl]; exact g1
      · show (if (if j = j then t' else t j) = t' then j else Ow _) = j ∧ N0 < (if j = j then t' else t j)
        rw [if_pos rfl, if_pos rfl]
        refine ⟨rfl, ?_⟩
        rcases g2 with w | w
        · have := h2 (by
            rw [← w]
            rcases h1.2.2.2.2.2.2.2.1 with u | u
            · exfalso
              have h9 := g6.kd (r := t') (by rw [w, u.1]; exact h1.2.2.2.2.2.2.1.2.2)
              rw [g3, w, u.1, h1.2.2.2.2.2.2.1.1] at h9
              exact absurd h9 (by decide)
            · rw [w]; exact u.1)
          omega
        · omega
    · obtain ⟨k1, k2⟩ := h j hj
      show AlOk y.2 (lref N0 j) (if j = i then t' else t j) (if j = i then F j ++ [v] else F j) ∧ (kd y.2 (if j = i then t' else t j) = 105 → (if (if j = i then t' else t j) = t' then i else Ow (if j = i then t' else t j)) = j ∧ N0 < (if j = i then t' else t j))
      rw [if_neg e, if_neg e]
      have hne : lref N0 j ≠ lref N0 i := fun w => e (lref_inj hj hi w)
      have tne : kd σ (t j) = 105 → t j ≠ t i := fun w y => by
        have a1 := (k2 w).1
        have a2 := (h2 (by rw [← y]; exact w)).1
        rw [y] at a1
        exact e (a1.symm.trans a2)
      have tjn : t j < nx σ := by
        rcases k1.2.2.2.2.2.2.2.1 with u | u
        · have := k1.2.2.2.2.2.2.1.2.2; omega
        · exact u.2.2.2.2
      have tkd : kd y.2 (t j) = kd σ (t j) := g6.kd tjn
      refine ⟨k1.frame g6 (fun w => ?_) (fun w w2 => ?_), fun w => ?_⟩
      · have w' : lref N0 j = lref N0 i ∨ (lref N0 j = t i ∧ kd σ (t i) = 105) := w
        rcases w' with w' | ⟨w', w''⟩
        · exact hne w'
        · have := k1.1
          rw [w', w''] at this
          exact absurd this (by decide)
      · have w' : t j = lref N0 i ∨ (t j = t i ∧ kd σ (t i) = 105) := w2
        rcases w' with w' | ⟨w', w''⟩
        · rw [w', h1.1] at w; exact absurd w (by decide)
        · exact tne w w'
      · rw [tkd] at w
        have hk := k2 w
        have : t j ≠ t' := fun u => by
          rcases g2 with v' | v'
          · exact tne w (u.trans v')
          · omega
        rw [if_neg this]
        exact hk
  · have w' : r = lref N0 i ∨ (r = t i ∧ kd σ (t i) = 105) := w
    show N0 < r ∧ (kd σ r = 31 ∨ kd σ r = 105)
    rcases w' with w' | ⟨w', w''⟩
    · rw [w']; exact ⟨by omega, Or.inl h1.1⟩
    · rw [w']; exact ⟨(h2 w'').2, Or.inr w''⟩
theorem LsOk.size {i : Nat} (h : LsOk σ N0 F) (hi : i < 5) : f_J32_size (lref N0 i) σ = some (((F i).length : Int), σ) := by
  obtain ⟨t, Ow, h⟩ := h
  obtain ⟨h1, h2⟩ := h i hi
  unfold f_J32_size
  rw [gd_pos h1.1, h1.2.2.2.1]
theorem MpOk.frame {mp : Int} {E : List Int} {W : Int → List Int} (h : MpOk σ mp E W) (hF : Fr X σ σ') (hX : ∀ r, r < nx σ → X r → kd σ r ≠ 24 ∧ kd σ r ≠ 102 ∧ kd σ r ≠ 32 ∧ kd σ r ≠ 33 ∧ kd σ r ≠ 108) : MpOk σ' mp E W := by
  obtain ⟨a1, a2, a3, a4, a5, a6, a7, a8, a9, a10, a11⟩ := h
  have hn := hF.1
  have nm : ¬ X mp := fun w => (hX mp a7 w).2.2.1 a1
  refine ⟨by rw [hF.kd a7]; exact a1, by rw [hF.ld a7 nm]; exact a2, by rw [hF.ld a7 nm]; exact a3, by rw [hF.ld a7 nm]; exact a4, a5, fun e he => ?_, by omega, fun i hi => ?_, ?_, a10, ?_⟩
  · obtain ⟨⟨k1, k2, k3, k4, k5⟩, k6, k7, k8⟩ := a6 e he
    have ne : ¬ X e := fun w => (hX e k6 w).2.2.2.1 k1
    have e1 : ld σ' e 1 = ld σ e 1 := hF.ld k6 ne 1
    refine ⟨⟨by rw [hF.kd k6]; exact k1, ?_, ?_, ?_, k5⟩, by omega, by rw [e1]; omega, k8⟩
    · rw [e1]
      exact k2.frame hF k7 (fun w => (hX _ (by omega) w).1 k2.2.1.1) (fun w => (hX _ k7 w).2.1 k2.2.1.2)
    · rw [e1]; exact k3
    · rw [hF.ld k6 ne]; exact k4
  · have hm : E.getD i 0 ∈ E := by
      rw [List.getD_eq_getElem?_getD, List.getElem?_eq_getElem hi]; exact List.getElem_mem _
    obtain ⟨⟨k1, -⟩, k6, -⟩ := a6 _ hm
    rw [hF.ld k6 (fun w => (hX _ k6 w).2.2.2.1 k1)]; exact a8 i hi
  · rw [hF.ld a7 nm]
    rcases a9 with w | ⟨w1, w2⟩
    · exact Or.inl w
    · exact Or.inr ⟨by rw [hF.kd w2.1]; exact w1, by omega, w2.2⟩
  · rw [hF.ld a7 nm, hF.ld a7 nm]
    rcases a11 with w | ⟨w1, w2, w3, w4, w5, w6⟩
    · exact Or.inl w
    · have nt : ¬ X (ld σ mp 0) := fun w => (hX _ w4.1 w).2.2.2.2 w2
      refine Or.inr ⟨w1, by rw [hF.kd w4.1]; exact w2, by rw [hF.ln w4.1]; exact w3, by omega, w5, fun b h1 h2 => ?_⟩
      rw [hF.ld w4.1 nt]
      refine (w6 b h1 h2).congr fun a ha => ?_
      obtain ⟨⟨k1, -⟩, k6, -⟩ := a6 a (List.mem_filter.mp ha).1
      exact ⟨hF.kd k6, hF.ld k6 (fun w => (hX _ k6 w).2.2.2.1 k1) 3⟩
theorem LxC.frame (h : LxC σ 1008 T q) (hF : Fr X σ σ') (hX : ∀ r, r < nx σ → X r → kd σ r ≠ 19 ∧ kd σ r ≠ 24 ∧ kd σ r ≠ 102) : LxC σ' 1008 T q := by
  obtain ⟨h1, h2, h3, h4, h5, h6, h7⟩ := h
  have hx := h1.2.2.2.2.2.1
  have nX : ¬ X 1008 := fun w => (hX _ hx w).1 h1.1
  have e : ∀ j, ld σ' 1008 j = ld σ 1008 j := fun j => hF.ld hx nX j
  have hn := hF.1
  refine ⟨h1.keep hF (fun j _ => e j) (fun w => (hX _ h1.2.2.2.2.2.2.1 w).2.2 h1.2.2.1), by rw [e]; exact h2, by rw [e]; exact h3, by rw [e]; exact h4, fun w => by rw [e]; exact h5 w, fun w1 w2 w3 => ?_, h7⟩
  obtain ⟨s1, s2⟩ := h6 w1 w2 w3
  rw [e]
  exact ⟨s1.frame hF s2 (fun w => (hX _ (by omega) w).2.1 s1.2.1.1) (fun w => (hX _ s2 w).2.2 s1.2.1.2), by omega⟩
end SH
