/-! A NODE IS ADDED -/
set_option maxRecDepth 100000
section ND
variable {σ σ0 σ' : AS} {τ : TT} {n : Nat} {N0 U0 z k q q' c p v r C lo hi l1 l2 s0 : Int} {T : List Int} {S : PS}
/-- the stretch of node_137 behind need -/
noncomputable def ndAdd (l0 l1 l2 s0 : Int) (σ3 : AS) : Option AS :=
  gd (kd σ3 l0 = 18) <|
  gd (kd σ3 (ld σ3 l0 1) = 12) <|
  nm (nx σ3) fun r7 =>
  nm (al σ3 13 0 2) fun σ9 =>
  gd (r7 ≠ 0) <|
  c0 (f_X19_init r7 l2 s0 σ9) fun σ13 =>
  gd (kd σ13 (ld σ3 (ld σ3 l0 1) 0) = 31) <|
  c1 (f_J32_add (ld σ3 (ld σ3 l0 1) 0) r7 σ13) fun v16 σ17 =>
  gd (kd σ17 l0 = 18) <|
  gd (kd σ17 (ld σ17 l0 1) = 12) <|
  gd (kd σ17 (ld σ17 (ld σ17 l0 1) 1) = 31) <|
  c1 (f_J32_add (ld σ17 (ld σ17 l0 1) 1) l1 σ17) fun v22 σ23 =>
  some σ23
theorem node_137_eq {l0 : Int} : f_X3_node_137 n l0 l1 l2 s0 σ = gd (kd σ l0 = 18) (c0 (f_X3_need n l0 21 σ) fun σ3 => ndAdd l0 l1 l2 s0 σ3) := rfl
theorem lsok_kd {F : Nat → List Int} {i : Nat} (h : LsOk σ N0 F) (hi : i < 5) : kd σ (lref N0 i) = 31 := by
  obtain ⟨t, Ow, h⟩ := h
  exact (h i hi).1.1
theorem ndAdd_wp {z' : Int} (h : ShP T N0 U0 σ z k q S) (he : elQ σ l1) (hz : z ≤ z') (h0 : ((S.2 0).length : Int) + 1 ≤ 12 + z') (h1 : ((S.2 1).length : Int) + 1 ≤ 12 + z') (hz7 : z' ≤ 7) : Wp (ndAdd 1007 l1 l2 s0 σ) fun σ' => ∃ r, ShP T N0 U0 σ' z' (k - 5) q (S.1, updF (updF S.2 0 r) 1 l1) ∧ Eff N0 σ σ' ∧ (∀ j, ld σ' 1007 j = ld σ 1007 j) ∧ kd σ' r = 13 ∧ r < nx σ' ∧ ld σ' r 0 = l2 ∧ ld σ' r 1 = s0 := by
  have h7 := h.2.2.2.2.1
  have hN := h.2.2.2.2.2.2.1
  have hNn := h.2.2.2.2.2.1
  have hsz := h.2.2.2.2.2.2.2.2.2.1
  obtain ⟨σ1, e1, k1, f0, f1, n1, u1, F1⟩ := new_node (a := l2) (b := s0) (show 0 < nx σ by omega)
  obtain ⟨S1, E1, J1⟩ := sh_fresh (cc := 1) h F1 (by omega) (by omega)
  have l00 : lref N0 0 = N0 + 1 := rfl
  have l01 : lref N0 1 = N0 + 2 := rfl
  unfold ndAdd
  refine wp_gd h7.1 ?_
  rw [h7.2.2.1]
  refine wp_gd hN.1 (wp_nm0 (wp_nm0 (wp_gd (by omega) (wp_c0e e1 ?_))))
  rw [hN.2.1 0 (by decide) (by decide), show N0 + 1 + 0 = lref N0 0 by rw [l00]; omega]
  have L1 := S1.2.2.2.2.2.2.2.1
  refine wp_gd (lsok_kd L1 (by decide)) (wp_c1 (wp_mono (sh_add (i := 0) (v := nx σ) (z' := z') S1 (by decide) (Or.inr ⟨by omega, by omega, by omega⟩) (by omega) hz ?_) fun y hy => ?_))
  · unfold updF
    simp
    omega
  obtain ⟨S2, E2, J2⟩ := hy
  have g7 := S2.2.2.2.2.1
  have gN := S2.2.2.2.2.2.2.1
  refine wp_gd g7.1 ?_
  rw [g7.2.2.1]
  refine wp_gd gN.1 ?_
  rw [gN.2.1 1 (by decide) (by decide), show N0 + 1 + 1 = lref N0 1 by rw [l01]; omega]
  have L2 := S2.2.2.2.2.2.2.2.1
  have he2 : elQ y.2 l1 := (he.frame F1).frame E2.1.1
  refine wp_gd (lsok_kd L2 (by decide)) (wp_c1 (wp_mono (sh_add (i := 1) (v := l1) (z' := z') S2 (by decide) he2 ?_ (Int.le_refl _) ?_) fun y' hy' => wp_ok ?_))
  · show (updF S.2 0 (nx σ) 1).length < 20
    unfold updF
    simp
    omega
  · show ((updF (updF S.2 0 (nx σ)) 1 l1) 0).length ≤ 12 + z' ∧ _
    unfold updF
    simp
    omega
  obtain ⟨S3, E3, J3⟩ := hy'
  have hP : PF N0 σ1 y'.2 := E2.1.trans E3.1
  obtain ⟨m1, m2, m3⟩ := hP.old (r := nx σ) (by omega) (Or.inl k1)
  refine ⟨nx σ, ?_, (E1.trans E2).trans E3, fun j => (J3 j).trans ((J2 j).trans (J1 j)), m1.trans k1, m2, (m3 0).trans f0, (m3 1).trans f1⟩
  have : k + 1 - 3 - 3 = k - 5 := by omega
  rw [this] at S3
  exact S3
end ND
