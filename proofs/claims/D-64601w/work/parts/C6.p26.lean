/-! NEW THINGS: a node -/
set_option maxRecDepth 100000
section NN
variable {σ : AS} {Ow : F1} {p o v : Int}
theorem newNode_fin {m : Int} {σ1 σ3 σ6 σ' : AS} (p1 : 1054 ≤ p) (pm : p < m) (T15 : Fr (fun r => r = p ∨ r = m + 1 ∨ r = m + 3) σ1 σ') (T35 : Fr (fun r => r = p ∨ r = m + 3) σ3 σ') (T66 : Fr (fun r => r = p) σ6 σ') (g6 : kd σ1 m = 26) (g7 : ∀ j, ld σ1 m j = 0) (n1 : nx σ1 = m + 1) (n3 : nx σ3 = m + 3) (n6 : nx σ6 = m + 5) (i4 : ld σ3 (m + 1) 0 = m + 2) (i5 : NumOk σ3 (m + 1) []) (i6 : ln σ3 (m + 2) = 4) (j4 : ld σ6 (m + 3) 0 = m + 4) (j5 : NumOk σ6 (m + 3) []) (j6 : ln σ6 (m + 4) = 4) (w0 : ld σ' p 0 = m) (w2 : ld σ' p 2 = m + 1) (w3 : ld σ' p 3 = m + 3) (nf : nx σ' = m + 5) (kf : kd σ' p = 4) : ThOk σ' (owN Ow p m) p (fun _ => 0) (fun _ => False) (fun _ => False) 0 := by
  have o0 : owN Ow p m p = 8 * p + 7 := if_pos rfl
  have o1 : owN Ow p m m = 8 * p + 4 := by unfold owN; rw [if_neg (by omega), if_pos rfl]
  have o2 : owN Ow p m (m + 1) = 8 * p + 5 := by unfold owN; rw [if_neg (by omega), if_neg (by omega), if_pos rfl]
  have o3 : owN Ow p m (m + 2) = 8 * p + 2 := by unfold owN; rw [if_neg (by omega), if_neg (by omega), if_neg (by omega), if_pos rfl]
  have o4 : owN Ow p m (m + 3) = 8 * p + 6 := by unfold owN; rw [if_neg (by omega), if_neg (by omega), if_neg (by omega), if_neg (by omega), if_pos rfl]
  have o5 : owN Ow p m (m + 4) = 8 * p + 3 := by unfold owN; rw [if_neg (by omega), if_neg (by omega), if_neg (by omega), if_neg (by omega), if_neg (by omega), if_pos rfl]
  have NA : NumAt σ3 (owN Ow p m) (m + 1) (8 * p + 5) (8 * p + 2) (fun _ => False) := ⟨by omega, by omega, o2, by rw [i4]; omega, by rw [i4]; omega, by rw [i4]; exact o3, by rw [i4, i6]; decide, [], i5, List.Pairwise.nil, fun e => ⟨fun z => absurd z List.not_mem_nil, fun z => z.elim⟩⟩
  have NB : NumAt σ6 (owN Ow p m) (m + 3) (8 * p + 6) (8 * p + 3) (fun _ => False) := ⟨by omega, by omega, o4, by rw [j4]; omega, by rw [j4]; omega, by rw [j4]; exact o5, by rw [j4, j6]; decide, [], j5, List.Pairwise.nil, fun e => ⟨fun z => absurd z List.not_mem_nil, fun z => z.elim⟩⟩
  refine ⟨p1, by omega, o0, by rw [w0]; omega, by rw [w0]; omega, by rw [w0]; exact o1, ?_, fun i hi => absurd rfl hi, Or.inr ⟨kf, ?_, ?_⟩⟩
  · rw [w0]
    exact mapOk_none (by rw [T15.kd (by omega)]; exact g6) fun j => by rw [T15.ld (by omega) (fun z => by omega)]; exact g7 j
  · rw [w2]
    refine NA.frame T35 (fun _ _ => rfl) fun r x z => ?_
    rcases z with z | z
    · rw [z, o0]; omega
    · rw [z, o4]; omega
  · rw [w3]
    refine NB.frame T66 (fun _ _ => rfl) fun r x z => ?_
    have z' : r = p := z
    rw [z', o0]; omega
/-- new numbers in place i of p -/
def NewNum (σ : AS) (p i m : Int) (σ' : AS) : Prop := Fr (fun r => r = p) σ σ' ∧ nx σ' = m + 2 ∧ us σ' = us σ + 6 ∧ kd σ' p = 4 ∧ ld σ' p i = m ∧ (∀ j, j ≠ i → ld σ' p j = ld σ p j) ∧ ld σ' m 0 = m + 1 ∧ NumOk σ' m [] ∧ ln σ' (m + 1) = 4
theorem newNum_wp {m i : Int} {K : AS → Option AS} {Q : AS → Prop} (hp : 1054 ≤ p ∧ p < m) (hm : nx σ = m) (hk : kd σ p = 4) (hK : ∀ σ', NewNum σ p i m σ' → Wp (K σ') Q) : Wp (nm (nx σ) fun r5 => nm (al σ 3 0 2) fun σ7 => gd (r5 ≠ 0) <| c0 (f_X10_init r5 σ7) fun σ11 => gd (kd σ11 p = 4) <| nm (wr σ11 p i r5) fun σ14 => K σ14) Q := by
  rw [hm]
  refine wp_nm0 ?_
  refine wp_nm (fun σ2 e2 => ?_)
  have F2 : Fr (fun r => r = p) σ σ2 := by rw [e2]; exact Fr.al (by decide)
  have k2 : kd σ2 m = 3 := by rw [e2, ← hm, kd_al, if_pos rfl]
  have z2 : ld σ2 m 1 = 0 := by rw [e2, ← hm, ld_al, if_pos rfl]
  have y2 : ∀ j, ld σ2 p j = ld σ p j := fun j => by rw [e2, ld_al, if_neg (by omega)]
  have n2 : nx σ2 = m + 1 := by rw [e2, nx_al, hm]
  have u2 : us σ2 = us σ + 2 := by rw [e2]; rfl
  clear e2
  have l2 : p < nx σ2 := by omega
  have m2 : m < nx σ2 := by omega
  have q2 : p ≠ m := by omega
  refine wp_gd (by omega) ?_
  refine wp_c0 ?_
  refine wp_mono (X10_wp ⟨by omega, m2⟩ k2 z2) fun σ3 hq => ?_
  obtain ⟨i1, i2, i3, i4, i5, i6⟩ := hq
  rw [n2] at i2 i4 i6
  have k3 : kd σ3 p = 4 := by rw [i1.kd l2, F2.kd (by omega)]; exact hk
  refine wp_gd k3 ?_
  refine wp_nm0 ?_
  have F3 : Fr (fun r => r = p) σ σ3 := F2.tr2 i1 fun r x z => absurd z (by show ¬ r = m; omega)
  have y3 : ∀ j, ld σ3 p j = ld σ p j := fun j => (i1.ld l2 q2 j).trans (y2 j)
  have l3 : m < nx σ3 := by omega
  refine hK _ ⟨F3.trans (Fr.wr rfl), ?_, ?_, k3, ?_, fun j hj => ?_, ?_, ?_, i6⟩
  · show nx σ3 = m + 2
    omega
  · show us σ3 = us σ + 6
    omega
  · rw [ld_wr, if_pos ⟨rfl, rfl⟩]
  · rw [ld_wr, if_neg (fun z => hj z.2)]; exact y3 j
  · rw [ld_wr, if_neg (fun z => q2 z.1.symm)]; exact i4
  · obtain ⟨a1, a2, a3, a4, a5, a6⟩ := i5
    have e0 : ld (wr σ3 p i m) m 0 = ld σ3 m 0 := by rw [ld_wr, if_neg (fun z => q2 z.1.symm)]
    have e1 : ld (wr σ3 p i m) m 1 = ld σ3 m 1 := by rw [ld_wr, if_neg (fun z => q2 z.1.symm)]
    exact ⟨a1, by rw [e0]; exact a2, by rw [e1]; exact a3, by rw [e0]; exact a4, by rw [e0]; exact a5, fun i hi => absurd hi (Nat.not_lt_zero i)⟩
theorem newNode_wp {a1 : Int} (hp : 1054 ≤ p ∧ p < nx σ) (hk : kd σ p = 4) : Wp (f_X9_init p a1 σ) fun σ' => ThOk σ' (owN Ow p (nx σ)) p (fun _ => 0) (fun _ => False) (fun _ => False) 0 ∧ kd σ' p = 4 ∧ ld σ' p 1 = a1 ∧ Fr (fun r => r = p) σ σ' ∧ nx σ' = nx σ + 5 ∧ us σ' = us σ + 21 := by
  unfold f_X9_init
  refine wp_gd (by omega) ?_
  refine wp_c0 ?_
  refine wp_mono (X8_wp ⟨by omega, hp.2⟩ (by omega) (Or.inl hk)) fun σ1 hq => ?_
  obtain ⟨g1, g2, g3, g4, g5, g6, g7⟩ := hq
  generalize hm : nx σ = m at *
  have k1 : kd σ1 p = 4 := by rw [g1.kd (by omega)]; exact hk
  refine newNum_wp (m := m + 1) (i := 2) ⟨hp.1, by omega⟩ g2 k1 fun σ4 hN => ?_
  obtain ⟨b1, b2, b3, b4, b5, b6, b7, b8, b9⟩ := hN
  have N4 : nx σ4 = m + 3 := by omega
  refine newNum_wp (m := m + 3) (i := 3) ⟨hp.1, by omega⟩ N4 b4 fun σ6 hN => ?_
  obtain ⟨c1, c2, c3, c4, c5, c6, c7, c8, c9⟩ := hN
  have N6 : nx σ6 = m + 5 := by omega
  refine wp_gd c4 ?_
  refine wp_nm (fun σ' e' => ?_)
  have T66 : Fr (fun r => r = p) σ6 σ' := by rw [e']; exact Fr.wr rfl
  have v : ∀ j, j ≠ 1 → ld σ' p j = ld σ6 p j := fun j hj => by rw [e', ld_wr, if_neg (fun z => hj z.2)]
  have w1 : ld σ' p 1 = a1 := by rw [e', ld_wr, if_pos ⟨rfl, rfl⟩]
  have nf : nx σ' = m + 5 := by rw [e']; exact N6
  have uf : us σ' = us σ6 := by rw [e']; rfl
  have kf : kd σ' p = 4 := by rw [e']; exact c4
  clear e'
  have T35 : Fr (fun r => r = p ∨ r = m + 3) σ4 σ' := (c1.trans T66).sub fun r _ z => Or.inl z
  have T14 := b1.trans (c1.trans T66)
  have T15 : Fr (fun r => r = p ∨ r = m + 1 ∨ r = m + 3) σ1 σ' := T14.sub fun r _ z => Or.inl z
  have w0 : ld σ' p 0 = m := (v 0 (by decide)).trans ((c6 0 (by decide)).trans ((b6 0 (by decide)).trans g4))
  have w2 : ld σ' p 2 = m + 1 := (v 2 (by decide)).trans ((c6 2 (by decide)).trans b5)
  have w3 : ld σ' p 3 = m + 3 := (v 3 (by decide)).trans c5
  have i4 : ld σ4 (m + 1) 0 = m + 2 := by rw [b7]; omega
  have i6 : ln σ4 (m + 2) = 4 := by rw [show m + 2 = m + 1 + 1 by omega]; exact b9
  have j4 : ld σ6 (m + 3) 0 = m + 4 := by rw [c7]; omega
  have j6 : ln σ6 (m + 4) = 4 := by rw [show m + 4 = m + 3 + 1 by omega]; exact c9
  have U : us σ' = us σ + 21 := by omega
  exact wp_ok ⟨newNode_fin hp.1 hp.2 T15 T35 T66 g6 g7 g2 N4 N6 i4 b8 i6 j4 c8 j6 w0 w2 w3 nf kf, kf, w1, g1.trans T14, nf, U⟩
end NN
