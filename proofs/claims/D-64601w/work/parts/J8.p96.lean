/-! THE PARSER'S SHAPE: new objects, lists that grow -/
set_option maxRecDepth 100000
section GR
variable {σ σ0 σ' : AS} {n : Nat} {N0 U0 z k q q' c p v r C lo hi : Int} {T : List Int} {S : PS}
theorem sh_fresh {cc : Int} (h : ShP T N0 U0 σ z k q S) (hF : Fr (fun _ => False) σ σ') (hn : nx σ' ≤ nx σ + cc) (hu : us σ' ≤ us σ + 10 * cc) : ShP T N0 U0 σ' z (k + cc) q S ∧ Eff N0 σ σ' ∧ ∀ j, ld σ' 1007 j = ld σ 1007 j := by
  obtain ⟨a1, a2, a3, a4, ⟨b1, b2, b3, b4, b5⟩, ⟨c1, c2⟩, ⟨d1, d2, d3, d4⟩, e1, e2, f, g1⟩ := id h
  have o : ∀ r, r < nx σ → ∀ j, ld σ' r j = ld σ r j := fun r hr => hF.ld hr (fun w => w)
  have o7 := o 1007 (by omega)
  have o8 := o 1008 (by omega)
  refine ⟨h.keep hF (fun r _ w => absurd w id) (a3.frame hF fun r _ w => absurd w id) (fun w1 w2 w3 => by rw [o8]; exact a4 w1 w2 w3) ⟨by rw [o7]; exact b2, by rw [o7]; exact b3, by rw [o7]; exact b4, by rw [o7]; exact b5⟩ (fun i _ _ => o N0 (by omega) i) (Int.le_refl _) ⟨by omega, by omega⟩, ⟨PF.of hF fun r _ w => absurd w id, o (N0 + 4) (by omega), o N0 (by omega), o7 2, o7 5, o7 6⟩, o7⟩
theorem szS_upd {i : Nat} (hi : i < 5) : szS (S.1, updF S.2 i v) = szS S + 1 := by
  unfold szS updF
  obtain e | e | e | e | e : i = 0 ∨ i = 1 ∨ i = 2 ∨ i = 3 ∨ i = 4 := by omega
  all_goals (subst e; simp; omega)
theorem sh_add {i : Nat} {z' : Int} (h : ShP T N0 U0 σ z k q S) (hi : i < 5) (hv : elQ σ v) (hl : (S.2 i).length < 20) (hz : z ≤ z') (hb : ((updF S.2 i v) 0).length ≤ 12 + z' ∧ ((updF S.2 i v) 1).length ≤ 12 + z' ∧ ((updF S.2 i v) 2).length ≤ 8 + z' ∧ ((updF S.2 i v) 3).length ≤ 8 + z' ∧ ((updF S.2 i v) 4).length ≤ 8 + z') : Wp (f_J32_add (lref N0 i) v σ) fun y => ShP T N0 U0 y.2 z' (k - 3) q (S.1, updF S.2 i v) ∧ Eff N0 σ y.2 ∧ ∀ j, ld y.2 1007 j = ld σ 1007 j := by
  obtain ⟨a1, a2, a3, a4, ⟨b1, b2, b3, b4, b5⟩, ⟨c1, c2⟩, ⟨d1, d2, d3, d4⟩, e1, e2, f, g1, g2⟩ := id h
  refine wp_mono (e1.add hi hl hv (by omega)) fun y hy => ?_
  obtain ⟨y1, y2, y3, y4⟩ := hy
  have o : ∀ r, r < nx σ → kd σ r ≠ 31 → kd σ r ≠ 105 → ∀ j, ld y.2 r j = ld σ r j := fun r hr k1 k2 j => y4.ld hr (fun w => by
    have w' : N0 < r ∧ (kd σ r = 31 ∨ kd σ r = 105) := w
    omega) j
  have o7 := o 1007 (by omega) (by rw [b1]; decide) (by rw [b1]; decide)
  have o8 := o 1008 (by omega) (by rw [a3.1.1]; decide) (by rw [a3.1.1]; decide)
  have oN := o N0 (by omega) (by rw [d1]; decide) (by rw [d1]; decide)
  have oB := o (N0 + 4) (by omega) (by rw [d3]; decide) (by rw [d3]; decide)
  have F' : Fr (fun r => N0 < r) σ y.2 := y4.sub fun r _ w => w.1
  have hsz := szS_upd (S := S) (v := v) hi
  have hn := y4.1
  refine ⟨⟨a1.frame F' (fun r hr w => by have w' : N0 < r := w; omega), a2.frame F' (by omega) (fun r w => by have w' : N0 < r := w; omega), a3.frame y4 (fun r _ w => by have w' : N0 < r ∧ (kd σ r = 31 ∨ kd σ r = 105) := w; omega), fun w1 w2 w3 => by rw [o8]; exact a4 w1 w2 w3, ⟨by rw [y4.kd (by omega)]; exact b1, by rw [o7]; exact b2, by rw [o7]; exact b3, by rw [o7]; exact b4, by rw [o7]; omega⟩, ⟨c1, by omega⟩, ⟨by rw [y4.kd (by omega)]; exact d1, fun i h1 h2 => by rw [oN]; exact d2 i h1 h2, by rw [y4.kd (by omega)]; exact d3, by rw [y4.ln (by omega)]; exact d4⟩, y1, e2.frame y4 (fun r _ w => by have w' : N0 < r ∧ (kd σ r = 31 ∨ kd σ r = 105) := w; omega), hb, ?_, ?_⟩, ⟨PF.of y4 (fun r _ w => ?_), oB, oN, o7 2, o7 5, o7 6⟩, o7⟩
  · rw [hsz]; omega
  · rw [hsz]; omega
  · have w' : N0 < r ∧ (kd σ r = 31 ∨ kd σ r = 105) := w
    refine ⟨Or.inl (by omega), ?_⟩
    unfold wkd
    omega
/-- a node's part: the object -/
theorem new_node {a b : Int} (h0 : 0 < nx σ) : ∃ σ', f_X19_init (nx σ) a b (al σ 13 0 2) = some σ' ∧ kd σ' (nx σ) = 13 ∧ ld σ' (nx σ) 0 = a ∧ ld σ' (nx σ) 1 = b ∧ nx σ' = nx σ + 1 ∧ us σ' = us σ + 2 ∧ Fr (fun _ => False) σ σ' := by
  have k1 : kd (al σ 13 0 2) (nx σ) = 13 := by rw [kd_al, if_pos rfl]
  refine ⟨wr (wr (al σ 13 0 2) (nx σ) 0 a) (nx σ) 1 b, ?_, k1, ?_, ?_, rfl, rfl, ?_⟩
  · unfold f_X19_init f_J9_init
    rw [gd_pos (by omega), gd_pos (by omega), c0_at, gd_pos k1, nm_eq, gd_pos (show kd (wr (al σ 13 0 2) (nx σ) 0 a) (nx σ) = 13 from k1), nm_eq]
  · rw [ld_wr, if_neg (by omega), ld_wr, if_pos ⟨rfl, rfl⟩]
  · rw [ld_wr, if_pos ⟨rfl, rfl⟩]
  · have g1 : Fr (fun _ => False) σ (al σ 13 0 2) := Fr.al (by decide)
    have g2 : Fr (fun r => r = nx σ) (al σ 13 0 2) (wr (wr (al σ 13 0 2) (nx σ) 0 a) (nx σ) 1 b) := Fr.trans (Fr.wr rfl) (Fr.wr rfl)
    exact g1.tr2 g2 fun r hr w => by
      have w' : r = nx σ := w
      omega
end GR
