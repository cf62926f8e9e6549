/-! Numbers.add, remove -/
set_option maxRecDepth 100000
theorem f_X10_add_wp {n : Nat} {p v : Int} {L : List Int} {σ : AS} {S : Int → Prop} (hSp : S p) (hSc : S (ld σ p 0)) (hn : 1000000 ≤ n) (hp : p < nx σ) (hc : ld σ p 0 < nx σ) (h : NumOk σ p L) (hL : L.length ≤ 2048) (h5 : ln σ (ld σ p 0) ≤ 4096) :
    Wp (f_X10_add n p v σ) fun σ' => Fr S σ σ' ∧ nx σ' ≤ nx σ + 1 ∧ us σ' ≤ us σ + 4096 ∧ ∃ j : Nat, j ≤ L.length ∧ (j = 0 ∨ L.getD (j - 1) 0 ≤ v) ∧ (∀ i : Nat, j ≤ i → i < L.length → v < L.getD i 0) ∧ NumOk σ' p (insAt L j v) ∧ ln σ' (ld σ' p 0) ≤ 4096 ∧ (ld σ' p 0 = ld σ p 0 ∨ ld σ' p 0 = nx σ) := by
  obtain ⟨h1, h3, h7, h4, h6, h8⟩ := h
  have hpc : ld σ p 0 ≠ p := fun e => by rw [e, h1] at h3; cases h3
  unfold f_X10_add
  refine wp_gd h1 ?_
  refine wp_gd h1 ?_
  refine wp_gd h3 ?_
  rw [h7]
  refine wp_ite (fun hc1 => ?_) (fun hc1 => ?_)
  · refine wp_gd h1 ?_
    refine wp_gI (by omega) ?_
    refine wp_gd ⟨by omega, by omega⟩ ?_
    refine wp_nm (fun r er => ?_)
    subst er
    refine wp_nm (fun σ1 e1 => ?_)
    have a0 : ∀ a, a ≠ nx σ → kd σ1 a = kd σ a ∧ ln σ1 a = ln σ a ∧ ∀ j, ld σ1 a j = ld σ a j := fun a ha => by
      rw [e1]
      exact ⟨by rw [kd_al, if_neg ha], by rw [ln_al, if_neg ha], fun j => by rw [ld_al, if_neg ha]⟩
    obtain ⟨p1, p2, p3⟩ := a0 p (by omega)
    obtain ⟨q1, q2, q3⟩ := a0 (ld σ p 0) (by omega)
    have r1 : kd σ1 (nx σ) = 100 := by rw [e1, kd_al, if_pos rfl]
    have r2 : ln σ1 (nx σ) = 2 * (L.length : Int) := by rw [e1, ln_al, if_pos rfl]
    have n1 : nx σ1 = nx σ + 1 := by rw [e1, nx_al]
    have u1 : us σ1 = us σ + 2 * (L.length : Int) := by rw [e1, us_al]
    refine wp_gd (p1.trans h1) ?_
    refine wp_gd (p1.trans h1) ?_
    rw [p3, p3, h7]
    refine wp_gd ⟨Or.inl (q1.trans h3), r1, by omega, by omega, by omega, by rw [q2]; omega, by rw [r2]; omega⟩ ?_
    refine wp_nm0 ?_
    refine wp_gd (by rw [kd_cpy]; exact p1.trans h1) ?_
    refine wp_nm0 ?_
    refine wp_mono (f_X10_add_40_wp (S := fun r => S r ∨ r = nx σ) (L := L) (c := nx σ) (Or.inl hSp) (Or.inr rfl) hn (p1.trans h1) (by rw [ld_wr, if_pos ⟨rfl, rfl⟩]) r1 (by show (L.length : Int) < ln σ1 (nx σ); omega) (by show ln σ1 (nx σ) ≤ 1048576; omega) (by omega) (by show 4 ≤ ln σ1 (nx σ); omega) (by rw [ld_wr, if_neg (fun e => by omega), ld_cpy, if_neg (fun e => by omega), p3]; exact h7) (fun i hi => ?_)) fun σ' hq => ?_
    · rw [ld_wr, if_neg (fun e => by omega), ld_cpy, if_pos ⟨rfl, by omega, by omega⟩, q3]
      have e : (0 : Int) + ((i : Int) - 0) = (i : Int) := by omega
      rw [e]
      exact h8 i hi
    · obtain ⟨g1, g2, g3, j, g4, g5, g6, g7, g8⟩ := hq
      rw [nx_wr, nx_cpy] at g2
      rw [us_wr, us_cpy] at g3
      refine ⟨⟨by omega, by omega, fun r hr => ?_, fun r hr hs j => ?_⟩, by omega, by omega, j, g4, g5, g6, g7, ?_, Or.inr g8⟩
      · have b := a0 r (by omega)
        have a := g1.2.2.1 r (by rw [nx_wr, nx_cpy]; omega)
        exact ⟨a.1.trans b.1, a.2.trans b.2.1⟩
      · have hrp : r ≠ p := fun e => hs (e ▸ hSp)
        rw [g1.2.2.2 r (by rw [nx_wr, nx_cpy]; omega) (fun e => e.elim hs (fun e => by omega)), ld_wr, if_neg (fun e => hrp e.1), ld_cpy, if_neg (fun e => by omega)]
        exact (a0 r (by omega)).2.2 j
      · rw [g8, g1.ln (by rw [nx_wr, nx_cpy]; omega)]
        show ln σ1 (nx σ) ≤ 4096
        omega
  · refine wp_mono (f_X10_add_40_wp (S := S) (L := L) (c := ld σ p 0) hSp hSc hn h1 rfl h3 (by omega) (by omega) (by omega) h6 h7 h8) fun σ' hq => ?_
    obtain ⟨g1, g2, g3, j, g4, g5, g6, g7, g8⟩ := hq
    exact ⟨g1, by omega, by omega, j, g4, g5, g6, g7, by rw [g8, g1.ln hc]; exact h5, Or.inl g8⟩
