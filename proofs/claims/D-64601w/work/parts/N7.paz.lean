/-! READ: the question's object -/
set_option maxRecDepth 100000
section QI
variable {σ σ0 σ' : AS} {N0 i : Int} {W : Int → List Int}
theorem new_list (h0 : 0 < nx σ) (hE : kd σ 122 = 1105 ∧ ln σ 122 = 0 ∧ 122 < nx σ) : ∃ σ', f_J32_init (nx σ) (al σ 31 0 3) = some σ' ∧ AlOk σ' (nx σ) 122 [] ∧ nx σ' = nx σ + 1 ∧ us σ' = us σ + 3 ∧ Fr (fun _ => False) σ σ' := by
  have k1 : kd (al σ 31 0 3) (nx σ) = 31 := by rw [kd_al, if_pos rfl]
  have g1 : Fr (fun _ => False) σ (al σ 31 0 3) := Fr.al (by decide)
  have g2 : Fr (fun r => r = nx σ) (al σ 31 0 3) (wr (wr (al σ 31 0 3) (nx σ) 0 0) (nx σ) 1 122) := Fr.trans (Fr.wr rfl) (Fr.wr rfl)
  have F := g1.tr2 g2 fun r hr w => by
    have w' : r = nx σ := w
    omega
  refine ⟨wr (wr (al σ 31 0 3) (nx σ) 0 0) (nx σ) 1 122, ?_, ⟨k1, ?_, ?_, ?_, by simp, ?_, ⟨?_, ?_, ?_⟩, Or.inl ⟨rfl, rfl⟩, fun i hi => absurd hi (by simp)⟩, rfl, rfl, F⟩
  · unfold f_J32_init f_J31_init f_J0_init
    simp only [gd_pos (show nx σ ≠ 0 by omega), c0_at]
    rw [gd_pos k1, nm_eq, c0_at, gd_pos (show kd (wr (al σ 31 0 3) (nx σ) 0 0) (nx σ) = 31 from k1), nm_eq]
  · show nx σ < nx σ + 1; omega
  · rw [ld_wr, if_pos ⟨rfl, rfl⟩]
  · rw [ld_wr, if_neg (by omega), ld_wr, if_neg (by omega), ld_al, if_pos rfl]; rfl
  · rw [ld_wr, if_neg (by omega), ld_wr, if_pos ⟨rfl, rfl⟩]; rfl
  · rw [F.kd hE.2.2]; exact hE.1
  · rw [F.ln hE.2.2]; exact hE.2.1
  · have := F.1; omega
theorem new_map (h0 : 0 < nx σ) : ∃ σ', f_J34_init (nx σ) (al σ 32 0 12) = some σ' ∧ MpOk σ' (nx σ) [] W ∧ nx σ' = nx σ + 1 ∧ us σ' = us σ + 12 ∧ Fr (fun _ => False) σ σ' := by
  have k1 : kd (al σ 32 0 12) (nx σ) = 32 := by rw [kd_al, if_pos rfl]
  have g1 : Fr (fun _ => False) σ (al σ 32 0 12) := Fr.al (by decide)
  have g2 : Fr (fun r => r = nx σ) (al σ 32 0 12) (wr (wr (wr (al σ 32 0 12) (nx σ) 5 1061158912) (nx σ) 11 0) (nx σ) 10 0) := Fr.trans (Fr.wr rfl) (Fr.trans (Fr.wr rfl) (Fr.wr rfl))
  have F := g1.tr2 g2 fun r hr w => by
    have w' : r = nx σ := w
    omega
  have e : ∀ j, j ≠ 5 → ld (wr (wr (wr (al σ 32 0 12) (nx σ) 5 1061158912) (nx σ) 11 0) (nx σ) 10 0) (nx σ) j = 0 := fun j hj => by
    rw [ld_wr]
    split
    · rfl
    rw [ld_wr]
    split
    · rfl
    rw [ld_wr, if_neg (fun u => hj u.2), ld_al, if_pos rfl]
  refine ⟨wr (wr (wr (al σ 32 0 12) (nx σ) 5 1061158912) (nx σ) 11 0) (nx σ) 10 0, ?_, ⟨k1, e 2 (by decide), e 10 (by decide), e 11 (by decide), by simp, fun x hx => absurd hx (by simp), ?_, fun i hi => absurd hi (by simp), Or.inl (e 9 (by decide)), List.nodup_nil, Or.inl ⟨rfl, e 0 (by decide), e 4 (by decide)⟩⟩, rfl, rfl, F⟩
  · unfold f_J34_init f_J33_init f_J7_init
    simp only [gd_pos (show nx σ ≠ 0 by omega), c0_at]
    rw [gd_pos k1, nm_eq, c0_at, gd_pos (show kd (wr (al σ 32 0 12) (nx σ) 5 1061158912) (nx σ) = 32 from k1), nm_eq, gd_pos (show kd (wr (wr (al σ 32 0 12) (nx σ) 5 1061158912) (nx σ) 11 0) (nx σ) = 32 from k1), nm_eq]
  · show nx σ < nx σ + 1; omega
theorem stg {K : AS → Option AS} {Q : AS → Prop} (hN : N0 < nx σ ∧ kd σ N0 = 12) (h0 : 0 < nx σ) (hE : kd σ 122 = 1105 ∧ ln σ 122 = 0 ∧ 122 < nx σ)
    (hK : ∀ σ', AlOk σ' (nx σ) 122 [] → ld σ' N0 i = nx σ → (∀ j, j ≠ i → ld σ' N0 j = ld σ N0 j) → nx σ' = nx σ + 1 → us σ' = us σ + 3 → Fr (fun r => r = N0) σ σ' → Wp (K σ') Q) :
    Wp (nm (nx σ) fun r2 => nm (al σ 31 0 3) fun σ4 => gd (r2 ≠ 0) <| c0 (f_J32_init r2 σ4) fun σ8 => gd (kd σ8 N0 = 12) <| nm (wr σ8 N0 i r2) fun σ11 => K σ11) Q := by
  obtain ⟨σ1, e1, a1, n1, u1, F1⟩ := new_list h0 hE
  have k1 : kd σ1 N0 = 12 := (F1.kd hN.1).trans hN.2
  refine wp_nm0 (wp_nm0 (wp_gd (by omega) (wp_c0e e1 (wp_gd k1 (wp_nm0 (hK _ ?_ ?_ (fun j hj => ?_) n1 u1 ?_))))))
  · refine a1.frame (S := fun r => r = N0) (Fr.wr rfl) (fun w => by have w' : nx σ = N0 := w; omega) (fun w => ?_)
    have := a1.2.2.2.2.2.2.1.1
    rw [this] at w; exact absurd w (by decide)
  · rw [ld_wr, if_pos ⟨rfl, rfl⟩]
  · rw [ld_wr, if_neg (fun u => hj u.2)]
    exact F1.ld hN.1 (fun w => w) j
  · exact (F1.sub fun r _ w => absurd w id).trans (Fr.wr rfl)
theorem q_init (hE : kd σ 122 = 1105 ∧ ln σ 122 = 0) (h0 : 1054 ≤ nx σ) : Wp (f_X18_init (nx σ) (al σ 12 0 9)) fun σ' => (kd σ' (nx σ) = 12 ∧ (∀ i, 0 ≤ i → i < 7 → ld σ' (nx σ) i = nx σ + 1 + i) ∧ kd σ' (nx σ + 4) = 103 ∧ ln σ' (nx σ + 4) = 8) ∧ (∀ j, ld σ' (nx σ + 4) j = 0) ∧ ld σ' (nx σ) 8 = 2147483647 ∧ LsOk σ' (nx σ) (fun _ => []) ∧ MpOk σ' (nx σ + 3) [] (fun _ => []) ∧ nx σ' = nx σ + 8 ∧ us σ' = us σ + 44 ∧ Fr (fun _ => False) σ σ' := by
  have F0 : Fr (fun _ => False) σ (al σ 12 0 9) := Fr.al (by decide)
  have k0 : kd (al σ 12 0 9) (nx σ) = 12 := by rw [kd_al, if_pos rfl]
  have n0 : nx (al σ 12 0 9) = nx σ + 1 := rfl
  have u0 : us (al σ 12 0 9) = us σ + 9 := rfl
  have hE0 : kd (al σ 12 0 9) 122 = 1105 ∧ ln (al σ 12 0 9) 122 = 0 := ⟨by rw [F0.kd (by omega)]; exact hE.1, by rw [F0.ln (by omega)]; exact hE.2⟩
  unfold f_X18_init
  generalize hN : nx σ = N0 at *
  generalize al σ 12 0 9 = σ1 at *
  refine wp_gd (by omega) (stg ⟨by omega, k0⟩ (by omega) ⟨hE0.1, hE0.2, by omega⟩ fun σ2 a1 b1 b2 n2 u2 F1 => ?_)
  have k2 : kd σ2 N0 = 12 := (F1.kd (by omega)).trans k0
  have E2 : kd σ2 122 = 1105 ∧ ln σ2 122 = 0 := ⟨(F1.kd (by omega)).trans hE0.1, (F1.ln (by omega)).trans hE0.2⟩
  refine stg ⟨by omega, k2⟩ (by omega) ⟨E2.1, E2.2, by omega⟩ fun σ3 a2 b3 b4 n3 u3 F2 => ?_
  have k3 : kd σ3 N0 = 12 := (F2.kd (by omega)).trans k2
  have E3 : kd σ3 122 = 1105 ∧ ln σ3 122 = 0 := ⟨(F2.kd (by omega)).trans E2.1, (F2.ln (by omega)).trans E2.2⟩
  -- the map
  obtain ⟨σ4', e4, a3, n4', u4', F3'⟩ := new_map (σ := σ3) (W := fun _ => []) (by omega)
  have k4' : kd σ4' N0 = 12 := (F3'.kd (by omega)).trans k3
  refine wp_nm0 (wp_nm0 (wp_gd (by omega) (wp_c0e e4 (wp_gd k4' (wp_nm0 ?_)))))
  have F3 : Fr (fun r => r = N0) σ3 (wr σ4' N0 2 (nx σ3)) := (F3'.sub fun r _ w => absurd w id).trans (Fr.wr rfl)
  have b5 : ld (wr σ4' N0 2 (nx σ3)) N0 2 = nx σ3 := by rw [ld_wr, if_pos ⟨rfl, rfl⟩]
  have b6 : ∀ j, j ≠ 2 → ld (wr σ4' N0 2 (nx σ3)) N0 j = ld σ3 N0 j := fun j hj => by
    rw [ld_wr, if_neg (fun u => hj u.2)]
    exact F3'.ld (by omega) (fun w => w) j
  have a3' : MpOk (wr σ4' N0 2 (nx σ3)) (nx σ3) [] (fun _ => []) := a3.frame (X := fun r => r = N0) (Fr.wr rfl) (fun r _ w => by
    have w' : r = N0 := w
    rw [w', k4']; decide)
  have n4 : nx (wr σ4' N0 2 (nx σ3)) = nx σ3 + 1 := n4'
  have u4 : us (wr σ4' N0 2 (nx σ3)) = us σ3 + 12 := u4'
  generalize wr σ4' N0 2 (nx σ3) = σ4 at *
  have k4 : kd σ4 N0 = 12 := (F3.kd (by omega)).trans k3
  have E4 : kd σ4 122 = 1105 ∧ ln σ4 122 = 0 := ⟨(F3.kd (by omega)).trans E3.1, (F3.ln (by omega)).trans E3.2⟩
  -- the flags
  have G1 : Fr (fun _ => False) σ4 (al σ4 103 8 8) := Fr.al (by decide)
  have kf : kd (al σ4 103 8 8) (nx σ4) = 103 := by rw [kd_al, if_pos rfl]
  have lf : ln (al σ4 103 8 8) (nx σ4) = 8 := by rw [ln_al, if_pos rfl]
  have cf : ∀ j, ld (al σ4 103 8 8) (nx σ4) j = 0 := fun j => by rw [ld_al, if_pos rfl]
  have n5' : nx (al σ4 103 8 8) = nx σ4 + 1 := rfl
  have u5' : us (al σ4 103 8 8) = us σ4 + 8 := rfl
  refine wp_nm0 (wp_nm0 ?_)
  generalize al σ4 103 8 8 = σ5' at *
  have k5' : kd σ5' N0 = 12 := (G1.kd (by omega)).trans k4
  refine wp_gd k5' (wp_nm0 ?_)
  have F4 : Fr (fun r => r = N0) σ4 (wr σ5' N0 3 (nx σ4)) := (G1.sub fun r _ w => absurd w id).trans (Fr.wr rfl)
  have b7 : ld (wr σ5' N0 3 (nx σ4)) N0 3 = nx σ4 := by rw [ld_wr, if_pos ⟨rfl, rfl⟩]
  have b8 : ∀ j, j ≠ 3 → ld (wr σ5' N0 3 (nx σ4)) N0 j = ld σ4 N0 j := fun j hj => by
    rw [ld_wr, if_neg (fun u => hj u.2)]
    exact G1.ld (by omega) (fun w => w) j
  have kf2 : kd (wr σ5' N0 3 (nx σ4)) (nx σ4) = 103 := kf
  have lf2 : ln (wr σ5' N0 3 (nx σ4)) (nx σ4) = 8 := lf
  have cf2 : ∀ j, ld (wr σ5' N0 3 (nx σ4)) (nx σ4) j = 0 := fun j => by rw [ld_wr, if_neg (by omega)]; exact cf j
  have n5 : nx (wr σ5' N0 3 (nx σ4)) = nx σ4 + 1 := n5'
  have u5 : us (wr σ5' N0 3 (nx σ4)) = us σ4 + 8 := u5'
  generalize wr σ5' N0 3 (nx σ4) = σ5 at *
  have k5 : kd σ5 N0 = 12 := (F4.kd (by omega)).trans k4
  have E5 : kd σ5 122 = 1105 ∧ ln σ5 122 = 0 := ⟨(F4.kd (by omega)).trans E4.1, (F4.ln (by omega)).trans E4.2⟩
  refine stg ⟨by omega, k5⟩ (by omega) ⟨E5.1, E5.2, by omega⟩ fun σ6 a5 b9 b10 n6 u6 F5 => ?_
  have k6 : kd σ6 N0 = 12 := (F5.kd (by omega)).trans k5
  have E6 : kd σ6 122 = 1105 ∧ ln σ6 122 = 0 := ⟨(F5.kd (by omega)).trans E5.1, (F5.ln (by omega)).trans E5.2⟩
  refine stg ⟨by omega, k6⟩ (by omega) ⟨E6.1, E6.2, by omega⟩ fun σ7 a6 b11 b12 n7 u7 F6 => ?_
  have k7 : kd σ7 N0 = 12 := (F6.kd (by omega)).trans k6
  have E7 : kd σ7 122 = 1105 ∧ ln σ7 122 = 0 := ⟨(F6.kd (by omega)).trans E6.1, (F6.ln (by omega)).trans E6.2⟩
  refine stg ⟨by omega, k7⟩ (by omega) ⟨E7.1, E7.2, by omega⟩ fun σ8 a7 b13 b14 n8 u8 F7 => ?_
  have k8 : kd σ8 N0 = 12 := (F7.kd (by omega)).trans k7
  refine wp_gd k8 (wp_nm0 (wp_ok ?_))
  have F8 : Fr (fun r => r = N0) σ8 (wr σ8 N0 8 2147483647) := Fr.wr rfl
  have b15 : ld (wr σ8 N0 8 2147483647) N0 8 = 2147483647 := by rw [ld_wr, if_pos ⟨rfl, rfl⟩]
  have b16 : ∀ j, j ≠ 8 → ld (wr σ8 N0 8 2147483647) N0 j = ld σ8 N0 j := fun j hj => by rw [ld_wr, if_neg (fun u => hj u.2)]
  have n9 : nx (wr σ8 N0 8 2147483647) = nx σ8 := rfl
  have u9 : us (wr σ8 N0 8 2147483647) = us σ8 := rfl
  generalize wr σ8 N0 8 2147483647 = σ9 at *
  have G7 := F7.trans F8
  have G6 := F6.trans G7
  have G5 := F5.trans G6
  have G4 := F4.trans G5
  have G3 := F3.trans G4
  have G2 := F2.trans G3
  have G1' := F1.trans G2
  have alf : ∀ {σa : AS} {p : Int}, AlOk σa p 122 [] → Fr (fun r => r = N0) σa σ9 → p ≠ N0 → AlOk σ9 p 122 [] := fun {σa p} h1 h2 h3 => h1.frame h2 h3 (fun w => by
    have := h1.2.2.2.2.2.2.1.1
    rw [this] at w; exact absurd w (by decide))
  have A1 := alf a1 G2 (by omega)
  have A2 := alf a2 G3 (by omega)
  have A5 := alf a5 G6 (by omega)
  have A6 := alf a6 G7 (by omega)
  have A7 := alf a7 F8 (by omega)
  have e122 : kd σ9 122 = 1105 := A1.2.2.2.2.2.2.1.1
  refine ⟨⟨(F8.kd (by omega)).trans k8, fun i i0 i7 => ?_, ?_, ?_⟩, fun j => ?_, b15, ⟨fun _ => 122, fun _ => 0, fun i hi => ⟨?_, fun w => by rw [e122] at w; exact absurd w (by decide)⟩⟩, ?_, by omega, by omega, F0.tr2 G1' fun r hr w => by have w' : r = N0 := w; omega⟩
  · obtain e | e | e | e | e | e | e : i = 0 ∨ i = 1 ∨ i = 2 ∨ i = 3 ∨ i = 4 ∨ i = 5 ∨ i = 6 := by omega
    · subst e; rw [b16 _ (by decide), b14 _ (by decide), b12 _ (by decide), b10 _ (by decide), b8 _ (by decide), b6 _ (by decide), b4 _ (by decide), b1]; omega
    · subst e; rw [b16 _ (by decide), b14 _ (by decide), b12 _ (by decide), b10 _ (by decide), b8 _ (by decide), b6 _ (by decide), b3]; omega
    · subst e; rw [b16 _ (by decide), b14 _ (by decide), b12 _ (by decide), b10 _ (by decide), b8 _ (by decide), b5]; omega
    · subst e; rw [b16 _ (by decide), b14 _ (by decide), b12 _ (by decide), b10 _ (by decide), b7]; omega
    · subst e; rw [b16 _ (by decide), b14 _ (by decide), b12 _ (by decide), b9]; omega
    · subst e; rw [b16 _ (by decide), b14 _ (by decide), b11]; omega
    · subst e; rw [b16 _ (by decide), b13]; omega
  · have e : N0 + 4 = nx σ4 := by omega
    rw [e]; exact (G5.kd (by omega)).trans kf2
  · have e : N0 + 4 = nx σ4 := by omega
    rw [e]; exact (G5.ln (by omega)).trans lf2
  · have e : N0 + 4 = nx σ4 := by omega
    rw [e, G5.ld (by omega) (fun w => by have w' : nx σ4 = N0 := w; omega)]; exact cf2 j
  · obtain e | e | e | e | e : i = 0 ∨ i = 1 ∨ i = 2 ∨ i = 3 ∨ i = 4 := by omega
    · subst e; have : lref N0 0 = nx σ1 := by unfold lref; rw [if_pos rfl]; omega
      rw [this]; exact A1
    · subst e; have : lref N0 1 = nx σ2 := by unfold lref; rw [if_neg (by decide), if_pos rfl]; omega
      rw [this]; exact A2
    · subst e; have : lref N0 2 = nx σ5 := by unfold lref; rw [if_neg (by decide), if_neg (by decide)]; omega
      rw [this]; exact A5
    · subst e; have : lref N0 3 = nx σ6 := by unfold lref; rw [if_neg (by decide), if_neg (by decide)]; omega
      rw [this]; exact A6
    · subst e; have : lref N0 4 = nx σ7 := by unfold lref; rw [if_neg (by decide), if_neg (by decide)]; omega
      rw [this]; exact A7
  · have e : N0 + 3 = nx σ3 := by omega
    rw [e]
    exact a3'.frame (X := fun r => r = N0) G4 (fun r _ w => by
      have w' : r = N0 := w
      rw [w', k4]; decide)
end QI
