/-! THE COMPONENT's dropEdge -/
set_option maxRecDepth 100000
section XDropE
variable {σ : AS} {Ow : F1} {v : Int} {L : List Int} {TH : Int → Prop} {fm : Int → F1} {no ed ty fr too : F1} {mc cN cE cP : Int}
theorem edgeOf_eq (h : GI σ Ow TH fm no ed ty fr too mc cN cE cP) (hs : StkOk σ Ow L) : f_X1_edgeOf 1000 v σ = if ed v = 0 then some (.inl 1, al σ 0 0 6) else some (.inr (ed v), σ) := by
  obtain ⟨k0, x0, -⟩ := hs
  obtain ⟨g1, g2, g3, -, -, g4, g5⟩ := h.2.2.1
  have a5 := h.2.2.2.2.2.1
  have a7 := h.2.2.2.2.2.2.2.1
  have z : ¬ (0 ≤ v ∧ v < 1000) → ed v = 0 := fun q => by
    by_cases c : ed v = 0
    · exact c
    · have := a7 v c
      omega
  unfold f_X1_edgeOf f_X1_edgeOf_23
  by_cases c1 : v < 0
  · rw [if_pos c1, if_pos (z (by omega))]
    rfl
  · rw [if_neg c1]
    by_cases c2 : 1000 ≤ v
    · rw [if_pos c2, if_pos (z (by omega))]
      rfl
    · rw [if_neg c2, gd_pos k0, x0, gd_pos g1, g3, gd_pos ⟨g4, by omega, by omega⟩, a5 v (by omega) (by omega)]
      unfold f_X1_edgeOf_24
      by_cases c : ed v = 0
      · rw [if_pos c, if_pos c]
        rfl
      · rw [if_neg c, if_neg c]
        unfold f_X1_edgeOf_34 f_X1_inside
        rw [if_neg (by decide), cx_inr]
set_option maxHeartbeats 4000000 in
theorem X1_dropEdge_ok {n : Nat} (hn : 1000000 ≤ n) (h : GI σ Ow TH fm no ed ty fr too mc cN cE cP) (hs : StkOk σ Ow L) (hv : ed v ≠ 0) (b1 : 0 ≤ cE ∧ cE ≤ 100000) (b2 : 0 ≤ cP ∧ cP ≤ 100000) (hL : L.length < 64) : Wp (f_X1_dropEdge n 1000 v σ) fun y => ∃ (Ow' : F1) (r : Int), y.1 = .inr () ∧ GI y.2 Ow' TH fm no (ud ed v 0) ty fr too mc cN (cE - 1) (cP - sm (has (fm (ed v))) 32) ∧ StkOk y.2 Ow' (r :: L) ∧ kd y.2 r = 9 ∧ ld y.2 r 0 = v ∧ ld y.2 r 1 = ed v ∧ Fr (fun r => S3 r ∨ SN Ow r ∨ SD Ow r) σ y.2 ∧ (∀ r, r < nx σ → Ow' r = Ow r) ∧ nx y.2 ≤ nx σ + 4 ∧ us y.2 ≤ us σ + 140 := by
  have hx := h.1
  have hs' := hs
  obtain ⟨k0, x0, x1, -⟩ := hs'
  obtain ⟨g1, -⟩ := h.2.2.1
  have eN := edgeOf_eq (v := v) h hs
  rw [if_neg hv] at eN
  unfold f_X1_dropEdge
  refine wp_gd k0 ?_
  rw [eN, cx_inr]
  refine wp_gd k0 ?_
  rw [x0]
  refine wp_gd g1 ?_
  refine wp_c0 ?_
  refine wp_mono (cut_wp hn h rfl hv b1 b2) fun σ3 hq => ?_
  obtain ⟨Ow3, G3, F3, O3, W3, n3, u3⟩ := hq
  have m3 := F3.1
  have hS3 : ∀ r, (r = 1001 ∨ r = 1003 ∨ SN Ow r) → r = 1001 ∨ r = 1003 ∨ (1054 ≤ r ∧ 8 ≤ Ow r) := fun r z => by unfold SN at z; omega
  have q0 : ∀ j, ld σ3 1000 j = ld σ 1000 j := fun j => F3.ld (by omega) (fun z => by have := hS3 _ z; omega) j
  have k3 : kd σ3 1000 = 1 := by rw [F3.kd (by omega)]; exact k0
  have St3 : StkOk σ3 Ow3 L := hs.frame hx F3 O3 (fun r z => by have := hS3 r z; omega)
  have F13 : Fr (fun r => S3 r ∨ SN Ow r ∨ SD Ow r) σ σ3 := F3.sub fun r _ z => z.elim (fun q => Or.inl (Or.inl q)) (fun q => q.elim (fun q => Or.inl (Or.inr (Or.inr q))) (fun q => Or.inr (Or.inl q)))
  refine wp_gd k3 ?_
  rw [q0 1, x1]
  refine wp_nm (fun r er => ?_)
  refine wp_nm (fun σ4 e4 => ?_)
  have F4 : Fr (fun _ => False) σ3 σ4 := by rw [e4]; exact Fr.al (by decide)
  have k4 : kd σ4 r = 9 := by rw [e4, er, kd_al, if_pos rfl]
  have n4 : nx σ4 = nx σ3 + 1 := by rw [e4, nx_al]
  have u4 : us σ4 = us σ3 + 2 := by rw [e4]; rfl
  clear e4
  have r0 : r ≠ 0 := by omega
  refine wp_gd r0 ?_
  refine wp_c0e (s := wr (wr σ4 r 0 v) r 1 (ed v)) ?_ ?_
  · unfold f_X15_init f_J9_init
    rw [gd_pos r0]
    show c0 (gd (r ≠ 0) (some σ4)) _ = _
    rw [gd_pos r0]
    show gd (kd σ4 r = 9) _ = _
    rw [gd_pos k4]
    show gd (kd σ4 r = 9) _ = _
    rw [gd_pos k4]
    rfl
  have F5 : Fr (fun _ => False) σ3 (wr (wr σ4 r 0 v) r 1 (ed v)) := F4.tr2 ((Fr.wr (S := fun q => q = r) rfl).trans (Fr.wr rfl)) fun q x z => by have z' : q = r := z; omega
  have l5 : ld (wr (wr σ4 r 0 v) r 1 (ed v)) r 0 = v := by rw [ld_wr, if_neg (fun z => by omega), ld_wr, if_pos ⟨rfl, rfl⟩]
  have l6 : ld (wr (wr σ4 r 0 v) r 1 (ed v)) r 1 = ed v := by rw [ld_wr, if_pos ⟨rfl, rfl⟩]
  have k5 : kd (wr (wr σ4 r 0 v) r 1 (ed v)) r = 9 := k4
  have n5 : nx (wr (wr σ4 r 0 v) r 1 (ed v)) = nx σ3 + 1 := n4
  have u5 : us (wr (wr σ4 r 0 v) r 1 (ed v)) = us σ3 + 2 := u4
  generalize wr (wr σ4 r 0 v) r 1 (ed v) = σ5 at *
  refine wp_gd (by rw [F5.kd (by omega)]; exact St3.2.2.2.1.1) ?_
  subst er
  refine wp_c0 ?_
  refine wp_mono (rec_push hn G3 St3 F5 n5 (by rw [k5]; decide) hL) fun τ hq => ?_
  obtain ⟨Ow2, p1, p2, p3, p4, p5, p6, p7, p8⟩ := hq
  exact wp_ok ⟨Ow2, nx σ3, rfl, p1, p2, by rw [p5]; exact k5, by rw [p6]; exact l5, by rw [p6]; exact l6, F13.tr2 p3 fun q x z => Or.inr (Or.inr (z.imp id fun w => ⟨w.1, by rw [← O3 q x]; exact w.2⟩)), fun q x => by rw [p4 q (by omega), O3 q x], by show nx τ ≤ _; omega, by show us τ ≤ _; omega⟩
end XDropE
