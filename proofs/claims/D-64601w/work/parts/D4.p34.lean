/-! THE COMPONENT's dropNode -/
set_option maxRecDepth 100000
section XDrop
variable {σ : AS} {Ow : F1} {v o t1 t2 : Int} {P : Int → Prop} {L : List Int} {TH : Int → Prop} {fm : Int → F1} {no ed ty fr too : F1} {mc cN cE cP : Int}
theorem NumAt.size (h : NumAt σ Ow o t1 t2 P) : kd σ o = 3 ∧ 0 ≤ ld σ o 1 ∧ ld σ o 1 ≤ 4096 ∧ (ld σ o 1 = 0 ↔ ∀ x, ¬ P x) := by
  obtain ⟨h1, h2, h3, h4, h5, h6, h7, M, h8, h9, h10⟩ := h
  obtain ⟨b1, b2, b3, b4, b5, b6⟩ := h8
  refine ⟨b1, by omega, by omega, ?_⟩
  rw [b3]
  constructor
  · intro e x hp
    have hx := (h10 x).mpr hp
    have : M = [] := List.length_eq_zero_iff.mp (by omega)
    rw [this] at hx
    exact absurd hx List.not_mem_nil
  · intro e
    cases M with
    | nil => rfl
    | cons y M => exact absurd ((h10 y).mp List.mem_cons_self) (e y)
set_option maxHeartbeats 4000000 in
theorem X1_dropNode_ok {n : Nat} (hn : 1000000 ≤ n) (h : GI σ Ow TH fm no ed ty fr too mc cN cE cP) (hs : StkOk σ Ow L) (hv : no v ≠ 0) (hfree : ∀ e, ed e ≠ 0 → fr (ed e) ≠ v ∧ too (ed e) ≠ v) (b1 : 0 ≤ cN ∧ cN ≤ 100000) (b2 : 0 ≤ cP ∧ cP ≤ 100000) (hL : L.length < 64) : Wp (f_X1_dropNode n 1000 v σ) fun y => ∃ (Ow' : F1) (r : Int), y.1 = .inr () ∧ GI y.2 Ow' TH fm (ud no v 0) ed ty fr too mc (cN - 1) cE (cP - sm (has (fm (no v))) 32) ∧ StkOk y.2 Ow' (r :: L) ∧ kd y.2 r = 8 ∧ ld y.2 r 0 = v ∧ ld y.2 r 1 = no v ∧ Fr (fun r => S3 r ∨ SD Ow r) σ y.2 ∧ (∀ r, r < nx σ → Ow' r = Ow r) ∧ nx y.2 ≤ nx σ + 2 ∧ us y.2 ≤ us σ + 140 := by
  have hx := h.1
  have hs' := hs
  obtain ⟨k0, x0, x1, -⟩ := hs'
  obtain ⟨g1, -⟩ := h.2.2.1
  obtain ⟨v1, v2, v3, v4⟩ := h.2.2.2.2.2.2.1 v hv
  have hth := h.2.2.2.2.2.2.2.2.2.2.2 _ v3
  have nums := (hth.2.2.2.2.2.2.2.2.resolve_left (fun z => by omega)).2
  obtain ⟨s1, s2, s3, s4⟩ := nums.1.size
  obtain ⟨w1, w2, w3, w4⟩ := nums.2.size
  have a9 := h.2.2.2.2.2.2.2.2.1
  have z1 := s4.mpr fun e z => (hfree e z.1).1 (a9 v _ hv z.2.symm).symm
  have z2 := w4.mpr fun e z => (hfree e z.1).2 (a9 v _ hv z.2.symm).symm
  have eN := nodeOf_eq (v := v) h hs
  rw [if_neg hv] at eN
  unfold f_X1_dropNode
  refine wp_gd k0 ?_
  rw [eN, cx_inr]
  refine wp_gd v4 ?_
  refine wp_gd s1 ?_
  refine wp_gd v4 ?_
  refine wp_gd w1 ?_
  rw [z1, z2]
  refine wp_gI (by omega) ?_
  refine wp_pos (by omega) ?_
  refine wp_gd k0 ?_
  rw [x0]
  refine wp_gd g1 ?_
  refine wp_c0 ?_
  refine wp_mono (leave_wp h hv hfree b1 b2) fun σ3 hq => ?_
  obtain ⟨G3, F3, n3, u3⟩ := hq
  have hS3 : ∀ r, S3 r → r = 1001 ∨ r = 1002 ∨ r = 1003 := fun r z => z
  have q0 : ∀ j, ld σ3 1000 j = ld σ 1000 j := fun j => F3.ld (by omega) (fun z => by have := hS3 _ z; omega) j
  have k3 : kd σ3 1000 = 1 := by rw [F3.kd (by omega)]; exact k0
  have St3 : StkOk σ3 Ow L := hs.frame hx F3 (fun _ _ => rfl) (fun r z => by have := hS3 r z; omega)
  have F13 : Fr (fun r => S3 r ∨ SD Ow r) σ σ3 := F3.sub fun r _ z => Or.inl z
  refine wp_gd k3 ?_
  rw [q0 1, x1]
  refine wp_nm (fun r er => ?_)
  refine wp_nm (fun σ4 e4 => ?_)
  have F4 : Fr (fun _ => False) σ3 σ4 := by rw [e4]; exact Fr.al (by decide)
  have k4 : kd σ4 r = 8 := by rw [e4, er, kd_al, if_pos rfl]
  have n4 : nx σ4 = nx σ3 + 1 := by rw [e4, nx_al]
  have u4 : us σ4 = us σ3 + 2 := by rw [e4]; rfl
  clear e4
  have r0 : r ≠ 0 := by omega
  refine wp_gd r0 ?_
  refine wp_c0e (s := wr (wr σ4 r 0 v) r 1 (no v)) ?_ ?_
  · unfold f_X14_init f_J9_init
    rw [gd_pos r0]
    show c0 (gd (r ≠ 0) (some σ4)) _ = _
    rw [gd_pos r0]
    show gd (kd σ4 r = 8) _ = _
    rw [gd_pos k4]
    show gd (kd σ4 r = 8) _ = _
    rw [gd_pos k4]
    rfl
  have F5 : Fr (fun _ => False) σ3 (wr (wr σ4 r 0 v) r 1 (no v)) := F4.tr2 ((Fr.wr (S := fun q => q = r) rfl).trans (Fr.wr rfl)) fun q x z => by have z' : q = r := z; omega
  have l5 : ld (wr (wr σ4 r 0 v) r 1 (no v)) r 0 = v := by rw [ld_wr, if_neg (fun z => by omega), ld_wr, if_pos ⟨rfl, rfl⟩]
  have l6 : ld (wr (wr σ4 r 0 v) r 1 (no v)) r 1 = no v := by rw [ld_wr, if_pos ⟨rfl, rfl⟩]
  have k5 : kd (wr (wr σ4 r 0 v) r 1 (no v)) r = 8 := k4
  have n5 : nx (wr (wr σ4 r 0 v) r 1 (no v)) = nx σ3 + 1 := n4
  have u5 : us (wr (wr σ4 r 0 v) r 1 (no v)) = us σ3 + 2 := u4
  generalize wr (wr σ4 r 0 v) r 1 (no v) = σ5 at *
  refine wp_gd (by rw [F5.kd (by omega)]; exact St3.2.2.2.1.1) ?_
  subst er
  refine wp_c0 ?_
  refine wp_mono (rec_push hn G3 St3 F5 n5 (by rw [k5]; decide) hL) fun τ hq => ?_
  obtain ⟨Ow2, p1, p2, p3, p4, p5, p6, p7, p8⟩ := hq
  exact wp_ok ⟨Ow2, nx σ3, rfl, p1, p2, by rw [p5]; exact k5, by rw [p6]; exact l5, by rw [p6]; exact l6, F13.tr2 p3 fun q x z => Or.inr z, fun q x => p4 q (by omega), by show nx τ ≤ _; omega, by show us τ ≤ _; omega⟩
end XDrop
