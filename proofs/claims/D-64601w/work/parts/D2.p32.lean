/-! THE COMPONENT'S node -/
set_option maxRecDepth 100000
section XNode
variable {σ σ' : AS} {Ow Ow' : F1} {v l K : Int} {L : List Int} {TH : Int → Prop} {fm : Int → F1} {no ed ty fr too : F1} {mc cN cE cP : Int}
set_option maxHeartbeats 4000000 in
theorem X1_node_ok {n : Nat} (hn : 1000000 ≤ n) (h : GI σ Ow TH fm no ed ty fr too mc cN cE cP) (hs : StkOk σ Ow L) (hl : 0 ≤ l ∧ l < 32) (hK : 0 ≤ K ∧ K < 400 ∧ no K = 0) (b1 : 0 ≤ cN ∧ cN < 400) (b2 : 0 ≤ cP ∧ cP ≤ 100000) (hm : 0 ≤ mc) (hL : L.length < 64) : Wp (f_X1_node n 1000 l σ) fun y => ∃ (v : Int) (Ow' : F1) (p r : Int), y.1 = .inr v ∧ 0 ≤ v ∧ v ≤ K ∧ no v = 0 ∧ (∀ i, 0 ≤ i → i < v → no i ≠ 0) ∧ p = nx σ ∧ ¬ TH p ∧ GI y.2 Ow' (fun q => TH q ∨ q = p) (fun q => if q = p then fun _ => 0 else fm q) (ud no v p) ed (ud ty p l) fr too mc (cN + 1) cE cP ∧ StkOk y.2 Ow' (r :: L) ∧ kd y.2 r = 6 ∧ ld y.2 r 0 = v ∧ Fr (fun r => S3 r ∨ SD Ow r) σ y.2 ∧ (∀ r, r < nx σ → Ow' r = Ow r) ∧ nx y.2 ≤ nx σ + 8 ∧ us y.2 ≤ us σ + 160 := by
  have hx := h.1
  have hs' := hs
  obtain ⟨k0, x0, x1, -⟩ := hs'
  obtain ⟨g1, g2, g3, g4, g5, -⟩ := h.2.2.1
  have c2 := h.2.2.2.1.1
  have aN := h.2.2.2.2.1
  unfold f_X1_node f_X1_isNumber f_X1_need
  rw [if_neg (by omega), if_neg (by omega), c1_at, if_neg (by decide), cx_inr]
  refine wp_gd k0 ?_
  rw [x0]
  refine wp_gd g1 ?_
  rw [c2]
  refine wp_neg (by omega) ?_
  unfold f_X1_node_25 f_X1_room
  rw [if_neg (by decide), cx_inr]
  refine wp_gd k0 ?_
  rw [x0]
  refine wp_gd g1 ?_
  rw [g2]
  refine wp_c1 ?_
  refine wp_mono (free_wp hn (Or.inl g4) ⟨hK.1, by omega, by omega⟩ (by rw [aN K hK.1 hK.2.1]; exact hK.2.2)) fun y hy => ?_
  obtain ⟨y1, y2, y3, y4, y5⟩ := hy
  rw [y1]
  generalize y.1 = v at *
  rw [aN v y2 (by omega)] at y4
  refine wp_gd k0 ?_
  refine wp_nm (fun p ep => ?_)
  refine wp_nm (fun σ1 e1 => ?_)
  have F1 : Fr (fun _ => False) σ σ1 := by rw [e1]; exact Fr.al (by decide)
  have k1 : kd σ1 p = 4 := by rw [e1, ep, kd_al, if_pos rfl]
  have n1 : nx σ1 = p + 1 := by rw [e1, nx_al, ep]
  have u1 : us σ1 = us σ + 4 := by rw [e1]; rfl
  clear e1
  have nT : ¬ TH p := fun z => by
    have := (h.2.2.2.2.2.2.2.2.2.2.2 p z).2.1
    omega
  refine wp_gd (by omega) ?_
  refine wp_c0 ?_
  refine wp_mono (newNode_wp (Ow := Ow) ⟨by omega, by omega⟩ k1) fun σ2 hq => ?_
  obtain ⟨i1, i2, i3, i4, i5, i6⟩ := hq
  have F2 : Fr (fun _ => False) σ σ2 := F1.tr2 i4 fun r x z => by have z' : r = p := z; omega
  have O2 : ∀ r, r < nx σ → owN Ow p (nx σ1) r = Ow r := fun r hr => by
    unfold owN
    rw [if_neg (by omega), if_neg (by omega), if_neg (by omega), if_neg (by omega), if_neg (by omega), if_neg (by omega)]
  have G2 := h.new F2 O2 (p := p) (tp := l) (a := fr p) (b := too p) (by omega) hm (fun Po Pi z => i1.pcongr fun k4 x => ⟨⟨fun w => (z k4 x).1 w, fun w => w.elim⟩, ⟨fun w => (z k4 x).2 w, fun w => w.elim⟩⟩) i3 (fun z => by rw [i2] at z; cases z)
  rw [ud_self, ud_self] at G2
  rw [x0]
  refine wp_gd (by rw [F2.kd (by omega)]; exact g1) ?_
  refine wp_c0 ?_
  have hnew : ∀ i, no i ≠ p := fun i z => nT (z ▸ (h.2.2.2.2.2.2.1 i (by omega)).2.2.1)
  refine wp_mono (enter_wp G2 ⟨y2, by omega⟩ y4 (Or.inr rfl) i2 hnew ⟨b1.1, by omega⟩ b2) fun σ3 hq => ?_
  obtain ⟨G3, F3, n3, u3⟩ := hq
  have hS3 : ∀ r, S3 r → r = 1001 ∨ r = 1002 ∨ r = 1003 := fun r z => z
  rw [if_pos rfl, sm_none, show cP + ((0 : Nat) : Int) = cP by omega] at G3
  have m2 := F2.1
  have q0 : ∀ j, ld σ3 1000 j = ld σ 1000 j := fun j => (F3.ld (by omega) (fun z => by have := hS3 _ z; omega) j).trans (F2.ld (by omega) (fun z => z) j)
  have k3 : kd σ3 1000 = 1 := by rw [F3.kd (by omega), F2.kd (by omega)]; exact k0
  have St3 : StkOk σ3 (owN Ow p (nx σ1)) L := (hs.frame hx F2 O2 (fun r z => z.elim)).frame (by omega) F3 (fun _ _ => rfl) (fun r z => by have := hS3 r z; omega)
  have F13 : Fr (fun r => S3 r ∨ SD Ow r) σ σ3 := (F2.sub (S' := fun r => S3 r ∨ SD Ow r) fun r _ z => z.elim).tr2 F3 fun r _ z => Or.inl z
  refine wp_gd k3 ?_
  rw [q0 1, x1]
  refine wp_nm (fun r er => ?_)
  refine wp_nm (fun σ4 e4 => ?_)
  have F4 : Fr (fun _ => False) σ3 σ4 := by rw [e4]; exact Fr.al (by decide)
  have k4 : kd σ4 r = 6 := by rw [e4, er, kd_al, if_pos rfl]
  have n4 : nx σ4 = nx σ3 + 1 := by rw [e4, nx_al]
  have u4 : us σ4 = us σ3 + 1 := by rw [e4]; rfl
  clear e4
  have r0 : r ≠ 0 := by omega
  refine wp_gd r0 ?_
  refine wp_c0e (s := wr σ4 r 0 v) ?_ ?_
  · unfold f_X11_init f_J9_init
    rw [gd_pos r0]
    show c0 (gd (r ≠ 0) (some σ4)) _ = _
    rw [gd_pos r0]
    show gd (kd σ4 r = 6) _ = _
    rw [gd_pos k4]
    rfl
  have F5 : Fr (fun _ => False) σ3 (wr σ4 r 0 v) := F4.tr2 (Fr.wr (S := fun q => q = r) rfl) fun q x z => by have z' : q = r := z; omega
  have l5 : ld (wr σ4 r 0 v) r 0 = v := by rw [ld_wr, if_pos ⟨rfl, rfl⟩]
  have k5 : kd (wr σ4 r 0 v) r = 6 := k4
  have n5 : nx (wr σ4 r 0 v) = nx σ3 + 1 := n4
  have u5 : us (wr σ4 r 0 v) = us σ3 + 1 := u4
  generalize wr σ4 r 0 v = σ5 at *
  refine wp_gd (by rw [F5.kd (by omega)]; exact St3.2.2.2.1.1) ?_
  subst er
  refine wp_c0 ?_
  refine wp_mono (rec_push hn G3 St3 F5 n5 (by rw [k5]; decide) hL) fun τ hq => ?_
  obtain ⟨Ow2, p1, p2, p3, p4, p5, p6, p7, p8⟩ := hq
  refine wp_ok ⟨v, Ow2, p, nx σ3, rfl, y2, y3, y4, fun i a b c => y5 i a b (by rw [aN i a (by omega)]; exact c), ep, nT, p1, p2, by rw [p5]; exact k5, by rw [p6]; exact l5, F13.tr2 p3 fun q x z => Or.inr ?_, fun q x => by rw [p4 q (by omega), O2 q x], by show nx τ ≤ _; omega, by show us τ ≤ _; omega⟩
  have z' : q = 1004 ∨ (1005 ≤ q ∧ owN Ow p (nx σ1) q = 2) := z
  rcases z' with w | w
  · exact Or.inl w
  · exact Or.inr ⟨w.1, by rw [← O2 q x]; exact w.2⟩
end XNode
