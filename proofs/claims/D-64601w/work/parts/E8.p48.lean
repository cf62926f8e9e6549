/-! THE CALLS OF THE LAW on the component: what is read of nodes and edges; crash, count -/
set_option maxRecDepth 100000
section LAWI
variable {σ y : AS} {k : Nat} {l : List Ch} {m : Int}
theorem X0_ofNode_law {v w : Int} (h : CX σ k l m) (ho : Out σ) (hl : l.length ≤ 64) : Wp (f_X0_ofNode 1000 v w 1053 σ) (Ans σ k l m (sOfN (run l) v w)) := by
  have hx := h.nx
  have h' := h
  obtain ⟨Ow, TH, ty, fr, too, mc, L, ⟨no, ed, fm⟩, h1, h2, h3⟩ := h'
  obtain ⟨-, -, -, -, -, -, hLK, hG, -⟩ := h1.low (by omega)
  have hN := nodeOf_G (v := v) h1.1 h1.2.1 hLK hG
  unfold f_X0_ofNode sOfN
  refine wp_gd h.k0 ?_
  have see : ∀ x : Int, f_X1_ofNode 1000 v w σ = some (.inr x, σ) → Wp (cy (f_X1_ofNode 1000 v w σ) (fun E5 σ3 => if E5 = 1 then (nm (nx σ3) fun r7 => nm (al σ3 0 0 0) fun σ9 => some (1, σ9)) else (if E5 = 2 then (nm (nx σ3) fun r12 => nm (al σ3 0 0 0) fun σ14 => some (2, σ14)) else (none))) fun v2 σ3 => gd (kd σ3 1053 = 101 ∧ (0 : Int) ≤ 0 ∧ 0 < ln σ3 1053) <| nm (wr σ3 1053 0 v2) fun σ17 => some (0, σ17)) (Ans σ k l m (0, x, [])) := fun x e => by
    refine wp_cy_inr (wp_of_eq e ⟨_, rfl, ?_⟩)
    exact wp_gd (out_at ho hx Fr.rf) (wp_nm0 (wp_ok (ans_see h)))
  by_cases c : isN (run l) v = true
  · rw [if_pos c]
    have hv := isN_iff.mp c
    obtain ⟨n1, n2, n3, n4⟩ := num_at h1.1 hLK hG hv
    have nv : no v ≠ 0 := (hLK.1 v).mpr hv.2.2
    have e3 := n3.2.2.1
    have e4 := n4.2.2.1
    rw [len_out] at e3
    rw [len_in] at e4
    have ety : ld σ (no v) 1 = gl (run l) v := by
      rw [(h1.1.2.2.2.2.2.2.2.2.2.2.1 _ n2).1]
      exact (hLK.2.2.1 v nv).1
    obtain ⟨z1, z2, z3⟩ := h1.1.size n2
    have esz : sm (has (fm (no v))) 32 = ctT 0 v (gp (run l)) := by
      rw [ct_lk hG.2.2.2.2 fun x hx => (hG.2.2.2.1 x hx).2.1]
      refine sm_congr fun q => ?_
      have e := (hLK.2.2.1 v nv).2 q
      unfold pv at e
      unfold has
      rw [← e]
      by_cases z : fm (no v) q = 0
      · rw [if_pos z, if_pos z, if_pos rfl]
      · rw [if_neg z, if_neg z, if_neg (fun w => by cases w)]
    by_cases w0 : w = 0
    · rw [if_pos w0]
      refine see _ ?_
      unfold f_X1_ofNode
      rw [gd_pos h.k0, hN, if_pos c, cx_inr, if_pos w0, gd_pos n1, ety]
    rw [if_neg w0]
    by_cases w1 : w = 1
    · rw [if_pos w1]
      refine see _ ?_
      unfold f_X1_ofNode
      rw [gd_pos h.k0, hN, if_pos c, cx_inr, if_neg w0, if_pos w1, gd_pos n1, gd_pos n3.1, e3]
    rw [if_neg w1]
    by_cases w2 : w = 2
    · rw [if_pos w2]
      refine see _ ?_
      unfold f_X1_ofNode
      rw [gd_pos h.k0, hN, if_pos c, cx_inr, if_neg w0, if_neg w1, if_pos w2, gd_pos n1, gd_pos n4.1, e4]
    rw [if_neg w2]
    by_cases w3 : w = 3
    · rw [if_pos w3]
      refine see _ ?_
      unfold f_X1_ofNode
      rw [gd_pos h.k0, hN, if_pos c, cx_inr, if_neg w0, if_neg w1, if_neg w2, if_pos w3, gd_pos n1, gd_pos z1]
      change f_J8_size (ld σ (no v) 0) σ = some (((sm (has (fm (no v))) 32 : Nat) : Int), σ) at z2
      rw [z2, c1_at, esz]
    rw [if_neg w3]
    refine wp_cy_inl (E := 2) (s := al σ 0 0 6) ?_ ?_
    · unfold f_X1_ofNode
      rw [gd_pos h.k0, hN, if_pos c, cx_inr, if_neg w0, if_neg w1, if_neg w2, if_neg w3]
    · exact wp_neg (by decide) (wp_pos rfl (wp_nm0 (wp_nm0 (wp_ok (ans_throw h (by decide))))))
  · rw [if_neg c]
    refine wp_cy_inl (E := 1) (s := al σ 0 0 6) ?_ ?_
    · unfold f_X1_ofNode
      rw [gd_pos h.k0, hN, if_neg c]
      rfl
    · exact wp_pos rfl (wp_nm0 (wp_nm0 (wp_ok (ans_throw h (by decide)))))
theorem X0_ofEdge_law {v w : Int} (h : CX σ k l m) (ho : Out σ) (hl : l.length ≤ 64) : Wp (f_X0_ofEdge 1000 v w 1053 σ) (Ans σ k l m (sOfE (run l) v w)) := by
  have hx := h.nx
  have h' := h
  obtain ⟨Ow, TH, ty, fr, too, mc, L, ⟨no, ed, fm⟩, h1, h2, h3⟩ := h'
  obtain ⟨-, -, -, -, -, -, hLK, hG, -⟩ := h1.low (by omega)
  have hN := edgeOf_G (v := v) h1.1 h1.2.1 hLK hG
  unfold f_X0_ofEdge sOfE
  refine wp_gd h.k0 ?_
  have see : ∀ x : Int, f_X1_ofEdge 1000 v w σ = some (.inr x, σ) → Wp (cy (f_X1_ofEdge 1000 v w σ) (fun E5 σ3 => if E5 = 1 then (nm (nx σ3) fun r7 => nm (al σ3 0 0 0) fun σ9 => some (1, σ9)) else (if E5 = 2 then (nm (nx σ3) fun r12 => nm (al σ3 0 0 0) fun σ14 => some (2, σ14)) else (none))) fun v2 σ3 => gd (kd σ3 1053 = 101 ∧ (0 : Int) ≤ 0 ∧ 0 < ln σ3 1053) <| nm (wr σ3 1053 0 v2) fun σ17 => some (0, σ17)) (Ans σ k l m (0, x, [])) := fun x e => by
    refine wp_cy_inr (wp_of_eq e ⟨_, rfl, ?_⟩)
    exact wp_gd (out_at ho hx Fr.rf) (wp_nm0 (wp_ok (ans_see h)))
  by_cases c : isE (run l) v = true
  · rw [if_pos c]
    have hv := isE_iff.mp c
    have nv : ed v ≠ 0 := (hLK.2.1 v).mpr hv.2.2
    obtain ⟨-, -, n2, n1, -⟩ := h1.1.2.2.2.2.2.2.2.1 v nv
    obtain ⟨⟨t1, t2, t3⟩, t4⟩ := hLK.2.2.2 v nv
    obtain ⟨s1, s2⟩ := h1.1.2.2.2.2.2.2.2.2.2.2.1 _ n2
    obtain ⟨s3, s4⟩ := s2 n1
    have ety : ld σ (ed v) 1 = gt (run l) v := s1.trans t1
    have efr : ld σ (ed v) 2 = gf (run l) v := s3.trans t2
    have eto : ld σ (ed v) 3 = go (run l) v := s4.trans t3
    obtain ⟨z1, z2, z3⟩ := h1.1.size n2
    have esz : sm (has (fm (ed v))) 32 = ctT 1 v (gp (run l)) := by
      rw [ct_lk hG.2.2.2.2 fun x hx => (hG.2.2.2.1 x hx).2.1]
      refine sm_congr fun q => ?_
      have e := t4 q
      unfold pv at e
      unfold has
      rw [← e]
      by_cases z : fm (ed v) q = 0
      · rw [if_pos z, if_pos z, if_pos rfl]
      · rw [if_neg z, if_neg z, if_neg (fun w => by cases w)]
    by_cases w0 : w = 0
    · rw [if_pos w0]
      refine see _ ?_
      unfold f_X1_ofEdge
      rw [gd_pos h.k0, hN, if_pos c, cx_inr, if_pos w0, gd_pos n1, ety]
    rw [if_neg w0]
    by_cases w1 : w = 1
    · rw [if_pos w1]
      refine see _ ?_
      unfold f_X1_ofEdge
      rw [gd_pos h.k0, hN, if_pos c, cx_inr, if_neg w0, if_pos w1, gd_pos n1, efr]
    rw [if_neg w1]
    by_cases w2 : w = 2
    · rw [if_pos w2]
      refine see _ ?_
      unfold f_X1_ofEdge
      rw [gd_pos h.k0, hN, if_pos c, cx_inr, if_neg w0, if_neg w1, if_pos w2, gd_pos n1, eto]
    rw [if_neg w2]
    by_cases w3 : w = 3
    · rw [if_pos w3]
      refine see _ ?_
      unfold f_X1_ofEdge
      rw [gd_pos h.k0, hN, if_pos c, cx_inr, if_neg w0, if_neg w1, if_neg w2, if_pos w3, gd_pos n1, gd_pos z1]
      change f_J8_size (ld σ (ed v) 0) σ = some (((sm (has (fm (ed v))) 32 : Nat) : Int), σ) at z2
      rw [z2, c1_at, esz]
    rw [if_neg w3]
    refine wp_cy_inl (E := 2) (s := al σ 0 0 6) ?_ ?_
    · unfold f_X1_ofEdge
      rw [gd_pos h.k0, hN, if_pos c, cx_inr, if_neg w0, if_neg w1, if_neg w2, if_neg w3]
    · exact wp_neg (by decide) (wp_pos rfl (wp_nm0 (wp_nm0 (wp_ok (ans_throw h (by decide))))))
  · rw [if_neg c]
    refine wp_cy_inl (E := 1) (s := al σ 0 0 6) ?_ ?_
    · unfold f_X1_ofEdge
      rw [gd_pos h.k0, hN, if_neg c]
      rfl
    · exact wp_pos rfl (wp_nm0 (wp_nm0 (wp_ok (ans_throw h (by decide)))))
theorem edgeAt_num {o a : Int} {M : List Int} (hM : NumOk σ o M) : f_X1_edgeAt_24 a o σ = if 0 ≤ a ∧ a < M.length then some (.inr (M.getD a.toNat 0), σ) else some (.inl 1, al σ 0 0 6) := by
  obtain ⟨a1, a2, a3, a4, a5, a6⟩ := hM
  unfold f_X1_edgeAt_24
  by_cases c1 : a < 0
  · rw [if_pos c1, if_neg (by omega)]
    rfl
  · rw [if_neg c1, gd_pos a1, a3]
    by_cases c2 : (M.length : Int) ≤ a
    · rw [if_pos c2, if_neg (by omega)]
      rfl
    · rw [if_neg c2, if_pos (by omega)]
      unfold f_X1_edgeAt_44 f_X1_inside
      rw [if_neg (by decide), cx_inr, gd_pos a1, gd_pos ⟨a2, by omega, by omega⟩]
      have := a6 a.toNat (by omega)
      rw [show ((a.toNat : Nat) : Int) = a by omega] at this
      rw [this]
theorem X0_edgeAt_law {v t a : Int} (h : CX σ k l m) (ho : Out σ) (hl : l.length ≤ 64) : Wp (f_X0_edgeAt 1000 v t a 1053 σ) (Ans σ k l m (sEAt (run l) v t a)) := by
  have hx := h.nx
  have h' := h
  obtain ⟨Ow, TH, ty, fr, too, mc, L, ⟨no, ed, fm⟩, h1, h2, h3⟩ := h'
  obtain ⟨-, -, -, -, -, -, hLK, hG, -⟩ := h1.low (by omega)
  have hN := nodeOf_G (v := v) h1.1 h1.2.1 hLK hG
  unfold f_X0_edgeAt sEAt
  refine wp_gd h.k0 ?_
  by_cases c : isN (run l) v = true
  · rw [if_pos c]
    have hv := isN_iff.mp c
    obtain ⟨n1, n2, n3, n4⟩ := num_at h1.1 hLK hG hv
    have e : f_X1_edgeAt 1000 v t a σ = if 0 ≤ a ∧ a < (if t = 0 then outL (run l) v else inL (run l) v).length then some (.inr ((if t = 0 then outL (run l) v else inL (run l) v).getD a.toNat 0), σ) else some (.inl 1, al σ 0 0 6) := by
      unfold f_X1_edgeAt
      rw [gd_pos h.k0, hN, if_pos c, cx_inr]
      by_cases ct : t = 0
      · rw [if_pos ct, if_pos ct, gd_pos n1]; exact edgeAt_num n3
      · rw [if_neg ct, if_neg ct, gd_pos n1]; exact edgeAt_num n4
    by_cases q : 0 ≤ a ∧ a < (if t = 0 then outL (run l) v else inL (run l) v).length
    · rw [if_pos q] at e ⊢
      refine wp_cy_inr (wp_of_eq e ⟨_, rfl, ?_⟩)
      exact wp_gd (out_at ho hx Fr.rf) (wp_nm0 (wp_ok (ans_see h)))
    · rw [if_neg q] at e ⊢
      exact wp_cy_inl e (wp_pos rfl (wp_nm0 (wp_nm0 (wp_ok (ans_throw h (by decide))))))
  · rw [if_neg c]
    refine wp_cy_inl (E := 1) (s := al σ 0 0 6) ?_ ?_
    · unfold f_X1_edgeAt
      rw [gd_pos h.k0, hN, if_neg c]
      rfl
    · exact wp_pos rfl (wp_nm0 (wp_nm0 (wp_ok (ans_throw h (by decide)))))
/-- crash: code, value; k, changes behind it -/
theorem X0_crash_law {n : Nat} {a : Int} (hn : 1000000 ≤ n) (h : CX σ k l m) (ho : Out σ) (hl : l.length ≤ 64) (hm : m ≤ 80000) : Wp (f_X0_crash n 1000 a 1053 σ) fun y => (if 0 ≤ a ∧ a ≤ k then y.1 = 0 ∧ ld y.2 1053 0 = k - a ∧ CX y.2 0 (l.take (l.length - (k - a.toNat))) (m + 64) else y.1 = 1 ∧ CX y.2 k l m) ∧ Bd σ y.2 := by
  have hx := h.nx
  have h' := h
  obtain ⟨Ow, TH, ty, fr, too, mc, L, S, h1, h2, h3⟩ := h'
  have hk64 := h1.2.2.1.len
  have hc := h1.crash (a := a) hn hl (by omega)
  rw [h2] at hc
  unfold f_X0_crash
  refine wp_gd h.k0 ?_
  by_cases c : 0 ≤ a ∧ a ≤ (k : Int)
  · refine wp_cy_inr (wp_mono hc fun y hq => ?_)
    rw [if_pos c] at hq
    obtain ⟨e1, Ow', mc', S', C2, m2, F2, n2, u2⟩ := hq
    refine ⟨_, e1, wp_gd (out_at ho hx F2) (wp_nm0 (wp_ok ⟨?_, ?_⟩))⟩
    · rw [if_pos c]
      refine ⟨rfl, by show ld (wr y.2 1053 0 _) 1053 0 = _; rw [ld_wr, if_pos ⟨rfl, rfl⟩], ?_⟩
      have cx2 : CX y.2 0 (l.take (l.length - (k - a.toNat))) (m + 64) := ⟨Ow', TH, ty, fr, too, mc', [], S', C2, rfl, by omega⟩
      refine cx2.other (Fr.wr (S := fun r => r = 1053) rfl) (fun r z => by have z' : r = 1053 := z; omega) ⟨?_, ?_⟩
      · rw [ld_wr, if_neg (fun z => by omega)]
      · rw [ld_wr, if_neg (fun z => by omega)]
    · exact ⟨(F2.sub fun r _ z => Or.inl z).trans (Fr.wr (Or.inr rfl)), by show nx y.2 ≤ _; omega, by show us y.2 ≤ _; omega⟩
  · obtain ⟨y, e, hq⟩ := hc
    rw [if_neg c] at hq
    rw [hq] at e
    refine wp_cy_inl e (wp_pos rfl (wp_nm0 (wp_nm0 (wp_ok ⟨?_, ?_, ?_, ?_⟩))))
    · rw [if_neg c]
      exact ⟨rfl, (h.al (by decide)).al (by decide)⟩
    · exact (Fr.al (by decide)).trans (Fr.al (by decide))
    · rw [nx_al, nx_al]; omega
    · rw [us_al, us_al]; omega
theorem X1_sync_law {n : Nat} (hn : 1000000 ≤ n) (h : CX σ k l m) : Wp (f_X1_sync n 1000 σ) fun y => y.1 = k ∧ CX y.2 0 l m ∧ Bd σ y.2 := by
  obtain ⟨Ow, TH, ty, fr, too, mc, L, S, h1, h2, h3⟩ := h
  refine wp_mono (h1.sync hn) fun y hq => ?_
  obtain ⟨e1, C2, F2, n2, u2⟩ := hq
  exact ⟨by rw [e1, h2], ⟨Ow, TH, ty, fr, too, mc, [], S, C2, rfl, h3⟩, F2.sub fun r _ z => Or.inl z, by omega, by omega⟩
def sCount (G : Gr) (k : Nat) (rc wc w : Int) : An := if w = 0 then (0, (sm (fun i => if gl G i = -1 then 0 else 1) 400 : Nat), []) else if w = 1 then (0, (sm (fun i => if gt G i = -1 then 0 else 1) 1000 : Nat), []) else if w = 2 then (0, ((gp G).length : Nat), []) else if w = 3 then (0, (k : Nat), []) else if w = 4 then (0, rc, []) else if w = 5 then (0, wc, []) else (1, 0, [])
theorem X0_count_law {w : Int} (h : CX σ k l m) (ho : Out σ) (hl : l.length ≤ 64) : Wp (f_X0_count 1000 w 1053 σ) (Ans σ k l m (sCount (run l) k (ld σ 1000 9) (ld σ 1000 13) w)) := by
  have hx := h.nx
  have h' := h
  obtain ⟨Ow, TH, ty, fr, too, mc, L, ⟨no, ed, fm⟩, h1, h2, h3⟩ := h'
  obtain ⟨-, -, -, -, -, -, hLK, hG, -⟩ := h1.low (by omega)
  obtain ⟨d1, d2, d3⟩ := hLK.counts hG
  have x0 := h1.2.1.2.1
  have x1 := h1.2.1.2.2.1
  have g1 := h1.1.2.2.1.1
  obtain ⟨c2, c3, c4⟩ := h1.1.2.2.2.1
  unfold f_X0_count sCount
  refine wp_gd h.k0 ?_
  have see : ∀ x : Int, f_X1_count 1000 w σ = some (.inr x, σ) → Wp (cy (f_X1_count 1000 w σ) (fun E5 σ3 => if E5 = 2 then (nm (nx σ3) fun r7 => nm (al σ3 0 0 0) fun σ9 => some (1, σ9)) else (none)) fun v2 σ3 => gd (kd σ3 1053 = 101 ∧ (0 : Int) ≤ 0 ∧ 0 < ln σ3 1053) <| nm (wr σ3 1053 0 v2) fun σ12 => some (0, σ12)) (Ans σ k l m (0, x, [])) := fun x e => by
    refine wp_cy_inr (wp_of_eq e ⟨_, rfl, ?_⟩)
    exact wp_gd (out_at ho hx Fr.rf) (wp_nm0 (wp_ok (ans_see h)))
  by_cases w0 : w = 0
  · rw [if_pos w0]
    refine see _ ?_
    unfold f_X1_count
    rw [if_pos w0, gd_pos h.k0, x0, gd_pos g1, c2, d1]
  rw [if_neg w0]
  by_cases w1 : w = 1
  · rw [if_pos w1]
    refine see _ ?_
    unfold f_X1_count
    rw [if_neg w0, if_pos w1, gd_pos h.k0, x0, gd_pos g1, c3, d2]
  rw [if_neg w1]
  by_cases w2 : w = 2
  · rw [if_pos w2]
    refine see _ ?_
    unfold f_X1_count
    rw [if_neg w0, if_neg w1, if_pos w2, gd_pos h.k0, x0, gd_pos g1, c4, d3]
  rw [if_neg w2]
  by_cases w3 : w = 3
  · rw [if_pos w3]
    refine see _ ?_
    unfold f_X1_count
    rw [if_neg w0, if_neg w1, if_neg w2, if_pos w3, gd_pos h.k0, x1, gd_pos h1.2.1.2.2.2.1.1, f_J1_size_eq h1.2.1.2.2.2.1 (by have := h1.2.1.2.2.2.2.2.2.2.2.1; omega), c1_at, h2]
  rw [if_neg w3]
  by_cases w4 : w = 4
  · rw [if_pos w4]
    refine see _ ?_
    unfold f_X1_count
    rw [if_neg w0, if_neg w1, if_neg w2, if_neg w3, if_pos w4, gd_pos h.k0]
  rw [if_neg w4]
  by_cases w5 : w = 5
  · rw [if_pos w5]
    refine see _ ?_
    unfold f_X1_count
    rw [if_neg w0, if_neg w1, if_neg w2, if_neg w3, if_neg w4, if_pos w5, gd_pos h.k0]
  rw [if_neg w5]
  refine wp_cy_inl (E := 2) (s := al σ 0 0 6) ?_ ?_
  · unfold f_X1_count
    rw [if_neg w0, if_neg w1, if_neg w2, if_neg w3, if_neg w4, if_neg w5]
  · exact wp_pos rfl (wp_nm0 (wp_nm0 (wp_ok (ans_throw h (by decide)))))
end LAWI
