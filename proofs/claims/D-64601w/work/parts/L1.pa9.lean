/-! AN EDGE, side by side: the law -/
set_option maxRecDepth 100000
section EL
variable {σ σ0 σ' : AS} {τ τ0 τ' : TT} {n : Nat} {N0 U0 z k q q0 q' c p v l r C l1 l2 l3 l4 l5 l6 s0 e var : Int} {T : List Int} {S : PS} {ps : List Part} {ops eo : List Op} {tl : Tl} {lo hi : Nat}
theorem lk_edTail (hn : 1000000 ≤ n) (hb : BtOk T) (h : ShP T N0 U0 σ z k q S) (hI : EI T N0 σ τ q S ps ops (-1)) (hE0 : EfW N0 σ0 σ) (hF0 : PtF τ0 τ) (hq : q0 ≤ q) :
    Wp (edNm n (fun v s => f_X3_edge_112 n 1007 l1 v s) 1007 σ) fun y => Wp (t1 (g_X7_nameOf n 1022 2 τ) fun v56 τ57 => if v56 = 0 then some (0, τ57) else t1 (g_X7_small n 1022 τ57) fun v64 τ65 => if v64 = 0 then some (0, τ65) else edHops n l1 (τ57 1022 41) (τ65 1022 42) τ65) fun w => EP T N0 U0 z k σ0 τ0 q0 ps ops y w := by
  obtain ⟨⟨hOA, hP, hl, h30, hS⟩, hT, hOps, hlen, hW, hH⟩ := id hI
  refine lk_edNm hn hb h hOA (fun σ1 τ1 q1 S1 v h1 O1 R1 E1 F1 hq1 => ?_) fun σ1 τ1 v f1 E1 F1 => ?_
  · refine wp_swap (wp_neg (by decide) (wp_swap ?_))
    obtain ⟨r1, r2, r3⟩ := R1
    have e29 : τ1 1022 29 = τ 1022 29 := F1 1022 29 (by omega) (by omega)
    have e30 : τ1 1022 30 = τ 1022 30 := F1 1022 30 (by omega) (by omega)
    have hI1 : EI T N0 σ1 τ1 q1 S1 ps ops v := by
      refine ⟨⟨O1, by rw [r1]; exact hP.pf E1.1, ⟨hl.1, by rw [e29]; exact hl.2⟩, ⟨by rw [E1.2.2.1, e30]; exact h30.1, by rw [e30]; exact h30.2⟩, by rw [r1]; exact hS⟩, hT.congr (F1 1022 32 (by omega) (by omega)) fun j => F1 1037 j (by omega) (by omega), hOps, by rw [e30]; exact hlen, fun h5 => ?_, hH⟩
      obtain ⟨m, m0, m1, m2⟩ := hW (E1.2.2.2 h5)
      have m3 : (S.1.1.length : Int) = m := by
        rcases m2 with m2 | m2
        · exact m2.2
        · have := m2.1; omega
      rcases r3 with ⟨a1, a2, a3⟩ | ⟨i, a1, a2, a3, a4, a5⟩ | ⟨a1, a2, a3, a4, a5⟩
      · rw [a2]
        simp only [a3]
        exact ⟨m, m0, m1, Or.inl ⟨a1, m3⟩⟩
      · exact absurd (a5 h5).1 (by decide)
      · refine ⟨m, m0, (m1.congr fun j g1 g2 => ?_).2, Or.inr ⟨by omega, by rw [← m3, ← a1]; exact a4, by omega⟩⟩
        show τ 1036 j = 2 ↔ τ1 1036 j = 2
        rw [a5 j (by omega)]
    unfold f_X3_edge_112
    refine wp_gd h1.2.2.2.2.1.1 (lk_small hn hb h1 O1.1 (fun σ2 τ2 q2 l h2 O2 e42 g1 g2 E2 F2 hq2 => ?_) fun σ2 τ2 l f2 E2 F2 => ?_)
    · refine wp_swap (wp_neg (by decide) (wp_swap ?_))
      rw [r2, e42]
      exact lk_133 hn hb h2 (hI1.step O2 E2 F2) (hE0.trans (E1.trans E2.w)) (hF0.trans (F1.pt.trans F2.pt)) (by omega)
    · refine wp_swap (wp_pos rfl (wp_ok ?_))
      exact wp_mono (e133_fail hn hb f2) fun y hy => EP.fl hy.1 rfl (hE0.trans (E1.trans (E2.trans hy.2.1).w)) (hF0.trans (F1.pt.trans F2.pt)) hy.2.2
  · refine wp_swap (wp_pos rfl (wp_ok ?_))
    obtain ⟨S1, f1⟩ := f1
    exact wp_mono (e112_fail hn hb f1) fun y hy => ⟨hE0.trans (E1.trans hy.2.1.w), hF0.trans F1.pt, hy.2.2, Or.inr ⟨rfl, S1, hy.1⟩⟩
/-- the whole of an edge: the token is "-" (then b = 0) or "<-" (then b = 1) -/
theorem lk_edge (hn : 1000000 ≤ n) (hb : BtOk T) (h : ShP T N0 U0 σ z k q S) (hI : EI T N0 σ τ q S ps ops (-1)) {b : Int} (hC : (b = 0 ∧ tkC T q = 39) ∨ (b = 1 ∧ tkC T q = 41)) (hE0 : EfW N0 σ0 σ) (hF0 : PtF τ0 τ) (hq : q0 ≤ q) :
    Wp (f_X3_edge n 1007 σ) fun y => Wp (g_X7_edgeText_43 n 1022 b τ) fun w => EP T N0 U0 z k σ0 τ0 q0 ps ops y w := by
  have o1 := hI.1.1.1.1
  have hqn := nxq_le h
  have main : ∀ σ1, ShP T N0 U0 σ1 z k (nxq T q) S → Eff N0 σ σ1 → (∀ j, ld σ1 1007 j = ld σ 1007 j) → Wp (f_X3_edge_17 n 1007 b σ1) fun y => Wp (g_X7_edgeText_43 n 1022 b τ) fun w => EP T N0 U0 z k σ0 τ0 q0 ps ops y w := fun σ1 s1 E1 J1 => by
    refine wp_swap ?_
    unfold g_X7_edgeText_43
    refine wp_t1 (wp_mono (ok_next hn hb h hI.1.1.1 s1 J1) fun w hw => ?_)
    obtain ⟨w1, w2⟩ := hw
    rcases w2 with ⟨u1, u2⟩ | ⟨u1, u2⟩
    · have hI1 := hI.step u2 E1 w1.fg
      refine wp_neg (by omega) (wp_swap ?_)
      rw [edge_17_eq]
      refine wp_gd s1.2.2.2.2.1.1 (wp_join0 (lk_need hn hb s1 u2 (r := 27) (C := 32) (by decide) (by unfold spC; omega)) fun σ2 w2 h2 => ?_)
      obtain ⟨b1, b2, b3⟩ := h2
      rcases b3 with ⟨d1, d2, q2, d3, d4, d5⟩ | ⟨d1, d2⟩
      · refine wp_swap (wp_neg (by omega) (wp_swap ?_))
        exact lk_edTail hn hb d4 (hI1.step d5 b1 b2.fg) (hE0.trans (E1.trans b1).w) (hF0.trans (w1.pt.trans b2.pt)) (by omega)
      · refine wp_swap (wp_pos d1 (wp_ok ?_))
        have d3 : ld σ2 1007 3 ≠ 0 ∨ ld σ2 1007 3 = 0 := by omega
        unfold edNm
        refine wp_gd d2.g (wp_ite (fun c0 => ?_) fun c0 => ?_)
        · -- not noticed yet: the token is bad
          obtain ⟨q3, v1, v2⟩ := id d2
          have v7 := v1.2.2.2.2.1
          have vl := v1.2.2.1
          refine wp_gd v7.1 ?_
          rw [v7.2.1]
          refine wp_gd vl.1.1 (wp_gdc (cmp_kinds v1.1 vl (by decide)) (wp_neg ?_ ?_))
          · rw [vl.2.2.2.1, (v2.code0 c0).1]; decide
          · exact wp_mono (e112_fail hn hb d2) fun y hy => EP.fl hy.1 rfl (hE0.trans (E1.trans (b1.trans hy.2.1)).w) (hF0.trans (w1.pt.trans b2.pt)) hy.2.2
        · exact wp_mono (e112_fail hn hb d2) fun y hy => EP.fl hy.1 rfl (hE0.trans (E1.trans (b1.trans hy.2.1)).w) (hF0.trans (w1.pt.trans b2.pt)) hy.2.2
    · refine wp_pos u1 (wp_ok ?_)
      exact wp_mono (e17_fail hn hb u2) fun y hy => EP.fl hy.1 rfl (hE0.trans (E1.trans hy.2.1).w) (hF0.trans w1.pt) hy.2.2
  unfold f_X3_edge
  refine wp_gd h.2.2.2.2.1.1 ?_
  rcases hC with ⟨b0, hC⟩ | ⟨b0, hC⟩
  · rw [b0] at main ⊢
    refine wp_c1e (takes_no hn hb h (r := 25) (C := 41) (by decide) (by unfold spC; omega) fun _ => by omega) (wp_pos rfl (wp_gd h.2.2.2.2.1.1 (wp_c0 (wp_mono (need_yes hn hb h (r := 23) (C := 39) (by decide) (by unfold spC; omega) o1 hC) fun σ1 h1 => ?_))))
    exact main σ1 h1.1 h1.2.1 h1.2.2
  · rw [b0] at main ⊢
    refine wp_c1 (wp_mono (takes_yes hn hb h (r := 25) (C := 41) (by decide) (by unfold spC; omega) o1 hC) fun y hy => ?_)
    obtain ⟨y1, y2, y3, y4⟩ := hy
    rw [y1]
    exact wp_neg (by decide) (main y.2 y2 y3 y4)
end EL
