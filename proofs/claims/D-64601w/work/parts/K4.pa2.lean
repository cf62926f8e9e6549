/-! A NODE, side by side: the law -/
set_option maxRecDepth 100000
section NH
variable {σ σ0 σ' : AS} {τ τ0 : TT} {n : Nat} {N0 U0 z k q q0 q' c p v l r C lo hi l1 l2 s0 e : Int} {T : List Int} {S : PS} {ps : List Part} {ops eo : List Op} {tl : Tl}
/-- the twin's number fields may change -/
theorem okb_no (hO : OKB T σ τ q S) {j v : Int} (hj : j = 29 ∨ j = 30 ∨ (32 ≤ j)) : OKB T σ (sa τ 1022 j v) q S := by
  obtain ⟨o1, ⟨t1', t2, t3, t4, t5, t6⟩, o3, o4, o5⟩ := hO
  have e : ∀ i, i ≠ j → sa τ 1022 j v 1022 i = τ 1022 i := fun i hi => by rw [sa_at, if_neg (fun w => hi w.2)]
  have e2 : ∀ r i, r ≠ 1022 → sa τ 1022 j v r i = τ r i := fun r i hr => by rw [sa_at, if_neg (fun w => hr w.1)]
  refine ⟨o1, ⟨by rw [e _ (by omega)]; exact t1', by rw [e _ (by omega)]; exact t2, by rw [e _ (by omega)]; exact t3, fun w => by rw [e _ (by omega)]; exact t4 w, t5, t6⟩, ⟨by rw [e _ (by omega)]; exact o3.1, fun i hi => by rw [e2 _ _ (by decide)]; exact o3.2 i hi⟩, ?_, o5.congr (e _ (by omega)) fun i => ⟨e2 _ _ (by decide), e2 _ _ (by decide)⟩⟩
  unfold Lt
  rw [e _ (by omega), e _ (by omega)]
  exact o4
/-- a node's name and what stands behind, in the failed mode -/
theorem ndNm_fail (hn : 1000000 ≤ n) (hb : BtOk T) (h : ShP T N0 U0 σ z k q S) (hf : CF1 σ c p) (he : elQ σ e) (hz : z ≤ 6) : Wp (ndNm n (fun v s => f_X3_node_116 n 1007 e v s) 1007 σ) fun σ' => (∃ S', ShP T N0 U0 σ' (z + 1) k q S') ∧ CF1 σ' c p ∧ Eff N0 σ σ' := by
  unfold ndNm
  refine wp_gd h.2.2.2.2.1.1 (wp_neg (by rw [hf.1]; exact hf.2.1) ?_)
  exact wp_mono (f116_fail hn hb h (Or.inl hf) he hz) fun σ2 h4 => h4
theorem lk_ndTail (hn : 1000000 ≤ n) (hb : BtOk T) (h : ShP T N0 U0 σ z k q S) (hO : OKA T N0 σ τ q S) (hP : PsAt σ (S.2 0) (S.2 1) ps) (hl : ps.length ≤ 11 ∧ τ 1022 29 = ps.length + 1) (h30 : ld σ 1007 2 = τ 1022 30 ∧ 0 ≤ τ 1022 30 ∧ τ 1022 30 ≤ 8) (hS : S.2 2 = [] ∧ S.2 3 = [] ∧ S.2 4 = []) (hT : OpT τ (ops ++ eo)) (hOps : OpsOf ps ops) (hE : PndE σ e tl eo) (he : elQ σ e) (hlen : ((ops ++ eo).length : Int) ≤ ps.length + 4 * τ 1022 30) (hW : ld σ 1007 5 = 0 → ∃ m : Int, 0 ≤ m ∧ WFp (fun k => τ 1036 k = 2) 0 ps m ∧ WFE (fun k => τ 1036 k = 2) m tl S.1.1.length) {b : Int} (hbt : b = 0 ↔ tl.1 ≠ 0) (hz : z = 0) (hH : HdP ps tl) (hE0 : EfW N0 σ0 σ) (hF0 : PtF τ0 τ) (hq : q0 ≤ q) :
    Wp (ndNm n (fun v s => f_X3_node_116 n 1007 e v s) 1007 σ) fun σ' => Wp (t1 (g_X7_nameOf n 1022 1 τ) fun v27 τ28 => if v27 = 0 then some (0, τ28) else t1 (g_X7_small n 1022 τ28) fun v32 τ33 => if v32 = 0 then some (0, τ33) else if b = 0 then g_X7_nodeText_77 n 1022 1022 2 τ33 else g_X7_nodeText_77 n 1022 1022 0 τ33) fun w => NP T N0 U0 z k σ0 τ0 q0 ps σ' w := by
  refine lk_ndNm hn hb h hO (fun σ1 τ1 q1 S1 v h1 O1 R1 E1 F1 hq1 => ?_) fun σ1 τ1 v f1 E1 F1 => ?_
  · refine wp_swap (wp_neg (by decide) (wp_swap ?_))
    unfold f_X3_node_116
    refine wp_gd h1.2.2.2.2.1.1 (lk_small hn hb h1 O1.1 (fun σ2 τ2 q2 l h2 O2 e42 g1 g2 E2 F2 hq2 => ?_) fun σ2 τ2 l f2 E2 F2 => ?_)
    · refine wp_swap (wp_neg (by decide) ?_)
      have eB : (if b = 0 then g_X7_nodeText_77 n 1022 1022 2 τ2 else g_X7_nodeText_77 n 1022 1022 0 τ2) = g_X7_nodeText_77 n 1022 1022 (if tl.1 = 0 then 0 else 2) τ2 := by
        by_cases c : b = 0
        · rw [if_pos c, if_neg (hbt.mp c)]
        · rw [if_neg c, if_pos (Decidable.byContradiction fun w => c (hbt.mpr w))]
      rw [eB]
      refine wp_swap ?_
      have kk : ∀ j, τ2 1036 j = τ1 1036 j := fun j => F2 _ _ (by omega)
      have hPF : PF N0 σ σ2 := E1.1.trans E2.1
      obtain ⟨r1, r2, r3⟩ := R1
      have e41 : τ2 1022 41 = v := (F2 1022 41 (by omega)).trans r2
      have e29 : τ2 1022 29 = τ 1022 29 := (F2 1022 29 (by omega)).trans (F1 1022 29 (by omega) (by omega))
      have e30 : τ2 1022 30 = τ 1022 30 := (F2 1022 30 (by omega)).trans (F1 1022 30 (by omega) (by omega))
      have e2 : ld σ2 1007 2 = ld σ 1007 2 := E2.2.2.2.1.trans E1.2.2.1
      have e5 : ld σ2 1007 5 = ld σ1 1007 5 := E2.2.2.2.2.1
      refine lk_137 (a := if tl.1 = 0 then 0 else 2) hn hb h2 ⟨O2, O1.2.congr E2.2.1 kk⟩ (by rw [r1]; exact hP.pf hPF) ⟨hl.1, by rw [e29]; exact hl.2⟩ ⟨by rw [e2, e30]; exact h30.1, by rw [e30]; exact h30.2⟩ (by rw [r1]; exact hS) (hT.congr ((F2 1022 32 (by omega)).trans (F1 1022 32 (by omega) (by omega))) fun j => (F2 1037 j (by omega)).trans (F1 1037 j (by omega) (by omega))) hOps (hE.pf hPF) (he.frame hPF.1) (by rw [e30]; exact hlen) (fun h5 => ?_) e41 e42 rfl hz hH (hE0.trans (E1.trans E2.w)) (hF0.trans (F1.pt.trans F2.pt)) (by omega)
      rw [e5] at h5
      obtain ⟨m, m0, m1, m2⟩ := hW (E1.2.2.2 h5)
      simp only [kk]
      have hm : m ≤ S.1.1.length := by
        rcases m2.2 with ⟨-, w⟩ | ⟨-, -, -, w, -⟩ <;> omega
      rcases r3 with ⟨a1, a2, a3⟩ | ⟨i, a1, a2, a3, a4, a5⟩ | ⟨a1, a2, a3, a4, a5⟩
      · rw [a2]
        simp only [a3]
        exact WFp.snoc (wfp_one m0 m2 (Or.inl ⟨a1, rfl⟩)) m1
      · rw [a3]
        simp only [a4]
        have := (a5 h5).2
        refine WFp.snoc (wfp_one m0 m2 (Or.inr (Or.inl ⟨by omega, by omega, ?_, rfl⟩))) m1
        show ¬ τ 1036 v = 2
        rw [a1, this]; decide
      · have cg : ∀ j, 0 ≤ j → j < (S.1.1.length : Int) → ((fun k => τ 1036 k = 2) j ↔ (fun k => τ1 1036 k = 2) j) := fun j _ hj => by
          show τ 1036 j = 2 ↔ τ1 1036 j = 2
          rw [a5 j (by omega)]
        refine WFp.snoc (wfp_one (m1 := S.1.1.length) m0 ⟨m2.1, ?_⟩ (Or.inr (Or.inr ⟨a1, ?_, by omega⟩))) (m1.congr fun j g1 g2 => cg j g1 (by omega)).2
        · rcases m2.2 with w | ⟨w1, w2, w3, w4, w5⟩
          · exact Or.inl w
          · exact Or.inr ⟨w1, w2, (cg m m0 (by omega)).mp w3, w4, w5⟩
        · show ¬ τ1 1036 (S.1.1.length : Int) = 2
          rw [← a1, a4]; decide
    · refine wp_swap (wp_pos rfl (wp_ok ?_))
      obtain ⟨q2, s1, s2⟩ := f2
      have hPF : PF N0 σ σ2 := E1.1.trans E2.1
      refine wp_mono (f137_fail hn hb s1 s2 (he.frame hPF.1) (by omega)) fun σ3 h3 => ⟨hE0.trans (E1.trans (E2.w.trans h3.2.2.w)), hF0.trans (F1.pt.trans F2.pt), Or.inr ⟨rfl, ?_⟩⟩
      obtain ⟨⟨S', u1⟩, u2, u3⟩ := h3
      exact ⟨S', q2, u1, Or.inl u2⟩
  · refine wp_swap (wp_pos rfl (wp_ok ?_))
    obtain ⟨S1, q1, s1, s2⟩ := f1
    refine wp_mono (f116_fail hn hb s1 s2 (he.frame E1.1.1) (by omega)) fun σ3 h3 => ⟨hE0.trans (E1.trans h3.2.2.w), hF0.trans F1.pt, Or.inr ⟨rfl, ?_⟩⟩
    obtain ⟨⟨S', u1⟩, u2, u3⟩ := h3
    exact ⟨S', q1, u1, Or.inl u2⟩
end NH
