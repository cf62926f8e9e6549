/-! A NODE, side by side: the whole -/
set_option maxRecDepth 100000
section NW
variable {σ σ0 σ' : AS} {τ τ0 : TT} {n : Nat} {N0 U0 z k q q0 q' c p v l r C lo hi l1 l2 s0 e : Int} {T : List Int} {S : PS} {ps : List Part} {ops eo : List Op} {tl : Tl}
theorem flaw_eq {c p : Int} (hc : 0 ≤ c) : g_X7_flaw 1022 c p τ = some (0, sa (sa τ 1022 17 c) 1022 18 p) := by
  unfold g_X7_flaw
  rw [nm_eq, nm_eq]
theorem lk_node (hn : 1000000 ≤ n) (hb : BtOk T) (h : ShP T N0 U0 σ z k q S) (hO : OPE T N0 σ τ q S ps ops eo e tl) {b : Int} (hbt : b = 0 ↔ tl.1 ≠ 0) (hz : z = 0) :
    Wp (f_X3_node n 1007 e σ) fun σ' => Wp (g_X7_nodeText n 1022 b τ) fun w => NP T N0 U0 z k σ τ q ps σ' w := by
  obtain ⟨⟨hOA, hP, hl, h30, hS⟩, hT, hOps, hE, he, hlen, hW, hH⟩ := id hO
  have h7 := h.2.2.2.2.1
  have hN := h.2.2.2.2.2.2.1
  have L1 := h.2.2.2.2.2.2.2.1
  have l00 : lref N0 0 = N0 + 1 := rfl
  have o1 := hOA.1.1
  have o2 := hOA.1.2.1
  have e20 : τ 1022 20 = q := o2.1
  have c50 : tkC T q ≠ 50 := o2.2.2.2.2.1
  -- the component, where it has failed with c at q
  have failP : ∀ (σ1 : AS) (cc : Int), ShP T N0 U0 σ1 z k q S → Eff N0 σ σ1 → CF1 σ1 cc q → cc = 2 ∨ cc = 3 → Wp (f_X3_node_32 n 1007 e σ1) fun σ' => NP T N0 U0 z k σ τ q ps σ' (0, sa (sa τ 1022 17 cc) 1022 18 q) := fun σ1 cc s1 E1 c1 _ => by
    refine wp_mono (f32_fail hn hb s1 (Or.inl c1) (he.frame E1.1.1) (by omega)) fun σ2 h2 => ?_
    obtain ⟨⟨S', u1⟩, u2, u3⟩ := h2
    have F : FgF τ (sa (sa τ 1022 17 cc) 1022 18 q) := (FgF.sa (by omega)).trans (FgF.sa (by omega))
    refine ⟨(E1.trans u3).w, F.pt, Or.inr ⟨rfl, S', q, u1, ?_⟩⟩
    show CF T q σ2 (sa (sa τ 1022 17 cc) 1022 18 q 1022 17) (sa (sa τ 1022 17 cc) 1022 18 q 1022 18)
    rw [flw_sa.1, flw_sa.2]
    exact Or.inl u2
  unfold f_X3_node g_X7_nodeText
  refine wp_gd h7.1 ?_
  rw [h7.2.2.1]
  refine wp_gd hN.1 ?_
  rw [hN.2.1 0 (by decide) (by decide), show N0 + 1 + 0 = lref N0 0 by rw [l00]; omega]
  refine wp_gd (lsok_kd L1 (by decide)) (wp_c1e (L1.size (by decide)) ?_)
  have his := sh_is hn hb h (r := 17) (C := 30) (by decide) (by unfold spC; omega)
  have hps : (S.2 0).length = ps.length := hP.1
  by_cases c3 : tkC T q = 30
  · by_cases c12 : ps.length = 12
    · refine wp_pos (by omega) (wp_gd h7.1 ?_)
      rw [h7.2.1]
      refine wp_gd h.2.2.1.1.1 (wp_c1e his ?_)
      rw [if_pos c3]
      refine wp_neg (by decide) (wp_gd h7.1 (wp_c0 (wp_mono (fail_set h o1 (by decide)) fun σ1 h1 => ?_)))
      refine wp_swap (wp_pos (by rw [o2.2.1]; exact c3) (wp_pos (by omega) ?_))
      rw [e20, flaw_eq (by decide), t1_at]
      exact wp_gd (by decide) (wp_ok (failP σ1 3 h1.1 h1.2.1 h1.2.2 (Or.inr rfl)))
    · refine wp_neg (by omega) ?_
      rw [node_32_eq]
      refine wp_gd h7.1 (wp_c0 (wp_mono (need_yes hn hb h (r := 17) (C := 30) (by decide) (by unfold spC; omega) o1 c3) fun σ1 h1 => ?_))
      obtain ⟨s1, E1, J1⟩ := h1
      refine wp_swap (wp_pos (by rw [o2.2.1]; exact c3) (wp_neg (by omega) ?_))
      rw [gI_pos (by omega), nm_eq]
      refine wp_t1 (wp_mono (ok_next hn hb h (okb_no hOA.1 (Or.inl rfl)) s1 J1) fun w hw => ?_)
      obtain ⟨w1, w2⟩ := hw
      have F0 : PtF τ w.2 := PtF.trans (τ1 := sa τ 1022 29 (τ 1022 29 + 1)) (fun r j a _ => by rw [sa_at, if_neg (fun u => a ⟨u.1, by omega⟩)]) w1.pt
      have ew : ∀ r j, ¬ (r = 1022 ∧ ((17 ≤ j ∧ j ≤ 22) ∨ j = 29)) → w.2 r j = τ r j := fun r j a => by
        rw [w1 r j (fun u => a ⟨u.1, Or.inl u.2⟩), sa_at, if_neg (fun u => a ⟨u.1, Or.inr u.2⟩)]
      have e29 : w.2 1022 29 = ps.length + 1 := by
        rw [w1 1022 29 (by omega), sa_at, if_pos ⟨rfl, rfl⟩]; omega
      have hPF := E1.1
      rcases w2 with ⟨u1, u2⟩ | ⟨u1, u2⟩
      · refine wp_neg (by omega) (wp_swap ?_)
        have kk : ∀ j, w.2 1036 j = τ 1036 j := fun j => ew _ _ (by omega)
        exact lk_ndTail hn hb s1 ⟨u2, hOA.2.congr E1.2.1 kk⟩ (hP.pf hPF) ⟨by omega, e29⟩ ⟨by rw [J1, ew _ _ (by omega)]; exact h30.1, by rw [ew _ _ (by omega)]; exact h30.2⟩ hS (hT.congr (ew _ _ (by omega)) fun j => ew _ _ (by omega)) hOps (hE.pf hPF) (he.frame hPF.1) (by rw [ew _ _ (by omega)]; exact hlen) (fun h5 => by
          rw [J1] at h5
          simp only [kk]
          exact hW h5) hbt hz hH E1.w F0 (nxq_le h)
      · refine wp_pos u1 (wp_ok ?_)
        obtain ⟨q2, v1, v2⟩ := u2
        have key : Wp (ndNm n (fun v s => f_X3_node_116 n 1007 e v s) 1007 σ1) fun σ' => (∃ S', ShP T N0 U0 σ' (z + 1) k q2 S') ∧ CF1 σ' (w.2 1022 17) (w.2 1022 18) ∧ Eff N0 σ1 σ' := by
          rcases v2 with v2 | ⟨v3, v4, v5, v6⟩
          · exact ndNm_fail hn hb v1 v2 (he.frame hPF.1) (by omega)
          · -- the component has not noticed yet
            have v7 := v1.2.2.2.2.1
            have vl := v1.2.2.1
            unfold ndNm
            refine wp_gd v7.1 (wp_pos v3 (wp_gd v7.1 ?_))
            rw [v7.2.1]
            refine wp_gd vl.1.1 (wp_gdc (cmp_kinds v1.1 vl (by decide)) (wp_neg ?_ ?_))
            · rw [vl.2.2.2.1, v4]; decide
            · exact f116_fail hn hb v1 (Or.inr ⟨v3, v4, v5, v6⟩) (he.frame hPF.1) (by omega)
        refine wp_mono key fun σ3 h3 => ⟨E1.w.trans h3.2.2.w, F0, Or.inr ⟨rfl, ?_⟩⟩
        obtain ⟨⟨S', u1⟩, u2, u3⟩ := h3
        exact ⟨S', q2, u1, Or.inl u2⟩
  · have tw : g_X7_cannot 1022 τ = some (0, sa (sa τ 1022 17 2) 1022 18 q) := ok_cannot hOA.1
    have rest : Wp (f_X3_node_32 n 1007 e σ) fun σ' => NP T N0 U0 z k σ τ q ps σ' (0, sa (sa τ 1022 17 2) 1022 18 q) := by
      rw [node_32_eq]
      refine wp_gd h7.1 (wp_c0 (wp_mono (need_no hn hb h (r := 17) (C := 30) (by decide) (by unfold spC; omega) o1 c3) fun σ1 h1 => ?_))
      obtain ⟨s1, E1, c1⟩ := h1
      rw [if_neg c50] at c1
      refine wp_mono (ndNm_fail hn hb s1 c1 (he.frame E1.1.1) (by omega)) fun σ2 h2 => ?_
      obtain ⟨⟨S', u1⟩, u2, u3⟩ := h2
      have F : FgF τ (sa (sa τ 1022 17 2) 1022 18 q) := (FgF.sa (by omega)).trans (FgF.sa (by omega))
      refine ⟨(E1.trans u3).w, F.pt, Or.inr ⟨rfl, S', q, u1, ?_⟩⟩
      show CF T q σ2 (sa (sa τ 1022 17 2) 1022 18 q 1022 17) (sa (sa τ 1022 17 2) 1022 18 q 1022 18)
      rw [flw_sa.1, flw_sa.2]
      exact Or.inl u2
    refine wp_swap (wp_neg (by rw [o2.2.1]; exact c3) ?_)
    rw [tw, t1_at]
    refine wp_gd (by decide) (wp_ok ?_)
    refine wp_ite (fun _ => wp_gd h7.1 ?_) fun _ => rest
    rw [h7.2.1]
    refine wp_gd h.2.2.1.1.1 (wp_c1e his ?_)
    rw [if_neg c3]
    exact wp_pos rfl rest
end NW
