/-! A NODE: the failed mode -/
set_option maxRecDepth 100000
section NF
variable {σ σ0 σ' : AS} {τ : TT} {n : Nat} {N0 U0 z k q q' c p v r C lo hi l1 l2 s0 : Int} {T : List Int} {S : PS}
theorem ShP.mono {k' : Int} (h : ShP T N0 U0 σ z k q S) (hk : k ≤ k') : ShP T N0 U0 σ z k' q S := by
  obtain ⟨a1, a2, a3, a4, a5, a6, a7, a8, a9, a10, g1, g2⟩ := h
  exact ⟨a1, a2, a3, a4, a5, a6, a7, a8, a9, a10, by omega, by omega⟩
theorem CF1.eff (h : CF1 σ c p) (h7 : ∀ j, ld σ' 1007 j = ld σ 1007 j) : CF1 σ' c p := by
  unfold CF1
  rw [h7, h7]
  exact h
theorem f137_fail (hn : 1000000 ≤ n) (hb : BtOk T) (h : ShP T N0 U0 σ z k q S) (hf : CF T q σ c p) (he : elQ σ l1) (hz : z ≤ 6) : Wp (f_X3_node_137 n 1007 l1 l2 s0 σ) fun σ' => (∃ S', ShP T N0 U0 σ' (z + 1) k q S') ∧ CF1 σ' c p ∧ Eff N0 σ σ' := by
  rw [node_137_eq]
  refine wp_gd h.2.2.2.2.1.1 (wp_c0 (wp_mono (need_fail hn hb h (r := 21) (C := 31) (by decide) (by unfold spC; omega) hf) fun σ1 h1 => ?_))
  obtain ⟨h1, h2, h3⟩ := h1
  have hsz := h1.2.2.2.2.2.2.2.2.2.1
  refine wp_mono (ndAdd_wp (z' := z + 1) h1 (he.frame h2.1.1) (by omega) (by omega) (by omega) (by omega)) fun σ2 h4 => ?_
  obtain ⟨r, g1, g2, g3, -⟩ := h4
  exact ⟨⟨_, g1.mono (by omega)⟩, h3.eff g3, h2.trans g2⟩
theorem f116_fail (hn : 1000000 ≤ n) (hb : BtOk T) (h : ShP T N0 U0 σ z k q S) (hf : CF T q σ c p) (he : elQ σ l1) (hz : z ≤ 6) : Wp (f_X3_node_116 n 1007 l1 l2 σ) fun σ' => (∃ S', ShP T N0 U0 σ' (z + 1) k q S') ∧ CF1 σ' c p ∧ Eff N0 σ σ' := by
  unfold f_X3_node_116
  exact wp_gd h.2.2.2.2.1.1 (wp_c1e (takes_fail hn hb h (r := 19) (C := 35) (by decide) (by unfold spC; omega) hf) (wp_pos rfl (f137_fail hn hb h hf he hz)))
theorem f32_fail (hn : 1000000 ≤ n) (hb : BtOk T) (h : ShP T N0 U0 σ z k q S) (hf : CF T q σ c p) (he : elQ σ l1) (hz : z ≤ 6) : Wp (f_X3_node_32 n 1007 l1 σ) fun σ' => (∃ S', ShP T N0 U0 σ' (z + 1) k q S') ∧ CF1 σ' c p ∧ Eff N0 σ σ' := by
  rw [node_32_eq]
  refine wp_gd h.2.2.2.2.1.1 (wp_c0 (wp_mono (need_fail hn hb h (r := 17) (C := 30) (by decide) (by unfold spC; omega) hf) fun σ1 h1 => ?_))
  obtain ⟨h1, h2, h3⟩ := h1
  unfold ndNm
  refine wp_gd h1.2.2.2.2.1.1 (wp_neg (by rw [h3.1]; exact h3.2.1) ?_)
  exact wp_mono (f116_fail hn hb h1 (Or.inl h3) (he.frame h2.1.1) hz) fun σ2 h4 => ⟨h4.1, h4.2.1, h2.trans h4.2.2⟩
theorem node_fail (hn : 1000000 ≤ n) (hb : BtOk T) (h : ShP T N0 U0 σ z k q S) (hf : CF T q σ c p) (he : elQ σ l1) (hz : z ≤ 6) : Wp (f_X3_node n 1007 l1 σ) fun σ' => (∃ S', ShP T N0 U0 σ' (z + 1) k q S') ∧ CF1 σ' c p ∧ Eff N0 σ σ' := by
  have h7 := h.2.2.2.2.1
  have hN := h.2.2.2.2.2.2.1
  have L1 := h.2.2.2.2.2.2.2.1
  have l00 : lref N0 0 = N0 + 1 := rfl
  unfold f_X3_node
  refine wp_gd h7.1 ?_
  rw [h7.2.2.1]
  refine wp_gd hN.1 ?_
  rw [hN.2.1 0 (by decide) (by decide), show N0 + 1 + 0 = lref N0 0 by rw [l00]; omega]
  refine wp_gd (lsok_kd L1 (by decide)) (wp_c1e (L1.size (by decide)) ?_)
  refine wp_ite (fun _ => wp_gd h7.1 ?_) fun _ => f32_fail hn hb h hf he hz
  rw [h7.2.1]
  refine wp_gd h.2.2.1.1.1 (wp_c1e (sh_is hn hb h (r := 17) (C := 30) (by decide) (by unfold spC; omega)) ?_)
  by_cases c3 : tkC T q = 30
  · rw [if_pos c3]
    refine wp_neg (by decide) (wp_gd h7.1 (wp_c0e (fail_no h (fun w => ?_)) (f32_fail hn hb h hf he hz)))
    have := (hf.code0 w).1
    omega
  · rw [if_neg c3]
    exact wp_pos rfl (f32_fail hn hb h hf he hz)
end NF
