/-! walked: what the latest walk told -/
set_option maxRecDepth 100000
def sWalked (M : List (Int × Int)) (i hops : Int) : An := if 0 ≤ i ∧ i < M.length then (0, if hops = 0 then (M.getD i.toNat (0, 0)).1 else (M.getD i.toNat (0, 0)).2, []) else (1, 0, [])
theorem getD_some {M : List (Int × Int)} {i : Nat} (h : i < M.length) : M[i]? = some (M.getD i (0, 0)) := by
  rw [List.getD_eq_getElem?_getD, List.getElem?_eq_getElem h]
  rfl
section WKD
variable {σ : AS} {τ : TT} {k : Nat} {l : List Ch} {m i hops : Int} {M : List (Int × Int)} {n : Nat}
theorem X0_walked_law (h : CX σ k l m) (ho : Out σ) (hA : AR σ) (hM : WkL σ M) (hlen : M.length ≤ 400) : Wp (f_X0_walked 1000 i hops 1053 σ) (Ans σ k l m (sWalked M i hops)) := by
  have hx := h.nx
  unfold f_X0_walked sWalked
  refine wp_gd h.k0 ?_
  by_cases c : 0 ≤ i ∧ i < M.length
  · rw [if_pos c]
    have hv := hM.2 i.toNat _ (getD_some (by omega))
    rw [show ((i.toNat : Nat) : Int) = i by omega] at hv
    have e : f_X1_walked 1000 i hops σ = some (.inr (if hops = 0 then (M.getD i.toNat (0, 0)).1 else (M.getD i.toNat (0, 0)).2), σ) := by
      unfold f_X1_walked f_X1_walked_17 f_X1_inside
      rw [if_neg (by omega), gd_pos h.k0, hM.1, if_neg (by omega), if_neg (by decide), cx_inr]
      by_cases c2 : hops = 0
      · rw [if_pos c2, gd_pos h.k0, hA.1, gd_pos ⟨hA.2.1, by omega, by rw [hA.2.2.1]; omega⟩, hv.1, if_pos c2]
      · rw [if_neg c2, gd_pos h.k0, hA.2.2.2.1, gd_pos ⟨hA.2.2.2.2.1, by omega, by rw [hA.2.2.2.2.2.1]; omega⟩, hv.2, if_neg c2]
    refine wp_cy_inr (wp_of_eq e ⟨_, rfl, ?_⟩)
    exact wp_gd (out_at ho hx Fr.rf) (wp_nm0 (wp_ok (ans_see h)))
  · rw [if_neg c]
    refine wp_cy_inl (E := 1) (s := al σ 0 0 6) ?_ ?_
    · unfold f_X1_walked f_X1_walked_16 f_X1_walked_17 f_X1_inside
      by_cases c1 : i < 0
      · rw [if_pos c1, if_pos rfl]; rfl
      · rw [if_neg c1, gd_pos h.k0, hM.1, if_pos (by omega), if_pos rfl]; rfl
    · exact wp_pos rfl (wp_nm0 (wp_nm0 (wp_ok (ans_throw h (by decide)))))
theorem tw_walked (h : TI τ k l) (hM : WkT τ M) (hlen : M.length ≤ 400) : Wp (g_X7_walked 1022 i hops τ) (TAns τ k l (sWalked M i hops)) := by
  have thr : Wp (g_X7_walked_13 g_X7_walked_18 1022 i hops 1022 τ) (TAns τ k l (1, 0, [])) := by
    unfold g_X7_walked_13 g_X7_walked_18
    refine wp_nm0 ?_
    rw [code_at]
    exact wp_neg (by decide) (wp_ok (tans_throw h (by decide)))
  unfold g_X7_walked sWalked
  by_cases c : 0 ≤ i ∧ i < M.length
  · rw [if_pos c]
    have hv := hM.2 i.toNat _ (getD_some (by omega))
    rw [show ((i.toNat : Nat) : Int) = i by omega] at hv
    rw [hM.1]
    refine wp_neg (by omega) (wp_pos c.2 ?_)
    unfold g_X7_walked_18
    refine wp_nm0 ?_
    rw [code_at]
    refine wp_pos (by decide) ?_
    have e0 : sa τ 1022 0 0 1030 i = τ 1030 i := by rw [sa_at, if_neg (by omega)]
    have e1 : sa τ 1022 0 0 1031 i = τ 1031 i := by rw [sa_at, if_neg (by omega)]
    rw [e0, e1, hv.1, hv.2]
    by_cases c2 : hops = 0
    · rw [if_pos c2, if_pos c2]
      exact wp_gd ⟨by omega, by omega⟩ (wp_ok (tans_see h))
    · rw [if_neg c2, if_neg c2]
      exact wp_gd ⟨by omega, by omega⟩ (wp_ok (tans_see h))
  · rw [if_neg c, hM.1]
    by_cases c1 : i < 0
    · exact wp_pos c1 thr
    · exact wp_neg c1 (wp_neg (by omega) thr)
end WKD
