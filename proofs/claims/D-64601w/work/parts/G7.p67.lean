/-! WHAT THE LATEST QUESTION WAS ANSWERED WITH: fault, columns, isThere, cell -/
set_option maxRecDepth 100000
def NOTH : Int := -9223372036854775808
def okV (v : Int) : Prop := v = NOTH ∨ (-2147483648 ≤ v ∧ v ≤ 2147483647)
/-- the component's table: rc rows, w columns, t -/
def RwC (σ : AS) (rc w : Int) (t : Int → Int → Int) : Prop := ld σ 1000 9 = rc ∧ ld σ 1000 10 = w ∧ ld σ 1000 8 = 1018 ∧ kd σ 1018 = 101 ∧ ln σ 1018 = 80000 ∧ (0 ≤ rc ∧ rc ≤ 10000) ∧ (0 ≤ w ∧ w ≤ 8) ∧ ∀ r c, 0 ≤ r → r < rc → 0 ≤ c → c < w → ld σ 1018 (8 * r + c) = t r c ∧ okV (t r c)
def RwT (τ : TT) (rc w : Int) (t : Int → Int → Int) : Prop := τ 1022 59 = rc ∧ τ 1022 60 = w ∧ ∀ r c, 0 ≤ r → r < rc → 0 ≤ c → c < w → (t r c = NOTH ∧ τ 1052 (8 * r + c) = 0) ∨ (t r c ≠ NOTH ∧ τ 1052 (8 * r + c) ≠ 0 ∧ τ 1051 (8 * r + c) = t r c)
def isC (rc w r c : Int) : Bool := decide (0 ≤ r ∧ r < rc ∧ 0 ≤ c ∧ c < w)
def sThere (rc w : Int) (t : Int → Int → Int) (r c : Int) : An := if isC rc w r c = true then (0, if t r c = NOTH then 0 else 1, []) else (1, 0, [])
def sCell (rc w : Int) (t : Int → Int → Int) (r c : Int) : An := if isC rc w r c = true then (0, if t r c = NOTH then 0 else t r c, []) else (1, 0, [])
section TBL
variable {σ : AS} {τ : TT} {k : Nat} {l : List Ch} {m rc w r c : Int} {t : Int → Int → Int}
theorem value_eq (h : CX σ k l m) (hR : RwC σ rc w t) : f_X1_value 1000 r c σ = if isC rc w r c = true then some (.inr (t r c), σ) else some (.inl 1, al σ 0 0 6) := by
  obtain ⟨h1, h2, h3, h4, h5, h6, h7, h8⟩ := hR
  have thr : f_X1_value_28 f_X1_value_29 1000 r c σ = some (.inl 1, al σ 0 0 6) := rfl
  unfold f_X1_value
  by_cases c1 : r < 0
  · rw [if_pos c1, if_neg (by unfold isC; rw [decide_eq_true_iff]; omega)]; exact thr
  rw [if_neg c1, gd_pos h.k0, h1]
  by_cases c2 : rc ≤ r
  · rw [if_pos c2, if_neg (by unfold isC; rw [decide_eq_true_iff]; omega)]; exact thr
  rw [if_neg c2]
  by_cases c3 : c < 0
  · rw [if_pos c3, if_neg (by unfold isC; rw [decide_eq_true_iff]; omega)]; exact thr
  rw [if_neg c3, gd_pos h.k0, h2]
  by_cases c4 : w ≤ c
  · rw [if_pos c4, if_neg (by unfold isC; rw [decide_eq_true_iff]; omega)]; exact thr
  rw [if_neg c4, if_pos (show isC rc w r c = true by unfold isC; rw [decide_eq_true_iff]; omega)]
  unfold f_X1_value_29 f_X1_inside
  rw [if_neg (by decide), cx_inr, gd_pos h.k0, gI_pos (by omega), gI_pos (by omega), h3, gd_pos ⟨h4, by omega, by omega⟩, (h8 r c (by omega) (by omega) (by omega) (by omega)).1]
theorem lcmp_noth {v : Int} : (lcmpW v (-9223372036854775808) = 0) ↔ v = NOTH := by
  unfold lcmpW NOTH
  by_cases c1 : (-9223372036854775808 : Int) < v
  · rw [if_pos c1]
    exact ⟨fun z => absurd z (by decide), fun z => by omega⟩
  · rw [if_neg c1]
    by_cases c2 : v = -9223372036854775808
    · rw [if_pos c2]; exact ⟨fun _ => c2, fun _ => rfl⟩
    · rw [if_neg c2]; exact ⟨fun z => absurd z (by decide), fun z => absurd z c2⟩
theorem l2i_small {v : Int} (h : -2147483648 ≤ v ∧ v ≤ 2147483647) : l2iW v = v := by
  unfold l2iW
  have e : (Int64.ofInt v).toInt32 = Int32.ofInt v := Int64.toInt32_ofInt
  rw [e]
  exact Int32.toInt_ofInt_of_le h.1 (by omega)
theorem X0_isThere_law (h : CX σ k l m) (ho : Out σ) (hR : RwC σ rc w t) : Wp (f_X0_isThere 1000 r c 1053 σ) (Ans σ k l m (sThere rc w t r c)) := by
  have hx := h.nx
  have hv := value_eq (r := r) (c := c) h hR
  unfold f_X0_isThere sThere
  refine wp_gd h.k0 ?_
  by_cases ci : isC rc w r c = true
  · rw [if_pos ci] at hv ⊢
    have e : f_X1_isThere 1000 r c σ = some (.inr (if t r c = NOTH then 0 else 1), σ) := by
      unfold f_X1_isThere
      rw [gd_pos h.k0, hv, cx_inr]
      by_cases z : t r c = NOTH
      · rw [if_pos (lcmp_noth.mpr z), if_pos z]
      · rw [if_neg (fun q => z (lcmp_noth.mp q)), if_neg z]
    refine wp_cy_inr (wp_of_eq e ⟨_, rfl, ?_⟩)
    by_cases z : t r c = NOTH
    · rw [if_pos z]
      exact wp_pos rfl (wp_gd (out_at ho hx Fr.rf) (wp_nm0 (wp_ok (ans_see h))))
    · rw [if_neg z]
      exact wp_neg (by decide) (wp_gd (out_at ho hx Fr.rf) (wp_nm0 (wp_ok (ans_see h))))
  · rw [if_neg ci] at hv ⊢
    refine wp_cy_inl (E := 1) (s := al σ 0 0 6) ?_ (wp_pos rfl (wp_nm0 (wp_nm0 (wp_ok (ans_throw h (by decide))))))
    unfold f_X1_isThere
    rw [gd_pos h.k0, hv]
    rfl
theorem X0_cell_law (h : CX σ k l m) (ho : Out σ) (hR : RwC σ rc w t) : Wp (f_X0_cell 1000 r c 1053 σ) (Ans σ k l m (sCell rc w t r c)) := by
  have hx := h.nx
  have hv := value_eq (r := r) (c := c) h hR
  unfold f_X0_cell sCell
  refine wp_gd h.k0 ?_
  by_cases ci : isC rc w r c = true
  · rw [if_pos ci] at hv ⊢
    have hok : okV (t r c) := by
      unfold isC at ci
      rw [decide_eq_true_iff] at ci
      exact (hR.2.2.2.2.2.2.2 r c ci.1 ci.2.1 ci.2.2.1 ci.2.2.2).2
    have e : f_X1_cell 1000 r c σ = some (.inr (if t r c = NOTH then 0 else t r c), σ) := by
      unfold f_X1_cell
      rw [gd_pos h.k0, hv, cx_inr]
      by_cases z : t r c = NOTH
      · rw [if_pos (lcmp_noth.mpr z), if_pos z]
      · rw [if_neg (fun q => z (lcmp_noth.mp q)), if_neg z, l2i_small (hok.resolve_left z)]
    refine wp_cy_inr (wp_of_eq e ⟨_, rfl, ?_⟩)
    exact wp_gd (out_at ho hx Fr.rf) (wp_nm0 (wp_ok (ans_see h)))
  · rw [if_neg ci] at hv ⊢
    refine wp_cy_inl (E := 1) (s := al σ 0 0 6) ?_ (wp_pos rfl (wp_nm0 (wp_nm0 (wp_ok (ans_throw h (by decide))))))
    unfold f_X1_cell
    rw [gd_pos h.k0, hv]
    rfl
theorem isCell_eq (hR : RwT τ rc w t) : g_X7_isCell 1022 r c τ = some (if isC rc w r c = true then 1 else 0, τ) := by
  obtain ⟨h1, h2, h3⟩ := hR
  unfold g_X7_isCell
  by_cases c1 : r < 0
  · rw [if_pos c1, if_neg (by unfold isC; rw [decide_eq_true_iff]; omega)]
  rw [if_neg c1, h1]
  by_cases c2 : rc ≤ r
  · rw [if_pos c2, if_neg (by unfold isC; rw [decide_eq_true_iff]; omega)]
  rw [if_neg c2]
  by_cases c3 : c < 0
  · rw [if_pos c3, if_neg (by unfold isC; rw [decide_eq_true_iff]; omega)]
  rw [if_neg c3, h2]
  by_cases c4 : w ≤ c
  · rw [if_pos c4, if_neg (by unfold isC; rw [decide_eq_true_iff]; omega)]
  · rw [if_neg c4, if_pos (by unfold isC; rw [decide_eq_true_iff]; omega)]
theorem tw_isThere (h : TI τ k l) (hR : RwT τ rc w t) (hb : rc ≤ 10000 ∧ w ≤ 8) : Wp (g_X7_isThere 1022 r c τ) (TAns τ k l (sThere rc w t r c)) := by
  have f : ∀ v r j, ¬ (r = 1022 ∧ j = 0) → sa τ 1022 0 v r j = τ r j := fun v r j z => by rw [sa_at, if_neg z]
  unfold g_X7_isThere sThere
  refine wp_t1e (isCell_eq hR) ?_
  by_cases ci : isC rc w r c = true
  · rw [if_pos ci, if_pos ci]
    unfold isC at ci
    rw [decide_eq_true_iff] at ci
    have h3 := hR.2.2 r c ci.1 ci.2.1 ci.2.2.1 ci.2.2.2
    refine wp_neg (by decide) ?_
    unfold g_X7_isThere_15
    refine wp_nm0 ?_
    rw [code_at]
    refine wp_pos rfl (wp_gI (by omega) (wp_gI (by omega) (wp_gd ⟨by omega, by omega⟩ ?_)))
    rw [f _ _ _ (by omega)]
    rcases h3 with ⟨a, b⟩ | ⟨a, b, d⟩
    · rw [if_pos a]
      exact wp_pos b (wp_ok (tans_see h))
    · rw [if_neg a]
      exact wp_neg b (wp_ok (tans_see h))
  · rw [if_neg ci, if_neg ci]
    refine wp_pos rfl ?_
    unfold g_X7_isThere_15
    refine wp_nm0 ?_
    rw [code_at]
    exact wp_neg (by decide) (wp_ok (tans_throw h (by decide)))
theorem tw_cell (h : TI τ k l) (hR : RwT τ rc w t) (hb : rc ≤ 10000 ∧ w ≤ 8) : Wp (g_X7_cell 1022 r c τ) (TAns τ k l (sCell rc w t r c)) := by
  have f : ∀ v r j, ¬ (r = 1022 ∧ j = 0) → sa τ 1022 0 v r j = τ r j := fun v r j z => by rw [sa_at, if_neg z]
  unfold g_X7_cell sCell
  refine wp_t1e (isCell_eq hR) ?_
  by_cases ci : isC rc w r c = true
  · rw [if_pos ci, if_pos ci]
    unfold isC at ci
    rw [decide_eq_true_iff] at ci
    have h3 := hR.2.2 r c ci.1 ci.2.1 ci.2.2.1 ci.2.2.2
    refine wp_neg (by decide) ?_
    unfold g_X7_cell_15
    refine wp_nm0 ?_
    rw [code_at]
    refine wp_neg (by decide) (wp_gI (by omega) (wp_gI (by omega) (wp_gd ⟨by omega, by omega⟩ ?_)))
    rw [f _ _ _ (by omega), f _ _ _ (by omega)]
    rcases h3 with ⟨a, b⟩ | ⟨a, b, d⟩
    · rw [if_pos a]
      exact wp_pos b (wp_ok (tans_see h))
    · rw [if_neg a, d]
      exact wp_neg b (wp_gI (by omega) (wp_gI (by omega) (wp_gd ⟨by omega, by omega⟩ (wp_ok (tans_see h)))))
  · rw [if_neg ci, if_neg ci]
    refine wp_pos rfl ?_
    unfold g_X7_cell_15
    refine wp_nm0 ?_
    rw [code_at]
    exact wp_pos (by decide) (wp_ok (tans_throw h (by decide)))
end TBL
