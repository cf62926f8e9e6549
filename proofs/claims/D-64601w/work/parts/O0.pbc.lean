/-! READ beside question: THE LAW OF THE PARSER -/
set_option maxRecDepth 100000
section RN
variable {σ σ0 σ1 σ2 σ3 σ' : AS} {τ τ0 τ' : TT} {n M : Nat} {N0 U0 z z' k q q0 q' c p v l r C : Int} {T : List Int}
/-- what read and question come to -/
def RdQ (T : List Int) (σ : AS) (τ : TT) (y : Int × AS) (w : Int × TT) : Prop := Fr (fun r => r = 1007 ∨ r = 1008) σ y.2 ∧ RdA τ w.2 ∧ RdP T (nx σ) (us σ) y w
theorem question_eq {n : Nat} {τ : TT} : ∃ τ0, (∀ r j, ¬ (r = 1022 ∧ 17 ≤ j ∧ j ≤ 40) → τ0 r j = τ r j) ∧ (τ0 1022 26 = 0 ∧ τ0 1022 29 = 0 ∧ τ0 1022 30 = 0 ∧ τ0 1022 32 = 0 ∧ τ0 1022 34 = 0 ∧ τ0 1022 36 = 0 ∧ τ0 1022 38 = 0 ∧ τ0 1022 40 = 100000 ∧ τ0 1022 28 = 100000 ∧ τ0 1022 21 = 0) ∧ g_X7_question n 1022 τ = t1 (g_X7_next n 1022 τ0) fun v70 τ71 => if v70 = 0 then some (0, τ71) else t1 (g_X7_patternTexts n 1022 τ71) fun v75 τ76 => twBeh n v75 τ76 := by
  refine ⟨sa (sa (sa (sa (sa (sa (sa (sa (sa (sa (sa (sa τ 1022 26 0) 1022 29 0) 1022 30 0) 1022 32 0) 1022 34 0) 1022 36 0) 1022 38 0) 1022 40 100000) 1022 28 100000) 1022 17 0) 1022 18 0) 1022 21 0, fun r j hh => ?_, ⟨?_, ?_, ?_, ?_, ?_, ?_, ?_, ?_, ?_, ?_⟩, rfl⟩
  · by_cases hr : r = 1022
    · have hj : ¬ (17 ≤ j ∧ j ≤ 40) := fun w => hh ⟨hr, w⟩
      rw [sa_at, if_neg (by omega), sa_at, if_neg (by omega), sa_at, if_neg (by omega), sa_at, if_neg (by omega), sa_at, if_neg (by omega), sa_at, if_neg (by omega), sa_at, if_neg (by omega), sa_at, if_neg (by omega), sa_at, if_neg (by omega), sa_at, if_neg (by omega), sa_at, if_neg (by omega), sa_at, if_neg (by omega)]
    · rw [sa_at, if_neg (fun u => hr u.1), sa_at, if_neg (fun u => hr u.1), sa_at, if_neg (fun u => hr u.1), sa_at, if_neg (fun u => hr u.1), sa_at, if_neg (fun u => hr u.1), sa_at, if_neg (fun u => hr u.1), sa_at, if_neg (fun u => hr u.1), sa_at, if_neg (fun u => hr u.1), sa_at, if_neg (fun u => hr u.1), sa_at, if_neg (fun u => hr u.1), sa_at, if_neg (fun u => hr u.1), sa_at, if_neg (fun u => hr u.1)]
  all_goals simp [sa_at]
theorem lk_read (hn : 1000000 ≤ n) (hb : BtOk T) (h : RdS σ T) (hT : TpT τ T) : Wp (f_X3_read n 1007 1006 T.length σ) fun y => Wp (g_X7_question n 1022 τ) fun w => RdQ T σ τ y w := by
  obtain ⟨τ0, F0, ⟨i26, i29, i30, i32, i34, i36, i38, i40, i28, i21⟩, eq⟩ := question_eq (n := n) (τ := τ)
  rw [eq]
  have hT0 : (0 : Int) ≤ T.length := by omega
  have hq0 := tkB_le (T := T) hT0
  have hTp0 : TpT τ0 T := ⟨(F0 _ _ (by omega)).trans hT.1, fun i hi => (F0 _ _ (by omega)).trans (hT.2 i hi)⟩
  have R0 : RdA τ τ0 := fun r j a _ => F0 r j (fun u => a ⟨u.1, by omega⟩)
  obtain ⟨w, ew, w1, w2, w3⟩ := tw_next hn hb hTp0 i21 ⟨Int.le_refl _, hT0⟩
  unfold f_X3_read
  refine rd_begin hn hb h fun σ1 s1 F1 e2 e3 e5 eB e8 => ?_
  have hN0 := h.2.2.2.2.1
  -- all ends
  have fin : ∀ (y : Int × AS) (w' : Int × TT), PF (nx σ) σ1 y.2 → RdA τ0 w'.2 → RdP T (nx σ) (us σ) y w' → RdQ T σ τ y w' := fun y w' g1 g2 g3 => ⟨F1.tr2 g1.1 fun r hr w => by
    have w'' : nx σ ≤ r ∨ r = 1007 ∨ r = 1008 := w
    show r = 1007 ∨ r = 1008
    omega, R0.trans g2, g3⟩
  obtain ⟨nq, hnq⟩ : ∃ nq, n = nq + 1 := ⟨n - 1, by omega⟩
  have eP : ∀ τ1, g_X7_patternTexts n 1022 τ1 = t1 (g_X7_pattern n 1022 τ1) fun v17 τ18 => if v17 = 0 then some (0, τ18) else twMore n nq τ18 := fun τ1 => by
    have := texts_2_eq (n := n) (Q := nq) (τ := τ1)
    unfold g_X7_patternTexts
    rw [← this, ← hnq]
  have e39 : ∀ s, f_X3_read_39 n n 1007 s = f_X3_read_39 n (nq + 1) 1007 s := fun s => by rw [← hnq]
  -- the failed end of all that stands behind a pattern
  have flE : ∀ (σ2 : AS) (τ2 : TT) (S2 : PS) (k2 : Int), FlR T (nx σ) (us σ) 1 k2 S2 σ2 τ2 → k2 ≤ 20 → PF (nx σ) σ1 σ2 → RdA τ0 τ2 → Wp (rdRest n σ2) fun y => RdQ T σ τ y (0, τ2) := fun σ2 τ2 S2 k2 f2 hk E2 R2 => by
    refine wp_mono (rdRest_fail hn hb f2 (by decide)) fun y hy => fin y (0, τ2) (E2.trans hy.2.2.2.1) R2 (Or.inr (rdl_of ⟨hy.1, hy.2.1, hy.2.2.1⟩ rfl (by decide) hk))
  by_cases c : tkC T (tkB T 0) = 50
  · obtain ⟨u1, u2⟩ := w2 c
    have f1 : FlR T (nx σ) (us σ) 0 8 psN σ1 w.2 := ⟨tkB T 0, s1, Or.inr ⟨e3, c, u2.1, u2.2.symm⟩⟩
    refine wp_swap (wp_t1e ew (wp_pos u1 (wp_ok (wp_c0 (wp_mono (f1.pattern hn hb (by decide)) fun σ2 h2 => ?_)))))
    obtain ⟨⟨S2, f2⟩, E2⟩ := h2
    rw [e39, f2.read39 hn hb]
    exact flE σ2 w.2 S2 8 f2 (by decide) E2.1 w3.pt.ra
  · obtain ⟨u1, u2⟩ := w1 c
    have ww : ∀ r j, ¬ (r = 1022 ∧ 17 ≤ j ∧ j ≤ 22) → w.2 r j = τ0 r j := w3
    have hO : OPE T (nx σ) σ1 w.2 (tkB T 0) psN [] [] [] 0 tl0 := by
      refine ⟨⟨⟨⟨e3, u2, hTp0.fg w3.fg, Or.inl ⟨e5, (ww _ _ (by omega)).trans i28⟩, ?_⟩, fun i hi => ⟨fun w => absurd w (by show ¬ i < 0; omega), fun _ => eB i⟩⟩, ⟨rfl, rfl, fun i hi => absurd hi (by simp)⟩, ⟨by decide, (ww _ _ (by omega)).trans i29⟩, ⟨by rw [e2, ww _ _ (by omega), i30], by rw [ww _ _ (by omega), i30]; decide⟩, ⟨rfl, rfl, rfl⟩⟩, ⟨(ww _ _ (by omega)).trans i32, fun i hi => absurd hi (by simp)⟩, rfl, pnd0, Or.inl rfl, ?_, fun _ => ⟨0, Int.le_refl _, ⟨rfl, Int.le_refl _⟩, Or.inl rfl, Or.inl ⟨Or.inl rfl, rfl⟩⟩, fun _ => rfl, fun w => absurd rfl w⟩
      · exact ⟨(ww _ _ (by omega)).trans i26, by decide, fun i hi => absurd hi (by show ¬ i < 0; omega)⟩
      · rw [ww _ _ (by omega), i30]; decide
    refine wp_swap (wp_t1e ew (wp_neg (by omega) ?_))
    rw [eP]
    have J : Wp (f_X3_pattern n 1007 σ1) fun σ' => Wp (g_X7_pattern n 1022 w.2) fun w' => PP T (nx σ) (us σ) 8 σ1 w.2 (tkB T 0) ([] ++ [p0]) σ' w' := lk_pattern hn hb s1 hO
    obtain ⟨σ2, ep, w5, ew5, v1, v2, v3⟩ := J
    have R5 : RdA τ0 w5.2 := w3.pt.ra.trans v2.ra
    rcases v3 with ⟨x1, q3, S3, ps3, ops3, x2, x3, x4, x5⟩ | ⟨x1, S3, x2⟩
    · have eT : (t1 (t1 (g_X7_pattern n 1022 w.2) fun v17 τ18 => if v17 = 0 then some ((0 : Int), τ18) else twMore n nq τ18) fun v75 τ76 => twBeh n v75 τ76) = t1 (twMore n nq w5.2) fun v75 τ76 => twBeh n v75 τ76 := by
        rw [ew5, t1_at, if_neg (show ¬ w5.1 = 0 by omega)]
      rw [eT]
      refine wp_swap (wp_c0e ep ?_)
      rw [e39]
      have hne3 : ps3 ≠ [] := fun w => by rw [w] at x3; simp at x3
      refine lk_more (k := 8) (N0 := nx σ) (U0 := us σ) (q0 := q3) (σ0 := σ2) (τ0 := w5.2) hn hb (fun σ4 τ4 q4 S4 ps4 ops4 g1 g2 g3 g4 g5 g6 => ?_) (fun σ4 τ4 S4 g1 g2 g3 => ?_) (m := 13) (Q := nq + 1) (Q' := nq) hne3 (by omega) (by omega) (by omega) x4 x5 (Int.le_refl _) EfV.rf PtF.rf
      · have c6 : ∀ j, (j = 34 ∨ j = 36 ∨ j = 38 ∨ j = 40) → τ4 1022 j = τ0 1022 j := fun j hj => (g6 _ _ (by omega) (by omega)).trans ((v2 _ _ (by omega) (by omega)).trans (ww _ _ (by omega)))
        refine wp_mono (lk_behind hn hb g1 g2 g3 ⟨(c6 34 (by omega)).trans i34, (c6 36 (by omega)).trans i36, (c6 38 (by omega)).trans i38⟩ (by rw [g5.2.1, v1.2.1]; exact e8) ((c6 40 (by omega)).trans i40)) fun y hy => wp_mono hy fun w' hw' => ?_
        exact fin y w' ((v1.1.trans g5.1).trans hw'.1.1) ((R5.trans g6.ra).trans hw'.2.1) hw'.2.2
      · unfold twBeh
        rw [if_pos (show (0 : Int) = 0 from rfl)]
        exact wp_mono (flE σ4 τ4 S4 9 g1 (by decide) (v1.1.trans g2.1) (R5.trans g3.ra)) fun y hy => wp_ok hy
    · have eT : (t1 (t1 (g_X7_pattern n 1022 w.2) fun v17 τ18 => if v17 = 0 then some ((0 : Int), τ18) else twMore n nq τ18) fun v75 τ76 => twBeh n v75 τ76) = some (0, w5.2) := by
        rw [ew5, t1_at, if_pos x1, t1_at]
        unfold twBeh
        rw [if_pos rfl]
      rw [eT]
      refine wp_ok (wp_c0e ep ?_)
      rw [e39, x2.read39 hn hb]
      exact flE σ2 w5.2 S3 9 x2 (by decide) v1.1 R5
end RN
