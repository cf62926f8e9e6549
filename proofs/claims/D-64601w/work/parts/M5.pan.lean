/-! CONDITIONS, side by side: all of them -/
set_option maxRecDepth 100000
def CaF (τ τ' : TT) : Prop := ∀ r j, ¬ (r = 1022 ∧ ((17 ≤ j ∧ j ≤ 22) ∨ (26 ≤ j ∧ j ≤ 28) ∨ j = 34 ∨ (41 ≤ j ∧ j ≤ 43))) → ¬ (1034 ≤ r ∧ r ≤ 1036) → r ≠ 1038 → τ' r j = τ r j
theorem CaF.rf {τ : TT} : CaF τ τ := fun _ _ _ _ _ => rfl
theorem CaF.trans {τ τ1 τ2 : TT} (h : CaF τ τ1) (h' : CaF τ1 τ2) : CaF τ τ2 := fun r j x y z => (h' r j x y z).trans (h r j x y z)
theorem CnF.ca {τ τ' : TT} {i : Int} (h : CnF i τ τ') : CaF τ τ' := fun r j x y z => h r j x y fun w => z w.1
theorem NvF.ca {τ τ' : TT} (h : NvF τ τ') : CaF τ τ' := fun r j x y _ => h r j (fun w => x ⟨w.1, by omega⟩) y
def CsP (T : List Int) (N0 U0 z k : Int) (σ : AS) (τ : TT) (q : Int) (S : PS) (M : Nat) (σ' : AS) (τ' : TT) : Prop :=
  ∃ q' S' cs', q ≤ q' ∧ ShP T N0 U0 σ' z k q' S' ∧ (∀ i, i ≠ 2 → S'.2 i = S.2 i) ∧ OKC T N0 σ' τ' q' S' M cs' ∧ S.1.1.length ≤ S'.1.1.length ∧ (∀ i : Nat, i < S.1.1.length → τ' 1036 i = τ 1036 i) ∧ EfX N0 σ σ' ∧ CaF τ τ'
def CsL (T : List Int) (N0 U0 k : Int) (σ : AS) (τ : TT) (σ' : AS) (τ' : TT) : Prop := Fl T N0 U0 1 (k + 3) σ' τ' ∧ EfX N0 σ σ' ∧ CaF τ τ'
/-- the twin at a condition -/
noncomputable def twCd (n Q : Nat) (τ : TT) : Option (Int × TT) := t1 (g_X7_condition n 1022 τ) fun v21 τ22 => if v21 = 0 then some (0, τ22) else if τ22 1022 19 = 11 then g_X7_conditionTexts_49 n (g_X7_conditionTexts_15 n Q) 1022 1 τ22 else g_X7_conditionTexts_49 n (g_X7_conditionTexts_15 n Q) 1022 0 τ22
theorem condT_15_eq {n Q : Nat} {τ : TT} : g_X7_conditionTexts_15 n (Q + 1) 1022 1 τ = t1 (g_X7_next n 1022 τ) fun v16 τ17 => if v16 = 0 then some (0, τ17) else twCd n Q τ17 := by
  unfold g_X7_conditionTexts_15
  rw [if_neg (by decide)]
  rfl
section MJ
variable {σ σ0 σ1 σ2 σ3 σ' : AS} {τ τ0 τ' : TT} {n M : Nat} {N0 U0 z z' k q q0 q' p v l r C l1 l2 l4 l5 e var x a b c s0 : Int} {T : List Int} {S : PS} {cs : List Cnd}
theorem OKC.step (hO : OKC T N0 σ τ q S M cs) (hB : OKB T σ' τ' q' S) (hE : PF N0 σ σ') (h5 : ld σ' 1007 5 = 0 → ld σ 1007 5 = 0) (hF : LxF τ τ') : OKC T N0 σ' τ' q' S M cs := by
  obtain ⟨hW, hA, hT, h8, hV⟩ := hO
  refine ⟨⟨hB, hW.2.1, fun i hi => by rw [hF _ _ (by omega)]; exact hW.2.2 i hi⟩, hA.pf hE, ⟨by rw [hF _ _ (by omega)]; exact hT.1, fun i hi => (hT.2 i hi).congr fun j _ _ => hF _ _ (by omega)⟩, h8, fun u => hV (h5 u)⟩
theorem conds_0 {Q : Nat} : f_X3_conditions_2 n (Q + 1) 1007 x 0 σ = some σ := by
  unfold f_X3_conditions_2
  rw [if_pos rfl]
theorem FlR.conds234 (hn : 1000000 ≤ n) (hb : BtOk T) (h : FlR T N0 U0 z k S σ τ) {Q : Nat} : f_X3_conditions_234 n (f_X3_conditions_2 n (Q + 1)) 1007 x σ = some σ := by
  unfold f_X3_conditions_234
  rw [gd_pos h.g, h.takes hn hb (r := 59) (C := 11) (by decide) (by unfold spC; omega), c1_at, conds_0]
/-- conditions where the token is bad -/
theorem conds_fail (hn : 1000000 ≤ n) (hb : BtOk T) (h : FlR T N0 U0 z k S σ τ) (h0 : ld σ 1007 3 = 0) (hz : z ≤ 6) {Q : Nat} : Wp (f_X3_conditions_2 n (Q + 2) 1007 x 1 σ) fun σ' => Fl T N0 U0 (z + 1) k σ' τ ∧ EfX N0 σ σ' := by
  obtain ⟨q, h1, h2⟩ := id h
  obtain ⟨g1, g2, g3, g4, g5, g6, g7⟩ := h1.nN
  have c50 := (h2.code0 h0).1
  have L1 := h1.2.2.2.2.2.2.2.1
  have h7 := h.g
  rw [conditions_2_eq hn hb h1]
  have eb : begC (tkC T q) = 0 := by rw [c50]; decide
  rw [eb]
  have k86 : Wp (f_X3_conditions_86 n (f_X3_conditions_2 n (Q + 1)) 1007 x σ) fun σ' => Fl T N0 U0 (z + 1) k σ' τ ∧ EfX N0 σ σ' := by
    unfold f_X3_conditions_86
    rw [gd_pos h7, if_pos h0, gd_pos h7, g6, gd_pos g7, h.is hn hb h0 (r := 41) (C := 12) (by decide) (by unfold spC; omega), c1_at, if_pos rfl, gd_pos h7, g6, gd_pos g7, h.is hn hb h0 (r := 43) (C := 13) (by decide) (by unfold spC; omega), c1_at, if_pos rfl]
    exact c163_fail hn hb h hz fun σ' S' f E => wp_of_eq (f.conds234 hn hb) ⟨⟨S', f⟩, E⟩
  unfold f_X3_conditions_61
  refine wp_gd h7 ?_
  rw [g3]
  refine wp_gd g4 ?_
  rw [g5]
  exact wp_gd (lsok_kd L1 (by decide)) (wp_c1e (L1.size (by decide)) (wp_ite (fun _ => wp_pos rfl k86) fun _ => k86))
theorem lk_conds (hn : 1000000 ≤ n) (hb : BtOk T) : ∀ {m Q Q' : Nat} {σ : AS} {τ : TT} {q : Int} {S : PS} {cs : List Cnd}, 9 - cs.length ≤ m → m < Q → m < Q' → ShP T N0 U0 σ 0 k q S → OKC T N0 σ τ q S M cs → Wp (f_X3_conditions_2 n (Q + 1) 1007 M 1 σ) fun σ' => Wp (twCd n Q' τ) fun w => (w.1 = 1 ∧ CsP T N0 U0 0 k σ τ q S M σ' w.2) ∨ (w.1 = 0 ∧ CsL T N0 U0 k σ τ σ' w.2)
  | 0, _, _, σ, τ, q, S, cs, hm, _, _, _, hO => by have := hO.2.2.2.1; omega
  | m + 1, Q + 1, Q' + 1, σ, τ, q, S, cs, hm, hQ, hQ', h, hO => by
    obtain ⟨Q1, hQ1⟩ : ∃ Q1, Q = Q1 + 1 := ⟨Q - 1, by omega⟩
    rw [conditions_2_eq hn hb h]
    refine lk_cond61 hn hb h hO rfl (fun σ1 τ1 h1 => ?_) fun σ1 τ1 h1 => ?_
    · obtain ⟨q1, S1, cs1, a1, a2, a3, a4, a5, a6, a7, a8, a9⟩ := h1
      have o1 := a5.1.1.1
      have o2 := a5.1.1.2.1
      rw [if_neg (show ¬ (1 : Int) = 0 by decide)]
      unfold f_X3_conditions_234 g_X7_conditionTexts_49
      refine wp_gd a3.2.2.2.2.1.1 ?_
      by_cases c : tkC T q1 = 11
      · refine wp_c1 (wp_mono (takes_yes hn hb a3 (r := 59) (C := 11) (by decide) (by unfold spC; omega) o1 c) fun y hy => ?_)
        obtain ⟨y1, y2, y3, y4⟩ := hy
        rw [if_pos (by rw [o2.2.1]; exact c), condT_15_eq, y1]
        have hqq := nxq_le a3
        refine wp_swap (wp_t1 (wp_mono (ok_next hn hb a3 a5.1.1 y2 y4) fun w hw => ?_))
        obtain ⟨w1, w2⟩ := hw
        rcases w2 with ⟨u1, u2⟩ | ⟨u1, u2⟩
        · refine wp_neg (by omega) (wp_swap ?_)
          refine wp_mono (lk_conds (m := m) (Q := Q) (Q' := Q') hn hb (by omega) (by omega) (by omega) y2 (a5.step u2 y3.1 (fun u => by rw [← y4]; exact u) w1)) fun σ2 h2 => wp_mono h2 fun w' hw' => ?_
          have EX : EfX N0 σ y.2 := a8.trans y3.x
          have FX : CaF τ w.2 := a9.ca.trans w1.nv.ca
          rcases hw' with ⟨x1, q2, S2, cs2, b1, b2, b3, b4, b5, b6, b7, b8⟩ | ⟨x1, b1, b2, b3⟩
          · exact Or.inl ⟨x1, q2, S2, cs2, by omega, b2, fun i hi => (b3 i hi).trans (a4 i hi), b4, by omega, fun i hi => by rw [b6 i (by omega), w1 _ _ (by omega), a7 i hi], EX.trans b7, FX.trans b8⟩
          · exact Or.inr ⟨x1, b1, EX.trans b2, FX.trans b3⟩
        · refine wp_pos u1 (wp_ok ?_)
          subst hQ1
          refine wp_mono (conds_fail hn hb u2 (by rw [y4]; exact o1) (by decide)) fun σ2 h2 => Or.inr ⟨rfl, ?_, a8.trans (y3.x.trans h2.2), a9.ca.trans w1.nv.ca⟩
          obtain ⟨⟨S2, f2⟩, -⟩ := h2
          exact ⟨S2, f2.mono (by omega)⟩
      · refine wp_c1e (takes_no hn hb a3 (r := 59) (C := 11) (by decide) (by unfold spC; omega) fun _ => c) ?_
        rw [if_neg (by rw [o2.2.1]; exact c)]
        have e : g_X7_conditionTexts_15 n (Q' + 1) 1022 0 τ1 = some (1, τ1) := by
          unfold g_X7_conditionTexts_15
          rw [if_pos rfl]
        rw [e, conds_0]
        exact wp_ok (wp_ok (Or.inl ⟨rfl, q1, S1, cs1, a1, a3, a4, a5, a6, a7, a8, a9.ca⟩))
    · obtain ⟨⟨S1, f1⟩, E1, F1⟩ := h1
      subst hQ1
      rw [if_pos rfl, f1.conds234 hn hb]
      exact wp_ok (wp_ok (Or.inr ⟨rfl, ⟨S1, f1.mono (by omega)⟩, E1, F1.ca⟩))
/-- where: all of it -/
theorem lk_where (hn : 1000000 ≤ n) (hb : BtOk T) (h : ShP T N0 U0 σ 0 k q S) (hO : OKC T N0 σ τ q S M []) (hM : M = S.1.1.length) {Kt : Int → TT → Option (Int × TT)} {R : Int × AS → Int × TT → Prop}
    (hk : ∀ σ' τ', CsP T N0 U0 0 k σ τ q S M σ' τ' → Wp (f_X3_read_80 n 1007 M σ') fun a => Wp (Kt 1 τ') fun b => R a b)
    (hf : ∀ σ' τ', CsL T N0 U0 k σ τ σ' τ' → Wp (f_X3_read_80 n 1007 M σ') fun a => Wp (Kt 0 τ') fun b => R a b) :
    Wp (rdRest n σ) fun a => Wp (t1 (g_X7_conditionTexts n 1022 τ) Kt) fun b => R a b := by
  obtain ⟨hW, hA, hT, h8, hV⟩ := id hO
  obtain ⟨g1, g2, g3, g4, g5, g6, g7⟩ := h.nN
  have h7 := h.2.2.2.2.1.1
  have o1 := hW.1.1
  have o2 := hW.1.2.1
  have e2 := h.2.2.2.2.2.2.2.2.1
  have hN := h.2.2.2.2.2.2.1
  have dm : ld σ N0 2 = N0 + 3 := by rw [hN.2.1 2 (by decide) (by decide)]; omega
  have esz : f_J33_size (N0 + 3) σ = some ((M : Int), σ) := by
    unfold f_J33_size
    rw [gd_pos e2.1, e2.2.1, hM]
  obtain ⟨n1, hn1⟩ : ∃ n1, n = n1 + 2 := ⟨n - 2, by omega⟩
  unfold rdRest g_X7_conditionTexts g_X7_conditionTexts_14
  refine wp_gd h7 ?_
  rw [g3]
  refine wp_gd g4 ?_
  rw [dm]
  refine wp_gd e2.1 (wp_c1e esz (wp_gd h7 ?_))
  by_cases c : tkC T q = 10
  · refine wp_c1 (wp_mono (takes_yes hn hb h (r := 39) (C := 10) (by decide) (by unfold spC; omega) o1 c) fun y hy => ?_)
    obtain ⟨y1, y2, y3, y4⟩ := hy
    rw [if_pos (show τ 1022 19 = 10 by rw [o2.2.1]; exact c)]
    refine wp_neg (by omega) (wp_gd y2.2.2.2.2.1.1 ?_)
    unfold f_X3_conditions
    have hqq := nxq_le h
    have eT : g_X7_conditionTexts_15 n n 1022 1 τ = t1 (g_X7_next n 1022 τ) fun v16 τ17 => if v16 = 0 then some (0, τ17) else twCd n (n1 + 1) τ17 := by
      have := condT_15_eq (n := n) (Q := n1 + 1) (τ := τ)
      rw [← this, hn1]
    have eC : ∀ s, f_X3_conditions_2 n n 1007 M 1 s = f_X3_conditions_2 n (n1 + 1 + 1) 1007 M 1 s := fun s => by rw [← hn1]
    rw [eT, eC]
    refine wp_swap (wp_t1 (wp_t1 (wp_mono (ok_next hn hb h hW.1 y2 y4) fun w hw => ?_)))
    obtain ⟨w1, w2⟩ := hw
    rcases w2 with ⟨u1, u2⟩ | ⟨u1, u2⟩
    · refine wp_neg (by omega) (wp_t1r (wp_swap ?_))
      refine wp_join0 (lk_conds (m := 9) (Q := n1 + 1) (Q' := n1 + 1) (cs := []) hn hb (by decide) (by omega) (by omega) y2 (hO.step u2 y3.1 (fun u => by rw [← y4]; exact u) w1)) fun σ2 w' hw' => ?_
      rcases hw' with ⟨x1, q2, S2, cs2, b1, b2, b3, b4, b5, b6, b7, b8⟩ | ⟨x1, b1, b2, b3⟩
      · rw [x1]
        exact hk σ2 w'.2 ⟨q2, S2, cs2, by omega, b2, b3, b4, b5, fun i hi => by rw [b6 i hi, w1 _ _ (by omega)], y3.x.trans b7, w1.nv.ca.trans b8⟩
      · rw [x1]
        exact hf σ2 w'.2 ⟨b1, y3.x.trans b2, w1.nv.ca.trans b3⟩
    · refine wp_pos u1 (wp_ok (wp_swap ?_))
      refine wp_c0 (wp_mono (conds_fail hn hb u2 (by rw [y4]; exact o1) (by decide)) fun σ2 h2 => ?_)
      obtain ⟨⟨S2, f2⟩, E2⟩ := h2
      exact hf σ2 w.2 ⟨⟨S2, f2.mono (by omega)⟩, y3.x.trans E2, w1.nv.ca⟩
  · refine wp_c1e (takes_no hn hb h (r := 39) (C := 10) (by decide) (by unfold spC; omega) fun _ => c) (wp_pos rfl ?_)
    rw [if_neg (show ¬ τ 1022 19 = 10 by rw [o2.2.1]; exact c)]
    have e : g_X7_conditionTexts_15 n n 1022 0 τ = some (1, τ) := by
      have : g_X7_conditionTexts_15 n (n1 + 2) 1022 0 τ = some (1, τ) := by
        unfold g_X7_conditionTexts_15
        rw [if_pos rfl]
      rw [← hn1] at this
      exact this
    rw [e, t1_at]
    exact hk σ τ ⟨q, S, [], Int.le_refl _, h, fun _ _ => rfl, hO, Nat.le_refl _, fun _ _ => rfl, EfX.rf, CaF.rf⟩
end MJ
