/-! ITEMS, side by side: the loop -/
set_option maxRecDepth 100000
section IK
variable {σ σ0 σ1 σ2 σ3 σ' : AS} {τ τ0 τ' : TT} {n M : Nat} {N0 U0 z z' k q q0 q' p v l r C l1 l2 l4 l5 e var x a b c s0 : Int} {T : List Int} {S S' : PS} {cs : List Cnd} {its : List Trm}
theorem item_flaw (hO : OKB T σ τ q S) (hC : tkC T q = 1 ∨ tkC T q = 15) {i : Int} (hi : i = 8) : g_X7_item n 1022 a i τ = some (0, sa (sa τ 1022 17 3) 1022 18 q) := by
  have e19 : τ 1022 19 = tkC T q := hO.2.1.2.1
  have e22 : g_X7_item_22 n 1022 a i τ = some (0, sa (sa τ 1022 17 3) 1022 18 q) := by
    unfold g_X7_item_22
    rw [if_pos hi, hO.2.1.1, flaw_eq (by decide), t1_at, gd_pos (by decide)]
  unfold g_X7_item
  rw [e19]
  by_cases c15 : tkC T q = 15
  · rw [if_pos c15, e22]
  · rw [if_neg c15, if_pos (by omega), e22]
theorem item_cannot (hO : OKB T σ τ q S) (c1 : tkC T q ≠ 1) (c15 : tkC T q ≠ 15) {i : Int} : g_X7_item n 1022 a i τ = some (0, sa (sa τ 1022 17 2) 1022 18 q) := by
  have e19 : τ 1022 19 = tkC T q := hO.2.1.2.1
  unfold g_X7_item
  rw [e19, if_neg c15, if_neg c1, ok_cannot hO, t1_at, gd_pos (by decide)]
/-- the twin behind an item -/
noncomputable def twIk (n Q : Nat) (v26 : Int) (τ27 : TT) : Option (Int × TT) :=
      if v26 = 0 then (
        some (0, τ27))
      else (
        gI ((τ27 1022 36) + 1) <|
        nm (sa τ27 1022 36 ((τ27 1022 36) + 1)) fun τ33 =>
        if (τ33 1022 19) = 34 then (
          g_X7_itemTexts_92 n (g_X7_itemTexts_47 n Q) 1022 1 τ33)
        else (
          g_X7_itemTexts_92 n (g_X7_itemTexts_47 n Q) 1022 0 τ33))
theorem itT_47_eq {n Q : Nat} {τ : TT} : g_X7_itemTexts_47 n (Q + 1) 1022 1 τ = t1 (g_X7_item n 1022 1039 (τ 1022 36) τ) fun v26 τ27 => twIk n Q v26 τ27 := by
  unfold g_X7_itemTexts_47
  rw [if_neg (by decide)]
  rfl
theorem lk_items (hn : 1000000 ≤ n) (hb : BtOk T) : ∀ {m Q Q' : Nat} {σ : AS} {τ : TT} {q : Int} {S : PS} {its : List Trm}, 9 - its.length ≤ m → m < Q → m < Q' → ShP T N0 U0 σ 0 k q S → OKI T N0 σ τ q S M cs its → Wp (f_X3_items_2 n (Q + 1) 1007 M 1 σ) fun σ' => Wp (g_X7_itemTexts_47 n Q' 1022 1 τ) fun w => (w.1 = 1 ∧ ItsP T N0 U0 0 k σ τ q S M cs σ' w.2) ∨ (w.1 = 0 ∧ ItsL T N0 U0 k σ τ σ' w.2)
  | 0, _, _, σ, τ, q, S, its, hm, _, _, _, hO => by have := hO.2.2.2.1; omega
  | m + 1, Q + 1, Q' + 1, σ, τ, q, S, its, hm, hQ, hQ', h, hO => by
    obtain ⟨Q1, hQ1⟩ : ∃ Q1, Q = Q1 + 1 := ⟨Q - 1, by omega⟩
    obtain ⟨hC, hA, hT, h8, hV⟩ := id hO
    obtain ⟨g1, g2, g3, g4, g5, g6, g7⟩ := h.nN
    have g8 := h.n5.1
    have h7 := h.2.2.2.2.1.1
    have hW := hC.1
    have o1 := hW.1.1
    have o2 := hW.1.2.1
    have L1 := h.2.2.2.2.2.2.2.1
    have hsz := h.2.2.2.2.2.2.2.2.2.1
    have e36 : τ 1022 36 = its.length := hT.1
    have hls : (S.2 3).length = its.length := hA.1
    rw [itT_47_eq, e36]
    have fail33 : ∀ (σ1 : AS) (τ1 : TT), FlR T N0 U0 0 k S σ1 τ1 → EfX N0 σ σ1 → IaF τ τ1 → Wp (f_X3_items_33 n (f_X3_items_2 n (Q + 1)) 1007 M σ1) fun σ' => ((0 : Int) = 1 ∧ ItsP T N0 U0 0 k σ τ q S M cs σ' τ1) ∨ ((0 : Int) = 0 ∧ ItsL T N0 U0 k σ τ σ' τ1) := fun σ1 τ1 f1 E1 F1 => by
      refine wp_mono (items33_fail hn hb f1 (by decide)) fun σ2 h2 => Or.inr ⟨rfl, ?_, E1.trans h2.2, F1⟩
      obtain ⟨⟨S', f⟩, -⟩ := h2
      exact ⟨S', f.mono (by omega)⟩
    have notI : tkC T q ≠ 1 → tkC T q ≠ 15 → Wp (f_X3_items_33 n (f_X3_items_2 n (Q + 1)) 1007 M σ) fun σ' => Wp (t1 (g_X7_item n 1022 1039 its.length τ) fun v26 τ27 => twIk n Q' v26 τ27) fun w => (w.1 = 1 ∧ ItsP T N0 U0 0 k σ τ q S M cs σ' w.2) ∨ (w.1 = 0 ∧ ItsL T N0 U0 k σ τ σ' w.2) := fun c1 c15 => by
      rw [item_cannot hW.1 c1 c15, t1_at]
      unfold twIk f_X3_items_33
      rw [if_pos (show (0 : Int) = 0 from rfl)]
      refine wp_gd h7 ?_
      rw [g3]
      refine wp_gd g4 (wp_gd h7 ?_)
      rw [g8]
      refine wp_pos o1 (wp_gd h7 (wp_c1 (wp_mono (item_not hn hb h hW.1 c1 c15) fun y hy => ?_)))
      refine wp_mono (items56_fail hn hb hy.1 hy.2.2 (by decide)) fun σ2 h2 => wp_ok (Or.inr ⟨rfl, ?_, hy.2.1.x.trans h2.2, fgF_flw.nv.ia⟩)
      obtain ⟨⟨S', f⟩, -⟩ := h2
      exact ⟨S', f.mono (by omega)⟩
    unfold f_X3_items_2
    refine wp_neg (by decide) (wp_gd h7 ?_)
    rw [g3]
    refine wp_gd g4 ?_
    rw [g8]
    refine wp_gd (lsok_kd L1 (by decide)) (wp_c1e (L1.size (by decide)) ?_)
    rw [hls]
    by_cases c8 : its.length = 8
    · refine wp_pos (by omega) (wp_gd h7 (wp_c1e (begins_eq hn hb h) ?_))
      by_cases cb : tkC T q = 1 ∨ tkC T q = 15
      · have e : (if tkC T q = 1 ∨ tkC T q = 15 then (1 : Int) else 0) = 1 := if_pos cb
        rw [e]
        refine wp_neg (by decide) (wp_gd h7 (wp_c0 (wp_mono (fail_set h o1 (c := 3) (by decide)) fun σ1 h1 => ?_)))
        obtain ⟨s1, E1, F1⟩ := h1
        have fl : FlR T N0 U0 0 k S σ1 (sa (sa τ 1022 17 3) 1022 18 q) := by
          refine ⟨q, s1, ?_⟩
          rw [flw_sa.1, flw_sa.2]
          exact Or.inl F1
        rw [item_flaw hW.1 cb (by omega), t1_at]
        unfold twIk
        rw [if_pos (show (0 : Int) = 0 from rfl)]
        refine wp_mono (fail33 σ1 _ fl E1.x fgF_flw.nv.ia) fun σ2 h2 => wp_ok h2
      · have e : (if tkC T q = 1 ∨ tkC T q = 15 then (1 : Int) else 0) = 0 := if_neg cb
        rw [e]
        exact wp_pos rfl (notI (by omega) (by omega))
    · refine wp_neg (by omega) ?_
      unfold f_X3_items_33
      refine wp_gd h7 ?_
      rw [g3]
      refine wp_gd g4 (wp_gd h7 ?_)
      rw [g8]
      refine wp_pos o1 (wp_gd h7 ?_)
      refine wp_join (lk_item (a := 1039) (i := its.length) hn hb h hW (by omega) (Or.inl rfl)) fun y w hw => ?_
      obtain ⟨w1, w2, w3, w4⟩ := hw
      rcases w4 with ⟨x1, q1, S1, t, x2, x3, x4, x5, x6, x7, x8, x9, x10, x11, x12, x13⟩ | ⟨x1, S1, x2⟩
      · unfold twIk f_X3_items_56
        have hls1 : (S1.2 3).length = its.length := by rw [x4]; exact hls
        have hsz1 := x3.2.2.2.2.2.2.2.2.2.1
        have w36 : w.2 1022 36 = its.length := (w2 _ _ (by omega) (by omega) (by omega)).trans e36
        have n0 : ¬ w.1 = 0 := by omega
        rw [if_neg n0, w36, gI_pos (by omega), nm_eq]
        refine wp_gd (lsok_kd x3.2.2.2.2.2.2.2.1 (by decide)) (wp_c1 (wp_mono (sh_add (i := 3) (z' := 0) x3 (by decide) w3 (by omega) (by decide) ?_) fun y' hy' => ?_))
        · unfold updF
          simp
          omega
        obtain ⟨s1, E1, J1⟩ := hy'
        have ea : ∀ r j, ¬ (r = 1022 ∧ j = 36) → sa w.2 1022 36 ((its.length : Int) + 1) r j = w.2 r j := fun r j hh => by rw [sa_at, if_neg hh]
        have ea36 : sa w.2 1022 36 ((its.length : Int) + 1) 1022 36 = its.length + 1 := by rw [sa_at, if_pos ⟨rfl, rfl⟩]
        have F1 : IaF τ (sa w.2 1022 36 ((its.length : Int) + 1)) := w2.ia.trans fun r j hx _ _ => ea _ _ (fun u => hx ⟨u.1, by omega⟩)
        generalize sa w.2 1022 36 ((its.length : Int) + 1) = τ3 at *
        have hW3 : OKW T y'.2 τ3 q1 (S1.1, updF S1.2 3 y.1) M := OKW.same (S := S1) (OKW.fr x5 (fun j _ => ea _ _ (by omega)) fun r j g1 g2 => ea _ _ (by omega)) J1 rfl
        have EX : EfX N0 σ y'.2 := w1.trans E1.x
        have hO3 : OKI T N0 y'.2 τ3 q1 (S1.1, updF S1.2 3 y.1) M cs (its ++ [t]) := by
          refine ⟨hC.move hW3 ?_ EX.1 EX.2.2.2 ((ea _ _ (by omega)).trans (w2 _ _ (by omega) (by omega) (by omega))) (fun j => (ea _ _ (by omega)).trans (w2 _ _ (by omega) (by omega) (by omega))), ?_, ⟨by rw [ea36]; simp, fun i hi => ?_⟩, by simp; omega, fun u5 t' ht' => ?_⟩
          · show updF S1.2 3 y.1 2 = S.2 2
            unfold updF
            rw [if_neg (by decide), x4]
          · show IsAt y'.2 (updF S1.2 3 y.1 3) _
            unfold updF
            rw [if_pos rfl, x4]
            exact (hA.pf EX.1).snoc (x8.pf E1.1)
          · have hi' : i < its.length + 1 := by simpa using hi
            rw [getD_snocG hi']
            by_cases e : i = its.length
            · rw [if_pos e, e]
              exact x9.congr fun j _ _ => ea _ _ (by omega)
            · rw [if_neg e]
              refine (hT.2 i (by omega)).congr fun j j1 j2 => ?_
              rw [ea _ _ (by omega), w2 _ _ (by omega) (by omega) (by omega)]
          · rcases List.mem_append.mp ht' with hc | hc
            · exact hV (EX.2.2.2 u5) t' hc
            · rw [List.mem_singleton.mp hc]
              rw [J1] at u5
              exact x12 u5
        have k1 : k + 1 - 3 ≤ k := by omega
        have s1' := s1.mono k1
        have hqq := nxq_le s1'
        have h1036 : ∀ i : Nat, i < S.1.1.length → τ3 1036 i = τ 1036 i := fun i hi => (ea _ _ (by omega)).trans (x7 i hi)
        have hS3 : ∀ i, i ≠ 3 → (updF S1.2 3 y.1) i = S.2 i := fun i hi => by
          unfold updF
          rw [if_neg hi, x4]
        have e19 : τ3 1022 19 = tkC T q1 := hW3.1.2.1.2.1
        unfold g_X7_itemTexts_92
        refine wp_gd s1'.2.2.2.2.1.1 ?_
        by_cases c : tkC T q1 = 34
        · refine wp_c1 (wp_mono (takes_yes hn hb s1' (r := 37) (C := 34) (by decide) (by unfold spC; omega) hW3.1.1 c) fun y2 hy2 => ?_)
          obtain ⟨p1, p2, p3, p4⟩ := hy2
          rw [if_pos (show τ3 1022 19 = 34 by rw [e19]; exact c), if_neg (show ¬ (1 : Int) = 0 by decide), p1]
          refine wp_swap (wp_t1 (wp_mono (ok_next hn hb s1' hW3.1 p2 p4) fun w5 hw5 => ?_))
          obtain ⟨v1, v2⟩ := hw5
          rcases v2 with ⟨u1, u2⟩ | ⟨u1, u2⟩
          · refine wp_neg (by omega) (wp_swap ?_)
            have hW5 : OKW T y2.2 w5.2 (nxq T q1) (S1.1, updF S1.2 3 y.1) M := ⟨u2, hW3.2.1, fun i hi => by rw [v1 _ _ (by omega)]; exact hW3.2.2 i hi⟩
            have hO5 : OKI T N0 y2.2 w5.2 (nxq T q1) (S1.1, updF S1.2 3 y.1) M cs (its ++ [t]) := ⟨hO3.1.move hW5 rfl p3.1 (fun u => by rw [← p4]; exact u) (v1 _ _ (by omega)) (fun j => v1 _ _ (by omega)), hO3.2.1.pf p3.1, ⟨by rw [v1 _ _ (by omega)]; exact hO3.2.2.1.1, fun i hi => (hO3.2.2.1.2 i hi).congr fun j _ _ => v1 _ _ (by omega)⟩, hO3.2.2.2.1, fun u => hO3.2.2.2.2 (by rw [← p4]; exact u)⟩
            refine wp_mono (lk_items (m := m) (Q := Q) (Q' := Q') hn hb (by simp; omega) (by omega) (by omega) p2 hO5) fun σ6 h6 => wp_mono h6 fun w6 hw6 => ?_
            have EX5 : EfX N0 σ y2.2 := EX.trans p3.x
            have F5 : IaF τ w5.2 := F1.trans v1.nv.ia
            rcases hw6 with ⟨d1, q2, S2, its2, b1, b2, b3, b4, b5, b6, b7, b8, b9⟩ | ⟨d1, b1, b2, b3⟩
            · exact Or.inl ⟨d1, q2, S2, its2, by omega, b2, fun i hi => (b3 i hi).trans (hS3 i hi), b4, b5, Nat.le_trans x6 b6, fun i hi => by rw [b7 i (Nat.lt_of_lt_of_le hi x6), v1 _ _ (by omega), h1036 i hi], EX5.trans b8, F5.trans b9⟩
            · exact Or.inr ⟨d1, b1, EX5.trans b2, F5.trans b3⟩
          · refine wp_pos u1 (wp_ok ?_)
            subst hQ1
            refine wp_mono (items_fail hn hb u2 (by decide)) fun σ6 h6 => Or.inr ⟨rfl, ?_, EX.trans (p3.x.trans h6.2), F1.trans v1.nv.ia⟩
            obtain ⟨⟨S', f⟩, -⟩ := h6
            exact ⟨S', f.mono (by omega)⟩
        · refine wp_c1e (takes_no hn hb s1' (r := 37) (C := 34) (by decide) (by unfold spC; omega) fun _ => c) ?_
          rw [if_neg (show ¬ τ3 1022 19 = 34 by rw [e19]; exact c), if_pos (show (0 : Int) = 0 from rfl)]
          obtain ⟨Q2, hQ2⟩ : ∃ Q2, Q' = Q2 + 1 := ⟨Q' - 1, by omega⟩
          subst hQ2
          have e : g_X7_itemTexts_47 n (Q2 + 1) 1022 0 τ3 = some (1, τ3) := by
            unfold g_X7_itemTexts_47
            rw [if_pos rfl]
          rw [e, items_0]
          exact wp_ok (wp_ok (Or.inl ⟨rfl, q1, _, its ++ [t], x2, s1', hS3, hO3, by simp, x6, h1036, EX, F1⟩))
      · refine wp_mono (items56_fail hn hb x2 w3 (by decide)) fun σ2 h2 => ?_
        unfold twIk
        refine wp_pos x1 (wp_ok (Or.inr ⟨rfl, ?_, w1.trans h2.2, w2.ia⟩))
        obtain ⟨⟨S', f⟩, -⟩ := h2
        exact ⟨S', f.mono (by omega)⟩
end IK
