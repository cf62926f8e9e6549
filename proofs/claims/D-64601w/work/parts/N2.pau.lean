/-! ORDERS, side by side: the loop -/
set_option maxRecDepth 100000
def OrsP (T : List Int) (N0 U0 z k : Int) (σ : AS) (τ : TT) (q : Int) (S : PS) (M : Nat) (cs : List Cnd) (its : List Trm) (σ' : AS) (τ' : TT) : Prop :=
  ∃ q' S' os', q ≤ q' ∧ ShP T N0 U0 σ' z k q' S' ∧ (∀ i, i ≠ 4 → S'.2 i = S.2 i) ∧ OKO T N0 σ' τ' q' S' M cs its os' ∧ S.1.1.length ≤ S'.1.1.length ∧ (∀ i : Nat, i < S.1.1.length → τ' 1036 i = τ 1036 i) ∧ EfX N0 σ σ' ∧ OaF τ τ'
def OrsL (T : List Int) (N0 U0 k : Int) (σ : AS) (τ : TT) (σ' : AS) (τ' : TT) : Prop := Fl T N0 U0 1 (k + 2) σ' τ' ∧ EfX N0 σ σ' ∧ OaF τ τ'
/-- the twin behind an item -/
noncomputable def twOk (n Q : Nat) (u55 v60 : Int) (τ61 : TT) : Option (Int × TT) :=
      if v60 = 0 then (
        some (0, τ61))
      else (
        gI (4 * (τ61 1022 38)) <|
        gd ((0 : Int) ≤ (4 * (τ61 1022 38)) ∧ (4 * (τ61 1022 38)) < 32) <|
        if (τ61 (1040) (4 * (τ61 1022 38))) = 0 then (
          t1 (g_X7_hasCount n 1022 τ61) fun v70 τ71 =>
          if v70 = 0 then (
            t0 (g_X7_wrong 1022 6 u55 τ71) fun τ76 =>
            g_X7_orderTexts_56 n (g_X7_orderTexts_2 n Q) 1022 τ76)
          else (
            g_X7_orderTexts_56 n (g_X7_orderTexts_2 n Q) 1022 τ71))
        else (
          g_X7_orderTexts_56 n (g_X7_orderTexts_2 n Q) 1022 τ61))
theorem orT_2_eq {n Q : Nat} {τ : TT} : g_X7_orderTexts_2 n (Q + 1) 1022 1 τ = t1 (g_X7_item n 1022 1040 (τ 1022 38) τ) fun v60 τ61 => twOk n Q (τ 1022 20) v60 τ61 := rfl
section OT
variable {σ σ0 σ1 σ2 σ3 σ' : AS} {τ τ0 τ' : TT} {n M : Nat} {N0 U0 z z' k q q0 q' p v l r C l1 l2 l4 l5 e var x a b c s0 hc : Int} {T : List Int} {S S' : PS} {cs : List Cnd} {its : List Trm} {os : List Odr} {t : Trm}
theorem orT_0 {Q : Nat} : g_X7_orderTexts_2 n (Q + 1) 1022 0 τ = some (1, τ) := by
  unfold g_X7_orderTexts_2
  rw [if_pos rfl]
/-- the outcome of the loop, one round told -/
def OrO (T : List Int) (N0 U0 k : Int) (σ : AS) (τ : TT) (q : Int) (S : PS) (M : Nat) (cs : List Cnd) (its : List Trm) (σ' : AS) (w : Int × TT) : Prop := (w.1 = 1 ∧ OrsP T N0 U0 0 k σ τ q S M cs its σ' w.2) ∨ (w.1 = 0 ∧ OrsL T N0 U0 k σ τ σ' w.2)
theorem lk_orders (hn : 1000000 ≤ n) (hb : BtOk T) (hhc : hc = hcI its) : ∀ {m Q Q' : Nat} {σ : AS} {τ : TT} {q : Int} {S : PS} {os : List Odr}, 9 - os.length ≤ m → m < Q → m < Q' → ShP T N0 U0 σ 0 k q S → OKO T N0 σ τ q S M cs its os → Wp (f_X3_orders_43 n (Q + 1) 1007 M 1 hc σ) fun σ' => Wp (g_X7_orderTexts_2 n Q' 1022 1 τ) fun w => OrO T N0 U0 k σ τ q S M cs its σ' w
  | 0, _, _, σ, τ, q, S, os, hm, _, _, _, hO => by have := hO.2.2.2.1; omega
  | m + 1, Q + 1, Q' + 1, σ, τ, q, S, os, hm, hQ, hQ', h, hO => by
    obtain ⟨Q1, hQ1⟩ : ∃ Q1, Q = Q1 + 1 := ⟨Q - 1, by omega⟩
    obtain ⟨Q2, hQ2⟩ : ∃ Q2, Q' = Q2 + 1 := ⟨Q' - 1, by omega⟩
    obtain ⟨hC, hA, hT, h8, hV⟩ := id hO
    obtain ⟨g1, g2, g3, g4, g5, g6, g7⟩ := h.nN
    have g8 := h.n5.2
    have h7 := h.2.2.2.2.1.1
    have hW := hC.1.1
    have o1 := hW.1.1
    have o2 := hW.1.2.1
    have L1 := h.2.2.2.2.2.2.2.1
    have e38 : τ 1022 38 = os.length := hT.1
    have hls : (S.2 4).length = os.length := hA.1
    have hits := hC.2.2.2.1
    rw [orT_2_eq, e38, o2.1]
    have flO : ∀ (σ1 σ2 : AS) (τ1 : TT), Fl T N0 U0 1 (k + 1) σ2 τ1 ∧ EfX N0 σ1 σ2 → EfX N0 σ σ1 → OaF τ τ1 → OrO T N0 U0 k σ τ q S M cs its σ2 (0, τ1) := fun σ1 σ2 τ1 h2 E1 F1 => by
      obtain ⟨⟨S', f⟩, E⟩ := h2
      exact Or.inr ⟨rfl, ⟨S', f.mono (by omega)⟩, E1.trans E, F1⟩
    have notI : tkC T q ≠ 1 → tkC T q ≠ 15 → Wp (f_X3_orders_74 n (f_X3_orders_43 n (Q + 1)) 1007 M hc σ) fun σ' => Wp (t1 (g_X7_item n 1022 1040 os.length τ) fun v60 τ61 => twOk n Q' q v60 τ61) fun w => OrO T N0 U0 k σ τ q S M cs its σ' w := fun c1 c15 => by
      rw [item_cannot hW.1 c1 c15, t1_at]
      unfold twOk f_X3_orders_74 f_X3_orders_111
      rw [if_pos (show (0 : Int) = 0 from rfl)]
      refine wp_gd h7 (wp_pos o1 (wp_gd h7 ?_))
      rw [g6]
      refine wp_gd g7 (wp_c1e (sh_is hn hb h (r := 65) (C := 15) (by decide) (by unfold spC; omega)) ?_)
      rw [if_neg c15]
      refine wp_pos rfl (wp_gd h7 (wp_pos o1 (wp_gd h7 (wp_c1 (wp_mono (item_not hn hb h hW.1 c1 c15) fun y hy => ?_)))))
      refine wp_mono (o127_fail hn hb hy.1 (by decide)) fun σ2 h2 => wp_ok (flO y.2 σ2 _ ?_ hy.2.1.x fgF_flw.nv.oa)
      obtain ⟨⟨S', f⟩, E⟩ := h2
      exact ⟨⟨S', f.mono (by omega)⟩, E⟩
    -- behind a fine item
    have onward : ∀ (σ1 : AS) (τ1 : TT) (q1 : Int) (S1 : PS) (r : Int) (t : Trm), q ≤ q1 → ShP T N0 U0 σ1 0 (k + 1) q1 S1 → S1.2 = S.2 → S.1.1.length ≤ S1.1.1.length → (∀ i : Nat, i < S.1.1.length → τ1 1036 i = τ 1036 i) → EfX N0 σ σ1 → OaF τ τ1 → OQ T N0 σ1 τ1 q1 S1 M cs its os r t → Wp (f_X3_orders_127 n (f_X3_orders_43 n (Q + 1)) 1007 M hc r σ1) fun a => Wp (g_X7_orderTexts_56 n (g_X7_orderTexts_2 n Q') 1022 τ1) fun w => OrO T N0 U0 k σ τ q S M cs its a w := fun σ1 τ1 q1 S1 r t b1 b2 b3 b4 b5 b6 b7 b8 => by
      have kk : k + 1 - 2 ≤ k := by omega
      refine lk_o127 hn hb b2 b8 (fun σ' τ' q' S' os' a1 a2 a3 a4 a5 a6 a7 a8 a9 => ?_) (fun σ' τ' q' S' os' a1 a2 a3 a4 a5 a6 a7 a8 a9 => ?_) (fun σ' τ' S' a1 a2 a3 => ?_) fun σ' τ' S' a1 a2 a3 => ?_
      · refine wp_mono (lk_orders (m := m) (Q := Q) (Q' := Q') hn hb hhc (by omega) (by omega) (by omega) (a3.mono kk) a6) fun σ6 h6 => wp_mono h6 fun w6 hw6 => ?_
        have EX := b6.trans a7
        have FX := b7.trans a8
        rcases hw6 with ⟨d1, q2, S2, os2, c1, c2, c3, c4, c5, c6, c7, c8⟩ | ⟨d1, c1, c2, c3⟩
        · exact Or.inl ⟨d1, q2, S2, os2, by omega, c2, fun i hi => by rw [c3 i hi, a5 i hi, b3], c4, by rw [a4] at c5; omega, fun i hi => by rw [c6 i (by rw [a4]; omega), a9, b5 i hi], EX.trans c7, FX.trans c8⟩
        · exact Or.inr ⟨d1, c1, EX.trans c2, FX.trans c3⟩
      · subst hQ2
        rw [orders_0, orT_0]
        exact wp_ok (wp_ok (Or.inl ⟨rfl, q', S', os', by omega, a3.mono kk, fun i hi => by rw [a5 i hi, b3], a6, by rw [a4]; exact b4, fun i hi => (a9 _).trans (b5 i hi), b6.trans a7, b7.trans a8⟩))
      · subst hQ1
        refine wp_mono (orders_fail hn hb a1 (by decide)) fun σ2 h2 => ?_
        obtain ⟨⟨S', f⟩, E⟩ := h2
        exact Or.inr ⟨rfl, ⟨S', f.mono (by omega)⟩, b6.trans (a2.trans E), b7.trans a3⟩
      · rw [orders_0]
        exact wp_ok (Or.inr ⟨rfl, ⟨S', a1.mono (by omega)⟩, b6.trans a2, b7.trans a3⟩)
    -- an item that is no count, or a count that is one of the items
    have goI : (tkC T q = 15 → hc = 1) → os.length < 8 → Wp (f_X3_orders_111 n (f_X3_orders_43 n (Q + 1)) 1007 M hc σ) fun σ' => Wp (t1 (g_X7_item n 1022 1040 os.length τ) fun v60 τ61 => twOk n Q' q v60 τ61) fun w => OrO T N0 U0 k σ τ q S M cs its σ' w := fun hct hl8 => by
      unfold f_X3_orders_111
      refine wp_gd h7 (wp_pos o1 (wp_gd h7 ?_))
      refine wp_join (lk_item (a := 1040) (i := os.length) hn hb h hW hl8 (Or.inr rfl)) fun y w hw => ?_
      obtain ⟨w1, w2, w3, w4⟩ := hw
      rcases w4 with ⟨x1, q1, S1, t, x2, x3, x4, x5, x6, x7, x8, x9, x10, x11, x12, x13⟩ | ⟨x1, S1, x2⟩
      · have wa : ∀ r j, ¬ (r = 1022 ∧ ((17 ≤ j ∧ j ≤ 22) ∨ (26 ≤ j ∧ j ≤ 28) ∨ (41 ≤ j ∧ j ≤ 43))) → ¬ (1034 ≤ r ∧ r ≤ 1036) → r ≠ 1040 → w.2 r j = τ r j := fun r j h1 h2 h3 => w2 r j h1 h2 (fun u => h3 u.1)
        have hI1 : OKI T N0 y.2 w.2 q1 S1 M cs its := hC.move x5 ⟨by rw [x4], by rw [x4]⟩ w1.1 w1.2.2.2 ⟨wa _ _ (by omega) (by omega) (by omega), wa _ _ (by omega) (by omega) (by omega)⟩ fun j => ⟨wa _ _ (by omega) (by omega) (by omega), wa _ _ (by omega) (by omega) (by omega)⟩
        have w38 : w.2 1022 38 = os.length := (wa _ _ (by omega) (by omega) (by omega)).trans e38
        have hOQ : OQ T N0 y.2 w.2 q1 S1 M cs its os y.1 t := ⟨hI1, by rw [x4]; exact hA.pf w1.1, ⟨w38, fun i hi => (hT.2 i hi).congr fun j j1 j2 => w2 _ _ (by omega) (by omega) (by omega)⟩, hl8, fun u => hV (w1.2.2.2 u), x8, x9, x10, fun u d => ⟨x12 u, fun u2 => by rw [← hhc]; exact hct (x13.mp u2)⟩⟩
        have on := onward y.2 w.2 q1 S1 y.1 t x2 x3 x4 x6 x7 w1 w2.oa hOQ
        have eT : twOk n Q' q w.1 w.2 = g_X7_orderTexts_56 n (g_X7_orderTexts_2 n Q') 1022 w.2 := by
          unfold twOk
          rw [if_neg (show ¬ w.1 = 0 by omega), w38, gI_pos (by omega), gd_pos (by omega)]
          by_cases cz : w.2 1040 (4 * (os.length : Int)) = 0
          · have t2 : t.1 = -2 := by
              rcases x9.2.2.2 with u | ⟨-, u | u⟩
              · exact u.1
              · omega
              · omega
            have hc1 := hct (x13.mp t2)
            rw [if_pos cz, hasCount_eq hn hI1.2.2.1 hits, t1_at, if_neg (by rw [← hhc, hc1]; decide)]
          · rw [if_neg cz]
        rw [eT]
        exact on
      · refine wp_mono (o127_fail hn hb x2 (by decide)) fun σ2 h2 => ?_
        unfold twOk
        refine wp_pos x1 (wp_ok (flO y.2 σ2 _ ?_ w1 w2.oa))
        obtain ⟨⟨S', f⟩, E⟩ := h2
        exact ⟨⟨S', f.mono (by omega)⟩, E⟩
    -- a count that is none of the items
    have goC : tkC T q = 15 → hc = 0 → os.length < 8 → Wp (f_X3_means 1007 6 q σ) fun σ1 => Wp (f_X3_orders_111 n (f_X3_orders_43 n (Q + 1)) 1007 M hc σ1) fun σ' => Wp (t1 (g_X7_item n 1022 1040 os.length τ) fun v60 τ61 => twOk n Q' q v60 τ61) fun w => OrO T N0 U0 k σ τ q S M cs its σ' w := fun c15 hc0 hl8 => by
      obtain ⟨σ1, em, m1, m2, m3, m4, m5, m6, m7⟩ := means_wp (c := 6) (p := q) h
      obtain ⟨σ1', em', hJ⟩ := lk_itemC hn hb h hW hl8 c15
      have : σ1 = σ1' := Option.some.inj (em.symm.trans em')
      subst this
      refine ⟨σ1, em, ?_⟩
      unfold f_X3_orders_111
      refine wp_gd m1.2.2.2.2.1.1 (wp_pos ((m5 3 (by decide) (by decide)).trans o1) (wp_gd m1.2.2.2.2.1.1 ?_))
      refine wp_join hJ fun y w hw => ?_
      obtain ⟨w1, w2, w3, w4⟩ := hw
      rcases w4 with ⟨x1, x3, x5, x7, x8, x9, x10, x11⟩ | ⟨x1, S1, x2⟩
      · have wa : ∀ r j, ¬ (r = 1022 ∧ ((17 ≤ j ∧ j ≤ 22) ∨ (26 ≤ j ∧ j ≤ 28) ∨ (41 ≤ j ∧ j ≤ 43))) → ¬ (1034 ≤ r ∧ r ≤ 1036) → r ≠ 1040 → w.2 r j = τ r j := fun r j h1 h2 h3 => w2 r j h1 h2 (fun u => h3 u.1)
        have wg : ∀ r j, ¬ (r = 1022 ∧ (j = 27 ∨ j = 28)) → wrg w.2 6 q r j = w.2 r j := fun r j hh => wrg_at hh
        have wb : ∀ r j, ¬ (r = 1022 ∧ ((17 ≤ j ∧ j ≤ 22) ∨ (26 ≤ j ∧ j ≤ 28) ∨ (41 ≤ j ∧ j ≤ 43))) → ¬ (1034 ≤ r ∧ r ≤ 1036) → r ≠ 1040 → wrg w.2 6 q r j = τ r j := fun r j h1 h2 h3 => (wg r j (fun u => h1 ⟨u.1, by omega⟩)).trans (wa r j h1 h2 h3)
        have hI1 : OKI T N0 y.2 (wrg w.2 6 q) (nxq T q) S M cs its := hC.move x5 ⟨rfl, rfl⟩ w1.1 w1.2.2.2 ⟨wb _ _ (by omega) (by omega) (by omega), wb _ _ (by omega) (by omega) (by omega)⟩ fun j => ⟨wb _ _ (by omega) (by omega) (by omega), wb _ _ (by omega) (by omega) (by omega)⟩
        have w38 : w.2 1022 38 = os.length := (wa _ _ (by omega) (by omega) (by omega)).trans e38
        have hIT : IsT w.2 its := ⟨(wa _ _ (by omega) (by omega) (by omega)).trans hC.2.2.1.1, fun i hi => (hC.2.2.1.2 i hi).congr fun j _ _ => wa _ _ (by omega) (by omega) (by omega)⟩
        have hOQ : OQ T N0 y.2 (wrg w.2 6 q) (nxq T q) S M cs its os y.1 (-2, -1, 0) := ⟨hI1, hA.pf w1.1, ⟨(wg _ _ (by omega)).trans w38, fun i hi => (hT.2 i hi).congr fun j j1 j2 => (wg _ _ (by omega)).trans (w2 _ _ (by omega) (by omega) (by omega))⟩, hl8, fun u => hV (w1.2.2.2 u), x8, x9.congr fun j _ _ => wg _ _ (by omega), (wg _ _ (by omega)).trans x10, fun u => absurd u x11⟩
        have on := onward y.2 (wrg w.2 6 q) (nxq T q) S y.1 (-2, -1, 0) (nxq_le h) x3 rfl (Nat.le_refl _) (fun i hi => (wg _ _ (by omega)).trans (x7 i hi)) w1 (w2.oa.trans fun r j hh _ _ => wg r j (fun u => hh ⟨u.1, by omega⟩)) hOQ
        have eT : twOk n Q' q w.1 w.2 = g_X7_orderTexts_56 n (g_X7_orderTexts_2 n Q') 1022 (wrg w.2 6 q) := by
          unfold twOk
          have cz : w.2 1040 (4 * (os.length : Int)) = 0 := by
            rcases x9.2.2.2 with u | ⟨u, -⟩
            · exact u.2.2
            · exact absurd u (by decide)
          rw [if_neg (show ¬ w.1 = 0 by omega), w38, gI_pos (by omega), gd_pos (by omega), if_pos cz, hasCount_eq hn hIT hits, t1_at, if_pos (by rw [← hhc]; exact hc0), wrong_eq, t0_at]
        rw [eT]
        exact on
      · refine wp_mono (o127_fail hn hb x2 (by decide)) fun σ2 h2 => ?_
        unfold twOk
        refine wp_pos x1 (wp_ok (flO y.2 σ2 _ ?_ w1 w2.oa))
        obtain ⟨⟨S', f⟩, E⟩ := h2
        exact ⟨⟨S', f.mono (by omega)⟩, E⟩
    unfold f_X3_orders_43
    refine wp_neg (by decide) (wp_gd h7 ?_)
    rw [g3]
    refine wp_gd g4 ?_
    rw [g8]
    refine wp_gd (lsok_kd L1 (by decide)) (wp_c1e (L1.size (by decide)) ?_)
    rw [hls]
    by_cases c8 : os.length = 8
    · refine wp_pos (by omega) (wp_gd h7 (wp_c1e (begins_eq hn hb h) ?_))
      by_cases cb : tkC T q = 1 ∨ tkC T q = 15
      · have e : (if tkC T q = 1 ∨ tkC T q = 15 then (1 : Int) else 0) = 1 := if_pos cb
        rw [e]
        refine wp_neg (by decide) (wp_gd h7 (wp_c0 (wp_mono (fail_set h o1 (c := 3) (by decide)) fun σ1 h1 => ?_)))
        obtain ⟨s1, E1, F1⟩ := h1
        have fl : FlR T N0 U0 0 k S σ1 (sa (sa τ 1022 17 3) 1022 18 q) := by
          refine ⟨q, s1, ?_⟩
          rw [flw_sa.1, flw_sa.2]
          exact Or.inl F1
        rw [item_flaw hW.1 cb (by omega), t1_at]
        unfold twOk
        rw [if_pos (show (0 : Int) = 0 from rfl)]
        exact wp_mono (o74_fail hn hb fl (by decide)) fun σ2 h2 => wp_ok (flO σ1 σ2 _ h2 E1.x fgF_flw.nv.oa)
      · have e : (if tkC T q = 1 ∨ tkC T q = 15 then (1 : Int) else 0) = 0 := if_neg cb
        rw [e]
        exact wp_pos rfl (notI (by omega) (by omega))
    · refine wp_neg (by omega) ?_
      unfold f_X3_orders_74
      refine wp_gd h7 (wp_pos o1 (wp_gd h7 ?_))
      rw [g6]
      refine wp_gd g7 (wp_c1e (sh_is hn hb h (r := 65) (C := 15) (by decide) (by unfold spC; omega)) ?_)
      by_cases c15 : tkC T q = 15
      · rw [if_pos c15]
        refine wp_neg (by decide) ?_
        by_cases ch : hc = 0
        · refine wp_pos ch (wp_gd h7 ?_)
          rw [g6]
          refine wp_gd g7 (wp_gd h7 (wp_c0 ?_))
          rw [h.2.2.1.2.1]
          exact goC c15 ch (by omega)
        · refine wp_neg ch (goI (fun _ => ?_) (by omega))
          have := hcI_rng (its := its)
          omega
      · rw [if_neg c15]
        exact wp_pos rfl (goI (fun u => absurd u c15) (by omega))
end OT
