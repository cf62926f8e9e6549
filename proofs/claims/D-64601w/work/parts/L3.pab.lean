/-! PATTERNS, side by side: the loop of one -/
set_option maxRecDepth 100000
section PU
variable {σ σ0 σ' : AS} {τ τ0 τ' : TT} {n : Nat} {N0 U0 z z' k q q0 q' c p v l r C l1 l2 l3 l4 l5 l6 s0 e var x : Int} {T : List Int} {S : PS} {ps : List Part} {ops eo : List Op} {tl : Tl} {lo hi : Nat}
theorem wfe_tl0 {K : Int → Prop} {m m1 : Int} (h : WFE K m tl0 m1) : m1 = m := by
  rcases h.2 with ⟨-, w⟩ | ⟨w, -⟩
  · exact w
  · exact absurd rfl w
/-- an edge and its node, the failed mode: K is what follows -/
theorem pat82_fail (hn : 1000000 ≤ n) (hb : BtOk T) (h : FlR T N0 U0 0 k S σ τ) (he : elQ σ l1) {K : Int → AS → Option AS} {Q : AS → Prop} (hK : ∀ σ' S', FlR T N0 U0 1 k S' σ' τ → Eff N0 σ σ' → Wp (K 1007 σ') Q) : Wp (f_X3_pattern_82 n K 1007 l1 σ) Q := by
  unfold f_X3_pattern_82 f_X3_pattern_95
  refine wp_gd h.g (wp_ite (fun _ => wp_gd h.g (wp_c0 (wp_mono (h.node hn hb he (by decide)) fun σ1 h1 => ?_))) fun _ => hK σ S (h.monoz (by decide)) Eff.rf)
  obtain ⟨⟨S1, f1⟩, f2⟩ := h1
  exact hK σ1 S1 f1 f2
theorem lk_pat43 (hn : 1000000 ≤ n) (hb : BtOk T) (h : ShP T N0 U0 σ 0 k q S) (hO : OPE T N0 σ τ q S ps ops [] 0 tl0) (hne : ps ≠ []) (hC : tkC T q = 39 ∨ tkC T q = 41) {Kc : Int → AS → Option AS} {Kt : Int → TT → Option (Int × TT)} {R : AS → Int × TT → Prop}
    (hk : ∀ σ' τ' q' S' ps' ops', q ≤ q' → ps.length ≤ ps'.length → ShP T N0 U0 σ' 0 k q' S' → OPE T N0 σ' τ' q' S' ps' ops' [] 0 tl0 → τ' 1022 30 = τ 1022 30 + 1 → τ 1022 30 < 8 → EfV N0 σ σ' → PtF τ τ' → Wp (Kc 1007 σ') fun a => Wp (Kt 1022 τ') fun b => R a b)
    (hf : ∀ σ' τ' S', FlR T N0 U0 1 (k + 1) S' σ' τ' → EfV N0 σ σ' → PtF τ τ' → Wp (Kc 1007 σ') fun a => R a (0, τ')) :
    Wp (f_X3_pattern_43 n Kc 1007 σ) fun a => Wp (g_X7_pattern_28 n Kt 1022 τ) fun b => R a b := by
  obtain ⟨⟨hOA, hP, hl, h30, hS⟩, hT, hOps, hE, he, hlen, hW, hH⟩ := id hO
  have h7 := h.2.2.2.2.1
  have o1 := hOA.1.1
  have o2 := hOA.1.2.1
  unfold f_X3_pattern_43 g_X7_pattern_28 g_X7_edgeText
  refine wp_gd h7.1 ?_
  by_cases c8 : ld σ 1007 2 = 8
  · refine wp_pos c8 (wp_gd h7.1 (wp_c0 (wp_mono (fail_set h o1 (c := 3) (by decide)) fun σ1 h1 => ?_)))
    obtain ⟨s1, E1, F1⟩ := h1
    have e2 : ld σ1 1007 2 = 8 := E1.2.2.2.1.trans c8
    have g7 := s1.2.2.2.2.1
    obtain ⟨t1, t2, t3, t4, t5⟩ := sh_cnt (z' := 1) (x := ld σ1 1007 2 + 1) s1 (by decide) (by omega)
    unfold f_X3_pattern_57
    refine wp_gd g7.1 ?_
    rw [gI_pos (by omega)]
    refine wp_gd g7.1 (wp_nm0 ?_)
    generalize wr σ1 1007 2 (ld σ1 1007 2 + 1) = σ2 at *
    have c2 : CF1 σ2 3 q := by
      unfold CF1
      rw [t4 3 (by decide), t4 4 (by decide)]
      exact F1
    have n2 : ¬ ld σ2 1007 3 = 0 := by rw [c2.1]; decide
    refine wp_gd t1.2.2.2.2.1.1 (wp_neg n2 ?_)
    unfold f_X3_pattern_82 f_X3_pattern_95
    refine wp_gd t1.2.2.2.2.1.1 (wp_neg n2 ?_)
    refine wp_swap (wp_t1 (wp_pos (by rw [← h30.1]; exact c8) ?_))
    rw [o2.1, flaw_eq (by decide), t1_at]
    refine wp_gd (by decide) (wp_ok (wp_pos rfl (wp_ok ?_)))
    refine hf σ2 _ S ⟨q, (t1.mono (k' := k + 1) (by omega)), ?_⟩ (E1.v.trans ⟨t2, fun j => t3 _ _ (by have := s1.2.2.2.2.2.1; omega), fun w => by rw [← t4 5 (by decide)]; exact w⟩) fgF_flw.pt
    show CF T q σ2 (sa (sa τ 1022 17 3) 1022 18 q 1022 17) (sa (sa τ 1022 17 3) 1022 18 q 1022 18)
    rw [flw_sa.1, flw_sa.2]
    exact Or.inl c2
  · refine wp_neg c8 ?_
    obtain ⟨t1, t2, t3, t4, t5⟩ := sh_cnt (z' := 0) (x := ld σ 1007 2 + 1) h (by decide) (by omega)
    unfold f_X3_pattern_57
    refine wp_gd h7.1 ?_
    rw [gI_pos (by omega)]
    refine wp_gd h7.1 (wp_nm0 ?_)
    have hN0 := h.2.2.2.2.2.1
    generalize wr σ 1007 2 (ld σ 1007 2 + 1) = σ1 at *
    have EV1 : EfV N0 σ σ1 := ⟨t2, fun j => t3 _ _ (by omega), fun w => by rw [← t4 5 (by decide)]; exact w⟩
    have z1 : ld σ1 1007 3 = 0 := (t4 3 (by decide)).trans o1
    have hB : OKB T σ1 (sa τ 1022 30 (τ 1022 30 + 1)) q S := by
      obtain ⟨p1, p2, p3, p4, p5⟩ := okb_no (v := τ 1022 30 + 1) hOA.1 (Or.inr (Or.inl rfl))
      exact ⟨z1, p2, p3, p4.congr (t4 5 (by decide)) (t4 6 (by decide)) rfl rfl, p5⟩
    have ea : ∀ r j, ¬ (r = 1022 ∧ j = 30) → sa τ 1022 30 (τ 1022 30 + 1) r j = τ r j := fun r j hh => by rw [sa_at, if_neg hh]
    have e30 : sa τ 1022 30 (τ 1022 30 + 1) 1022 30 = τ 1022 30 + 1 := by rw [sa_at, if_pos ⟨rfl, rfl⟩]
    have F1 : PtF τ (sa τ 1022 30 (τ 1022 30 + 1)) := fun r j a _ => ea r j (fun w => a ⟨w.1, by omega⟩)
    have hI : EI T N0 σ1 (sa τ 1022 30 (τ 1022 30 + 1)) q S ps ops (-1) := by
      rw [List.append_nil] at hT hlen
      refine ⟨⟨⟨hB, hOA.2.congr (fun j => t3 _ _ (by omega)) fun j => ea _ _ (by omega)⟩, hP.pf t2, ⟨hl.1, by rw [ea _ _ (by omega)]; exact hl.2⟩, ⟨by rw [t5, e30]; omega, by omega⟩, hS⟩, hT.congr (ea _ _ (by omega)) fun j => ea _ _ (by omega), hOps, by rw [e30]; omega, fun h5 => ?_, hne, hH.2 hne⟩
      obtain ⟨m, m0, m1, m2⟩ := hW (EV1.2.2 h5)
      have e36 : ∀ j, sa τ 1022 30 (τ 1022 30 + 1) 1036 j = τ 1036 j := fun j => ea _ _ (by omega)
      simp only [e36]
      exact ⟨m, m0, m1, Or.inl ⟨trivial, wfe_tl0 m2⟩⟩
    have et : ∀ b : Int, (b = 0 ∧ tkC T q = 39) ∨ (b = 1 ∧ tkC T q = 41) → (if sa τ 1022 30 (τ 1022 30 + 1) 1022 19 = 41 then g_X7_edgeText_43 n 1022 1 (sa τ 1022 30 (τ 1022 30 + 1)) else g_X7_edgeText_43 n 1022 0 (sa τ 1022 30 (τ 1022 30 + 1))) = g_X7_edgeText_43 n 1022 b (sa τ 1022 30 (τ 1022 30 + 1)) := fun b hb => by
      rw [hB.2.1.2.1]
      rcases hb with ⟨b0, b1⟩ | ⟨b0, b1⟩
      · rw [if_neg (by omega), b0]
      · rw [if_pos b1, b0]
    have hbb : ∃ b : Int, (b = 0 ∧ tkC T q = 39) ∨ (b = 1 ∧ tkC T q = 41) := hC.elim (fun w => ⟨0, Or.inl ⟨rfl, w⟩⟩) fun w => ⟨1, Or.inr ⟨rfl, w⟩⟩
    obtain ⟨b, hbb⟩ := hbb
    refine wp_gd t1.2.2.2.2.1.1 (wp_pos z1 (wp_gd t1.2.2.2.2.1.1 ?_))
    rw [if_neg (by omega), gI_pos (by omega), nm_eq, et b hbb]
    generalize sa τ 1022 30 (τ 1022 30 + 1) = τ1 at *
    refine wp_join (lk_edge hn hb t1 hI hbb EfW.rf PtF.rf (Int.le_refl q)) fun y w hy => ?_
    obtain ⟨y1, y2, y3, y4⟩ := hy
    rcases y4 with ⟨u1, q1, S1, tl, eo, u2, u3, u4, u5⟩ | ⟨u1, u2⟩
    · have z2 : ld y.2 1007 3 = 0 := u4.1.1.1.1
      unfold f_X3_pattern_82 f_X3_pattern_95
      refine wp_gd u3.2.2.2.2.1.1 (wp_pos z2 (wp_gd u3.2.2.2.2.1.1 ?_))
      refine wp_swap (wp_neg (by omega) (wp_swap ?_))
      have J : Wp (f_X3_node n 1007 y.1 y.2) fun σ' => Wp (g_X7_nodeText n 1022 0 w.2) fun w' => NP T N0 U0 0 (k + 1) y.2 w.2 q1 ps σ' w' := lk_node (b := 0) hn hb u3 u4 ⟨fun _ => u5, fun _ => rfl⟩ rfl
      refine wp_join0 J fun σ3 w3 h3 => ?_
      obtain ⟨g1, g2, g3⟩ := h3
      have E3 := EV1.trans (y1.v.trans g1.v)
      have F3 := F1.trans (y2.trans g2)
      rcases g3 with ⟨x1, q2, S2, ps2, ops2, x2, x3, x4, x5⟩ | ⟨x1, S2, x2⟩
      · refine wp_swap (wp_neg (by omega) (wp_swap ?_))
        have k1 : k + 1 - 1 = k := by omega
        rw [k1] at x4
        refine hk σ3 w3.2 q2 S2 ps2 ops2 (by omega) (by omega) x4 x5 ?_ (by omega) E3 F3
        have a1 := x5.1.2.2.2.1.1
        have a2 := u4.1.2.2.2.1.1
        have a3 := g1.2.2.1
        have a4 := y1.2.2.1
        omega
      · refine wp_swap (wp_pos x1 (wp_ok ?_))
        exact hf σ3 w3.2 S2 x2 E3 F3
    · obtain ⟨S1, u2⟩ := u2
      refine wp_swap (wp_pos u1 (wp_ok ?_))
      refine pat82_fail hn hb u2 y3 fun σ3 S3 f3 E3 => ?_
      exact hf σ3 w.2 S3 f3 (EV1.trans (y1.v.trans E3.v)) (F1.trans y2)
theorem lk_pat12 (hn : 1000000 ≤ n) (hb : BtOk T) : ∀ {m Q Q' : Nat} {σ : AS} {τ : TT} {q : Int} {S : PS} {ps : List Part} {ops : List Op}, ps ≠ [] → 9 - τ 1022 30 ≤ m → m < Q → m < Q' → ShP T N0 U0 σ 0 k q S → OPE T N0 σ τ q S ps ops [] 0 tl0 → Wp (f_X3_pattern_12 n Q 1007 σ) fun σ' => Wp (g_X7_pattern_10 n Q' 1022 τ) fun w => PP T N0 U0 k σ τ q ps σ' w
  | 0, _, _, σ, τ, q, S, ps, ops, _, hm, _, _, _, hO => by have := hO.1.2.2.2.1; omega
  | m + 1, Q + 1, Q' + 1, σ, τ, q, S, ps, ops, hne, hm, hQ, hQ', h, hO => by
    have h7 := h.2.2.2.2.1
    have hlx := h.2.2.1
    have o1 := hO.1.1.1.1
    have o2 := hO.1.1.1.2.1
    have go : (tkC T q = 39 ∨ tkC T q = 41) → Wp (f_X3_pattern_43 n (f_X3_pattern_12 n Q) 1007 σ) fun σ' => Wp (g_X7_pattern_28 n (g_X7_pattern_10 n Q') 1022 τ) fun w => PP T N0 U0 k σ τ q ps σ' w := fun hC => by
      refine lk_pat43 hn hb h hO hne hC (fun σ1 τ1 q1 S1 ps1 ops1 hq1 hp1 h1 O1 e30 c30 E1 F1 => ?_) fun σ1 τ1 S1 f1 E1 F1 => ?_
      · refine wp_mono (lk_pat12 (m := m) (Q := Q) (Q' := Q') hn hb (fun w => hne (List.eq_nil_of_length_eq_zero (by rw [w] at hp1; simpa using hp1))) (by omega) (by omega) (by omega) h1 O1) fun σ2 h2 => wp_mono h2 fun w hw => ?_
        obtain ⟨w1, w2, w3⟩ := hw
        refine ⟨E1.trans w1, F1.trans w2, ?_⟩
        rcases w3 with ⟨u1, q2, S2, ps2, ops2, u2, u3, u4, u5⟩ | w3
        · exact Or.inl ⟨u1, q2, S2, ps2, ops2, by omega, by omega, u4, u5⟩
        · exact Or.inr w3
      · obtain ⟨Q1, hQ1⟩ : ∃ Q1, Q = Q1 + 1 := ⟨Q - 1, by omega⟩
        subst hQ1
        exact wp_of_eq (f1.pat12 hn hb) ⟨E1, F1, Or.inr ⟨rfl, S1, f1⟩⟩
    unfold f_X3_pattern_12 g_X7_pattern_10
    refine wp_gd h7.1 (wp_pos o1 (wp_gd h7.1 ?_))
    rw [h7.2.1]
    refine wp_gd hlx.1.1 (wp_c1e (sh_is hn hb h (r := 23) (C := 39) (by decide) (by unfold spC; omega)) ?_)
    by_cases c39 : tkC T q = 39
    · rw [if_pos c39]
      refine wp_neg (by decide) (wp_swap (wp_pos (by rw [o2.2.1]; exact c39) (wp_swap (go (Or.inl c39)))))
    · rw [if_neg c39]
      refine wp_pos rfl (wp_gd h7.1 ?_)
      rw [h7.2.1]
      refine wp_gd hlx.1.1 (wp_c1e (sh_is hn hb h (r := 25) (C := 41) (by decide) (by unfold spC; omega)) ?_)
      by_cases c41 : tkC T q = 41
      · rw [if_pos c41]
        refine wp_neg (by decide) (wp_swap (wp_neg (by rw [o2.2.1]; exact c39) (wp_pos (by rw [o2.2.1]; exact c41) (wp_swap (go (Or.inr c41))))))
      · rw [if_neg c41]
        refine wp_pos rfl (wp_ok (wp_neg (by rw [o2.2.1]; exact c39) (wp_neg (by rw [o2.2.1]; exact c41) (wp_ok ?_))))
        exact ⟨EfV.rf, PtF.rf, Or.inl ⟨rfl, q, S, ps, ops, Int.le_refl _, Nat.le_refl _, h, hO⟩⟩
end PU
