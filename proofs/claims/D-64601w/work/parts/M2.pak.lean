/-! CONDITIONS, side by side: has, no -/
set_option maxRecDepth 100000
section MG
variable {σ σ0 σ1 σ2 σ3 σ' : AS} {τ τ0 τ' : TT} {n M : Nat} {N0 U0 z z' k q q0 q' p v l r C l1 l2 l4 l5 e var x a b c : Int} {T : List Int} {S : PS} {cs : List Cnd}
theorem value_not (hn : 1000000 ≤ n) (hb : BtOk T) (h : ShP T N0 U0 σ z k q S) (hO : OKB T σ τ q S) (c1 : tkC T q ≠ 1) {m : Int} : Wp (f_X3_value n 1007 m a σ) fun y => FlR T N0 U0 z (k + 1) S y.2 (sa (sa τ 1022 17 2) 1022 18 q) ∧ Eff N0 σ y.2 ∧ elQ y.2 y.1 := by
  have h7 := h.2.2.2.2.1
  unfold f_X3_value
  refine wp_gd h7.1 ?_
  rw [h7.2.1]
  refine wp_gd h.2.2.1.1.1 (wp_nm0 (wp_gd h7.1 (wp_c1 (wp_mono (name_not h hO.1 c1) fun y hy => ?_))))
  obtain ⟨y0, y1, y2, y3⟩ := hy
  refine wp_gd y1.2.2.2.2.1.1 (wp_neg (by rw [y3.1]; exact y3.2.1) ?_)
  exact wp_mono (v33_fail hn hb (flR_cannot hO y1 y3)) fun y' hy' => ⟨hy'.1, y2.trans hy'.2.1, hy'.2.2⟩
/-- the text of a word or sign -/
theorem sh_text (hb : BtOk T) (h : ShP T N0 U0 σ z k q S) (hC : spC (tkC T q)) : StrH σ (ld σ 1008 5) (sp (tkC T q)) ∧ ld σ 1008 5 + 1 < nx σ := by
  have hl := h.2.2.1
  have hr := sh_rng h
  have := hl.2.2.2.2.2.1 (by unfold spC at hC; omega) (by unfold spC at hC; omega) (by unfold spC at hC; omega)
  rw [tk_sp hb ⟨hr.1, hr.2.1⟩ hC] at this
  exact this
theorem lk_has (hn : 1000000 ≤ n) (hb : BtOk T) (h : ShP T N0 U0 σ z k q S) (hO : OKC T N0 σ τ q S M cs) (hC : tkC T q = 12 ∨ tkC T q = 13) (hc8 : cs.length < 8) (hz : z = 0) {K : Int → Int → AS → Option AS} {Kt : Int → TT → Option (Int × TT)} {R : AS → Int × TT → Prop}
    (hk : ∀ σ' τ', CdK T N0 U0 z k σ τ q S M cs σ' τ' → Wp (K 1007 M σ') fun a => Wp (Kt 1 τ') fun b => R a b)
    (hf : ∀ σ' τ', CdL T N0 U0 z k σ τ cs σ' τ' → Wp (K 1007 M σ') fun a => Wp (Kt 0 τ') fun b => R a b) :
    Wp (f_X3_conditions_117 n K 1007 M σ) fun a => Wp (t1 (g_X7_condition_49 n 1022 1 τ) Kt) fun b => R a b := by
  obtain ⟨hW, hA, hT, h8, hV⟩ := id hO
  obtain ⟨g1, g2, g3, g4, g5, g6, g7⟩ := h.nN
  have h7 := h.2.2.2.2.1
  have o1 := hW.1.1
  have o2 := hW.1.2.1
  have e34 : τ 1022 34 = cs.length := hT.1
  have hqq := nxq_le h
  have htx := sh_text hb h (by unfold spC; omega)
  have hsz := h.2.2.2.2.2.2.2.2.2.1
  have hls : (S.2 2).length = cs.length := hA.1
  unfold f_X3_conditions_117
  refine wp_gd h7.1 ?_
  rw [g6]
  refine wp_gd g7 (wp_nm0 (wp_gd h7.1 (wp_gd g7 (wp_c0 (wp_mono (sh_next hn hb h) fun σ8 h8' => ?_)))))
  obtain ⟨s8, E8, J8⟩ := h8'
  obtain ⟨p1, p2, p3, p4, p5, p6, p7⟩ := s8.nN
  refine wp_gd s8.2.2.2.2.1.1 ?_
  rw [p3]
  refine wp_gd p4 (wp_nm0 (wp_nm0 ?_))
  rw [p5]
  obtain ⟨s14, E14, J14, k14, n14⟩ := sh_al (K := 15) (m := 3) s8 (by decide)
  generalize al σ8 15 0 3 = σ14 at *
  refine wp_gd s14.2.2.2.2.1.1 ?_
  -- the twin
  unfold g_X7_condition_49
  rw [e34, if_neg (show ¬ (cs.length : Int) = 8 by omega), gI_pos (by omega), nm_eq, gI_pos (by omega), nm_eq, if_neg (show ¬ (1 : Int) = 0 by decide), gd_pos (by omega), nm_eq]
  have e19 : sa τ 1022 34 ((cs.length : Int) + 1) 1022 19 = tkC T q := by rw [sa_at, if_neg (by omega)]; exact o2.2.1
  rw [e19]
  have ea : ∀ r j, ¬ (r = 1022 ∧ j = 34) → ¬ (r = 1038 ∧ j = 7 * (cs.length : Int)) → sa (sa τ 1022 34 ((cs.length : Int) + 1)) 1038 (7 * (cs.length : Int)) (tkC T q) r j = τ r j := fun r j hh h2 => by rw [sa_at, if_neg h2, sa_at, if_neg hh]
  have e0 : sa (sa τ 1022 34 ((cs.length : Int) + 1)) 1038 (7 * (cs.length : Int)) (tkC T q) 1038 (7 * (cs.length : Int)) = tkC T q := by rw [sa_at, if_pos ⟨rfl, rfl⟩]
  have e34' : sa (sa τ 1022 34 ((cs.length : Int) + 1)) 1038 (7 * (cs.length : Int)) (tkC T q) 1022 34 = cs.length + 1 := by rw [sa_at, if_neg (by omega), sa_at, if_pos ⟨rfl, rfl⟩]
  have F45 : CnF cs.length τ (sa (sa τ 1022 34 ((cs.length : Int) + 1)) 1038 (7 * (cs.length : Int)) (tkC T q)) := cnF_34.trans (cnF_sa (by omega))
  generalize sa (sa τ 1022 34 ((cs.length : Int) + 1)) 1038 (7 * (cs.length : Int)) (tkC T q) = τ45 at *
  have hW45 : OKW T σ τ45 q S M := hW.fr (fun j hj => ea _ _ (by omega) (by omega)) fun r j g1 g2 => ea _ _ (by omega) (by omega)
  refine wp_swap (wp_t1 (wp_t1 (wp_mono (ok_next hn hb h hW45.1 s8 J8) fun w hw => ?_)))
  obtain ⟨w1, w2⟩ := hw
  have hn14 := E14.1.1.1
  rcases w2 with ⟨u1, u2⟩ | ⟨u1, u2⟩
  · refine wp_neg (by omega) ?_
    have hO14 : OKW T σ14 w.2 (nxq T q) S M := ⟨okb_same u2 J14 rfl, hW.2.1, fun i hi => by rw [w1 _ _ (by omega)]; exact hW45.2.2 i hi⟩
    by_cases c1 : tkC T (nxq T q) = 1
    · refine wp_pos (by rw [u2.2.1.2.1]; exact c1) (wp_t1r (wp_swap ?_))
      have J : Wp (f_X3_value n 1007 M 1 σ14) fun y => Wp (g_X7_nameOrKey n 1022 1 w.2) fun w' => VlP T N0 U0 z (k + 1) σ14 w.2 (nxq T q) S M 1 y w' := lk_value hn hb s14 hO14 c1
      obtain ⟨y, ey, w', ew, hv⟩ := J
      obtain ⟨v1, v2, v3, v4⟩ := hv
      have hny := v1.1.1.1
      have kp : kd y.2 (nx σ8) = 15 := (v1.1.1.kd (by omega)).trans k14
      have EX : EfX N0 σ8 y.2 := E14.x.trans v1
      have F' : CnF cs.length τ w'.2 := F45.trans (w1.nv.cn.trans v2.cn)
      refine wp_c1e ey (wp_gd (by omega) ?_)
      rcases v4 with ⟨x1, q1, S1, t, x2, x3, x4, x5, x6, x7, x8, x9, x10, x11, x12, x13, x14, x15, x16, x17⟩ | ⟨x1, S1, x2⟩
      · have hls1 : (S1.2 2).length = cs.length := by rw [x4]; exact hls
        refine sh_cond (z' := z) x3 EX p1 ⟨Int.le_refl _, by omega, kp⟩ ⟨Int.le_refl _, by omega⟩ (by omega) fun σ26 c1' c2 c3 c4 c5 c6 => ?_
        refine wp_swap (wp_t1 (wp_t1e ew (wp_neg (by omega) ?_)))
        rw [gI_pos (by omega), gd_pos (by omega), nm_eq, gI_pos (by omega), gd_pos (by omega), nm_eq]
        refine wp_ok (wp_swap ?_)
        have e43 : sa w'.2 1038 (7 * (cs.length : Int) + 2) (w'.2 1022 41) 1022 43 = w'.2 1022 43 := by rw [sa_at, if_neg (by omega)]
        rw [e43]
        have eb : ∀ r j, ¬ (r = 1038 ∧ (j = 7 * (cs.length : Int) + 2 ∨ j = 7 * (cs.length : Int) + 3)) → sa (sa w'.2 1038 (7 * (cs.length : Int) + 2) (w'.2 1022 41)) 1038 (7 * (cs.length : Int) + 3) (w'.2 1022 43) r j = w'.2 r j := fun r j hh => by rw [sa_at, if_neg (fun u => hh ⟨u.1, Or.inr u.2⟩), sa_at, if_neg (fun u => hh ⟨u.1, Or.inl u.2⟩)]
        have e2 : sa (sa w'.2 1038 (7 * (cs.length : Int) + 2) (w'.2 1022 41)) 1038 (7 * (cs.length : Int) + 3) (w'.2 1022 43) 1038 (7 * (cs.length : Int) + 2) = w'.2 1022 41 := by rw [sa_at, if_neg (by omega), sa_at, if_pos ⟨rfl, rfl⟩]
        have e3 : sa (sa w'.2 1038 (7 * (cs.length : Int) + 2) (w'.2 1022 41)) 1038 (7 * (cs.length : Int) + 3) (w'.2 1022 43) 1038 (7 * (cs.length : Int) + 3) = w'.2 1022 43 := by rw [sa_at, if_pos ⟨rfl, rfl⟩]
        have Fz : CnF cs.length w'.2 (sa (sa w'.2 1038 (7 * (cs.length : Int) + 2) (w'.2 1022 41)) 1038 (7 * (cs.length : Int) + 3) (w'.2 1022 43)) := (cnF_sa (by omega)).trans (cnF_sa (by omega))
        generalize sa (sa w'.2 1038 (7 * (cs.length : Int) + 2) (w'.2 1022 41)) 1038 (7 * (cs.length : Int) + 3) (w'.2 1022 43) = τz at *
        have k1 : k + 1 + 1 - 3 ≤ k := by omega
        have hE8 := E8.x.trans c2
        have htx8 := c6 _ _ (EX.1.2.2 _ _ (E8.1.2.2 _ _ htx.1 htx.2) (by have := E8.1.1.1; omega)) (by have := E8.1.1.1; omega)
        have hcd : CdAt N0 σ26 (nx σ8) (tkC T q, t, (0, 0, 0)) := by
          obtain ⟨b1, b2, b3, b4, b5⟩ := c4
          refine ⟨b1, b2, by rw [b3]; exact c5 _ _ x8, by rw [b4]; exact ⟨htx8.1, htx8.2, h.2.2.2.1 (by omega) (by omega) (by omega)⟩, Or.inl ⟨hC, b5⟩⟩
        refine hk σ26 τz ⟨q1, _, cs ++ [(tkC T q, t, (0, 0, 0))], by omega, by simp, c1'.mono k1, fun i hi => ?_, ⟨?_, ?_, ?_, by simp; omega, fun u5 c hc => ?_⟩, by show S.1.1.length ≤ S1.1.1.length; omega, fun i hi => ?_, hE8, F'.trans Fz⟩
        · show updF S1.2 2 (nx σ8) i = S.2 i
          unfold updF
          rw [if_neg hi, x4]
        · refine OKW.same (S := S1) (OKW.fr x5 (fun j _ => eb _ _ (by omega)) fun r j g1 g2 => eb _ _ (by omega)) c3 rfl
        · show CsAt N0 σ26 (updF S1.2 2 (nx σ8) 2) _
          unfold updF
          rw [if_pos rfl, x4]
          exact (hA.pf hE8.1).snoc hcd
        · refine hT.snoc (F'.trans Fz) ?_ ⟨?_, Or.inl ⟨hC, ?_, ?_, x12, x16 (by decide), x15, x11⟩⟩
          · rw [eb _ _ (by omega), v2 _ _ (by omega) (by omega), w1 _ _ (by omega)]; exact e34'
          · rw [eb _ _ (by omega), v2 _ _ (by omega) (by omega), w1 _ _ (by omega)]; exact e0
          · rw [e2]; exact x9
          · rw [e3]; exact x10
        · rcases List.mem_append.mp hc with hc | hc
          · exact hV (hE8.2.2.2 u5) c hc
          · rw [List.mem_singleton.mp hc]
            rw [c3] at u5
            exact ⟨x17 u5, fun w => by rcases hC with w' | w' <;> (rw [w'] at w; omega)⟩
        · rw [eb _ _ (by omega), x7 i hi, w1 _ _ (by omega)]
          exact ea _ _ (by omega) (by omega)
      · refine x2.cond EX p1 ⟨Int.le_refl _, by omega, kp⟩ (by omega) fun σ26 S26 f26 E26 => ?_
        refine wp_swap (wp_t1 (wp_t1e ew (wp_pos x1 (wp_ok (wp_swap ?_)))))
        exact hf σ26 w'.2 ⟨⟨S26, f26.mono (by omega)⟩, E8.x.trans E26, F'⟩
    · refine wp_neg (by rw [u2.2.1.2.1]; exact c1) ?_
      rw [ok_cannot u2, t1_at, gd_pos (by decide)]
      refine wp_ok (wp_swap (wp_c1 (wp_mono (value_not hn hb s14 hO14.1 c1) fun y hy => wp_gd (by omega) ?_)))
      obtain ⟨f1, E1, -⟩ := hy
      have hny := E1.1.1.1
      refine f1.cond (E14.trans E1).x p1 ⟨Int.le_refl _, by omega, (E1.1.1.kd (by omega)).trans k14⟩ (by omega) fun σ26 S26 f26 E26 => ?_
      exact hf σ26 _ ⟨⟨S26, f26.mono (by omega)⟩, E8.x.trans E26, F45.trans (w1.nv.cn.trans fgF_flw.nv.cn)⟩
  · refine wp_pos u1 (wp_ok (wp_swap ?_))
    obtain ⟨q8, v1, v2⟩ := u2
    have f14 : FlR T N0 U0 z (k + 1) S σ14 w.2 := by
      refine ⟨nxq T q, s14, ?_⟩
      have : q8 = nxq T q := by rw [← v1.2.2.1.2.1, ← s8.2.2.1.2.1]
      rw [this] at v2
      unfold CF
      rw [J14, J14]
      exact v2
    refine wp_c1 (wp_mono (value_fail hn hb f14) fun y hy => wp_gd (by omega) ?_)
    obtain ⟨f1, E1, -⟩ := hy
    have hny := E1.1.1.1
    refine f1.cond (E14.trans E1).x p1 ⟨Int.le_refl _, by omega, (E1.1.1.kd (by omega)).trans k14⟩ (by omega) fun σ26 S26 f26 E26 => ?_
    exact hf σ26 _ ⟨⟨S26, f26.mono (by omega)⟩, E8.x.trans E26, F45.trans w1.nv.cn⟩
end MG
