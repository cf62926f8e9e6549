/-! CONDITIONS, side by side: comparisons -/
set_option maxRecDepth 100000
noncomputable def c163t (n : Nat) (K : Int → Int → AS → Option AS) (l1 v51 : Int) (σ52 : AS) : Option AS :=
  gd (kd σ52 1007 = 18) <|
  gd (kd σ52 (ld σ52 1007 0) = 19) <|
  nm (ld σ52 (ld σ52 1007 0) 5) fun u56 =>
  gd (kd σ52 1007 = 18) <|
  if (ld σ52 1007 3) = 0 then (
    gd (kd σ52 1007 = 18) <|
    c1 (f_X3_isComparison n 1007 σ52) fun v61 σ62 =>
    if v61 = 0 then (
      f_X3_conditions_203 n (f_X3_conditions_207 n K) 1007 l1 v51 u56 σ62)
    else (
      gd (kd σ62 1007 = 18) <|
      gd (kd σ62 (ld σ62 1007 0) = 19) <|
      c0 (f_X4_next n (ld σ62 1007 0) σ62) fun σ68 =>
      f_X3_conditions_207 n K 1007 l1 v51 u56 σ68))
  else (
    f_X3_conditions_203 n (f_X3_conditions_207 n K) 1007 l1 v51 u56 σ52)
theorem c163_eq {n : Nat} {K : Int → Int → AS → Option AS} {l1 : Int} {σ : AS} : f_X3_conditions_163 n K 1007 l1 σ = gd (kd σ 1007 = 18) (c1 (f_X3_term n 1007 l1 σ) fun v51 σ52 => c163t n K l1 v51 σ52) := rfl
section MH
variable {σ σ0 σ1 σ2 σ3 σ' : AS} {τ τ0 τ' : TT} {n M : Nat} {N0 U0 z z' k q q0 q' p v l r C l1 l2 l4 l5 e var x a b c : Int} {T : List Int} {S : PS} {cs : List Cnd}
theorem c203_fail (hn : 1000000 ≤ n) (hb : BtOk T) (f1 : FlR T N0 U0 z k S σ τ) (hz : z ≤ 6) {K : Int → Int → AS → Option AS} {Q : AS → Prop} (hK : ∀ σ' S', FlR T N0 U0 (z + 1) (k - 1) S' σ' τ → EfX N0 σ σ' → Wp (K 1007 x σ') Q) : Wp (f_X3_conditions_203 n (f_X3_conditions_207 n K) 1007 x l4 l5 σ) Q := by
  unfold f_X3_conditions_203
  exact wp_gd f1.g (wp_c0 (wp_mono f1.wrong fun σ2 h2 => c207_fail hn hb h2.1 hz fun σ' S' f2 E2 => hK σ' S' f2 (h2.2.x.trans E2)))
theorem c163t_fail (hn : 1000000 ≤ n) (hb : BtOk T) (f1 : FlR T N0 U0 z k S σ τ) (hz : z ≤ 6) {K : Int → Int → AS → Option AS} {Q : AS → Prop} (hK : ∀ σ' S', FlR T N0 U0 (z + 1) (k - 1) S' σ' τ → EfX N0 σ σ' → Wp (K 1007 x σ') Q) : Wp (c163t n K x v σ) Q := by
  obtain ⟨g1, g2, g3, g4, g5, g6, g7⟩ := f1.nN
  unfold c163t
  refine wp_gd f1.g ?_
  rw [g6]
  refine wp_gd g7 (wp_nm0 (wp_gd f1.g (wp_ite (fun c0 => wp_gd f1.g ?_) fun _ => c203_fail hn hb f1 hz hK)))
  have e : f_X3_isComparison n 1007 σ = some (0, σ) := by
    unfold f_X3_isComparison
    rw [gd_pos f1.g, g6, gd_pos g7, f1.is hn hb c0 (r := 47) (C := 42) (by decide) (by unfold spC; omega), c1_at, if_pos rfl, gd_pos f1.g, g6, gd_pos g7, f1.is hn hb c0 (r := 49) (C := 43) (by decide) (by unfold spC; omega), c1_at, if_pos rfl, gd_pos f1.g, g6, gd_pos g7, f1.is hn hb c0 (r := 51) (C := 44) (by decide) (by unfold spC; omega), c1_at, if_pos rfl, gd_pos f1.g, g6, gd_pos g7, f1.is hn hb c0 (r := 53) (C := 45) (by decide) (by unfold spC; omega), c1_at, if_pos rfl, gd_pos f1.g, g6, gd_pos g7, f1.is hn hb c0 (r := 55) (C := 46) (by decide) (by unfold spC; omega), c1_at, if_pos rfl, gd_pos f1.g, g6, gd_pos g7, f1.is hn hb c0 (r := 57) (C := 47) (by decide) (by unfold spC; omega), c1_at, if_pos rfl]
  exact wp_c1e e (wp_pos rfl (c203_fail hn hb f1 hz hK))
theorem isC_eq (hn : 1000000 ≤ n) (hb : BtOk T) (h : ShP T N0 U0 σ z k q S) : f_X3_isComparison n 1007 σ = some (if 42 ≤ tkC T q ∧ tkC T q ≤ 47 then 1 else 0, σ) := by
  obtain ⟨g1, g2, g3, g4, g5, g6, g7⟩ := h.nN
  have h7 := h.2.2.2.2.1.1
  unfold f_X3_isComparison
  rw [gd_pos h7, g6, gd_pos g7, sh_is hn hb h (r := 47) (C := 42) (by decide) (by unfold spC; omega), c1_at]
  by_cases c42 : tkC T q = 42
  · rw [if_pos c42, if_neg (by decide), if_pos (by omega)]
  rw [if_neg c42, if_pos rfl, gd_pos h7, g6, gd_pos g7, sh_is hn hb h (r := 49) (C := 43) (by decide) (by unfold spC; omega), c1_at]
  by_cases c43 : tkC T q = 43
  · rw [if_pos c43, if_neg (by decide), if_pos (by omega)]
  rw [if_neg c43, if_pos rfl, gd_pos h7, g6, gd_pos g7, sh_is hn hb h (r := 51) (C := 44) (by decide) (by unfold spC; omega), c1_at]
  by_cases c44 : tkC T q = 44
  · rw [if_pos c44, if_neg (by decide), if_pos (by omega)]
  rw [if_neg c44, if_pos rfl, gd_pos h7, g6, gd_pos g7, sh_is hn hb h (r := 53) (C := 45) (by decide) (by unfold spC; omega), c1_at]
  by_cases c45 : tkC T q = 45
  · rw [if_pos c45, if_neg (by decide), if_pos (by omega)]
  rw [if_neg c45, if_pos rfl, gd_pos h7, g6, gd_pos g7, sh_is hn hb h (r := 55) (C := 46) (by decide) (by unfold spC; omega), c1_at]
  by_cases c46 : tkC T q = 46
  · rw [if_pos c46, if_neg (by decide), if_pos (by omega)]
  rw [if_neg c46, if_pos rfl, gd_pos h7, g6, gd_pos g7, sh_is hn hb h (r := 57) (C := 47) (by decide) (by unfold spC; omega), c1_at]
  by_cases c47 : tkC T q = 47
  · rw [if_pos c47, if_neg (by decide), if_pos (by omega)]
  rw [if_neg c47, if_pos rfl, if_neg (by omega)]
theorem lk_cmp (hn : 1000000 ≤ n) (hb : BtOk T) (h : ShP T N0 U0 σ z k q S) (hO : OKC T N0 σ τ q S M cs) (hc8 : cs.length < 8) (hz : z = 0) {K : Int → Int → AS → Option AS} {Kt : Int → TT → Option (Int × TT)} {R : AS → Int × TT → Prop}
    (hk : ∀ σ' τ', CdK T N0 U0 z k σ τ q S M cs σ' τ' → Wp (K 1007 M σ') fun a => Wp (Kt 1 τ') fun b => R a b)
    (hf : ∀ σ' τ', CdL T N0 U0 z k σ τ cs σ' τ' → Wp (K 1007 M σ') fun a => Wp (Kt 0 τ') fun b => R a b) :
    Wp (f_X3_conditions_163 n K 1007 M σ) fun a => Wp (t1 (g_X7_condition_49 n 1022 0 τ) Kt) fun b => R a b := by
  obtain ⟨hW, hA, hT, h8, hV⟩ := id hO
  have h7 := h.2.2.2.2.1
  have e34 : τ 1022 34 = cs.length := hT.1
  have hls : (S.2 2).length = cs.length := hA.1
  unfold g_X7_condition_49
  rw [e34, if_neg (show ¬ (cs.length : Int) = 8 by omega), gI_pos (by omega), nm_eq, gI_pos (by omega), nm_eq, if_pos (show (0 : Int) = 0 from rfl), gI_pos (by omega)]
  have ea : ∀ r j, ¬ (r = 1022 ∧ j = 34) → sa τ 1022 34 ((cs.length : Int) + 1) r j = τ r j := fun r j hh => by rw [sa_at, if_neg hh]
  have e34' : sa τ 1022 34 ((cs.length : Int) + 1) 1022 34 = cs.length + 1 := by rw [sa_at, if_pos ⟨rfl, rfl⟩]
  have F10 : CnF cs.length τ (sa τ 1022 34 ((cs.length : Int) + 1)) := cnF_34
  generalize sa τ 1022 34 ((cs.length : Int) + 1) = τ10 at *
  have hW10 : OKW T σ τ10 q S M := hW.fr (fun j hj => ea _ _ (by omega)) fun r j g1 g2 => ea _ _ (by omega)
  rw [c163_eq]
  refine wp_gd h7.1 ?_
  obtain ⟨y, ey, w, ew, hv⟩ := lk_term (b := 7 * (cs.length : Int) + 1) hn hb h hW10 (by omega)
  obtain ⟨v1, v2, v3, v4⟩ := hv
  have F1 : CnF cs.length τ w.2 := F10.trans (v2.cn (by omega))
  refine wp_c1e ey (wp_swap (wp_t1 (wp_t1e ew ?_)))
  rcases v4 with ⟨x1, q1, S1, t, x2, x3, x4, x5, x6, x7, x8, x9, x10, x11⟩ | ⟨x1, S1, x2⟩
  · refine wp_neg (by omega) ?_
    have o1 := x5.1.1
    have o2 := x5.1.2.1
    obtain ⟨g1, g2, g3, g4, g5, g6, g7⟩ := x3.nN
    have hls1 : (S1.2 2).length = cs.length := by rw [x4]; exact hls
    have rng := tkC_rng (T := T) (sh_rng x3).1
    by_cases cC : 42 ≤ tkC T q1
    · have hsp : spC (tkC T q1) := by
        rcases rng with e | e | e | e | e
        · omega
        · omega
        · omega
        · exact absurd e o2.2.2.2.2.1
        · exact e
      have cC2 : tkC T q1 ≤ 47 := by unfold spC at hsp; omega
      have htx := sh_text hb x3 hsp
      have e0 : f_X3_isComparison n 1007 y.2 = some (1, y.2) := by rw [isC_eq hn hb x3, if_pos ⟨cC, cC2⟩]
      refine wp_pos (by rw [o2.2.1]; exact cC) (wp_gd (by omega) (wp_nm0 ?_))
      rw [o2.2.1]
      have eb : ∀ r j, ¬ (r = 1038 ∧ j = 7 * (cs.length : Int)) → sa w.2 1038 (7 * (cs.length : Int)) (tkC T q1) r j = w.2 r j := fun r j hh => by rw [sa_at, if_neg hh]
      have eb0 : sa w.2 1038 (7 * (cs.length : Int)) (tkC T q1) 1038 (7 * (cs.length : Int)) = tkC T q1 := by rw [sa_at, if_pos ⟨rfl, rfl⟩]
      have F2 : CnF cs.length w.2 (sa w.2 1038 (7 * (cs.length : Int)) (tkC T q1)) := cnF_sa (by omega)
      generalize sa w.2 1038 (7 * (cs.length : Int)) (tkC T q1) = τ24 at *
      have hW24 : OKW T y.2 τ24 q1 S1 M := x5.fr (fun j hj => eb _ _ (by omega)) fun r j g1 g2 => eb _ _ (by omega)
      refine wp_t1r (wp_swap ?_)
      unfold c163t
      refine wp_gd x3.2.2.2.2.1.1 ?_
      rw [g6]
      refine wp_gd g7 (wp_nm0 (wp_gd x3.2.2.2.2.1.1 (wp_pos o1 (wp_gd x3.2.2.2.2.1.1 (wp_c1e e0 (wp_neg (by decide) (wp_gd x3.2.2.2.2.1.1 ?_)))))))
      rw [g6]
      refine wp_gd g7 (wp_c0 (wp_mono (sh_next hn hb x3) fun σ8 h8' => ?_))
      obtain ⟨s8, E8, J8⟩ := h8'
      have hqq := nxq_le x3
      obtain ⟨p1, p2, p3, p4, p5, p6, p7⟩ := s8.nN
      refine wp_swap (wp_t1 (wp_t1 (wp_mono (ok_next hn hb x3 hW24.1 s8 J8) fun w8 hw8 => ?_)))
      obtain ⟨u1, u2⟩ := hw8
      rcases u2 with ⟨u2, u3⟩ | ⟨u2, u3⟩
      · refine wp_neg (by omega) ?_
        rw [gI_pos (by omega)]
        refine wp_t1r (wp_swap ?_)
        unfold f_X3_conditions_207
        refine wp_gd s8.2.2.2.2.1.1 ?_
        rw [p3]
        refine wp_gd p4 (wp_nm0 (wp_nm0 ?_))
        rw [p5]
        obtain ⟨s14, E14, J14, k14, n14⟩ := sh_al (K := 15) (m := 3) s8 (by decide)
        generalize al σ8 15 0 3 = σ14 at *
        have hn14 := E14.1.1.1
        refine wp_gd s14.2.2.2.2.1.1 ?_
        have hO14 : OKW T σ14 w8.2 (nxq T q1) S1 M := ⟨okb_same u3 J14 rfl, x5.2.1, fun i hi => by rw [u1 _ _ (by omega)]; exact hW24.2.2 i hi⟩
        obtain ⟨y2, ey2, w2, ew2, hv2⟩ := lk_term (b := 7 * (cs.length : Int) + 4) hn hb s14 hO14 (by omega)
        obtain ⟨r1, r2, r3, r4⟩ := hv2
        have hny := r1.1.1.1
        have kp : kd y2.2 (nx σ8) = 15 := (r1.1.1.kd (by omega)).trans k14
        have EX : EfX N0 σ8 y2.2 := E14.x.trans r1
        have F' : CnF cs.length τ w2.2 := F1.trans (F2.trans (u1.nv.cn.trans (r2.cn (by omega))))
        refine wp_c1e ey2 (wp_gd (by omega) ?_)
        rcases r4 with ⟨d1, q2, S2, t2, d2, d3, d4, d5, d6, d7, d8, d9, d10, d11⟩ | ⟨d1, S2, d2⟩
        · have hls2 : (S2.2 2).length = cs.length := by rw [d4]; exact hls1
          refine sh_cond (z' := z) d3 EX p1 ⟨Int.le_refl _, by omega, kp⟩ ⟨Int.le_refl _, by omega⟩ (by omega) fun σ26 c1' c2 c3 c4 c5 c6 => ?_
          refine wp_swap (wp_t1 (wp_t1e ew2 (wp_neg (by omega) (wp_ok (wp_swap ?_)))))
          have hEb : EfX N0 y.2 σ26 := E8.x.trans c2
          have hE8 : EfX N0 σ σ26 := v1.trans hEb
          have hny0 := E8.1.1.1
          have htx8 := c6 _ _ (EX.1.2.2 _ _ (E8.1.2.2 _ _ htx.1 htx.2) (by omega)) (by omega)
          have hcd : CdAt N0 σ26 (nx σ8) (tkC T q1, t, t2) := by
            obtain ⟨b1, b2, b3, b4, b5⟩ := c4
            have := d8.2.1.1
            exact ⟨b1, b2, by rw [b3]; exact x8.pf hEb.1, by rw [b4]; exact ⟨htx8.1, htx8.2, x3.2.2.2.1 (by omega) (by omega) (by omega)⟩, Or.inr ⟨⟨cC, cC2⟩, by rw [b5]; exact c5 _ _ d8, by rw [b5]; exact this⟩⟩
          have k1 : k + 1 + 1 + 1 - 3 ≤ k := by omega
          refine hk σ26 w2.2 ⟨q2, _, cs ++ [(tkC T q1, t, t2)], by omega, by simp, c1'.mono k1, fun i hi => ?_, ⟨OKW.same (S := S2) d5 c3 rfl, ?_, ?_, by simp; omega, fun u5 c hc => ?_⟩, by show S.1.1.length ≤ S2.1.1.length; omega, fun i hi => ?_, hE8, F'⟩
          · show updF S2.2 2 (nx σ8) i = S.2 i
            unfold updF
            rw [if_neg hi, d4, x4]
          · show CsAt N0 σ26 (updF S2.2 2 (nx σ8) 2) _
            unfold updF
            rw [if_pos rfl, d4, x4]
            exact (hA.pf hE8.1).snoc hcd
          · refine hT.snoc F' ?_ ⟨?_, Or.inr ⟨⟨cC, cC2⟩, ?_, d9⟩⟩
            · rw [r2 _ _ (by omega) (by omega) (by omega), u1 _ _ (by omega), eb _ _ (by omega), v2 _ _ (by omega) (by omega) (by omega)]; exact e34'
            · rw [r2 _ _ (by omega) (by omega) (by omega), u1 _ _ (by omega)]; exact eb0
            · refine x9.congr fun j j1 j2 => ?_
              rw [r2 _ _ (by omega) (by omega) (by omega), u1 _ _ (by omega), eb _ _ (by omega)]
          · rcases List.mem_append.mp hc with hc | hc
            · exact hV (hE8.2.2.2 u5) c hc
            · rw [List.mem_singleton.mp hc]
              exact ⟨x11 (hEb.2.2.2 u5), fun _ => d11 (by rw [← c3]; exact u5)⟩
          · rw [d7 i (by omega), u1 _ _ (by omega), eb _ _ (by omega), x7 i hi]
            exact ea _ _ (by omega)
        · refine d2.cond EX p1 ⟨Int.le_refl _, by omega, kp⟩ (by omega) fun σ26 S26 f26 E26 => ?_
          refine wp_swap (wp_t1 (wp_t1e ew2 (wp_pos d1 (wp_ok (wp_swap ?_)))))
          exact hf σ26 w2.2 ⟨⟨S26, f26.mono (by omega)⟩, v1.trans (E8.x.trans E26), F'⟩
      · refine wp_pos u2 (wp_ok (wp_swap ?_))
        refine c207_fail hn hb u3 (by omega) fun σ26 S26 f26 E26 => ?_
        exact hf σ26 w8.2 ⟨⟨S26, f26.mono (by omega)⟩, v1.trans (E8.x.trans E26), F1.trans (F2.trans u1.nv.cn)⟩
    · have e0 : f_X3_isComparison n 1007 y.2 = some (0, y.2) := by rw [isC_eq hn hb x3, if_neg (fun u => cC u.1)]
      refine wp_neg (by rw [o2.2.1]; exact cC) ?_
      rw [ok_cannot x5.1, t1_at]
      refine wp_gd (by decide) (wp_ok (wp_swap ?_))
      unfold c163t
      refine wp_gd x3.2.2.2.2.1.1 ?_
      rw [g6]
      refine wp_gd g7 (wp_nm0 (wp_gd x3.2.2.2.2.1.1 (wp_pos o1 (wp_gd x3.2.2.2.2.1.1 (wp_c1e e0 (wp_pos rfl ?_))))))
      unfold f_X3_conditions_203
      refine wp_gd x3.2.2.2.2.1.1 (wp_c0 (wp_mono (wrong_set x3 o1) fun σ2 h2 => ?_))
      refine c207_fail hn hb (flR_cannot x5.1 h2.1 h2.2.2) (by omega) fun σ26 S26 f26 E26 => ?_
      exact hf σ26 _ ⟨⟨S26, f26.mono (by omega)⟩, v1.trans (h2.2.1.x.trans E26), F1.trans fgF_flw.nv.cn⟩
  · refine wp_pos x1 (wp_ok (wp_swap ?_))
    refine c163t_fail hn hb x2 (by omega) fun σ26 S26 f26 E26 => ?_
    exact hf σ26 w.2 ⟨⟨S26, f26.mono (by omega)⟩, v1.trans E26, F1⟩
end MH
