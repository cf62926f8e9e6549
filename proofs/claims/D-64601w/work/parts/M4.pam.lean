/-! CONDITIONS, side by side: one, all -/
set_option maxRecDepth 100000
section MI
variable {σ σ0 σ1 σ2 σ3 σ' : AS} {τ τ0 τ' : TT} {n M : Nat} {N0 U0 z z' k q q0 q' p v l r C l1 l2 l4 l5 e var x a b c s0 : Int} {T : List Int} {S : PS} {cs : List Cnd}
theorem FlR.fail (h : FlR T N0 U0 z k S σ τ) (hc : ld σ 1007 3 ≠ 0) : f_X3_fail 1007 c σ = some σ := by
  obtain ⟨q, h1, h2⟩ := h
  exact fail_no h1 hc
/-- is it the beginning of a condition -/
def begC (C : Int) : Int := if C = 1 ∨ C = 2 ∨ C = 12 ∨ C = 13 then 1 else 0
theorem conditions_2_eq (hn : 1000000 ≤ n) (hb : BtOk T) (h : ShP T N0 U0 σ z k q S) {Q : Nat} : f_X3_conditions_2 n (Q + 1) 1007 x 1 σ = f_X3_conditions_61 n (f_X3_conditions_2 n Q) 1007 x (begC (tkC T q)) σ := by
  obtain ⟨g1, g2, g3, g4, g5, g6, g7⟩ := h.nN
  have h7 := h.2.2.2.2.1.1
  have hl := h.2.2.1
  have hr := (sh_rng h).1
  have hk2 := cmp_kinds h.1 hl (k := 125) (by decide)
  rw [hl.2.2.2.1] at hk2
  unfold f_X3_conditions_2 f_X3_conditions_56
  rw [if_neg (show ¬ (1 : Int) = 0 by decide), gd_pos h7, g6, gd_pos g7, gdc_pos (cmp_kinds h.1 hl (by decide)), hl.2.2.2.1]
  unfold begC
  by_cases c2 : tkC T q = 2
  · rw [if_pos ((kd_num hr).mpr c2), if_pos (Or.inr (Or.inl c2))]
  rw [if_neg (fun u => c2 ((kd_num hr).mp u)), gd_pos h7, gd_pos g7, gdc_pos hk2]
  by_cases c1 : tkC T q = 1
  · rw [if_pos ((kd_nam hr).mpr c1), if_pos (Or.inl c1)]
  rw [if_neg (fun u => c1 ((kd_nam hr).mp u)), gd_pos h7, gd_pos g7, sh_is hn hb h (r := 41) (C := 12) (by decide) (by unfold spC; omega), c1_at]
  by_cases c12 : tkC T q = 12
  · rw [if_pos c12, if_neg (show ¬ (1 : Int) = 0 by decide), if_pos (Or.inr (Or.inr (Or.inl c12)))]
  rw [if_neg c12, if_pos (show (0 : Int) = 0 from rfl), gd_pos h7, g6, gd_pos g7, sh_is hn hb h (r := 43) (C := 13) (by decide) (by unfold spC; omega), c1_at]
  by_cases c13 : tkC T q = 13
  · rw [if_pos c13, if_neg (show ¬ (1 : Int) = 0 by decide), if_pos (Or.inr (Or.inr (Or.inr c13)))]
  · rw [if_neg c13, if_pos (show (0 : Int) = 0 from rfl), if_neg (fun u => by omega)]
theorem term_not (hn : 1000000 ≤ n) (hb : BtOk T) (h : ShP T N0 U0 σ z k q S) (hO : OKB T σ τ q S) (c1 : tkC T q ≠ 1) (c2 : tkC T q ≠ 2) {m : Int} : Wp (f_X3_term n 1007 m σ) fun y => FlR T N0 U0 z (k + 1) S y.2 (sa (sa τ 1022 17 2) 1022 18 q) ∧ Eff N0 σ y.2 ∧ elQ y.2 y.1 := by
  obtain ⟨g1, g2, g3, g4, g5, g6, g7⟩ := h.nN
  have h7 := h.2.2.2.2.1.1
  have hl := h.2.2.1
  have hr := (sh_rng h).1
  unfold f_X3_term f_X3_term_40
  refine wp_gd h7 (wp_pos hO.1 (wp_gd h7 ?_))
  rw [g6]
  refine wp_gd g7 (wp_gdc (cmp_kinds h.1 hl (by decide)) (wp_neg ?_ (wp_gd h7 (wp_c1 (wp_mono (value_not hn hb h hO c1) fun y hy => wp_ok hy)))))
  rw [hl.2.2.2.1]
  exact fun u => c2 ((kd_num hr).mp u)
theorem lk_cond61 (hn : 1000000 ≤ n) (hb : BtOk T) (h : ShP T N0 U0 σ z k q S) (hO : OKC T N0 σ τ q S M cs) (hz : z = 0) {k2 : Int → Int → Int → AS → Option AS} {Kt : Int → TT → Option (Int × TT)} {R : AS → Int × TT → Prop}
    (hk : ∀ σ' τ', CdK T N0 U0 z k σ τ q S M cs σ' τ' → Wp (f_X3_conditions_234 n k2 1007 M σ') fun a => Wp (Kt 1 τ') fun b => R a b)
    (hf : ∀ σ' τ', CdL T N0 U0 z k σ τ cs σ' τ' → Wp (f_X3_conditions_234 n k2 1007 M σ') fun a => Wp (Kt 0 τ') fun b => R a b) :
    Wp (f_X3_conditions_61 n k2 1007 M (begC (tkC T q)) σ) fun a => Wp (t1 (g_X7_condition n 1022 τ) Kt) fun b => R a b := by
  obtain ⟨hW, hA, hT, h8, hV⟩ := id hO
  obtain ⟨g1, g2, g3, g4, g5, g6, g7⟩ := h.nN
  have h7 := h.2.2.2.2.1.1
  have o1 := hW.1.1
  have o2 := hW.1.2.1
  have e34 : τ 1022 34 = cs.length := hT.1
  have hls : (S.2 2).length = cs.length := hA.1
  have L1 := h.2.2.2.2.2.2.2.1
  have h12 := sh_is hn hb h (r := 41) (C := 12) (by decide) (by unfold spC; omega)
  have h13 := sh_is hn hb h (r := 43) (C := 13) (by decide) (by unfold spC; omega)
  -- the twin's text
  have et : ∀ Kt' : Int → TT → Option (Int × TT), (tkC T q = 12 ∨ tkC T q = 13 → t1 (g_X7_condition n 1022 τ) Kt' = t1 (g_X7_condition_49 n 1022 1 τ) Kt') ∧ (tkC T q = 1 ∨ tkC T q = 2 → t1 (g_X7_condition n 1022 τ) Kt' = t1 (g_X7_condition_49 n 1022 0 τ) Kt') ∧ (¬ (tkC T q = 12 ∨ tkC T q = 13) → ¬ (tkC T q = 1 ∨ tkC T q = 2) → t1 (g_X7_condition n 1022 τ) Kt' = Kt' 0 (sa (sa τ 1022 17 2) 1022 18 q)) := fun Kt' => by
    have e19 : τ 1022 19 = tkC T q := o2.2.1
    unfold g_X7_condition g_X7_condition_18 g_X7_condition_23
    rw [e19]
    refine ⟨fun w => ?_, fun w => ?_, fun w1 w2 => ?_⟩
    · rw [if_neg (show ¬ (1 : Int) = 0 by decide)]
      rcases w with w | w
      · rw [if_pos w]
      · rw [if_neg (by omega), if_pos w]
    · rw [if_neg (show ¬ tkC T q = 12 by omega), if_neg (show ¬ tkC T q = 13 by omega), if_pos (show (0 : Int) = 0 from rfl)]
      rcases w with w | w
      · rw [if_pos w]
      · rw [if_neg (show ¬ tkC T q = 1 by omega), if_pos w]
    · rw [if_neg (show ¬ tkC T q = 12 by omega), if_neg (show ¬ tkC T q = 13 by omega), if_pos (show (0 : Int) = 0 from rfl), if_neg (show ¬ tkC T q = 1 by omega), if_neg (show ¬ tkC T q = 2 by omega), ok_cannot hW.1, t1_at, gd_pos (by decide), t1_at]
  obtain ⟨et1, et2, et3⟩ := et Kt
  -- 86, where no fault stands
  have e86 : (tkC T q = 12 ∨ tkC T q = 13 → f_X3_conditions_86 n k2 1007 M σ = f_X3_conditions_117 n (f_X3_conditions_234 n k2) 1007 M σ) ∧ (¬ (tkC T q = 12 ∨ tkC T q = 13) → f_X3_conditions_86 n k2 1007 M σ = f_X3_conditions_163 n (f_X3_conditions_234 n k2) 1007 M σ) := by
    unfold f_X3_conditions_86
    rw [gd_pos h7, if_pos o1, gd_pos h7, g6, gd_pos g7, h12, c1_at]
    refine ⟨fun w => ?_, fun w => ?_⟩
    · by_cases c : tkC T q = 12
      · rw [if_pos c, if_neg (show ¬ (1 : Int) = 0 by decide)]
      · rw [if_neg c, if_pos (show (0 : Int) = 0 from rfl), gd_pos h7, g6, gd_pos g7, h13, c1_at, if_pos (show tkC T q = 13 by omega), if_neg (show ¬ (1 : Int) = 0 by decide)]
    · rw [if_neg (show ¬ tkC T q = 12 by omega), if_pos (show (0 : Int) = 0 from rfl), gd_pos h7, g6, gd_pos g7, h13, c1_at, if_neg (show ¬ tkC T q = 13 by omega), if_pos (show (0 : Int) = 0 from rfl)]
  have notB : ¬ (tkC T q = 12 ∨ tkC T q = 13) → ¬ (tkC T q = 1 ∨ tkC T q = 2) → Wp (f_X3_conditions_86 n k2 1007 M σ) fun a => Wp (t1 (g_X7_condition n 1022 τ) Kt) fun b => R a b := fun w1 w2 => by
    rw [e86.2 w1, et3 w1 w2, c163_eq]
    refine wp_gd h7 (wp_c1 (wp_mono (term_not hn hb h hW.1 (by omega) (by omega)) fun y hy => ?_))
    refine c163t_fail hn hb hy.1 (by omega) fun σ26 S26 f26 E26 => ?_
    exact hf σ26 _ ⟨⟨S26, f26.mono (by omega)⟩, hy.2.1.x.trans E26, fgF_flw.nv.cn⟩
  unfold f_X3_conditions_61
  refine wp_gd h7 ?_
  rw [g3]
  refine wp_gd g4 ?_
  rw [g5]
  refine wp_gd (lsok_kd L1 (by decide)) (wp_c1e (L1.size (by decide)) ?_)
  rw [hls]
  by_cases c8 : cs.length = 8
  · refine wp_pos (by omega) ?_
    by_cases cb : tkC T q = 1 ∨ tkC T q = 2 ∨ tkC T q = 12 ∨ tkC T q = 13
    · unfold begC
      rw [if_pos cb]
      refine wp_neg (by decide) (wp_gd h7 (wp_c0 (wp_mono (fail_set h o1 (c := 3) (by decide)) fun σ1 h1 => ?_)))
      obtain ⟨s1, E1, F1⟩ := h1
      have fl : FlR T N0 U0 z k S σ1 (sa (sa τ 1022 17 3) 1022 18 q) := by
        refine ⟨q, s1, ?_⟩
        rw [flw_sa.1, flw_sa.2]
        exact Or.inl F1
      have e49 : ∀ l, t1 (g_X7_condition_49 n 1022 l τ) Kt = Kt 0 (sa (sa τ 1022 17 3) 1022 18 q) := fun l => by
        unfold g_X7_condition_49
        rw [e34, if_pos (show (cs.length : Int) = 8 by omega), o2.1, flaw_eq (by decide), t1_at, gd_pos (by decide), t1_at]
      have eK : t1 (g_X7_condition n 1022 τ) Kt = Kt 0 (sa (sa τ 1022 17 3) 1022 18 q) := by
        by_cases cc : tkC T q = 12 ∨ tkC T q = 13
        · rw [et1 cc, e49]
        · rw [et2 (by omega), e49]
      rw [eK]
      unfold f_X3_conditions_86
      refine wp_gd fl.g (wp_neg (by rw [F1.1]; decide) ?_)
      refine c163_fail hn hb fl (by omega) fun σ26 S26 f26 E26 => ?_
      exact hf σ26 _ ⟨⟨S26, f26.mono (by omega)⟩, E1.x.trans E26, fgF_flw.nv.cn⟩
    · unfold begC
      rw [if_neg cb]
      exact wp_pos rfl (notB (by omega) (by omega))
  · refine wp_neg (by omega) ?_
    by_cases cc : tkC T q = 12 ∨ tkC T q = 13
    · rw [e86.1 cc, et1 cc]
      exact lk_has hn hb h hO cc (by omega) hz hk hf
    · by_cases c12 : tkC T q = 1 ∨ tkC T q = 2
      · rw [e86.2 cc, et2 c12]
        exact lk_cmp hn hb h hO (by omega) hz hk hf
      · exact notB cc c12
end MI
