/-! TERMS, side by side: the law -/
set_option maxRecDepth 100000
section TY
variable {σ σ0 σ1 σ2 σ3 σ' : AS} {τ τ0 τ' : TT} {n M : Nat} {N0 U0 z z' k q q0 q' c p v l r C l1 l2 l4 l5 e var x a b : Int} {T : List Int} {S : PS}
theorem lk_term (hn : 1000000 ≤ n) (hb : BtOk T) (h : ShP T N0 U0 σ z k q S) (hO : OKW T σ τ q S M) (hb0 : 0 ≤ b ∧ b + 2 < 56) : Wp (f_X3_term n 1007 M σ) fun y => Wp (g_X7_term n 1022 b τ) fun w => TmP T N0 U0 z k σ τ q S M b y w := by
  have h7 := h.2.2.2.2.1
  have hl := h.2.2.1
  have hN := h.2.2.2.2.2.1
  have hqq := nxq_le h
  have o1 := hO.1.1
  have o2 := hO.1.2.1
  unfold f_X3_term g_X7_term
  refine wp_gd h7.1 (wp_pos o1 (wp_gd h7.1 ?_))
  rw [h7.2.1]
  refine wp_gd hl.1.1 (wp_gdc (cmp_kinds h.1 hl (by decide)) ?_)
  rw [hl.2.2.2.1]
  by_cases c2 : tkC T q = 2
  · refine wp_pos ((kd_num (sh_rng h).1).mpr c2) (wp_nm0 (wp_nm0 ?_))
    obtain ⟨s1, E1, J1, k1, n1⟩ := sh_al (K := 16) (m := 3) h (by decide)
    generalize al σ 16 0 3 = σ1 at *
    have hr := tkC_2 c2
    refine wp_gd s1.2.2.2.2.1.1 (wp_c1 (wp_mono (number_yes hn hb s1 ((J1 3).trans o1) c2 hr (by decide) (by decide)) fun y hy => ?_))
    obtain ⟨y1, y2, y3, y4⟩ := hy
    have hny := y3.1.1.1
    have kp : kd y.2 (nx σ) = 16 := (y3.1.1.kd (by omega)).trans k1
    obtain ⟨σ3, e3, ⟨f0, f1, f2⟩, n3, u3, F3⟩ := fill_term (p := nx σ) (a := -1) (b := -1) (c := y.1) (by omega) kp
    obtain ⟨s3, o3⟩ := sh_part y2 ⟨by omega, by omega, by omega, by omega⟩ F3 n3 u3
    have j7 : ∀ j, ld σ3 1007 j = ld σ 1007 j := fun j => (o3 _ _ (by omega) (by omega)).trans ((y4 j).trans (J1 j))
    have EX : EfX N0 σ σ3 := ⟨PF.part (E1.1.trans y3.1) (by omega) (Int.le_refl _) F3, fun j => (o3 _ _ (by omega) (by omega)).trans ((y3.2.1 j).trans (E1.2.1 j)), fun j => (o3 _ _ (by omega) (by omega)).trans ((y3.2.2.1 j).trans (E1.2.2.1 j)), fun u => by rw [← j7]; exact u⟩
    have tr : TrAt σ3 (nx σ) (-1, -1, y.1) := ⟨by rw [F3.kd (by omega)]; exact kp, ⟨by omega, by omega⟩, f0, f1, f2⟩
    refine wp_gd (by omega) (wp_c0e e3 (wp_ok ?_))
    refine wp_pos (by rw [o2.2.1]; exact c2) (wp_gd (by omega) (wp_nm0 ?_))
    rw [gI_pos (by omega)]
    refine wp_gd (by omega) (wp_nm0 ?_)
    have e22 : sa τ 1038 b 0 1022 22 = nmA T q := by rw [sa_at, if_neg (by omega)]; exact o2.2.2.2.1 c2
    rw [e22, l2i_small (by omega)]
    have ea : ∀ r j, r ≠ 1038 → sa (sa τ 1038 b 0) 1038 (b + 1) (nmA T q) r j = τ r j := fun r j hh => by rw [sa_at, if_neg (fun u => hh u.1), sa_at, if_neg (fun u => hh u.1)]
    have eb0 : sa (sa τ 1038 b 0) 1038 (b + 1) (nmA T q) 1038 b = 0 := by rw [sa_at, if_neg (by omega), sa_at, if_pos ⟨rfl, rfl⟩]
    have eb1 : sa (sa τ 1038 b 0) 1038 (b + 1) (nmA T q) 1038 (b + 1) = nmA T q := by rw [sa_at, if_pos ⟨rfl, rfl⟩]
    have F0 : TmF 1038 b τ (sa (sa τ 1038 b 0) 1038 (b + 1) (nmA T q)) := (TmF.sa (by omega)).trans (TmF.sa (by omega))
    generalize sa (sa τ 1038 b 0) 1038 (b + 1) (nmA T q) = τ1 at *
    have hO1 : OKW T σ τ1 q S M := hO.fr (fun j _ => ea _ _ (by decide)) fun r j g1 g2 => ea _ _ (by omega)
    refine wp_t1 (wp_mono (ok_next hn hb (h.mono (k' := k + 1) (by omega)) hO1.1 s3 j7) fun w hw => ?_)
    obtain ⟨w1, w2⟩ := hw
    refine wp_gd (by rcases w2 with u | u <;> omega) (wp_ok ⟨EX, F0.trans w1.nv.tm, tr.el, ?_⟩)
    rcases w2 with ⟨u1, u2⟩ | ⟨u1, u2⟩
    · exact Or.inl ⟨u1, nxq T q, S, (-1, -1, y.1), hqq, s3, rfl, ⟨u2, hO.2.1, fun i hi => by rw [w1 _ _ (by omega)]; exact hO1.2.2 i hi⟩, Nat.le_refl _, fun i _ => by rw [w1 _ _ (by omega), ea _ _ (by decide)], tr, Or.inl ⟨rfl, rfl, by rw [w1 _ _ (by omega)]; exact eb0, by rw [w1 _ _ (by omega)]; exact eb1.trans y1.symm, by show _ ≤ y.1; omega, by show y.1 ≤ _; omega⟩, by show (-1 : Int) < _; omega, fun _ => by show (-1 : Int) < _; omega⟩
    · exact Or.inr ⟨u1, S, u2⟩
  · refine wp_neg (fun u => c2 ((kd_num (sh_rng h).1).mp u)) ?_
    unfold f_X3_term_40
    refine wp_gd h7.1 (wp_swap (wp_neg (by rw [o2.2.1]; exact c2) (wp_swap ?_)))
    by_cases c1 : tkC T q = 1
    · refine wp_swap (wp_pos (by rw [o2.2.1]; exact c1) (wp_swap ?_))
      refine wp_join (lk_value (a := 0) hn hb h hO c1) fun y w hw => wp_ok ?_
      obtain ⟨w1, w2, w3, w4⟩ := hw
      rcases w4 with ⟨x1, q1, S1, t, x2, x3, x4, x5, x6, x7, x8, x9, x10, x11, x12, x13, x14, x15, x16, x17⟩ | ⟨x1, x2⟩
      · refine wp_neg (by omega) ?_
        have fin : ∀ s2 : Int, s2 = (if t.2.1 = -1 then 1 else 2) → Wp (g_X7_term_74 n 1022 b 1038 b s2 w.2) fun w' => TmP T N0 U0 z k σ τ q S M b (y.1, y.2) w' := fun s2 hs2 => by
          unfold g_X7_term_74
          have ht : tn 1038 = 56 := by decide
          refine wp_gd (by rw [ht]; omega) (wp_nm0 ?_)
          rw [gI_pos (by omega)]
          refine wp_gd (by omega) (wp_nm0 ?_)
          rw [gI_pos (by omega)]
          refine wp_gd (by omega) (wp_nm0 (wp_ok ?_))
          have e1 : sa w.2 1038 b s2 1022 41 = w.2 1022 41 := by rw [sa_at, if_neg (by omega)]
          have e2 : sa (sa w.2 1038 b s2) 1038 (b + 1) (sa w.2 1038 b s2 1022 41) 1022 43 = w.2 1022 43 := by rw [sa_at, if_neg (by omega), sa_at, if_neg (by omega)]
          rw [e2, e1]
          have ea : ∀ r j, r ≠ 1038 → sa (sa (sa w.2 1038 b s2) 1038 (b + 1) (w.2 1022 41)) 1038 (b + 2) (w.2 1022 43) r j = w.2 r j := fun r j hh => by rw [sa_at, if_neg (fun u => hh u.1), sa_at, if_neg (fun u => hh u.1), sa_at, if_neg (fun u => hh u.1)]
          refine ⟨w1, w2.tm.trans ((TmF.sa (by omega)).trans ((TmF.sa (by omega)).trans (TmF.sa (by omega)))), w3, Or.inl ⟨rfl, q1, S1, t, x2, x3, x4, x5.fr (fun j _ => ea 1022 j (by decide)) (fun r j g1 g2 => ea _ _ (by omega)), x6, fun i hi => (ea 1036 i (by decide)).trans (x7 i hi), x8, Or.inr ⟨x12, x11, ?_, ?_, ?_⟩, x13, x17⟩⟩
          · dsimp only; rw [sa_at, if_neg (by omega), sa_at, if_pos ⟨rfl, rfl⟩]; exact x9
          · dsimp only; rw [sa_at, if_pos ⟨rfl, rfl⟩]; exact x10
          · dsimp only; rw [sa_at, if_neg (by omega), sa_at, if_neg (by omega), sa_at, if_pos ⟨rfl, rfl⟩, hs2]
            by_cases ct : t.2.1 = -1
            · rw [if_pos ct]; exact Or.inl ⟨ct, rfl⟩
            · rw [if_neg ct]; exact Or.inr ⟨by omega, x15, rfl⟩
        refine wp_ite (fun c => fin 1 (by rw [if_pos (by omega)])) fun c => fin 2 (by rw [if_neg (by omega)])
      · exact wp_pos x1 (wp_ok ⟨w1, w2.tm, w3, Or.inr ⟨rfl, x2⟩⟩)
    · refine wp_swap (wp_neg (by rw [o2.2.1]; exact c1) ?_)
      rw [ok_cannot hO.1, t1_at]
      refine wp_gd (by decide) (wp_ok ?_)
      unfold f_X3_value
      refine wp_c1 (wp_gd h7.1 ?_)
      rw [h7.2.1]
      refine wp_gd hl.1.1 (wp_nm0 (wp_gd h7.1 (wp_c1 (wp_mono (name_not h o1 c1) fun y hy => ?_))))
      obtain ⟨y0, y1, y2, y3⟩ := hy
      refine wp_gd y1.2.2.2.2.1.1 (wp_neg (by rw [y3.1]; exact y3.2.1) ?_)
      exact wp_mono (v33_fail hn hb (flR_cannot hO.1 y1 y3)) fun y' hy' => wp_ok ⟨(y2.trans hy'.2.1).x, fgF_flw.nv.tm, hy'.2.2, Or.inr ⟨rfl, S, hy'.1⟩⟩
end TY
