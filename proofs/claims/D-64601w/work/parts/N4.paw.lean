/-! READ, side by side: end, limit, order -/
set_option maxRecDepth 100000
def LmF (τ τ' : TT) : Prop := ∀ r j, ¬ (r = 1022 ∧ ((17 ≤ j ∧ j ≤ 22) ∨ j = 40 ∨ j = 42)) → τ' r j = τ r j
theorem LmF.rf {τ : TT} : LmF τ τ := fun _ _ _ => rfl
theorem LmF.trans {τ τ1 τ2 : TT} (h : LmF τ τ1) (h' : LmF τ1 τ2) : LmF τ τ2 := fun r j a => (h' r j a).trans (h r j a)
theorem FgF.lm {τ τ' : TT} (h : FgF τ τ') : LmF τ τ' := fun r j a => h r j fun w => a ⟨w.1, by omega⟩
theorem LxF.lm {τ τ' : TT} (h : LxF τ τ') : LmF τ τ' := h.fg.lm
theorem LmF.rd {τ τ' : TT} (h : LmF τ τ') : RdF τ τ' := fun r j x _ => h r j fun w => x ⟨w.1, by omega⟩
/-- the outcome behind items and orders -/
def R118 (T : List Int) (N0 U0 k : Int) (σ : AS) (τ : TT) (S : PS) (y : Int × AS) (w : Int × TT) : Prop :=
  EfY N0 σ y.2 ∧ LmF τ w.2 ∧ ((w.1 = 1 ∧ y.1 = N0 ∧ ∃ q', ShP T N0 U0 y.2 0 k q' S ∧ OKB T y.2 w.2 q' S ∧ ld y.2 1007 5 = 0 ∧ limR (ld y.2 N0 8) (w.2 1022 40) ∧ ld y.2 N0 7 = ld σ N0 7) ∨ RdL T N0 U0 k y w)
section RF
variable {σ σ0 σ1 σ2 σ3 σ' : AS} {τ τ0 τ' : TT} {n M : Nat} {N0 U0 z z' k q q0 q' p v l r C l1 l2 l4 l5 e var x a b c s0 hc : Int} {T : List Int} {S S' : PS} {cs : List Cnd} {its : List Trm} {os : List Odr} {t : Trm}
theorem RdL.of (h : ShP T N0 U0 σ z k q S) (hz : z ≤ 5) {k' : Int} (hk : k ≤ k') (hc : CF1 σ (τ 1022 17) (τ 1022 18)) : RdL T N0 U0 k' (0, σ) (0, τ) := ⟨rfl, rfl, ⟨q, S, (h.monoz hz).mono hk⟩, hc.1, hc.2.1, hc.2.2⟩
theorem lk_142 (hb : BtOk T) (h : ShP T N0 U0 σ 0 k q S) (hO : OKB T σ τ q S) (hl0 : limR (ld σ N0 8) (τ 1022 40)) : Wp (f_X3_read_142 n 1007 σ) fun y => Wp (g_X7_question_166 n 1022 τ) fun w => R118 T N0 U0 k σ τ S y w := by
  obtain ⟨o1, o2, o3, o4, o5⟩ := id hO
  obtain ⟨g1, g2, g3, g4, g5, g6, g7⟩ := h.nN
  have h7 := h.2.2.2.2.1.1
  have hl := h.2.2.1
  have hr := (sh_rng h).1
  unfold f_X3_read_142 g_X7_question_166
  refine wp_gd h7 (wp_pos o1 (wp_gd h7 ?_))
  rw [g6]
  refine wp_gd g7 (wp_gdc (cmp_kinds h.1 hl (by decide)) ?_)
  rw [hl.2.2.2.1]
  by_cases c : tkC T q = 0
  · refine wp_pos ((kd_end hr).mpr c) ?_
    unfold f_X3_read_166 f_X3_read_196
    refine wp_gd h7 (wp_pos o1 (wp_gd h7 ?_))
    rcases o4 with ⟨u1, u2⟩ | ⟨u1, u2, u3, u4⟩
    · refine wp_pos u1 (wp_gd h7 (wp_pos o1 (wp_gd h7 (wp_ok ?_))))
      refine wp_pos (by rw [o2.2.1]; exact c) (wp_pos u2 (wp_ok ⟨EfY.rf, LmF.rf, Or.inl ⟨rfl, g3, q, h, hO, u1, hl0, rfl⟩⟩))
    · have hb2 := (sh_rng h).2.1
      refine wp_neg (by omega) (wp_gd h7 (wp_gd h7 (wp_nm0 ?_)))
      obtain ⟨s1, E1, p1, p2⟩ := sh_code (v := ld σ 1007 5) (j := 3) h (Or.inl rfl)
      generalize wr σ 1007 3 (ld σ 1007 5) = σ1 at *
      refine wp_gd s1.2.2.2.2.1.1 (wp_gd s1.2.2.2.2.1.1 (wp_nm0 ?_))
      obtain ⟨s2, E2, p3, p4⟩ := sh_code (v := ld σ1 1007 6) (j := 4) s1 (Or.inr rfl)
      generalize wr σ1 1007 4 (ld σ1 1007 6) = σ2 at *
      have e3 : ld σ2 1007 3 = τ 1022 27 := (p3 _ _ (by omega)).trans (p2.trans u1)
      have e4 : ld σ2 1007 4 = τ 1022 28 := p4.trans ((p1 _ _ (by omega)).trans u3)
      refine wp_gd s2.2.2.2.2.1.1 (wp_neg (by omega) (wp_ok ?_))
      refine wp_pos (by rw [o2.2.1]; exact c) (wp_ite (fun u => ?_) fun _ => ?_)
      · exact absurd u (by have := hb.1; omega)
      · have ef : g_X7_flaw 1022 (τ 1022 27) (τ 1022 28) τ = some (0, sa (sa τ 1022 17 (τ 1022 27)) 1022 18 (τ 1022 28)) := by
          unfold g_X7_flaw
          rw [nm_eq, nm_eq]
        rw [ef, t1_at]
        refine wp_pos rfl (wp_ok ⟨E1.trans E2, fgF_flw.lm, Or.inr ⟨rfl, rfl, ⟨q, S, s2.monoz (by decide)⟩, ?_, ?_, ?_⟩⟩)
        · dsimp only; rw [flw_sa.1]; exact e3
        · dsimp only; rw [flw_sa.1]; exact u2
        · dsimp only; rw [flw_sa.2]; exact e4
  · refine wp_neg (fun u => c ((kd_end hr).mp u)) (wp_gd h7 (wp_c0 (wp_mono (wrong_set h o1) fun σ1 h1 => ?_)))
    obtain ⟨s1, E1, c1'⟩ := h1
    rw [if_neg o2.2.2.2.2.1] at c1'
    rw [r166_fail s1 (by rw [c1'.1]; exact c1'.2.1)]
    refine wp_ok (wp_neg (by rw [o2.2.1]; exact c) ?_)
    rw [ok_cannot hO, t1_at]
    refine wp_gd (by decide) (wp_ok ⟨E1.y, fgF_flw.lm, Or.inr (RdL.of s1 (by decide) (Int.le_refl _) ?_)⟩)
    rw [flw_sa.1, flw_sa.2]
    exact c1'
theorem lk_118 (hn : 1000000 ≤ n) (hb : BtOk T) (h : ShP T N0 U0 σ 0 k q S) (hO : OKB T σ τ q S) (hl8 : ld σ N0 8 = 2147483647) (hl40 : τ 1022 40 = 100000) : Wp (f_X3_read_118 n 1007 σ) fun y => Wp (g_X7_question_128 n 1022 τ) fun w => R118 T N0 U0 k σ τ S y w := by
  obtain ⟨o1, o2, o3, o4, o5⟩ := id hO
  have h7 := h.2.2.2.2.1.1
  have hN := h.2.2.2.2.2.1
  unfold f_X3_read_118 g_X7_question_128
  refine wp_gd h7 ?_
  by_cases c : tkC T q = 19
  · refine wp_c1 (wp_mono (takes_yes hn hb h (r := 73) (C := 19) (by decide) (by unfold spC; omega) o1 c) fun y hy => ?_)
    obtain ⟨y1, y2, y3, y4⟩ := hy
    have n1 := y2.2.2.2.2.2.1
    refine wp_neg (by omega) (wp_gd y2.2.2.2.2.1.1 (wp_gd y2.2.2.2.2.1.1 ?_))
    refine wp_swap (wp_pos (by rw [o2.2.1]; exact c) (wp_t1 (wp_mono (ok_next hn hb h hO y2 y4) fun w hw => ?_)))
    obtain ⟨w1, w2⟩ := hw
    rcases w2 with ⟨u1, u2⟩ | ⟨u1, u2⟩
    · refine wp_neg (by omega) (wp_swap ?_)
      refine wp_join (lk_number hn hb y2 u2 (lo := 0) (hi := 2147483647) (by decide) (by decide)) fun p p' hp => ?_
      obtain ⟨p1, p2, p3⟩ := hp
      have e7 : ld y.2 1007 1 = N0 := y2.nN.2.2.1
      rw [e7]
      rcases p3 with ⟨a1, a2, a3, a4, q1, a5, a6, a7⟩ | ⟨a1, a2⟩
      · obtain ⟨s1, E1, r1, r2⟩ := sh_q (v := p.1) (j := 8) a6 (by decide)
        refine wp_gd a6.2.2.2.2.2.2.1.1 (wp_nm0 ?_)
        generalize wr p.2 N0 8 p.1 = σ3 at *
        refine wp_swap (wp_neg (by omega) ?_)
        rw [nm_eq]
        have ea : ∀ r j, ¬ (r = 1022 ∧ j = 40) → sa p'.2 1022 40 (p'.2 1022 42) r j = p'.2 r j := fun r j hh => by rw [sa_at, if_neg hh]
        have ea0 : sa p'.2 1022 40 (p'.2 1022 42) 1022 40 = p.1 := by rw [sa_at, if_pos ⟨rfl, rfl⟩]; exact a2.symm
        have hB : OKB T σ3 (sa p'.2 1022 40 (p'.2 1022 42)) q1 S := by
          have hB0 : OKB T σ3 p'.2 q1 S := okb_same a7 (fun j => r1 _ _ (by omega)) rfl
          exact hB0.fr (fun j _ => ea _ _ (by omega)) fun r j _ _ => ea _ _ (by omega)
        generalize sa p'.2 1022 40 (p'.2 1022 42) = τ3 at *
        refine wp_swap ?_
        refine wp_mono (lk_142 hb s1 hB (Or.inl ⟨by rw [r2, ea0], by rw [r2]; exact a3, by rw [r2]; exact a4⟩)) fun y9 h9 => wp_mono h9 fun w9 hw9 => ?_
        obtain ⟨d1, d2, d3⟩ := hw9
        refine ⟨(y3.y.trans p1.y).trans (E1.trans d1), (w1.lm.trans p2.lm).trans (LmF.trans (fun r j hh => ea r j (fun u => hh ⟨u.1, by omega⟩)) d2), ?_⟩
        rcases d3 with ⟨x1, x2, q9, x3, x4, x5, x6, x7⟩ | d3
        · exact Or.inl ⟨x1, x2, q9, x3, x4, x5, x6, x7.trans ((r1 _ _ (by omega)).trans ((p1.2.2.1 7).trans (y3.2.2.1 7)))⟩
        · exact Or.inr d3
      · obtain ⟨q1, s0, c0⟩ := a2
        obtain ⟨s1, E1, r1, r2⟩ := sh_q (v := p.1) (j := 8) s0 (by decide)
        refine wp_gd s0.2.2.2.2.2.2.1.1 (wp_nm0 ?_)
        have f1 : FlR T N0 U0 0 k S (wr p.2 N0 8 p.1) p'.2 := by
          refine ⟨q1, s1, ?_⟩
          unfold CF
          rw [r1 _ _ (by omega), r1 _ _ (by omega)]
          exact c0
        generalize wr p.2 N0 8 p.1 = σ3 at *
        refine wp_swap (wp_pos a1 (wp_ok ?_))
        refine wp_mono (r142_fail f1) fun y9 h9 => ?_
        obtain ⟨d1, ⟨q9, d2⟩, d3, d4⟩ := h9
        refine ⟨(y3.y.trans p1.y).trans (E1.trans d4.y), w1.lm.trans p2.lm, Or.inr ⟨rfl, d1, ⟨q9, S, d2.monoz (by decide)⟩, d3.1, d3.2.1, d3.2.2⟩⟩
    · refine wp_pos u1 (wp_ok (wp_c1 (wp_mono u2.num fun p hp => ?_)))
      have e7 : ld y.2 1007 1 = N0 := y2.nN.2.2.1
      rw [e7]
      obtain ⟨⟨q1, s0, c0⟩, p1⟩ := hp
      obtain ⟨s1, E1, r1, r2⟩ := sh_q (v := p.1) (j := 8) s0 (by decide)
      refine wp_gd s0.2.2.2.2.2.2.1.1 (wp_nm0 ?_)
      have f1 : FlR T N0 U0 0 k S (wr p.2 N0 8 p.1) w.2 := by
        refine ⟨q1, s1, ?_⟩
        unfold CF
        rw [r1 _ _ (by omega), r1 _ _ (by omega)]
        exact c0
      generalize wr p.2 N0 8 p.1 = σ3 at *
      refine wp_mono (r142_fail f1) fun y9 h9 => ?_
      obtain ⟨d1, ⟨q9, d2⟩, d3, d4⟩ := h9
      refine ⟨(y3.y.trans p1.y).trans (E1.trans d4.y), w1.lm, Or.inr ⟨rfl, d1, ⟨q9, S, d2.monoz (by decide)⟩, d3.1, d3.2.1, d3.2.2⟩⟩
  · refine wp_c1e (takes_no hn hb h (r := 73) (C := 19) (by decide) (by unfold spC; omega) fun _ => c) (wp_pos rfl ?_)
    rw [if_neg (show ¬ τ 1022 19 = 19 by rw [o2.2.1]; exact c)]
    exact lk_142 hb h hO (Or.inr ⟨hl8, hl40⟩)
end RF
