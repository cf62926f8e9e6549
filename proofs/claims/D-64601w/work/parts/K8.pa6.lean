/-! AN EDGE, side by side: behind its name -/
set_option maxRecDepth 100000
section EJ
variable {σ σ0 σ' : AS} {τ τ0 τ' : TT} {n : Nat} {N0 U0 z k q q0 q' c p v l r C l1 l2 l3 l4 l5 l6 s0 e var : Int} {T : List Int} {S : PS} {ps : List Part} {ops eo : List Op} {tl : Tl} {lo hi : Nat}
/-- the failed end -/
theorem EP.fl {y : Int × AS} {w : Int × TT} (h : FlR T N0 U0 z (k + 1) S y.2 w.2) (h0 : w.1 = 0) (hE : EfW N0 σ y.2) (hF : PtF τ w.2) (he : elQ y.2 y.1) : EP T N0 U0 z k σ τ q ps ops y w := ⟨hE, hF, he, Or.inr ⟨h0, S, h⟩⟩
theorem flR_cannot (hO : OKB T σ τ q S) (h : ShP T N0 U0 σ' z k q S) (hc : CF1 σ' (if tkC T q = 50 then 1 else 2) q) : FlR T N0 U0 z k S σ' (sa (sa τ 1022 17 2) 1022 18 q) := by
  refine ⟨q, h, ?_⟩
  rw [flw_sa.1, flw_sa.2]
  rw [if_neg hO.2.1.2.2.2.2.1] at hc
  exact Or.inl hc
theorem fgF_flw {a b : Int} : FgF τ (sa (sa τ 1022 17 a) 1022 18 b) := (FgF.sa (by omega)).trans (FgF.sa (by omega))
theorem lk_206 (hn : 1000000 ≤ n) (hb : BtOk T) (h : ShP T N0 U0 σ z k q S) (hI : EI T N0 σ τ q S ps ops l2)
    (h45 : (l4 = 0 ∧ l5 = 0 ∧ lo = 1 ∧ hi = 1) ∨ (l2 = -1 ∧ l4 = lo ∧ l5 = hi)) (hlh : 1 ≤ lo ∧ lo ≤ hi ∧ hi ≤ 4) (hE0 : EfW N0 σ0 σ) (hF0 : PtF τ0 τ) (hq : q0 ≤ q) :
    Wp (f_X3_edge_206 n 1007 l1 l2 l3 lo hi 0 σ) fun y => Wp (g_X7_edgeText_189 n 1022 l1 l2 l3 l4 l5 0 τ) fun w => EP T N0 U0 z k σ0 τ0 q0 ps ops y w := by
  have o1 := hI.1.1.1.1
  have o2 := hI.1.1.1.2.1
  have h7 := h.2.2.2.2.1
  unfold f_X3_edge_206 g_X7_edgeText_189
  refine wp_pos rfl (wp_gd h7.1 ?_)
  by_cases c : tkC T q = 39
  · refine wp_c0 (wp_mono (need_yes hn hb h (r := 23) (C := 39) (by decide) (by unfold spC; omega) o1 c) fun σ1 h1 => ?_)
    obtain ⟨s1, E1, J1⟩ := h1
    refine wp_swap (wp_pos (by rw [o2.2.1]; exact c) (wp_swap ?_))
    exact lk_edEnd hn hb h hI s1 E1 J1 h45 hlh hE0 hF0 hq
  · refine wp_c0 (wp_mono (need_no hn hb h (r := 23) (C := 39) (by decide) (by unfold spC; omega) o1 c) fun σ1 h1 => ?_)
    obtain ⟨s1, E1, J1⟩ := h1
    refine wp_swap (wp_neg (by rw [o2.2.1]; exact c) (wp_pos rfl ?_))
    rw [ok_cannot hI.1.1.1, t1_at]
    refine wp_gd (by decide) (wp_ok ?_)
    exact wp_mono (e219_fail (flR_cannot hI.1.1.1 s1 J1)) fun y hy => EP.fl hy.1 rfl (hE0.trans (E1.trans hy.2.1).w) (hF0.trans fgF_flw.pt) hy.2.2
theorem lk_182 (hn : 1000000 ≤ n) (hb : BtOk T) (h : ShP T N0 U0 σ z k q S) (hI : EI T N0 σ τ q S ps ops l2)
    (h45 : (l4 = 0 ∧ l5 = 0 ∧ lo = 1 ∧ hi = 1) ∨ (l2 = -1 ∧ l4 = lo ∧ l5 = hi)) (hlh : 1 ≤ lo ∧ lo ≤ hi ∧ hi ≤ 4) (hE0 : EfW N0 σ0 σ) (hF0 : PtF τ0 τ) (hq : q0 ≤ q) :
    Wp (f_X3_edge_182 n 1007 l1 l2 l3 lo hi σ) fun y => Wp (g_X7_edgeText_160 n 1022 l1 l2 l3 l4 l5 τ) fun w => EP T N0 U0 z k σ0 τ0 q0 ps ops y w := by
  have h7 := h.2.2.2.2.1
  unfold f_X3_edge_182 g_X7_edgeText_160 f_X3_edge_205 g_X7_edgeText_188
  refine wp_gd h7.1 (wp_c0 (wp_mono (lk_need hn hb h hI.1.1.1 (r := 33) (C := 33) (by decide) (by unfold spC; omega)) fun σ1 h1 => wp_swap (wp_t1 (wp_mono h1 fun w hw => ?_))))
  obtain ⟨w1, w2, w3⟩ := hw
  rcases w3 with ⟨u1, u2, q1, u3, u4, u5⟩ | ⟨u1, u2⟩
  · have hI1 := hI.step u5 w1 w2.fg
    have hE1 := hE0.trans w1.w
    have hF1 := hF0.trans w2.pt
    have o2 := u5.2.1
    refine wp_neg (by omega) (wp_swap ?_)
    refine wp_ite (fun c1 => ?_) fun c1 => ?_
    · refine wp_gd u4.2.2.2.2.1.1 ?_
      by_cases c : tkC T q1 = 40
      · refine wp_c1 (wp_mono (takes_yes hn hb u4 (r := 35) (C := 40) (by decide) (by unfold spC; omega) u5.1 c) fun y hy => ?_)
        obtain ⟨y1, y2, y3, y4⟩ := hy
        refine wp_neg (by omega) ?_
        unfold f_X3_edge_206
        refine wp_neg (by decide) (wp_swap (wp_pos c1 (wp_pos (by rw [o2.2.1]; exact c) ?_)))
        unfold g_X7_edgeText_189
        refine wp_neg (by rw [o2.2.1, c]; decide) (wp_neg (by decide) (wp_swap ?_))
        exact lk_edEnd hn hb u4 hI1 y2 y3 y4 h45 hlh hE1 hF1 (by omega)
      · refine wp_c1e (takes_no hn hb u4 (r := 35) (C := 40) (by decide) (by unfold spC; omega) fun _ => c) (wp_pos rfl (wp_swap (wp_pos c1 (wp_neg (by rw [o2.2.1]; exact c) (wp_swap ?_)))))
        exact lk_206 hn hb u4 hI1 h45 hlh hE1 hF1 (by omega)
    · refine wp_swap (wp_neg c1 (wp_swap ?_))
      exact lk_206 hn hb u4 hI1 h45 hlh hE1 hF1 (by omega)
  · refine wp_pos u1 (wp_ok ?_)
    have fin : ∀ m : Option (Int × AS), (Wp m fun y => FlR T N0 U0 z (k + 1) S y.2 w.2 ∧ Eff N0 σ1 y.2 ∧ elQ y.2 y.1) → Wp m fun y => EP T N0 U0 z k σ0 τ0 q0 ps ops y (0, w.2) := fun m hm => wp_mono hm fun y hy => EP.fl hy.1 rfl (hE0.trans (w1.trans hy.2.1).w) (hF0.trans w2.pt) hy.2.2
    refine wp_ite (fun c1 => wp_gd u2.g (wp_c1e (u2.takes hn hb (r := 35) (C := 40) (by decide) (by unfold spC; omega)) (wp_pos rfl (fin _ (e206_fail hn hb u2))))) fun _ => fin _ (e206_fail hn hb u2)
end EJ
