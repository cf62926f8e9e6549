/-! AN EDGE, side by side: hops; its name -/
set_option maxRecDepth 100000
section EK
variable {σ σ0 σ' : AS} {τ τ0 τ' : TT} {n : Nat} {N0 U0 z k q q0 q' c p v l r C l1 l2 l3 l4 l5 l6 s0 e var : Int} {T : List Int} {S : PS} {ps : List Part} {ops eo : List Op} {tl : Tl} {lo hi : Nat}
/-- the twin's text of an edge behind its type -/
noncomputable def edHops (n : Nat) (b var ty : Int) (τ65 : TT) : Option (Int × TT) :=
  if (τ65 1022 19) = 37 then (
            if var = (-1) then (
              t1 (g_X7_next n 1022 τ65) fun v75 τ76 =>
              if v75 = 0 then (
                some (0, τ76))
              else (
                t1 (g_X7_isFigure n 1022 1 4 τ76) fun v80 τ81 =>
                if v80 = 0 then (
                  some (0, τ81))
                else (
                  nm (τ81 1022 42) fun u85 =>
                  t1 (g_X7_take n 1022 38 τ81) fun v88 τ89 =>
                  if v88 = 0 then (
                    some (0, τ89))
                  else (
                    t1 (g_X7_isFigure n 1022 u85 4 τ89) fun v93 τ94 =>
                    if v93 = 0 then (
                      some (0, τ94))
                    else (
                      nm (τ94 1022 42) fun u98 =>
                      g_X7_edgeText_160 n 1022 b var ty u85 u98 τ94)))))
            else (
              g_X7_edgeText_160 n 1022 b var ty 0 0 τ65))
          else (
            g_X7_edgeText_160 n 1022 b var ty 0 0 τ65)
theorem lk_133 (hn : 1000000 ≤ n) (hb : BtOk T) (h : ShP T N0 U0 σ z k q S) (hI : EI T N0 σ τ q S ps ops l2) (hE0 : EfW N0 σ0 σ) (hF0 : PtF τ0 τ) (hq : q0 ≤ q) :
    Wp (f_X3_edge_133 n 1007 l1 l2 l3 σ) fun y => Wp (edHops n l1 l2 l3 τ) fun w => EP T N0 U0 z k σ0 τ0 q0 ps ops y w := by
  have o1 := hI.1.1.1.1
  have o2 := hI.1.1.1.2.1
  have h7 := h.2.2.2.2.1
  have one := lk_182 (l1 := l1) (l3 := l3) (l4 := 0) (l5 := 0) (lo := 1) (hi := 1) hn hb h hI (Or.inl ⟨rfl, rfl, rfl, rfl⟩) (by decide) hE0 hF0 hq
  unfold f_X3_edge_133 edHops
  refine wp_ite (fun c2 => ?_) fun c2 => ?_
  · refine wp_gd h7.1 ?_
    by_cases c : tkC T q = 37
    · refine wp_c1 (wp_mono (takes_yes hn hb h (r := 29) (C := 37) (by decide) (by unfold spC; omega) o1 c) fun y hy => ?_)
      obtain ⟨y1, y2, y3, y4⟩ := hy
      refine wp_neg (by omega) (wp_gd y2.2.2.2.2.1.1 (wp_swap (wp_pos (by rw [o2.2.1]; exact c) (wp_pos c2 (wp_t1 (wp_mono (ok_next hn hb h hI.1.1.1 y2 y4) fun w hw => ?_))))))
      obtain ⟨w1, w2⟩ := hw
      have hqn := nxq_le h
      -- all that follows in the failed mode
      have fl182 : ∀ (σ3 : AS) (τ3 : TT) (v v' : Int), FlR T N0 U0 z k S σ3 τ3 → EfW N0 σ0 σ3 → PtF τ0 τ3 → Wp (f_X3_edge_182 n 1007 l1 l2 l3 v v' σ3) fun y => EP T N0 U0 z k σ0 τ0 q0 ps ops y (0, τ3) := fun σ3 τ3 v v' f1 E1 F1 => wp_mono (e182_fail hn hb f1) fun y hy => EP.fl hy.1 rfl (E1.trans hy.2.1.w) F1 hy.2.2
      have flN2 : ∀ (σ3 : AS) (τ3 : TT) (v : Int), FlR T N0 U0 z k S σ3 τ3 → EfW N0 σ0 σ3 → PtF τ0 τ3 → Wp (c1 (f_X3_number n 1007 v 4 σ3) fun v49 σ50 => f_X3_edge_182 n 1007 l1 l2 l3 v v49 σ50) fun y => EP T N0 U0 z k σ0 τ0 q0 ps ops y (0, τ3) := fun σ3 τ3 v f1 E1 F1 => wp_c1 (wp_mono f1.num fun y hy => fl182 y.2 τ3 v y.1 hy.1 (E1.trans hy.2.w) F1)
      have flNd : ∀ (σ3 : AS) (τ3 : TT) (v : Int), FlR T N0 U0 z k S σ3 τ3 → EfW N0 σ0 σ3 → PtF τ0 τ3 → Wp (c0 (f_X3_need n 1007 31 σ3) fun σ46 => gd (kd σ46 1007 = 18) (c1 (f_X3_number n 1007 v 4 σ46) fun v49 σ50 => f_X3_edge_182 n 1007 l1 l2 l3 v v49 σ50)) fun y => EP T N0 U0 z k σ0 τ0 q0 ps ops y (0, τ3) := fun σ3 τ3 v f1 E1 F1 => wp_c0 (wp_mono (f1.need hn hb (r := 31) (C := 38) (by decide) (by unfold spC; omega)) fun σ4 h4 => wp_gd h4.1.g (flN2 σ4 τ3 v h4.1 (E1.trans h4.2.w) F1))
      rcases w2 with ⟨u1, u2⟩ | ⟨u1, u2⟩
      · have hI1 := hI.step u2 y3 w1.fg
        have hE1 := hE0.trans y3.w
        have hF1 := hF0.trans w1.pt
        refine wp_neg (by omega) (wp_swap ?_)
        refine wp_join (lk_number hn hb y2 u2 (lo := 1) (hi := 4) (by decide) (by decide)) fun p p' hp => ?_
        obtain ⟨p1, p2, p3⟩ := hp
        rcases p3 with ⟨a1, a2, a3, a4, q1, a5, a6, a7⟩ | ⟨a1, a2⟩
        · have hI2 := hI1.step a7 p1 p2
          have hE2 := hE1.trans p1.w
          have hF2 := hF1.trans p2.pt
          refine wp_gd a6.2.2.2.2.1.1 (wp_swap (wp_neg (by omega) ?_))
          rw [nm_eq]
          refine wp_swap (wp_join0 (lk_need hn hb a6 a7 (r := 31) (C := 38) (by decide) (by unfold spC; omega)) fun σ3 w3 h3 => ?_)
          obtain ⟨b1, b2, b3⟩ := h3
          rcases b3 with ⟨d1, d2, q2, d3, d4, d5⟩ | ⟨d1, d2⟩
          · have hI3 := hI2.step d5 b1 b2.fg
            have hE3 := hE2.trans b1.w
            have hF3 := hF2.trans b2.pt
            refine wp_gd d4.2.2.2.2.1.1 (wp_swap (wp_neg (by omega) (wp_swap ?_)))
            rw [← a2]
            refine wp_join (lk_number hn hb d4 d5 (lo := p.1) (hi := 4) (by omega) (by decide)) fun p3 p3' hp3 => ?_
            obtain ⟨g1, g2, g3⟩ := hp3
            rcases g3 with ⟨x1, x2, x3, x4, q3, x5, x6, x7⟩ | ⟨x1, x2⟩
            · have hI4 := hI3.step x7 g1 g2
              refine wp_swap (wp_neg (by omega) ?_)
              rw [nm_eq, ← x2]
              have e1 : p.1 = ((p.1.toNat : Nat) : Int) := by omega
              have e2 : p3.1 = ((p3.1.toNat : Nat) : Int) := by omega
              have := lk_182 (l1 := l1) (l3 := l3) (l4 := p.1) (l5 := p3.1) (lo := p.1.toNat) (hi := p3.1.toNat) (q0 := q0) hn hb x6 hI4 (Or.inr ⟨c2, e1, e2⟩) ⟨by omega, by omega, by omega⟩ (hE3.trans g1.w) (hF3.trans g2.pt) (by omega)
              rw [← e1, ← e2] at this
              exact wp_swap this
            · refine wp_swap (wp_pos x1 (wp_ok ?_))
              exact fl182 p3.2 p3'.2 p.1 p3.1 x2 (hE3.trans g1.w) (hF3.trans g2.pt)
          · refine wp_gd d2.g (wp_swap (wp_pos d1 (wp_ok ?_)))
            exact flN2 σ3 w3.2 p.1 d2 (hE2.trans b1.w) (hF2.trans b2.pt)
        · refine wp_gd a2.g (wp_swap (wp_pos a1 (wp_ok ?_)))
          exact flNd p.2 p'.2 p.1 a2 (hE1.trans p1.w) (hF1.trans p2.pt)
      · refine wp_pos u1 (wp_ok ?_)
        refine wp_c1 (wp_mono u2.num fun y' hy' => wp_gd hy'.1.g ?_)
        exact flNd y'.2 w.2 y'.1 hy'.1 (hE0.trans (y3.trans hy'.2).w) (hF0.trans w1.pt)
    · refine wp_c1e (takes_no hn hb h (r := 29) (C := 37) (by decide) (by unfold spC; omega) fun _ => c) (wp_pos rfl (wp_swap (wp_neg (by rw [o2.2.1]; exact c) (wp_swap one))))
  · refine wp_swap (wp_ite (fun _ => ?_) fun _ => wp_swap one)
    exact wp_neg c2 (wp_swap one)
end EK
