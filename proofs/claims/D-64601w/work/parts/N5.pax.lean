/-! READ, side by side: order by -/
set_option maxRecDepth 100000
noncomputable def rdOrd (n : Nat) (M : Int) (σ54 : AS) : Option (Int × AS) :=
  gd (kd σ54 1007 = 18) <|
  c1 (f_X3_takes n 1007 67 σ54) fun v57 σ58 =>
  if v57 = 0 then (
    f_X3_read_118 n 1007 σ58)
  else (
    gd (kd σ58 1007 = 18) <|
    c0 (f_X3_orders n 1007 M σ58) fun σ63 =>
    f_X3_read_118 n 1007 σ63)
noncomputable def twOrd (n : Nat) (τ86 : TT) : Option (Int × TT) :=
          if (τ86 1022 19) = 16 then (
            t1 (g_X7_next n 1022 τ86) fun v92 τ93 =>
            if v92 = 0 then (
              some (0, τ93))
            else (
              t1 (g_X7_take n 1022 17 τ93) fun v97 τ98 =>
              if v97 = 0 then (
                some (0, τ98))
              else (
                t1 (g_X7_orderTexts n 1022 τ98) fun v102 τ103 =>
                if v102 = 0 then (
                  some (0, τ103))
                else (
                  g_X7_question_128 n 1022 τ103))))
          else (
            g_X7_question_128 n 1022 τ86)
def R80 (T : List Int) (N0 U0 k : Int) (σ : AS) (τ : TT) (S : PS) (M : Nat) (cs : List Cnd) (its : List Trm) (y : Int × AS) (w : Int × TT) : Prop :=
  EfY N0 σ y.2 ∧ RdF τ w.2 ∧ ((w.1 = 1 ∧ y.1 = N0 ∧ ∃ q' S' os, ShP T N0 U0 y.2 0 k q' S' ∧ (∀ i, i ≠ 4 → S'.2 i = S.2 i) ∧ OKO T N0 y.2 w.2 q' S' M cs its os ∧ S.1.1.length ≤ S'.1.1.length ∧ (∀ i : Nat, i < S.1.1.length → w.2 1036 i = τ 1036 i) ∧ ld y.2 1007 5 = 0 ∧ limR (ld y.2 N0 8) (w.2 1022 40) ∧ ld y.2 N0 7 = ld σ N0 7 ∧ w.2 1022 39 = τ 1022 39) ∨ RdL T N0 U0 (k + 3) y w)
section RG
variable {σ σ0 σ1 σ2 σ3 σ' : AS} {τ τ0 τ' : TT} {n M : Nat} {N0 U0 z z' k q q0 q' p v l r C l1 l2 l4 l5 e var x a b c s0 hc : Int} {T : List Int} {S S' : PS} {cs : List Cnd} {its : List Trm} {os : List Odr} {t : Trm}
theorem orders_42 {n : Nat} {x s h : Int} : f_X3_orders_42 n 1007 x s h σ = f_X3_orders_43 n n 1007 x s h σ := rfl
theorem orders_19_no (hg : kd σ 1007 = 18) (hc : ld σ 1007 3 ≠ 0) {s : Int} : f_X3_orders_19 n 1007 x s σ = f_X3_orders_43 n n 1007 x s 0 σ := by
  unfold f_X3_orders_19 f_X3_orders_41 f_X3_orders_42
  rw [gd_pos hg, if_neg hc]
theorem orders_19_yes (hn : 1000000 ≤ n) (h : ShP T N0 U0 σ z k q S) (hA : IsAt σ (S.2 3) its) (h8 : its.length ≤ 20) (hc : ld σ 1007 3 = 0) {s : Int} : f_X3_orders_19 n 1007 x s σ = f_X3_orders_43 n n 1007 x s (hcI its) σ := by
  obtain ⟨g1, g2, g3, g4, g5, g6, g7⟩ := h.nN
  have h7 := h.2.2.2.2.1.1
  unfold f_X3_orders_19 f_X3_orders_41 f_X3_orders_42
  rw [gd_pos h7, if_pos hc, gd_pos h7, g3, gd_pos g4, counts_eq hn h hA h8, c1_at]
  have := hcI_rng (its := its)
  by_cases c : hcI its = 0
  · rw [if_pos c, c]
  · rw [if_neg c, show hcI its = 1 by omega]
/-- orders where no order is read: a fault stands behind "by" -/
theorem ordersW_fail (hn : 1000000 ≤ n) (hb : BtOk T) (h : FlR T N0 U0 0 k S σ τ) (hA : IsAt σ (S.2 3) its) (h8 : its.length ≤ 20) : Wp (gd (kd σ 1007 = 18) (if ld σ 1007 3 = 0 then f_X3_orders_19 n 1007 x 1 σ else f_X3_orders_19 n 1007 x 0 σ)) fun σ' => Fl T N0 U0 1 (k + 1) σ' τ ∧ EfX N0 σ σ' := by
  obtain ⟨n1, hn1⟩ : ∃ n1, n = n1 + 2 := ⟨n - 2, by omega⟩
  refine wp_gd h.g (wp_ite (fun c0 => ?_) fun c0 => ?_)
  · obtain ⟨q, h1, h2⟩ := id h
    rw [orders_19_yes hn h1 hA h8 c0]
    have key := orders_fail (x := x) hn hb h (by decide) (Q := n1) (hc := hcI its)
    rw [← hn1] at key
    exact key
  · rw [orders_19_no h.g c0]
    have e : f_X3_orders_43 n n 1007 x 0 0 σ = some σ := by
      have := orders_0 (n := n) (x := x) (σ := σ) (Q := n1 + 1) (h := 0)
      rw [show n1 + 1 + 1 = n by omega] at this
      exact this
    exact wp_of_eq e ⟨⟨S, (h.mono (by omega)).monoz (by decide)⟩, EfX.rf⟩
theorem lk_ord (hn : 1000000 ≤ n) (hb : BtOk T) (h : ShP T N0 U0 σ 0 k q S) (hO : OKI T N0 σ τ q S M cs its) (hS4 : S.2 4 = []) (h38 : τ 1022 38 = 0) (hl8 : ld σ N0 8 = 2147483647) (hl40 : τ 1022 40 = 100000) : Wp (rdOrd n M σ) fun y => Wp (twOrd n τ) fun w => R80 T N0 U0 k σ τ S M cs its y w := by
  obtain ⟨hC, hA, hT, h8, hV⟩ := id hO
  have h7 := h.2.2.2.2.1.1
  have hW := hC.1
  have o1 := hW.1.1
  have o2 := hW.1.2.1
  -- behind the orders
  have fin : ∀ (σ1 : AS) (τ1 : TT) (q1 : Int) (S1 : PS) (os : List Odr), ShP T N0 U0 σ1 0 k q1 S1 → (∀ i, i ≠ 4 → S1.2 i = S.2 i) → OKO T N0 σ1 τ1 q1 S1 M cs its os → S.1.1.length ≤ S1.1.1.length → (∀ i : Nat, i < S.1.1.length → τ1 1036 i = τ 1036 i) → EfX N0 σ σ1 → RdF τ τ1 → τ1 1022 39 = τ 1022 39 → τ1 1022 40 = 100000 → Wp (f_X3_read_118 n 1007 σ1) fun y => Wp (g_X7_question_128 n 1022 τ1) fun w => R80 T N0 U0 k σ τ S M cs its y w := fun σ1 τ1 q1 S1 os b1 b2 b3 b4 b5 b6 b7 b8 b9 => by
    refine wp_mono (lk_118 hn hb b1 b3.1.1.1.1 (by rw [b6.2.2.1]; exact hl8) b9) fun y hy => wp_mono hy fun w hw => ?_
    obtain ⟨d1, d2, d3⟩ := hw
    refine ⟨b6.y.trans d1, b7.trans d2.rd, ?_⟩
    rcases d3 with ⟨x1, x2, q9, x3, x4, x5, x6, x7⟩ | ⟨x1, x2, ⟨q9, S9, x3⟩, x4⟩
    · have hW9 : OKW T y.2 w.2 q9 S1 M := ⟨x4, b3.1.1.1.2.1, fun i hi => by rw [d2 _ _ (by omega)]; exact b3.1.1.1.2.2 i hi⟩
      refine Or.inl ⟨x1, x2, q9, S1, os, x3, b2, b3.move hW9 ⟨rfl, rfl, rfl⟩ d1.1 d1.2.2 ⟨d2 _ _ (by omega), d2 _ _ (by omega), d2 _ _ (by omega)⟩ (fun j => ⟨d2 _ _ (by omega), d2 _ _ (by omega), d2 _ _ (by omega)⟩), b4, fun i hi => by rw [d2 _ _ (by omega)]; exact b5 i hi, x5, x6, by rw [x7, b6.2.2.1], by rw [d2 _ _ (by omega)]; exact b8⟩
    · exact Or.inr ⟨x1, x2, ⟨q9, S9, x3.mono (by omega)⟩, x4⟩
  -- the failed end
  have finL : ∀ (σ1 : AS) (τ1 : TT) (S1 : PS), FlR T N0 U0 1 (k + 3) S1 σ1 τ1 → EfX N0 σ σ1 → RdF τ τ1 → Wp (f_X3_read_118 n 1007 σ1) fun y => R80 T N0 U0 k σ τ S M cs its y (0, τ1) := fun σ1 τ1 S1 f1 E1 F1 => by
    refine wp_mono (r118_fail hn hb f1) fun y hy => ?_
    obtain ⟨y1, ⟨q4, y2⟩, y3, y4⟩ := hy
    exact ⟨E1.y.trans y4.y, F1, Or.inr ⟨rfl, y1, ⟨q4, S1, y2.monoz (by decide)⟩, y3.1, y3.2.1, y3.2.2⟩⟩
  have hOO : OKO T N0 σ τ q S M cs its [] := ⟨hO, ⟨by rw [hS4]; rfl, fun i hi => absurd hi (by simp)⟩, ⟨by rw [h38]; rfl, fun i hi => absurd hi (by simp)⟩, by simp, fun _ o ho => absurd ho (by simp)⟩
  unfold rdOrd twOrd
  refine wp_gd h7 ?_
  by_cases c : tkC T q = 16
  · refine wp_c1 (wp_mono (takes_yes hn hb h (r := 67) (C := 16) (by decide) (by unfold spC; omega) o1 c) fun y hy => ?_)
    obtain ⟨y1, y2, y3, y4⟩ := hy
    refine wp_neg (by omega) (wp_gd y2.2.2.2.2.1.1 ?_)
    unfold f_X3_orders
    refine wp_swap (wp_pos (by rw [o2.2.1]; exact c) (wp_t1 (wp_mono (ok_next hn hb h hW.1 y2 y4) fun w hw => ?_)))
    obtain ⟨w1, w2⟩ := hw
    rcases w2 with ⟨u1, u2⟩ | ⟨u1, u2⟩
    · refine wp_neg (by omega) (wp_swap (wp_c0 (wp_gd y2.2.2.2.2.1.1 (wp_c0 ?_))))
      refine wp_mono (lk_need hn hb y2 u2 (r := 69) (C := 17) (by decide) (by unfold spC; omega)) fun σ2 h2 => ?_
      obtain ⟨w3, ew3, b1, b2, b3⟩ := h2
      have hA2 : IsAt σ2 (S.2 3) its := hA.pf (y3.1.trans b1.1)
      rcases b3 with ⟨d1, d2, q2, d3, d4, d5⟩ | ⟨d1, d2⟩
      · have hE2 : EfX N0 σ σ2 := (y3.trans b1).x
        have hw2 : ∀ r j, ¬ (r = 1022 ∧ 17 ≤ j ∧ j ≤ 22) → w3.2 r j = τ r j := fun r j hh => (b2 r j (fun u => hh ⟨u.1, by omega⟩)).trans (w1 r j (fun u => hh ⟨u.1, by omega⟩))
        have hW2 : OKW T σ2 w3.2 q2 S M := ⟨d5, hW.2.1, fun i hi => by rw [hw2 _ _ (by omega)]; exact hW.2.2 i hi⟩
        have hO2 : OKO T N0 σ2 w3.2 q2 S M cs its [] := hOO.move hW2 ⟨rfl, rfl, rfl⟩ hE2.1 hE2.2.2.2 ⟨hw2 _ _ (by omega), hw2 _ _ (by omega), hw2 _ _ (by omega)⟩ fun j => ⟨hw2 _ _ (by omega), hw2 _ _ (by omega), hw2 _ _ (by omega)⟩
        obtain ⟨n1, hn1⟩ : ∃ n1, n = n1 + 1 := ⟨n - 1, by omega⟩
        refine wp_gd d4.2.2.2.2.1.1 (wp_pos d5.1 ?_)
        rw [orders_19_yes hn d4 hA2 (by omega) d5.1]
        have J := lk_orders (hc := hcI its) (k := k) (N0 := N0) (U0 := U0) hn hb rfl (m := 9) (Q := n1) (Q' := n) (by simp) (by omega) (by omega) d4 hO2
        rw [← hn1] at J
        refine wp_mono J fun σ3 h3 => ?_
        obtain ⟨w4, ew4, hw4⟩ := h3
        have eT : (t1 (g_X7_orderTexts n 1022 w3.2) fun v102 τ103 => if v102 = 0 then some ((0 : Int), τ103) else g_X7_question_128 n 1022 τ103) = if w4.1 = 0 then some (0, w4.2) else g_X7_question_128 n 1022 w4.2 := by
          unfold g_X7_orderTexts
          rw [ew4]
          rfl
        refine wp_swap (wp_t1e ew3 (wp_neg (by omega) ?_))
        rw [eT]
        rcases hw4 with ⟨x1, q3, S3, os3, c1, c2, c3, c4, c5, c6, c7, c8⟩ | ⟨x1, ⟨S3, c1⟩, c2, c3⟩
        · rw [if_neg (show ¬ w4.1 = 0 by omega)]
          exact wp_swap (fin σ3 w4.2 q3 S3 os3 c2 c3 c4 c5 (fun i hi => by rw [c6 i hi, hw2 _ _ (by omega)]) (hE2.trans c7) (w1.nv.rd.trans (b2.nv.rd.trans c8.rd)) (by rw [c8 _ _ (by omega) (by omega) (by omega), hw2 _ _ (by omega)]) (by rw [c8 _ _ (by omega) (by omega) (by omega), hw2 _ _ (by omega)]; exact hl40))
        · rw [if_pos x1]
          exact wp_ok (finL σ3 w4.2 S3 (c1.mono (by omega)) (hE2.trans c2) (w1.nv.rd.trans (b2.nv.rd.trans c3.rd)))
      · refine wp_mono (ordersW_fail hn hb d2 hA2 (by omega)) fun σ3 h3 => ?_
        obtain ⟨⟨S3, f3⟩, E3⟩ := h3
        refine wp_swap (wp_t1e ew3 (wp_pos d1 (wp_ok ?_)))
        exact finL σ3 w3.2 S3 (f3.mono (by omega)) ((y3.trans b1).x.trans E3) (w1.nv.rd.trans b2.nv.rd)
    · refine wp_pos u1 (wp_ok (wp_c0 (wp_gd u2.g (wp_c0 (wp_mono (u2.need hn hb (r := 69) (C := 17) (by decide) (by unfold spC; omega)) fun σ2 h2 => ?_)))))
      obtain ⟨f2, E2⟩ := h2
      refine wp_mono (ordersW_fail hn hb f2 (hA.pf (y3.1.trans E2.1)) (by omega)) fun σ3 h3 => ?_
      obtain ⟨⟨S3, f3⟩, E3⟩ := h3
      exact finL σ3 w.2 S3 (f3.mono (by omega)) ((y3.trans E2).x.trans E3) w1.nv.rd
  · refine wp_c1e (takes_no hn hb h (r := 67) (C := 16) (by decide) (by unfold spC; omega) fun _ => c) (wp_pos rfl ?_)
    rw [if_neg (show ¬ τ 1022 19 = 16 by rw [o2.2.1]; exact c)]
    exact fin σ τ q S [] h (fun _ _ => rfl) hOO (Nat.le_refl _) (fun _ _ => rfl) EfX.rf RdF.rf rfl hl40
end RG
