/-! SIDE BY SIDE: a key, a name -/
set_option maxRecDepth 100000
section JS
variable {α β : Type} {R : α → β → Prop} {σ σ0 σ' : AS} {τ : TT} {n : Nat} {N0 U0 z k q q' c p v r C lo hi : Int} {T : List Int} {S : PS}
theorem wp_t1r {m : Option (Int × TT)} {kk : Int → TT → Option β} {Q : β → Prop} (h : Wp (t1 m kk) Q) : Wp m fun p => Wp (kk p.1 p.2) Q := by
  obtain ⟨b, e, hb⟩ := h
  obtain ⟨a, s, e1, e2⟩ := t1_some e
  exact ⟨(a, s), e1, b, e2, hb⟩
theorem FlR.num (h : FlR T N0 U0 z k S σ τ) : Wp (f_X3_number n 1007 lo hi σ) fun y => FlR T N0 U0 z k S y.2 τ ∧ Eff N0 σ y.2 := by
  obtain ⟨q, h1, h2⟩ := h
  exact wp_mono (number_fail h1 h2) fun y hy => ⟨⟨q, hy.2.1, Or.inl hy.2.2.2⟩, hy.2.2.1⟩
theorem okb_sa (hO : OKB T σ τ q S) {j v : Int} (hj : j = 42 ∨ j = 41 ∨ j = 43) : OKB T σ (sa τ 1022 j v) q S := by
  obtain ⟨o1, ⟨t1', t2, t3, t4, t5, t6⟩, o3, o4, o5⟩ := hO
  have e : ∀ i, i ≠ j → sa τ 1022 j v 1022 i = τ 1022 i := fun i hi => by rw [sa_at, if_neg (fun w => hi w.2)]
  have e2 : ∀ r i, r ≠ 1022 → sa τ 1022 j v r i = τ r i := fun r i hr => by rw [sa_at, if_neg (fun w => hr w.1)]
  refine ⟨o1, ⟨by rw [e _ (by omega)]; exact t1', by rw [e _ (by omega)]; exact t2, by rw [e _ (by omega)]; exact t3, fun w => by rw [e _ (by omega)]; exact t4 w, t5, t6⟩, ⟨by rw [e _ (by omega)]; exact o3.1, fun i hi => by rw [e2 _ _ (by decide)]; exact o3.2 i hi⟩, ?_, o5.congr (e _ (by omega)) fun i => ⟨e2 _ _ (by decide), e2 _ _ (by decide)⟩⟩
  unfold Lt
  rw [e _ (by omega), e _ (by omega)]
  exact o4
/-- a key: takes ":" and number, beside small -/
theorem lk_small (hn : 1000000 ≤ n) (hb : BtOk T) (h : ShP T N0 U0 σ z k q S) (hO : OKB T σ τ q S) {Kc : Int → AS → Option α} {Kt : Int → TT → Option β}
    (hk : ∀ σ' τ' q' v, ShP T N0 U0 σ' z k q' S → OKB T σ' τ' q' S → τ' 1022 42 = v → -1 ≤ v → v ≤ 31 → Eff N0 σ σ' → FgF τ τ' → q ≤ q' → Wp (Kc v σ') fun a => Wp (Kt 1 τ') fun b => R a b)
    (hf : ∀ σ' τ' v, FlR T N0 U0 z k S σ' τ' → Eff N0 σ σ' → FgF τ τ' → Wp (Kc v σ') fun a => Wp (Kt 0 τ') fun b => R a b) :
    Wp (c1 (f_X3_takes n 1007 19 σ) fun v26 σ27 => if v26 = 0 then Kc (-1) σ27 else gd (kd σ27 1007 = 18) (c1 (f_X3_number n 1007 0 31 σ27) fun v31 σ32 => Kc v31 σ32)) fun a => Wp (t1 (g_X7_small n 1022 τ) Kt) fun b => R a b := by
  have hO2 : OKB T σ (sa τ 1022 42 (-1)) q S := okb_sa hO (Or.inl rfl)
  have F2 : FgF τ (sa τ 1022 42 (-1)) := FgF.sa (by omega)
  by_cases c : tkC T q = 35
  · refine wp_c1 (wp_mono (takes_yes hn hb h (r := 19) (C := 35) (by decide) (by unfold spC; omega) hO.1 c) fun y hy => ?_)
    obtain ⟨y1, y2, y3, y4⟩ := hy
    refine wp_neg (by omega) (wp_gd y2.2.2.2.2.1.1 ?_)
    refine wp_swap ?_
    unfold g_X7_small
    rw [nm_eq]
    have e19 : sa τ 1022 42 (-1) 1022 19 = 35 := by rw [hO2.2.1.2.1]; exact c
    rw [if_pos e19]
    refine wp_t1 (wp_t1 (wp_mono (ok_next hn hb h hO2 y2 y4) fun w hw => ?_))
    obtain ⟨w1, w2⟩ := hw
    rcases w2 with ⟨u1, u2⟩ | ⟨u1, u2⟩
    · refine wp_neg (by omega) (wp_t1r (wp_swap ?_))
      have hle := nxq_le h
      have J : Wp (f_X3_number n 1007 0 31 y.2) fun y' => Wp (t1 (g_X7_isFigure n 1022 0 31 w.2) fun v12 τ13 => if v12 = 0 then some ((0 : Int), τ13) else some ((1 : Int), τ13)) fun w' => Eff N0 y.2 y'.2 ∧ FgF w.2 w'.2 ∧ ((w'.1 = 1 ∧ y'.1 = w'.2 1022 42 ∧ 0 ≤ y'.1 ∧ y'.1 ≤ 31 ∧ ∃ q', nxq T q ≤ q' ∧ ShP T N0 U0 y'.2 z k q' S ∧ OKB T y'.2 w'.2 q' S) ∨ (w'.1 = 0 ∧ FlR T N0 U0 z k S y'.2 w'.2)) := by
        refine wp_mono (lk_number hn hb y2 u2 (lo := 0) (hi := 31) (by decide) (by decide)) fun y' hy' => wp_t1 (wp_mono hy' fun w' hw' => ?_)
        obtain ⟨v1, v2, v3⟩ := hw'
        rcases v3 with ⟨a1, a2⟩ | ⟨a1, a2⟩
        · exact wp_neg (by omega) (wp_ok ⟨v1, v2, Or.inl ⟨rfl, a2⟩⟩)
        · exact wp_pos a1 (wp_ok ⟨v1, v2, Or.inr ⟨rfl, a2⟩⟩)
      refine wp_join J fun y' w' hw' => ?_
      obtain ⟨v1, v2, v3⟩ := hw'
      rcases v3 with ⟨a1, a2, a3, a4, q', a5, a6, a7⟩ | ⟨a1, a2⟩
      · rw [a1]
        exact hk y'.2 w'.2 q' y'.1 a6 a7 a2.symm (by omega) a4 (y3.trans v1) ((F2.trans w1.fg).trans v2) (by omega)
      · rw [a1]
        exact hf y'.2 w'.2 y'.1 a2 (y3.trans v1) ((F2.trans w1.fg).trans v2)
    · refine wp_pos u1 (wp_ok (wp_swap ?_))
      exact wp_c1 (wp_mono u2.num fun y' hy' => hf y'.2 w.2 y'.1 hy'.1 (y3.trans hy'.2) (F2.trans w1.fg))
  · refine wp_c1e (takes_no hn hb h (r := 19) (C := 35) (by decide) (by unfold spC; omega) fun _ => c) (wp_pos rfl ?_)
    refine wp_swap ?_
    unfold g_X7_small
    rw [nm_eq]
    have e19 : sa τ 1022 42 (-1) 1022 19 ≠ 35 := by rw [hO2.2.1.2.1]; exact c
    rw [if_neg e19, t1_at]
    exact wp_swap (hk σ _ q (-1) h hO2 (by rw [sa_at, if_pos ⟨rfl, rfl⟩]) (by decide) (by decide) Eff.rf F2 (Int.le_refl _))
/-- the fail law of a key -/
theorem small_fail (hn : 1000000 ≤ n) (hb : BtOk T) (h : FlR T N0 U0 z k S σ τ) {Kc : Int → AS → Option α} {Q : α → Prop}
    (hf : ∀ σ' v, FlR T N0 U0 z k S σ' τ → Eff N0 σ σ' → Wp (Kc v σ') Q) :
    Wp (c1 (f_X3_takes n 1007 19 σ) fun v26 σ27 => if v26 = 0 then Kc (-1) σ27 else gd (kd σ27 1007 = 18) (c1 (f_X3_number n 1007 0 31 σ27) fun v31 σ32 => Kc v31 σ32)) Q := by
  obtain ⟨q, h1, h2⟩ := id h
  exact wp_c1e (takes_fail hn hb h1 (r := 19) (C := 35) (by decide) (by unfold spC; omega) h2) (wp_pos rfl (hf σ (-1) h Eff.rf))
/-- need, beside take -/
theorem lk_need (hn : 1000000 ≤ n) (hb : BtOk T) (h : ShP T N0 U0 σ z k q S) (hO : OKB T σ τ q S) (hm : (r, sp C) ∈ cstr) (hC : spC C) : Wp (f_X3_need n 1007 r σ) fun σ' => Wp (g_X7_take n 1022 C τ) fun w => Eff N0 σ σ' ∧ LxF τ w.2 ∧ ((w.1 = 1 ∧ tkC T q = C ∧ ∃ q', q ≤ q' ∧ ShP T N0 U0 σ' z k q' S ∧ OKB T σ' w.2 q' S) ∨ (w.1 = 0 ∧ FlR T N0 U0 z k S σ' w.2)) := by
  unfold g_X7_take
  by_cases c : tkC T q = C
  · refine wp_mono (need_yes hn hb h hm hC hO.1 c) fun σ' hy => ?_
    obtain ⟨y1, y2, y3⟩ := hy
    refine wp_pos (by rw [hO.2.1.2.1]; exact c) (wp_t1 (wp_mono (ok_next hn hb h hO y1 y3) fun w hw => ?_))
    obtain ⟨w1, w2⟩ := hw
    refine wp_gd (by rcases w2 with u | u <;> omega) (wp_ok ⟨y2, w1, ?_⟩)
    rcases w2 with ⟨u1, u2⟩ | ⟨u1, u2⟩
    · exact Or.inl ⟨u1, c, nxq T q, nxq_le h, y1, u2⟩
    · exact Or.inr ⟨u1, u2⟩
  · refine wp_mono (need_no hn hb h hm hC hO.1 c) fun σ' hy => ?_
    obtain ⟨y1, y2, y3⟩ := hy
    refine wp_neg (by rw [hO.2.1.2.1]; exact c) ?_
    rw [ok_cannot hO, t1_at]
    refine wp_gd (by decide) (wp_ok ⟨y2, (LxF.sa (by omega)).trans (LxF.sa (by omega)), Or.inr ⟨rfl, q, y1, ?_⟩⟩)
    show CF T q σ' (sa (sa τ 1022 17 2) 1022 18 q 1022 17) (sa (sa τ 1022 17 2) 1022 18 q 1022 18)
    rw [flw_sa.1, flw_sa.2]
    rw [if_neg hO.2.1.2.2.2.2.1] at y3
    exact Or.inl y3
theorem FlR.need (hn : 1000000 ≤ n) (hb : BtOk T) (h : FlR T N0 U0 z k S σ τ) (hm : (r, sp C) ∈ cstr) (hC : spC C) : Wp (f_X3_need n 1007 r σ) fun σ' => FlR T N0 U0 z k S σ' τ ∧ Eff N0 σ σ' := by
  obtain ⟨q, h1, h2⟩ := h
  exact wp_mono (need_fail hn hb h1 hm hC h2) fun σ' hy => ⟨⟨q, hy.1, Or.inl hy.2.2⟩, hy.2.1⟩
end JS
