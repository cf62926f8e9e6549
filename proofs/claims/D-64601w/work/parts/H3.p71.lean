/-! THE TWIN'S LEXER: signs, words, the next token -/
set_option maxRecDepth 100000
def two (C : Int) : Prop := C = 38 ∨ C = 40 ∨ C = 41 ∨ C = 43 ∨ C = 45 ∨ C = 47
section TW4
variable {τ τ0 : TT} {T : List Int} {n : Nat} {p q : Int}
def SgQ (q C : Int) (τ0 : TT) (y : Int × TT) : Prop := (C ≠ 50 → y.1 = 1 ∧ y.2 1022 20 = q ∧ y.2 1022 19 = C ∧ (two C → y.2 1022 21 = q + 2) ∧ (¬ two C → y.2 1022 21 = q + 1)) ∧ (C = 50 → y.1 = 0 ∧ Flw y.2 1 q) ∧ LxF τ0 y.2
theorem sgn_525 {C w : Int} (hC : τ 1022 19 = C) (hq : τ 1022 20 = q) (he : τ 1022 21 = q + 1) (h0 : 0 ≤ q ∧ q < 2000) (hF : LxF τ0 τ) (hw : (two C → w = 1) ∧ (¬ two C → w = 0)) : Wp (g_X7_next_525 n 1022 1022 (q + 1) w τ) (SgQ q C τ0) := by
  have hw2 : w = 0 ∨ w = 1 := by
    by_cases z : two C
    · exact Or.inr (hw.1 z)
    · exact Or.inl (hw.2 z)
  unfold g_X7_next_525
  refine wp_gI (by omega) (wp_nm0 ?_)
  have e19 : sa τ 1022 21 (q + 1 + w) 1022 19 = C := by simp [sa_at, hC]
  have e20 : sa τ 1022 21 (q + 1 + w) 1022 20 = q := by simp [sa_at, hq]
  have e21 : sa τ 1022 21 (q + 1 + w) 1022 21 = q + 1 + w := by simp [sa_at]
  have F1 : LxF τ0 (sa τ 1022 21 (q + 1 + w)) := hF.trans (LxF.sa (by omega))
  rw [e19, e20]
  by_cases c : C = 50
  · refine wp_pos c ?_
    unfold g_X7_flaw
    rw [nm_eq, nm_eq, t1_at, if_pos rfl]
    exact wp_ok ⟨fun w => absurd c w, fun _ => ⟨rfl, by simp [sa_at], by simp [sa_at]⟩, (F1.trans (LxF.sa (by omega))).trans (LxF.sa (by omega))⟩
  · refine wp_neg c (wp_ok ⟨fun _ => ⟨rfl, e20, e19, fun z => ?_, fun z => ?_⟩, fun w => absurd w c, F1⟩)
    · show sa τ 1022 21 (q + 1 + w) 1022 21 = q + 2
      rw [e21, hw.1 z]; omega
    · show sa τ 1022 21 (q + 1 + w) 1022 21 = q + 1
      rw [e21, hw.2 z]; omega
theorem sgn_461 {C : Int} (hC : τ 1022 19 = C) (hq : τ 1022 20 = q) (he : τ 1022 21 = q + 1) (h0 : 0 ≤ q ∧ q < 2000) (hF : LxF τ0 τ) : Wp (g_X7_next_461 n 1022 τ) (SgQ q C τ0) := by
  unfold g_X7_next_461 g_X7_next_520
  rw [hC, he]
  have K1 : two C → Wp (g_X7_next_525 n 1022 1022 (q + 1) 1 τ) (SgQ q C τ0) := fun z => sgn_525 hC hq he h0 hF ⟨fun _ => rfl, fun w => absurd z w⟩
  refine wp_ite (fun z => K1 (by unfold two; omega)) fun z1 => ?_
  refine wp_ite (fun z => K1 (by unfold two; omega)) fun z2 => ?_
  refine wp_ite (fun z => K1 (by unfold two; omega)) fun z3 => ?_
  refine wp_ite (fun z => K1 (by unfold two; omega)) fun z4 => ?_
  refine wp_ite (fun z => K1 (by unfold two; omega)) fun z5 => ?_
  refine wp_ite (fun z => K1 (by unfold two; omega)) fun z6 => ?_
  exact sgn_525 hC hq he h0 hF ⟨fun w => by unfold two at w; omega, fun _ => rfl⟩
theorem sgn_458 {C : Int} (hq : τ 1022 20 = q) (he : τ 1022 21 = q + 1) (h0 : 0 ≤ q ∧ q < 2000) (hF : LxF τ0 τ) : Wp (g_X7_next_458 n (g_X7_next_461 n) 1022 1022 C τ) (SgQ q C τ0) := by
  unfold g_X7_next_458
  exact wp_nm0 (sgn_461 (by simp [sa_at]) (by simp [sa_at, hq]) (by simp [sa_at, he]) h0 (hF.trans (LxF.sa (by omega))))
theorem sgn_362a {C c d : Int} (hC : C ≠ 0) (hq : τ 1022 20 = q) (he : τ 1022 21 = q + 1) (h0 : 0 ≤ q ∧ q < 2000) (hF : LxF τ0 τ) : Wp (g_X7_next_362 n 1022 c d 1022 C τ) (SgQ q C τ0) := by
  unfold g_X7_next_362
  refine wp_nm0 (wp_neg (by simp [sa_at]; exact hC) (sgn_461 (by simp [sa_at]) (by simp [sa_at, hq]) (by simp [sa_at, he]) h0 (hF.trans (LxF.sa (by omega)))))
theorem tw_sign {c d : Int} (hT : TpT τ T) (hb : BtOk T) (hc : bt T q = c) (hd : bt T (q + 1) = d) (hq : τ 1022 20 = q) (he : τ 1022 21 = q + 1) (h0 : 0 ≤ q ∧ q < 2000) : Wp (g_X7_next_230 n 1022 (ub c) τ) (SgQ q (sgn c d) τ) := by
  have rc := hb.2 q
  have rd := hb.2 (q + 1)
  rw [hc] at rc
  rw [hd] at rd
  unfold g_X7_next_230
  rw [he, at_eq hT hb (by omega), t1_at, hd]
  have K : ∀ C, C ≠ 0 → sgn c d = C → Wp (g_X7_next_362 n 1022 (ub c) (ub d) 1022 C τ) (SgQ q (sgn c d) τ) := fun C z e => by
    rw [e]; exact sgn_362a z hq he h0 LxF.rf
  refine wp_ite (fun z => K _ (by decide) ?_) fun z1 => ?_
  · rw [ub_eq rc (by decide)] at z; subst z; rfl
  rw [ub_eq rc (by decide)] at z1
  refine wp_ite (fun z => K _ (by decide) ?_) fun z2 => ?_
  · rw [ub_eq rc (by decide)] at z; subst z; rfl
  rw [ub_eq rc (by decide)] at z2
  refine wp_ite (fun z => K _ (by decide) ?_) fun z3 => ?_
  · rw [ub_eq rc (by decide)] at z; subst z; rfl
  rw [ub_eq rc (by decide)] at z3
  refine wp_ite (fun z => K _ (by decide) ?_) fun z4 => ?_
  · rw [ub_eq rc (by decide)] at z; subst z; rfl
  rw [ub_eq rc (by decide)] at z4
  refine wp_ite (fun z => K _ (by decide) ?_) fun z5 => ?_
  · rw [ub_eq rc (by decide)] at z; subst z; rfl
  rw [ub_eq rc (by decide)] at z5
  refine wp_ite (fun z => K _ (by decide) ?_) fun z6 => ?_
  · rw [ub_eq rc (by decide)] at z; subst z; rfl
  rw [ub_eq rc (by decide)] at z6
  refine wp_ite (fun z => ?_) fun z7 => ?_
  · rw [ub_eq rc (by decide)] at z; subst z
    refine wp_ite (fun w => K _ (by decide) ?_) fun w => K _ (by decide) ?_
    · rw [ub_eq rd (by decide)] at w; subst w; rfl
    · rw [ub_eq rd (by decide)] at w; simp [sgn, sgn2, sgn1, w]
  rw [ub_eq rc (by decide)] at z7
  refine wp_ite (fun z => K _ (by decide) ?_) fun z8 => ?_
  · rw [ub_eq rc (by decide)] at z; subst z; rfl
  rw [ub_eq rc (by decide)] at z8
  refine wp_ite (fun z => ?_) fun z9 => ?_
  · rw [ub_eq rc (by decide)] at z; subst z
    refine wp_ite (fun w => K _ (by decide) ?_) fun w => K _ (by decide) ?_
    · rw [ub_eq rd (by decide)] at w; subst w; rfl
    · rw [ub_eq rd (by decide)] at w; simp [sgn, sgn2, sgn1, w]
  rw [ub_eq rc (by decide)] at z9
  unfold g_X7_next_362
  refine wp_nm0 (wp_pos (by simp [sa_at]) ?_)
  have L : ∀ C, sgn c d = C → Wp (g_X7_next_458 n (g_X7_next_461 n) 1022 1022 C (sa τ 1022 19 0)) (SgQ q (sgn c d) τ) := fun C e => by
    rw [e]
    exact sgn_458 (by simp [sa_at, hq]) (by simp [sa_at, he]) h0 (LxF.sa (by omega))
  refine wp_ite (fun z => L _ ?_) fun z10 => ?_
  · rw [ub_eq rc (by decide)] at z; subst z; rfl
  rw [ub_eq rc (by decide)] at z10
  have M : ¬ (c = 33 ∧ d = 61) → Wp (g_X7_next_401 n (g_X7_next_458 n (g_X7_next_461 n)) 1022 (ub c) (ub d) 1022 (sa τ 1022 19 0)) (SgQ q (sgn c d) τ) := fun w33 => by
    unfold g_X7_next_401
    refine wp_ite (fun z => ?_) fun z11 => ?_
    · rw [ub_eq rc (by decide)] at z; subst z
      refine wp_ite (fun w => L _ ?_) fun w => ?_
      · rw [ub_eq rd (by decide)] at w; subst w; rfl
      rw [ub_eq rd (by decide)] at w
      refine wp_ite (fun w2 => L _ ?_) fun w2 => L _ ?_
      · rw [ub_eq rd (by decide)] at w2; subst w2; rfl
      · rw [ub_eq rd (by decide)] at w2; simp [sgn, sgn2, sgn1, w, w2]
    rw [ub_eq rc (by decide)] at z11
    refine wp_ite (fun z => ?_) fun z12 => L _ ?_
    · rw [ub_eq rc (by decide)] at z; subst z
      refine wp_ite (fun w => L _ ?_) fun w => L _ ?_
      · rw [ub_eq rd (by decide)] at w; subst w; rfl
      · rw [ub_eq rd (by decide)] at w; simp [sgn, sgn2, sgn1, w]
    · rw [ub_eq rc (by decide)] at z12
      simp [sgn, sgn2, sgn1, *]
  refine wp_ite (fun z => ?_) fun z11 => M (fun w => z11 (by rw [w.1]; rfl))
  rw [ub_eq rc (by decide)] at z
  refine wp_ite (fun w => L _ ?_) fun w => M (fun y => w (by rw [y.2]; rfl))
  rw [ub_eq rd (by decide)] at w
  subst z; subst w; rfl
def sOk (x : Int) : Prop := ¬ (x = 38 ∨ x = 40 ∨ x = 41 ∨ x = 43 ∨ x = 45 ∨ x = 47) ∧ 30 ≤ x ∧ x ≤ 50 ∧ (x ≤ 46 ∨ x = 50)
theorem ite_sOk {c : Prop} [Decidable c] {a b : Int} (h : sOk a) (h2 : sOk b) : sOk (if c then a else b) := by
  by_cases z : c
  · rw [if_pos z]; exact h
  · rw [if_neg z]; exact h2
theorem sOk_of {x : Int} (h : x = 30 ∨ x = 31 ∨ x = 32 ∨ x = 33 ∨ x = 34 ∨ x = 35 ∨ x = 36 ∨ x = 37 ∨ x = 39 ∨ x = 42 ∨ x = 44 ∨ x = 46 ∨ x = 50) : sOk x := by
  unfold sOk; omega
theorem sgn1_ok {c : Int} : sOk (sgn1 c) := by
  unfold sgn1
  exact ite_sOk (sOk_of (by omega)) (ite_sOk (sOk_of (by omega)) (ite_sOk (sOk_of (by omega)) (ite_sOk (sOk_of (by omega)) (ite_sOk (sOk_of (by omega)) (ite_sOk (sOk_of (by omega)) (ite_sOk (sOk_of (by omega)) (ite_sOk (sOk_of (by omega)) (ite_sOk (sOk_of (by omega)) (ite_sOk (sOk_of (by omega)) (ite_sOk (sOk_of (by omega)) (ite_sOk (sOk_of (by omega)) (sOk_of (by omega)))))))))))))
def dOk (x : Int) : Prop := x = 0 ∨ two x
theorem ite_dOk {c : Prop} [Decidable c] {a b : Int} (h : dOk a) (h2 : dOk b) : dOk (if c then a else b) := by
  by_cases z : c
  · rw [if_pos z]; exact h
  · rw [if_neg z]; exact h2
theorem dOk_of {x : Int} (h : x = 0 ∨ x = 38 ∨ x = 40 ∨ x = 41 ∨ x = 43 ∨ x = 45 ∨ x = 47) : dOk x := h
theorem sgn2_ok {c d : Int} : dOk (sgn2 c d) := by
  unfold sgn2
  exact ite_dOk (dOk_of (by omega)) (ite_dOk (dOk_of (by omega)) (ite_dOk (dOk_of (by omega)) (ite_dOk (dOk_of (by omega)) (ite_dOk (dOk_of (by omega)) (ite_dOk (dOk_of (by omega)) (dOk_of (by omega)))))))
theorem sgn_two {c d : Int} : (two (sgn c d) ↔ sgn2 c d ≠ 0) := by
  have h1 := sgn1_ok (c := c)
  have h2 := sgn2_ok (c := c) (d := d)
  unfold sgn
  by_cases z : sgn2 c d = 0
  · rw [if_pos z]
    exact ⟨fun w => absurd w h1.1, fun w => absurd z w⟩
  · rw [if_neg z]
    exact ⟨fun _ => z, fun _ => h2.resolve_left z⟩
theorem sgn_rng {c d : Int} : sgn c d ≠ 2 ∧ 30 ≤ sgn c d ∧ sgn c d ≤ 50 := by
  have h1 := (sgn1_ok (c := c)).2
  have h2 := sgn2_ok (c := c) (d := d)
  unfold sgn
  by_cases z : sgn2 c d = 0
  · rw [if_pos z]; omega
  · rw [if_neg z]
    have := h2.resolve_left z
    unfold two at this
    omega
def wOk (x : Int) : Prop := x = 1 ∨ (10 ≤ x ∧ x ≤ 20)
theorem ite_wOk {c : Prop} [Decidable c] {a b : Int} (h : wOk a) (h2 : wOk b) : wOk (if c then a else b) := by
  by_cases z : c
  · rw [if_pos z]; exact h
  · rw [if_neg z]; exact h2
theorem wOk_of {x : Int} (h : x = 1 ∨ (10 ≤ x ∧ x ≤ 20)) : wOk x := h
theorem wcode_rng {w : List Int} : wcode w = 1 ∨ (10 ≤ wcode w ∧ wcode w ≤ 20) := by
  show wOk (wcode w)
  unfold wcode
  exact ite_wOk (wOk_of (by omega)) (ite_wOk (wOk_of (by omega)) (ite_wOk (wOk_of (by omega)) (ite_wOk (wOk_of (by omega)) (ite_wOk (wOk_of (by omega)) (ite_wOk (wOk_of (by omega)) (ite_wOk (wOk_of (by omega)) (ite_wOk (wOk_of (by omega)) (ite_wOk (wOk_of (by omega)) (ite_wOk (wOk_of (by omega)) (ite_wOk (wOk_of (by omega)) (wOk_of (by omega))))))))))))
def NxQ (T : List Int) (q : Int) (τ : TT) (y : Int × TT) : Prop := (tkC T q ≠ 50 → y.1 = 1 ∧ TkT y.2 T q) ∧ (tkC T q = 50 → y.1 = 0 ∧ Flw y.2 1 q) ∧ LxF τ y.2
theorem word_loop (hn : 1000000 ≤ n) (hb : BtOk T) (h0 : 0 ≤ q ∧ q < T.length) (hs : isSm (bt T q) = true) : ∀ (m : Nat) (p : Int) (f : Nat) (τ : TT), m < f → p + m = wdE T q → q + 1 ≤ p → TpT τ T → τ 1022 20 = q → τ 1022 21 = p → LxF τ0 τ → Wp (g_X7_next_136 n f 1022 τ) (NxQ T q τ0)
  | m, p, 0, τ, hf, _, _, _, _, _, _ => absurd hf (by omega)
  | m, p, f + 1, τ, hf, hm, hp, hT, hq, he, hF => by
    have hl := hb.1
    have hle := wdE_le h0.2
    have hin : ∀ i, q + 1 ≤ i → i < wdE T q → isWd (bt T i) = true := fun i a b => adv_in (P := fun i => isWd (bt T i)) a b
    unfold g_X7_next_136
    rw [he, at_eq hT hb (by omega), t1_at, isLetter_eq (hb.2 _), t1_at]
    have step : p < wdE T q → Wp (g_X7_next_164 n (g_X7_next_136 n f) 1022 τ) (NxQ T q τ0) := fun z => by
      cases m with
      | zero => omega
      | succ m =>
        unfold g_X7_next_164
        rw [he]
        exact wp_gI (by omega) (wp_nm0 (word_loop hn hb h0 hs m (p + 1) f _ (by omega) (by omega) (by omega) (hT.lx (LxF.sa (by omega))) (by simp [sa_at, hq]) (by simp [sa_at]) (hF.trans (LxF.sa (by omega)))))
    have stop : isWd (bt T p) ≠ true → p = wdE T q := fun z => by
      apply Classical.byContradiction
      intro w
      exact z (hin p hp (by omega))
    by_cases c1 : isSm (bt T p) = true
    · rw [if_pos c1]
      refine wp_neg (by decide) (step ?_)
      apply Classical.byContradiction
      intro w
      have e : p = wdE T q := by omega
      by_cases c : wdE T q < T.length
      · refine advT_out (P := fun i => isWd (bt T i)) (L := T.length) (p := q + 1) (by omega) c ?_
        show isWd (bt T (wdE T q)) = true
        rw [← e]; unfold isWd; rw [c1]; rfl
      · rw [e, bt_out (by omega)] at c1; exact absurd c1 (by decide)
    · rw [if_neg c1]
      refine wp_pos rfl ?_
      rw [he, at_eq hT hb (by omega), t1_at, isDigit_eq (hb.2 _), t1_at]
      by_cases c2 : isDg (bt T p) = true
      · rw [if_pos c2]
        refine wp_neg (by decide) (step ?_)
        apply Classical.byContradiction
        intro w
        have e : p = wdE T q := by omega
        by_cases c : wdE T q < T.length
        · refine advT_out (P := fun i => isWd (bt T i)) (L := T.length) (p := q + 1) (by omega) c ?_
          show isWd (bt T (wdE T q)) = true
          rw [← e]; unfold isWd; rw [c2, Bool.or_true]
        · rw [e, bt_out (by omega)] at c2; exact absurd c2 (by decide)
      · rw [if_neg c2]
        refine wp_pos rfl ?_
        have e := stop (by unfold isWd; rw [ne_eq, Bool.or_eq_true]; exact fun z => z.elim c1 c2)
        have hw : ∀ i, q ≤ i → i < wdE T q → 1 ≤ bt T i ∧ bt T i ≤ 127 := fun i a b => by
          by_cases z : i = q
          · have := isSm_iff.mp hs; rw [z]; omega
          · have := isWd_iff.mp (hin i (by omega) b); omega
        rw [word_eq hn hT hb hq (by rw [he, e]) ⟨h0.1, by omega⟩ hle.2 hw, t1_at]
        have eC : tkC T q = wcode (slc T q (wdE T q)) := by
          unfold tkC; rw [if_neg (by omega), if_pos hs]
        have eE : tkE T q = wdE T q := by
          unfold tkE; rw [if_neg (by omega), if_pos hs]
        refine wp_nm0 (wp_ok ⟨fun z => ⟨rfl, by simp [sa_at, hq], by simp [sa_at, eC], by simp [sa_at, eE, he, e], fun w => ?_, z, h0.1, by omega⟩, fun w => ?_, hF.trans (LxF.sa (by omega))⟩)
        · have := wcode_rng (w := slc T q (wdE T q)); omega
        · have := wcode_rng (w := slc T q (wdE T q)); omega
theorem tw_next_84 (hn : 1000000 ≤ n) (hb : BtOk T) (hT : TpT τ T) (hq : τ 1022 20 = q) (h0 : 0 ≤ q ∧ q ≤ T.length) (hF : LxF τ0 τ) : Wp (g_X7_next_84 n 1022 τ) (NxQ T q τ0) := by
  have hl := hb.1
  unfold g_X7_next_84
  refine wp_nm0 (wp_nm0 ?_)
  generalize hτ1 : sa (sa τ 1022 21 (τ 1022 20)) 1022 19 0 = τ1
  have F1 : LxF τ τ1 := by rw [← hτ1]; exact (LxF.sa (by omega)).trans (LxF.sa (by omega))
  have T1 := hT.lx F1
  have q1 : τ1 1022 20 = q := by rw [← hτ1]; simp [sa_at, hq]
  have e1 : τ1 1022 21 = q := by rw [← hτ1]; simp [sa_at, hq]
  have k1 : τ1 1022 19 = 0 := by rw [← hτ1]; simp [sa_at]
  rw [q1, T1.1]
  by_cases c : q = T.length
  · refine wp_pos c (wp_ok ⟨fun z => ⟨rfl, q1, ?_, ?_, fun w => ?_, z, h0.1, h0.2⟩, fun w => ?_, hF.trans F1⟩)
    · show τ1 1022 19 = _
      rw [k1]; unfold tkC; rw [if_pos (by omega)]
    · show τ1 1022 21 = _
      rw [e1]; unfold tkE; rw [if_pos (by omega)]
    · unfold tkC at w; rw [if_pos (by omega)] at w; exact absurd w (by decide)
    · unfold tkC at w; rw [if_pos (by omega)] at w; exact absurd w (by decide)
  have hlt : q < T.length := by omega
  refine wp_neg c ?_
  rw [at_eq T1 hb h0.1, t1_at, e1]
  refine wp_gI (by omega) (wp_nm0 ?_)
  generalize hτ2 : sa τ1 1022 21 (q + 1) = τ2
  have F2 : LxF τ1 τ2 := by rw [← hτ2]; exact LxF.sa (by omega)
  have T2 := T1.lx F2
  have q2 : τ2 1022 20 = q := by rw [← hτ2]; simp [sa_at, q1]
  have e2 : τ2 1022 21 = q + 1 := by rw [← hτ2]; simp [sa_at]
  have F02 := (hF.trans F1).trans F2
  rw [isLetter_eq (hb.2 q), t1_at]
  by_cases cs : isSm (bt T q) = true
  · rw [if_pos cs]
    have hle := wdE_le hlt
    exact wp_neg (by decide) (word_loop hn hb ⟨h0.1, hlt⟩ cs (wdE T q - (q + 1)).toNat (q + 1) n τ2 (by omega) (by omega) (by omega) T2 q2 e2 F02)
  rw [if_neg cs]
  refine wp_pos rfl ?_
  rw [isDigit_eq (hb.2 q), t1_at]
  have figs : nmB T q = true → Wp (g_X7_next_214 n 1022 (ub (bt T q)) τ2) (NxQ T q τ0) := fun hN => by
    have eC : tkC T q = if -2147483648 ≤ nmA T q ∧ nmA T q ≤ 2147483647 then 2 else 50 := by
      unfold tkC; rw [if_neg (by omega), if_neg cs, if_pos hN]
    have eE : tkE T q = nmE T q := by
      unfold tkE; rw [if_neg (by omega), if_neg cs, if_pos hN]
    have fin : ∀ neg : Int, neg = (if bt T q = 45 then 1 else 0) → Wp (g_X7_next_226 n 1022 neg τ2) (NxQ T q τ0) := fun neg hneg => by
      unfold g_X7_next_226
      refine wp_t1 (wp_mono (tw_figure hn T2 hb ⟨h0.1, hlt⟩ hN q2 e2 hneg) fun y hy => ?_)
      obtain ⟨y1, y2, y3⟩ := hy
      by_cases ok : nmOk (nmA T q)
      · obtain ⟨a1, a2, a3, a4, a5⟩ := y1 ok
        have eC2 : tkC T q = 2 := by rw [eC]; exact if_pos ok
        refine wp_gd (by omega) (wp_ok ⟨fun z => ⟨a1, a5, by rw [eC2]; exact a2, by rw [eE]; exact a3, fun _ => a4, z, h0.1, h0.2⟩, fun w => by omega, F02.trans y3⟩)
      · obtain ⟨a1, a2⟩ := y2 ok
        have eC2 : tkC T q = 50 := by rw [eC]; exact if_neg ok
        exact wp_gd (by omega) (wp_ok ⟨fun z => absurd eC2 z, fun _ => ⟨a1, a2⟩, F02.trans y3⟩)
    unfold g_X7_next_214
    refine wp_ite (fun z => fin _ ?_) fun z => fin _ ?_
    · rw [ub_eq (hb.2 q) (by decide)] at z; rw [if_pos z]
    · rw [ub_eq (hb.2 q) (by decide)] at z; rw [if_neg z]
  have sgns : nmB T q ≠ true → Wp (g_X7_next_230 n 1022 (ub (bt T q)) τ2) (NxQ T q τ0) := fun hN => by
    have eC : tkC T q = sgn (bt T q) (bt T (q + 1)) := by
      unfold tkC; rw [if_neg (by omega), if_neg cs, if_neg hN]
    have eE : tkE T q = if sgn2 (bt T q) (bt T (q + 1)) = 0 then q + 1 else q + 2 := by
      unfold tkE; rw [if_neg (by omega), if_neg cs, if_neg hN]
    refine wp_mono (tw_sign T2 hb rfl rfl q2 e2 ⟨h0.1, by omega⟩) fun y hy => ?_
    rw [← eC] at hy
    refine ⟨fun z => ?_, fun z => hy.2.1 z, F02.trans hy.2.2⟩
    obtain ⟨a1, a2, a3, a4, a5⟩ := hy.1 z
    refine ⟨a1, a2, a3, ?_, fun w => ?_, z, h0.1, h0.2⟩
    · rw [eE]
      rw [eC] at a4 a5
      by_cases w : sgn2 (bt T q) (bt T (q + 1)) = 0
      · rw [if_pos w]; exact a5 fun y => sgn_two.mp y w
      · rw [if_neg w]; exact a4 (sgn_two.mpr w)
    · rw [eC] at w; exact absurd w sgn_rng.1
  by_cases cd : isDg (bt T q) = true
  · rw [if_pos cd]
    exact wp_neg (by decide) (figs (by unfold nmB; rw [cd]; rfl))
  rw [if_neg cd]
  refine wp_pos rfl ?_
  refine wp_ite (fun z => ?_) fun z => ?_
  · rw [ub_eq (hb.2 q) (by decide)] at z
    rw [e2, at_eq T2 hb (by omega), t1_at, isDigit_eq (hb.2 _), t1_at]
    by_cases cd2 : isDg (bt T (q + 1)) = true
    · rw [if_pos cd2]
      exact wp_neg (by decide) (figs (by unfold nmB; rw [Bool.or_eq_true, Bool.and_eq_true, decide_eq_true_iff]; exact Or.inr ⟨z, cd2⟩))
    · rw [if_neg cd2]
      exact wp_pos rfl (sgns (by unfold nmB; rw [ne_eq, Bool.or_eq_true, Bool.and_eq_true]; exact fun w => w.elim cd fun y => cd2 y.2))
  · rw [ub_eq (hb.2 q) (by decide)] at z
    exact sgns (by unfold nmB; rw [ne_eq, Bool.or_eq_true, Bool.and_eq_true, decide_eq_true_iff]; exact fun w => w.elim cd fun y => z y.1)
theorem skip_loop (hn : 1000000 ≤ n) (hb : BtOk T) (hp : 0 ≤ q) : ∀ (m : Nat) (p : Int) (f : Nat) (τ : TT), m < f → p + m = tkB T q → q ≤ p → p ≤ T.length → tkB T q ≤ T.length → TpT τ T → τ 1022 20 = p → LxF τ0 τ → Wp (g_X7_next_8 n f 1022 τ) (NxQ T (tkB T q) τ0)
  | m, p, 0, τ, hf, _, _, _, _, _, _, _ => absurd hf (by omega)
  | m, p, f + 1, τ, hf, hm, hqp, hpl, hBl, hT, hq, hF => by
    have hl := hb.1
    have hin : ∀ i, q ≤ i → i < tkB T q → isWh (bt T i) = true := fun i a b => adv_in (P := fun i => isWh (bt T i)) a b
    have hout : tkB T q < T.length → isWh (bt T (tkB T q)) ≠ true := fun c => advT_out (P := fun i => isWh (bt T i)) (L := T.length) (p := q) (by omega) c
    unfold g_X7_next_8
    rw [hT.1, hq]
    by_cases c : (T.length : Int) ≤ p
    · have e : p = tkB T q := by omega
      refine wp_pos c ?_
      rw [← e]
      exact tw_next_84 hn hb hT hq ⟨by omega, hpl⟩ hF
    refine wp_neg c ?_
    have step : isWh (bt T p) = true → Wp (g_X7_next_71 n (g_X7_next_8 n f) 1022 τ) (NxQ T (tkB T q) τ0) := fun z => by
      cases m with
      | zero =>
        have e : p = tkB T q := by omega
        rw [e] at z
        exact absurd z (hout (by omega))
      | succ m =>
        unfold g_X7_next_71
        rw [hq]
        exact wp_gI (by omega) (wp_nm0 (skip_loop hn hb hp m (p + 1) f _ (by omega) (by omega) (by omega) (by omega) hBl (hT.lx (LxF.sa (by omega))) (by simp [sa_at]) (hF.trans (LxF.sa (by omega)))))
    rw [at_eq hT hb (by omega), t1_at]
    refine wp_ite (fun z => ?_) fun z1 => ?_
    · rw [ub_eq (hb.2 p) (by decide)] at z
      exact step (isWh_iff.mpr (by omega))
    rw [ub_eq (hb.2 p) (by decide)] at z1
    rw [hq, at_eq hT hb (by omega), t1_at]
    refine wp_ite (fun z => ?_) fun z2 => ?_
    · rw [ub_eq (hb.2 p) (by decide)] at z
      exact step (isWh_iff.mpr (by omega))
    rw [ub_eq (hb.2 p) (by decide)] at z2
    rw [hq, at_eq hT hb (by omega), t1_at]
    refine wp_ite (fun z => ?_) fun z3 => ?_
    · rw [ub_eq (hb.2 p) (by decide)] at z
      exact step (isWh_iff.mpr (by omega))
    rw [ub_eq (hb.2 p) (by decide)] at z3
    rw [hq, at_eq hT hb (by omega), t1_at]
    refine wp_ite (fun z => ?_) fun z4 => ?_
    · rw [ub_eq (hb.2 p) (by decide)] at z
      exact step (isWh_iff.mpr (by omega))
    rw [ub_eq (hb.2 p) (by decide)] at z4
    have e : p = tkB T q := by
      apply Classical.byContradiction
      intro w
      have := isWh_iff.mp (hin p hqp (by omega))
      omega
    rw [← e]
    exact tw_next_84 hn hb hT hq ⟨by omega, hpl⟩ hF
theorem tw_next (hn : 1000000 ≤ n) (hb : BtOk T) (hT : TpT τ T) (hp : τ 1022 21 = p) (h0 : 0 ≤ p ∧ p ≤ T.length) : Wp (g_X7_next n 1022 τ) (NxQ T (tkB T p) τ) := by
  have hl := hb.1
  have hle := tkB_le h0.2
  unfold g_X7_next
  rw [hp]
  exact wp_nm0 (skip_loop hn hb h0.1 (tkB T p - p).toNat p n _ (by omega) (by omega) (by omega) h0.2 hle.2 (hT.lx (LxF.sa (by omega))) (by simp [sa_at]) (LxF.sa (by omega)))
end TW4
