/-! THE TWIN'S LEXER: numbers, and the step to the next token -/
set_option maxRecDepth 100000
def LxF (τ τ' : TT) : Prop := ∀ r j, ¬ (r = 1022 ∧ 17 ≤ j ∧ j ≤ 22) → τ' r j = τ r j
theorem LxF.rf {τ : TT} : LxF τ τ := fun _ _ _ => rfl
theorem LxF.trans {τ τ1 τ2 : TT} (h : LxF τ τ1) (h' : LxF τ1 τ2) : LxF τ τ2 := fun r j a => (h' r j a).trans (h r j a)
theorem LxF.sa {τ : TT} {j v : Int} (h : 17 ≤ j ∧ j ≤ 22) : LxF τ (sa τ 1022 j v) := fun r i a => by
  rw [sa_at, if_neg (fun z => a ⟨z.1, by omega⟩)]
theorem TpT.lx {τ τ' : TT} {T : List Int} (h : TpT τ T) (hF : LxF τ τ') : TpT τ' T :=
  ⟨(hF _ _ (by omega)).trans h.1, fun i hi => (hF _ _ (by omega)).trans (h.2 i hi)⟩
/-- the twin stands at the token that begins at q -/
def TkT (τ : TT) (T : List Int) (q : Int) : Prop := τ 1022 20 = q ∧ τ 1022 19 = tkC T q ∧ τ 1022 21 = tkE T q ∧ (tkC T q = 2 → τ 1022 22 = nmA T q) ∧ tkC T q ≠ 50 ∧ 0 ≤ q ∧ q ≤ T.length
def Flw (τ : TT) (c p : Int) : Prop := τ 1022 17 = c ∧ τ 1022 18 = p
def Sat (A v : Int) : Prop := (A = v ∧ 0 ≤ v ∧ v ≤ 30000000009) ∨ (3000000000 < A ∧ A ≤ 30000000009 ∧ 3000000000 < v)
section TW3
variable {τ τ0 : TT} {T : List Int} {n : Nat} {p q s : Int}
theorem nvP_pos {k : Nat} (h : ∀ i, s ≤ i → i < s + k → isDg (bt T i) = true) : 0 ≤ nvP T s k := by
  induction k with
  | zero => exact Int.le_refl 0
  | succ k ih =>
    have h1 := ih fun i a b => h i a (by omega)
    have h2 := isDg_iff.mp (h (s + k) (by omega) (by omega))
    show 0 ≤ 10 * nvP T s k + (bt T (s + k) - 48)
    omega
def FigQ (T : List Int) (q : Int) (τ : TT) (y : Int × TT) : Prop := (nmOk (nmA T q) → y.1 = 1 ∧ y.2 1022 19 = 2 ∧ y.2 1022 21 = nmE T q ∧ y.2 1022 22 = nmA T q ∧ y.2 1022 20 = q) ∧ (¬ nmOk (nmA T q) → y.1 = 0 ∧ Flw y.2 1 q) ∧ LxF τ y.2
theorem figure_end {v : Int} (hv : τ 1022 20 = q) (h21 : τ 1022 21 = nmE T q) (hF : LxF τ0 τ) (hA : (nmOk (nmA T q) → v = nmA T q) ∧ (¬ nmOk (nmA T q) → ¬ nmOk v)) : Wp (g_X7_figure_112 n 1022 1022 v τ) (FigQ T q τ0) := by
  unfold g_X7_figure_112
  refine wp_nm0 (wp_nm0 ?_)
  have e22 : sa (sa τ 1022 22 v) 1022 19 2 1022 22 = v := by simp [sa_at]
  rw [e22]
  have F1 : LxF τ0 (sa (sa τ 1022 22 v) 1022 19 2) := (hF.trans (LxF.sa (by omega))).trans (LxF.sa (by omega))
  have bad : ¬ nmOk v → Wp (g_X7_figure_142 n 1022 (sa (sa τ 1022 22 v) 1022 19 2)) (FigQ T q τ0) := fun z => by
    unfold g_X7_figure_142 g_X7_flaw
    have e20 : sa (sa τ 1022 22 v) 1022 19 2 1022 20 = q := by simp [sa_at, hv]
    rw [nm_eq, nm_eq, t1_at, if_pos rfl, e20]
    exact wp_ok ⟨fun w => absurd w (fun w => by rw [hA.1 w] at z; exact z w), fun _ => ⟨rfl, by simp [sa_at], by simp [sa_at]⟩, (F1.trans (LxF.sa (by omega))).trans (LxF.sa (by omega))⟩
  unfold lcmpW
  by_cases c1 : v < -2147483648
  · have : ¬ nmOk v := by unfold nmOk; omega
    rw [if_neg (by omega : ¬ -2147483648 < v), if_neg (by omega : ¬ v = -2147483648), if_pos (by decide)]
    exact bad this
  · have h0 : ¬ (if -2147483648 < v then 1 else if v = -2147483648 then 0 else -1 : Int) < 0 := by
      split
      · decide
      · rw [if_pos (by omega)]; decide
    rw [if_neg h0]
    by_cases c2 : v ≤ 2147483647
    · have hok : nmOk v := by unfold nmOk; omega
      have h1 : (if 2147483647 < v then 1 else if v = 2147483647 then 0 else -1 : Int) ≤ 0 := by
        rw [if_neg (by omega)]
        split <;> decide
      rw [if_pos h1]
      have hok2 : nmOk (nmA T q) := Classical.byContradiction fun z => hA.2 z hok
      exact wp_ok ⟨fun w => ⟨rfl, by simp [sa_at], by simp [sa_at, h21], by simp [sa_at]; exact hA.1 w, by simp [sa_at, hv]⟩, fun w => absurd hok2 w, F1⟩
    · rw [if_pos (by omega : 2147483647 < v), if_neg (by decide)]
      exact bad (by unfold nmOk; omega)
theorem figure_loop {neg : Int} (hb : BtOk T) (h0 : 0 ≤ q ∧ q < T.length) (hs : (bt T q ≠ 45 ∧ neg = 0 ∧ s = q) ∨ (bt T q = 45 ∧ neg = 1 ∧ s = q + 1)) (hd : ∀ i, s ≤ i → i < nmE T q → isDg (bt T i) = true) (hE : isDg (bt T (nmE T q)) ≠ true) : ∀ (m k : Nat) (f : Nat) (τ : TT), m < f → s + k + m = nmE T q → TpT τ T → τ 1022 20 = q → τ 1022 21 = s + k → Sat (τ 1022 22) (nvP T s k) → LxF τ0 τ → Wp (g_X7_figure_24 n f 1022 neg τ) (FigQ T q τ0)
  | m, k, 0, τ, hf, _, _, _, _, _, _ => absurd hf (by omega)
  | 0, k, f + 1, τ, hf, hm, hT, hq, he, hS, hF => by
    have hpos : 0 ≤ nvP T s k := nvP_pos fun i a b => hd i a (by omega)
    unfold g_X7_figure_24
    have e1 : s + (k : Int) = nmE T q := by omega
    rw [he, at_eq hT hb (by omega), t1_at, isDigit_eq (hb.2 _), t1_at, e1, if_neg hE]
    refine wp_pos rfl ?_
    rw [e1] at he
    obtain ⟨a, b, c⟩ | ⟨a, b, c⟩ := hs
    · refine wp_pos b (figure_end hq he hF ?_)
      have eA : nmA T q = nvP T s k := by
        unfold nmA
        rw [if_neg a, c, show (nmE T q - q).toNat = k by omega]
      rw [eA]
      unfold nmOk Sat at *
      omega
    · refine wp_neg (by omega) (wp_gL (by unfold Sat at hS; omega) (figure_end hq he hF ?_))
      have eA : nmA T q = - nvP T s k := by
        unfold nmA
        rw [if_pos a, c, show (nmE T q - (q + 1)).toNat = k by omega]
      rw [eA]
      unfold nmOk Sat at *
      omega
  | m + 1, k, f + 1, τ, hf, hm, hT, hq, he, hS, hF => by
    have hl := hb.1
    have hle := nmE_le h0.2
    have hpos : 0 ≤ nvP T s k := nvP_pos fun i a b => hd i a (by omega)
    unfold g_X7_figure_24
    have hc := hd (s + k) (by omega) (by omega)
    rw [he, at_eq hT hb (by omega), t1_at, isDigit_eq (hb.2 _), t1_at, if_pos hc]
    have hc2 := isDg_iff.mp hc
    have eub : ub (bt T (s + k)) = bt T (s + k) := by unfold ub; rw [if_neg (by omega)]
    refine wp_neg (by decide) ?_
    have next : ∀ v, Sat v (nvP T s (k + 1)) → Wp (g_X7_figure_79 n (g_X7_figure_24 n f) 1022 neg 1022 v τ) (FigQ T q τ0) := fun v hv => by
      unfold g_X7_figure_79
      have e21 : sa τ 1022 22 v 1022 21 = s + k := by simp [sa_at, he]
      refine wp_nm0 ?_
      rw [e21]
      refine wp_gI (by omega) (wp_nm0 ?_)
      refine figure_loop hb h0 hs hd hE m (k + 1) f _ (by omega) (by omega) (hT.lx ((LxF.sa (by omega)).trans (LxF.sa (by omega)))) (by simp [sa_at, hq]) (by simp [sa_at]; omega) (by simp [sa_at]; exact hv) ((hF.trans (LxF.sa (by omega))).trans (LxF.sa (by omega)))
    have eS : nvP T s (k + 1) = 10 * nvP T s k + (bt T (s + k) - 48) := rfl
    have hcmp : (lcmpW (τ 1022 22) 3000000000 ≤ 0) ↔ τ 1022 22 ≤ 3000000000 := by
      unfold lcmpW
      by_cases z : 3000000000 < τ 1022 22
      · rw [if_pos z]; omega
      · rw [if_neg z]
        split <;> omega
    by_cases c : τ 1022 22 ≤ 3000000000
    · refine wp_pos (hcmp.mpr c) ?_
      have h3 : τ 1022 22 = nvP T s k := by unfold Sat at hS; omega
      refine wp_gL (by omega) ?_
      rw [he, at_eq hT hb (by omega), t1_at, eub]
      refine wp_gL (by omega) (wp_gL (by omega) (next _ ?_))
      rw [eS]
      unfold Sat
      omega
    · refine wp_neg (fun z => c (hcmp.mp z)) (next _ ?_)
      rw [eS]
      unfold Sat at *
      omega
theorem tw_figure {neg : Int} (hn : 1000000 ≤ n) (hT : TpT τ T) (hb : BtOk T) (h0 : 0 ≤ q ∧ q < T.length) (hN : nmB T q = true) (hq : τ 1022 20 = q) (he : τ 1022 21 = q + 1) (hneg : neg = if bt T q = 45 then 1 else 0) : Wp (g_X7_figure n 1022 neg τ) (FigQ T q τ) := by
  have hl := hb.1
  have hle := nmE_le h0.2
  have hE : isDg (bt T (nmE T q)) ≠ true := by
    by_cases c : nmE T q < T.length
    · exact advT_out (P := fun i => isDg (bt T i)) (by omega) c
    · rw [bt_out (by omega)]; decide
  have hin : ∀ i, q + 1 ≤ i → i < nmE T q → isDg (bt T i) = true := fun i a b => adv_in (P := fun i => isDg (bt T i)) a b
  have h1 : isDg (bt T q) = true ∨ (bt T q = 45 ∧ isDg (bt T (q + 1)) = true) := by
    unfold nmB at hN
    rw [Bool.or_eq_true, Bool.and_eq_true, decide_eq_true_iff] at hN
    exact hN
  unfold g_X7_figure
  by_cases c : bt T q = 45
  · rw [if_pos c] at hneg
    refine wp_neg (by omega) ?_
    unfold g_X7_figure_21
    refine wp_nm0 (figure_loop (s := q + 1) hb h0 (Or.inr ⟨c, hneg, rfl⟩) hin hE (nmE T q - (q + 1)).toNat 0 n _ (by omega) (by omega) (hT.lx (LxF.sa (by omega))) (by simp [sa_at, hq]) (by simp [sa_at, he]) (by simp [sa_at]; exact Or.inl ⟨rfl, Int.le_refl 0, (by decide : (0 : Int) ≤ 30000000009)⟩) (LxF.sa (by omega)))
  · rw [if_neg c] at hneg
    have hd : isDg (bt T q) = true := h1.resolve_right fun z => c z.1
    have hd2 := isDg_iff.mp hd
    have eub : ub (bt T q) = bt T q := by unfold ub; rw [if_neg (by omega)]
    refine wp_pos hneg ?_
    rw [hq, at_eq hT hb h0.1, t1_at, eub]
    refine wp_gI (by omega) ?_
    unfold g_X7_figure_21
    have hin2 : ∀ i, q ≤ i → i < nmE T q → isDg (bt T i) = true := fun i a b => by
      by_cases z : i = q
      · rw [z]; exact hd
      · exact hin i (by omega) b
    refine wp_nm0 (figure_loop (s := q) hb h0 (Or.inl ⟨c, hneg, rfl⟩) hin2 hE (nmE T q - (q + 1)).toNat 1 n _ (by omega) (by omega) (hT.lx (LxF.sa (by omega))) (by simp [sa_at, hq]) (by simp [sa_at, he]) ?_ (LxF.sa (by omega)))
    simp only [sa_at, if_true, and_self]
    have : nvP T q 1 = 10 * 0 + (bt T (q + (0 : Nat)) - 48) := rfl
    rw [show q + ((0 : Nat) : Int) = q by omega] at this
    rw [this]
    unfold Sat
    omega
end TW3
