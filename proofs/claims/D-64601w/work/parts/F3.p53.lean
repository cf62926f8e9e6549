/-! THE TWIN's crash and count -/
set_option maxRecDepth 100000
section TWF
variable {τ : TT} {n : Nat} {k : Nat} {l : List Ch} {G : Gr}
/-- but rows of labels and types -/
def EFr (τ τ' : TT) : Prop := ∀ r j, r ≠ 1023 → r ≠ 1024 → ¬ (r = 1022 ∧ j = 6) → τ' r j = τ r j
theorem empty24 : ∀ (m q j : Nat) (τ : TT), m < q → j + m = 1000 → (∀ e : Int, 0 ≤ e → e < j → τ 1024 e = -1) → Wp (g_X7_empty_24 n q 1022 j τ) fun τ' => (∀ e : Int, 0 ≤ e → e < 1000 → τ' 1024 e = -1) ∧ τ' 1022 6 = 0 ∧ ∀ r j, r ≠ 1024 → ¬ (r = 1022 ∧ j = 6) → τ' r j = τ r j := by
  intro m
  induction m with
  | zero =>
    intro q j τ hq hj h
    obtain ⟨q, rfl⟩ : ∃ z, q = z + 1 := ⟨q - 1, by omega⟩
    unfold g_X7_empty_24
    refine wp_pos (by omega) (wp_nm0 (wp_ok ⟨fun e a b => ?_, by rw [sa_at, if_pos ⟨rfl, rfl⟩], fun r j a b => by rw [sa_at, if_neg b]⟩))
    rw [sa_at, if_neg (by omega)]
    exact h e a (by omega)
  | succ m ih =>
    intro q j τ hq hj h
    obtain ⟨q, rfl⟩ : ∃ z, q = z + 1 := ⟨q - 1, by omega⟩
    unfold g_X7_empty_24
    refine wp_neg (by omega) (wp_gd ⟨by omega, by omega⟩ (wp_nm0 (wp_gI (by omega) (wp_nm0 ?_))))
    rw [show (j : Int) + 1 = ((j + 1 : Nat) : Int) by omega]
    refine wp_mono (ih q (j + 1) (sa τ 1024 j (-1)) (by omega) (by omega) fun e a b => ?_) fun τ' hq => ⟨hq.1, hq.2.1, fun r i a b => ?_⟩
    · rw [sa_at]
      by_cases c : e = j
      · rw [if_pos ⟨rfl, c⟩]
      · rw [if_neg (fun z => c z.2)]; exact h e a (by omega)
    · rw [hq.2.2 r i a b, sa_at, if_neg (fun z => a z.1)]
theorem empty2 (hn : 1000000 ≤ n) : ∀ (m q j : Nat) (τ : TT), m < q → j + m = 400 → (∀ e : Int, 0 ≤ e → e < j → τ 1023 e = -1) → Wp (g_X7_empty_2 n q 1022 j τ) fun τ' => TG τ' G0 ∧ EFr τ τ' := by
  intro m
  induction m with
  | zero =>
    intro q j τ hq hj h
    obtain ⟨q, rfl⟩ : ∃ z, q = z + 1 := ⟨q - 1, by omega⟩
    unfold g_X7_empty_2
    refine wp_pos (by omega) (wp_mono (empty24 (n := n) 1000 n 0 τ (by omega) (by omega) fun e a b => ?_) fun τ' hq => ?_)
    · have : e < ((0 : Nat) : Int) := b
      omega
    · obtain ⟨q1, q2, q3⟩ := hq
      refine ⟨⟨fun i a b => ?_, fun i a b => q1 i a b, fun i a b z => absurd rfl z, q2, fun i x hx => ?_⟩, fun r j a b c => q3 r j b c⟩
      · rw [q3 _ _ (by decide) (by omega)]
        exact h i a (by omega)
      · cases hx
  | succ m ih =>
    intro q j τ hq hj h
    obtain ⟨q, rfl⟩ : ∃ z, q = z + 1 := ⟨q - 1, by omega⟩
    unfold g_X7_empty_2
    refine wp_neg (by omega) (wp_gd ⟨by omega, by omega⟩ (wp_nm0 (wp_gI (by omega) (wp_nm0 ?_))))
    rw [show (j : Int) + 1 = ((j + 1 : Nat) : Int) by omega]
    refine wp_mono (ih q (j + 1) (sa τ 1023 j (-1)) (by omega) (by omega) fun e a b => ?_) fun τ' hq => ⟨hq.1, fun r i a b c => ?_⟩
    · rw [sa_at]
      by_cases c : e = j
      · rw [if_pos ⟨rfl, c⟩]
      · rw [if_neg (fun z => c z.2)]; exact h e a (by omega)
    · rw [hq.2 r i a b c, sa_at, if_neg (fun z => a z.1)]
theorem empty_wp (hn : 1000000 ≤ n) : Wp (g_X7_empty n 1022 τ) fun τ' => TG τ' G0 ∧ EFr τ τ' := by
  unfold g_X7_empty
  exact empty2 hn 400 n 0 τ (by omega) (by omega) fun e a b => by
    have : e < ((0 : Nat) : Int) := b
    omega
theorem crash_acts (hn : 1000000 ≤ n) (hL : okL l) (hl : l.length ≤ 64) {g : Int} : ∀ (m q j : Nat) (τ : TT), m < q → j + m = l.length → TG τ (run (l.take j)) → τ 1022 8 = l.length → (∀ (i : Nat) (c : Ch), l[i]? = some c → τ 1028 (5 * i) = c.1 ∧ τ 1028 (5 * i + 1) = c.2.1 ∧ τ 1028 (5 * i + 2) = c.2.2.1 ∧ τ 1028 (5 * i + 3) = c.2.2.2.1 ∧ τ 1028 (5 * i + 4) = c.2.2.2.2) → Wp (g_X7_crash_71 n q 1022 g j τ) fun y => y.1 = g ∧ TG y.2 (run l) ∧ AFr τ y.2 := by
  intro m
  induction m with
  | zero =>
    intro q j τ hq hj hT h8 hc
    obtain ⟨q, rfl⟩ : ∃ z, q = z + 1 := ⟨q - 1, by omega⟩
    unfold g_X7_crash_71
    rw [h8]
    rw [List.take_of_length_le (by omega)] at hT
    exact wp_pos (by omega) (wp_ok ⟨rfl, hT, fun _ _ _ _ => rfl⟩)
  | succ m ih =>
    intro q j τ hq hj hT h8 hc
    obtain ⟨q, rfl⟩ : ∃ z, q = z + 1 := ⟨q - 1, by omega⟩
    obtain ⟨c, hx⟩ : ∃ x, l[j]? = some x := ⟨l[j], List.getElem?_eq_getElem (by omega)⟩
    obtain ⟨x0, x1, x2, x3, x4⟩ := hc j c hx
    have hok := okL_at hL hx
    have hb := bnd_run (l := l.take j) (by rw [List.length_take]; omega)
    have hG := okL_run (okL_take (n := j) hL)
    unfold g_X7_crash_71
    rw [h8]
    refine wp_neg (by omega) (wp_gI (by omega) (wp_gd ⟨by omega, by omega⟩ (wp_gI (by omega) (wp_gI (by omega) (wp_gd ⟨by omega, by omega⟩ (wp_gI (by omega) (wp_gI (by omega) (wp_gd ⟨by omega, by omega⟩ (wp_gI (by omega) (wp_gI (by omega) (wp_gd ⟨by omega, by omega⟩ (wp_gI (by omega) (wp_gI (by omega) (wp_gd ⟨by omega, by omega⟩ ?_))))))))))))))
    rw [x0, x1, x2, x3, x4]
    refine wp_t0 (wp_mono (act_wp hn hT hG hok (by have := hb.2.2; rw [List.length_take] at this; omega)) fun τ1 hq1 => wp_gI (by omega) (wp_nm0 ?_))
    obtain ⟨q1, q2⟩ := hq1
    rw [show (j : Int) + 1 = ((j + 1 : Nat) : Int) by omega]
    have et : l.take (j + 1) = l.take j ++ [c] := by
      rw [List.take_add_one, hx]
      rfl
    refine wp_mono (ih q (j + 1) τ1 (by omega) (by omega) (by rw [et, run_snoc]; exact q1) (by rw [q2 _ _ (by omega) (by omega)]; exact h8) fun i d hd => ?_) fun y hy => ⟨hy.1, hy.2.1, q2.trans hy.2.2⟩
    rw [q2 _ _ (by omega) (by omega), q2 _ _ (by omega) (by omega), q2 _ _ (by omega) (by omega), q2 _ _ (by omega) (by omega), q2 _ _ (by omega) (by omega)]
    exact hc i d hd
theorem tw_crash {a : Int} (hn : 1000000 ≤ n) (h : TI τ k l) (hl : l.length ≤ 64) : Wp (g_X7_crash n 1022 a τ) fun y => (if 0 ≤ a ∧ a ≤ k then y.2 1022 0 = 0 ∧ y.1 = k - a ∧ TI y.2 0 (l.take (l.length - (k - a.toNat))) else y.2 1022 0 = 1 ∧ TI y.2 k l) ∧ GFr τ y.2 := by
  have h' := h
  obtain ⟨h1, h2, h3⟩ := h'
  have hk := h2.2.2.1
  have thr : ¬ (0 ≤ a ∧ a ≤ (k : Int)) → Wp (g_X7_crash_18 n (g_X7_crash_23 n) 1022 a 1022 τ) fun y => (if 0 ≤ a ∧ a ≤ k then y.2 1022 0 = 0 ∧ y.1 = k - a ∧ TI y.2 0 (l.take (l.length - (k - a.toNat))) else y.2 1022 0 = 1 ∧ TI y.2 k l) ∧ GFr τ y.2 := fun c => by
    unfold g_X7_crash_18 g_X7_crash_23
    refine wp_nm0 ?_
    rw [code_at]
    exact wp_neg (by decide) (wp_ok ⟨by rw [if_neg c]; exact ⟨code_at (τ := τ) (v := 1), h.code⟩, GFr.code⟩)
  unfold g_X7_crash
  by_cases c : 0 ≤ a ∧ a ≤ (k : Int)
  · refine wp_neg (by omega) ?_
    rw [h2.1, h2.2.1]
    refine wp_gI (by omega) (wp_pos (by omega) ?_)
    unfold g_X7_crash_23
    refine wp_nm0 ?_
    have e8 : sa τ 1022 0 0 1022 8 = l.length := by rw [sa_at, if_neg (by omega)]; exact h2.1
    have e9 : sa τ 1022 0 0 1022 9 = (l.length : Int) - k := by rw [sa_at, if_neg (by omega)]; exact h2.2.1
    rw [code_at, e8, e9]
    refine wp_pos (by decide) (wp_gI (by omega) (wp_gI (by omega) (wp_nm0 (wp_gI (by omega) (wp_nm0 (wp_nm0 ?_))))))
    obtain ⟨s, hs⟩ : ∃ s : Nat, (s : Int) = a := ⟨a.toNat, by omega⟩
    have es : (l.length : Int) - k + a = ((l.length - (k - s) : Nat) : Int) := by omega
    have ev : (l.length : Int) - (l.length - k) - a = k - a := by omega
    have et : a.toNat = s := by omega
    rw [es, ev, et]
    generalize hz : l.length - (k - s) = z
    generalize eτ : sa (sa (sa τ 1022 0 0) 1022 8 (z : Int)) 1022 9 (sa (sa τ 1022 0 0) 1022 8 (z : Int) 1022 8) = τ2
    have f : ∀ r j, ¬ (r = 1022 ∧ (j = 0 ∨ j = 8 ∨ j = 9)) → τ2 r j = τ r j := fun r j w => by
      rw [← eτ, sa_at, if_neg (fun q => w ⟨q.1, Or.inr (Or.inr q.2)⟩), sa_at, if_neg (fun q => w ⟨q.1, Or.inr (Or.inl q.2)⟩), sa_at, if_neg (fun q => w ⟨q.1, Or.inl q.2⟩)]
    have f0 : τ2 1022 0 = 0 := by rw [← eτ, sa_at, if_neg (by omega), sa_at, if_neg (by omega), sa_at, if_pos ⟨rfl, rfl⟩]
    have f8 : τ2 1022 8 = z := by rw [← eτ, sa_at, if_neg (by omega), sa_at, if_pos ⟨rfl, rfl⟩]
    have f9 : τ2 1022 9 = z := by rw [← eτ, sa_at, if_pos ⟨rfl, rfl⟩, sa_at, if_pos ⟨rfl, rfl⟩]
    clear eτ
    refine wp_t0 (wp_mono (empty_wp hn) fun τ3 hq => ?_)
    obtain ⟨q1, q2⟩ := hq
    have lz : (l.take z).length = z := by rw [List.length_take]; omega
    have cs : ∀ (i : Nat) (c : Ch), (l.take z)[i]? = some c → τ3 1028 (5 * i) = c.1 ∧ τ3 1028 (5 * i + 1) = c.2.1 ∧ τ3 1028 (5 * i + 2) = c.2.2.1 ∧ τ3 1028 (5 * i + 3) = c.2.2.2.1 ∧ τ3 1028 (5 * i + 4) = c.2.2.2.2 := fun i d hd => by
      rw [q2 _ _ (by decide) (by decide) (by omega), q2 _ _ (by decide) (by decide) (by omega), q2 _ _ (by decide) (by decide) (by omega), q2 _ _ (by decide) (by decide) (by omega), q2 _ _ (by decide) (by decide) (by omega), f _ _ (by omega), f _ _ (by omega), f _ _ (by omega), f _ _ (by omega), f _ _ (by omega)]
      refine h2.2.2.2 i d ?_
      rw [List.getElem?_take] at hd
      by_cases w : i < z
      · rw [if_pos w] at hd; exact hd
      · rw [if_neg w] at hd; cases hd
    have e38 : τ3 1022 8 = (l.take z).length := by rw [q2 _ _ (by decide) (by decide) (by omega), f8, lz]
    refine wp_mono (crash_acts (l := l.take z) (g := (k : Int) - a) hn (okL_take h3) (by omega) z n 0 τ3 (by omega) (by omega) q1 e38 cs) fun y hy => ?_
    obtain ⟨y1, y2, y3⟩ := hy
    refine ⟨?_, fun r j a b => ?_⟩
    · rw [if_pos c]
      refine ⟨by rw [y3 _ _ (by omega) (by omega), q2 _ _ (by decide) (by decide) (by omega)]; exact f0, y1, y2, ⟨?_, ?_, Nat.zero_le _, fun i d hd => ?_⟩, okL_take h3⟩
      · rw [y3 _ _ (by omega) (by omega)]; exact e38
      · rw [y3 _ _ (by omega) (by omega), q2 _ _ (by decide) (by decide) (by omega), f9, lz]; omega
      · rw [y3 _ _ (by omega) (by omega), y3 _ _ (by omega) (by omega), y3 _ _ (by omega) (by omega), y3 _ _ (by omega) (by omega), y3 _ _ (by omega) (by omega)]
        exact cs i d hd
    · rw [y3 r j (by omega) (by omega), q2 r j (by omega) (by omega) (by omega), f r j (by omega)]
  · by_cases c1 : a < 0
    · exact wp_pos c1 (thr c)
    · refine wp_neg c1 ?_
      rw [h2.1, h2.2.1]
      exact wp_gI (by omega) (wp_neg (by omega) (thr c))
theorem count_loop {w : Int} {f : F1} {N : Nat} {r : Int} (hN : N ≤ 1000) (hw : (w = 0 ∧ N = 400 ∧ r = 1023) ∨ (w = 1 ∧ N = 1000 ∧ r = 1024)) (hf : ∀ e : Int, 0 ≤ e → e < N → τ r e = f e) : ∀ (m q j : Nat), m < q → j + m = N → g_X7_count_31 n q 1022 w (sm (fun i => if f i = -1 then 0 else 1) j : Nat) j τ = some (((sm (fun i => if f i = -1 then 0 else 1) N : Nat) : Int), τ) := by
  intro m
  induction m with
  | zero =>
    intro q j hq hj
    obtain ⟨q, rfl⟩ : ∃ z, q = z + 1 := ⟨q - 1, by omega⟩
    have e : j = N := by omega
    subst e
    unfold g_X7_count_31 g_X7_count_45 g_X7_count_90
    rcases hw with ⟨a, b, c⟩ | ⟨a, b, c⟩
    · rw [if_pos a, if_pos (by omega), if_neg (by omega)]
    · rw [if_neg (by omega), if_pos (by omega), if_neg (by omega)]
  | succ m ih =>
    intro q j hq hj
    obtain ⟨q, rfl⟩ : ∃ z, q = z + 1 := ⟨q - 1, by omega⟩
    have hle := sm_le (f := fun i => if f i = -1 then 0 else 1) (fun x => by by_cases c : f x = -1 <;> simp [c]) (n := j)
    have ih' := ih q (j + 1) (by omega) (by omega)
    have es : sm (fun i => if f i = -1 then 0 else 1) (j + 1) = sm (fun i => if f i = -1 then 0 else 1) j + (if f (j : Int) = -1 then 0 else 1) := rfl
    have body : g_X7_count_73 n (g_X7_count_31 n q) 1022 w j (sm (fun i => if f i = -1 then 0 else 1) j : Nat) (f j) τ = some (((sm (fun i => if f i = -1 then 0 else 1) N : Nat) : Int), τ) := by
      unfold g_X7_count_73 g_X7_count_82
      rw [es] at ih'
      by_cases c : f (j : Int) = -1
      · rw [if_pos c] at ih' ⊢
        rw [gI_pos (by omega), nm_eq, gI_pos (by omega), nm_eq, show (j : Int) + 1 = ((j + 1 : Nat) : Int) by omega]
        rw [Nat.add_zero] at ih'
        rw [Int.add_zero]
        exact ih'
      · rw [if_neg c] at ih' ⊢
        rw [gI_pos (by omega), nm_eq, gI_pos (by omega), nm_eq, show (j : Int) + 1 = ((j + 1 : Nat) : Int) by omega]
        exact ih'
    unfold g_X7_count_31 g_X7_count_45
    have hj' := hf j (by omega) (by omega)
    rcases hw with ⟨a, b, c⟩ | ⟨a, b, c⟩
    · rw [if_pos a, if_neg (by omega), if_neg (by omega), if_pos a, gd_pos ⟨by omega, by omega⟩, ← c, hj']
      exact body
    · rw [if_neg (by omega), if_neg (by omega), if_neg (by omega), if_neg (by omega), gd_pos ⟨by omega, by omega⟩, ← c, hj']
      exact body
theorem tw_count {w : Int} (hn : 1000000 ≤ n) (h : TI τ k l) (hl : l.length ≤ 64) : Wp (g_X7_count n 1022 w τ) (TAns τ k l (sCount (run l) k (τ 1022 59) (τ 1022 13) w)) := by
  have h0 := h.code (v := 0)
  have hk := h.2.1.2.2.1
  have thr : Wp (g_X7_count_15 n 1022 w 1022 1 τ) (TAns τ k l (1, 0, [])) := by
    unfold g_X7_count_15
    refine wp_nm0 ?_
    rw [code_at]
    exact wp_neg (by decide) (wp_ok (tans_throw h (by decide)))
  unfold g_X7_count
  by_cases cw : 0 ≤ w ∧ w ≤ 5
  · refine wp_neg (by omega) (wp_pos (by omega) ?_)
    unfold g_X7_count_15
    refine wp_nm0 ?_
    rw [code_at]
    refine wp_pos (by decide) ?_
    have big : 2 ≤ w → g_X7_count_31 n n 1022 w 0 0 (sa τ 1022 0 0) = g_X7_count_90 n 1022 w 0 (sa τ 1022 0 0) := fun c => by
      obtain ⟨q, hq⟩ : ∃ z, n = z + 1 := ⟨n - 1, by omega⟩
      rw [show g_X7_count_31 n n 1022 w 0 0 (sa τ 1022 0 0) = g_X7_count_31 n (q + 1) 1022 w 0 0 (sa τ 1022 0 0) by rw [← hq]]
      unfold g_X7_count_31 g_X7_count_45
      rw [if_neg (by omega), if_neg (by omega), if_pos c]
    by_cases w0 : w = 0
    · have es : sCount (run l) k (τ 1022 59) (τ 1022 13) w = (0, ((sm (fun i => if gl (run l) i = -1 then 0 else 1) 400 : Nat) : Int), []) := by unfold sCount; rw [if_pos w0]
      rw [es]
      exact wp_of_eq (count_loop (f := gl (run l)) (N := 400) (r := 1023) (by decide) (Or.inl ⟨w0, rfl, rfl⟩) (fun e a b => h0.1.1 e a b) 400 n 0 (by omega) (by omega)) (tans_see h)
    by_cases w1 : w = 1
    · have es : sCount (run l) k (τ 1022 59) (τ 1022 13) w = (0, ((sm (fun i => if gt (run l) i = -1 then 0 else 1) 1000 : Nat) : Int), []) := by unfold sCount; rw [if_neg w0, if_pos w1]
      rw [es]
      exact wp_of_eq (count_loop (f := gt (run l)) (N := 1000) (r := 1024) (by decide) (Or.inr ⟨w1, rfl, rfl⟩) (fun e a b => h0.1.2.1 e a b) 1000 n 0 (by omega) (by omega)) (tans_see h)
    rw [big (by omega)]
    unfold g_X7_count_90
    refine wp_pos (by omega) ?_
    by_cases w2 : w = 2
    · have es : sCount (run l) k (τ 1022 59) (τ 1022 13) w = (0, (((gp (run l)).length : Nat) : Int), []) := by unfold sCount; rw [if_neg w0, if_neg w1, if_pos w2]
      rw [es, h0.1.2.2.2.1]
      exact wp_pos w2 (wp_ok (tans_see h))
    refine wp_neg w2 ?_
    by_cases w3 : w = 3
    · have es : sCount (run l) k (τ 1022 59) (τ 1022 13) w = (0, ((k : Nat) : Int), []) := by unfold sCount; rw [if_neg w0, if_neg w1, if_neg w2, if_pos w3]
      rw [es, h0.2.1.1, h0.2.1.2.1, show (l.length : Int) - (l.length - k) = k by omega]
      exact wp_pos w3 (wp_gI (by omega) (wp_ok (tans_see h)))
    refine wp_neg w3 ?_
    by_cases w4 : w = 4
    · have es : sCount (run l) k (τ 1022 59) (τ 1022 13) w = (0, τ 1022 59, []) := by unfold sCount; rw [if_neg w0, if_neg w1, if_neg w2, if_neg w3, if_pos w4]
      rw [es, show sa τ 1022 0 0 1022 59 = τ 1022 59 by rw [sa_at, if_neg (by omega)]]
      exact wp_pos w4 (wp_ok (tans_see h))
    · have es : sCount (run l) k (τ 1022 59) (τ 1022 13) w = (0, τ 1022 13, []) := by unfold sCount; rw [if_neg w0, if_neg w1, if_neg w2, if_neg w3, if_neg w4, if_pos (by omega)]
      rw [es, show sa τ 1022 0 0 1022 13 = τ 1022 13 by rw [sa_at, if_neg (by omega)]]
      exact wp_neg w4 (wp_ok (tans_see h))
  · have es : sCount (run l) k (τ 1022 59) (τ 1022 13) w = (1, 0, []) := by unfold sCount; rw [if_neg (by omega), if_neg (by omega), if_neg (by omega), if_neg (by omega), if_neg (by omega), if_neg (by omega)]
    rw [es]
    unfold g_X7_count_10
    by_cases c1 : w < 0
    · exact wp_pos c1 thr
    · exact wp_neg c1 (wp_neg (by omega) thr)
end TWF
