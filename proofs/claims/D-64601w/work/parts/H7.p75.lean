/-! THE COMPONENT'S LEXER: numbers, signs -/
set_option maxRecDepth 100000
section CN
variable {σ σ0 : AS} {n : Nat} {x a b c d s q e p : Int} {l m T : List Int}
theorem TxOk.sw (h : TxOk σ x T) {j v : Int} (hj : 2 ≤ j) : TxOk (wr σ x j v) x T := by
  have e : ∀ i, i < 2 → ld (wr σ x j v) x i = ld σ x i := fun i hi => by rw [ld_wr, if_neg (by omega)]
  exact h.keep (S := fun r => r = x) (Fr.wr rfl) e (fun z => h.2.2.2.2.2.2.2.2 z)
def NmQ (T : List Int) (q x : Int) (σ0 : AS) (y : Int × AS) : Prop := (nmOk (nmA T q) → y.1 = 126 ∧ ld y.2 x 6 = nmA T q) ∧ (¬ nmOk (nmA T q) → y.1 = 123) ∧ Fr (fun r => r = x) σ0 y.2 ∧ nx y.2 = nx σ0 ∧ us y.2 = us σ0 ∧ ∀ j, j ≠ 6 → ld y.2 x j = ld σ0 x j
def OnlyN (σ0 σ : AS) (x : Int) : Prop := Fr (fun r => r = x) σ0 σ ∧ nx σ = nx σ0 ∧ us σ = us σ0 ∧ ∀ j, j ≠ 6 → ld σ x j = ld σ0 x j
theorem readNumber_end {v : Int} (hk : kd σ x = 19) (hO : OnlyN σ0 σ x) (hA : (nmOk (nmA T q) → v = nmA T q) ∧ (¬ nmOk (nmA T q) → ¬ nmOk v)) : Wp (f_X4_readNumber_83 n x x v σ) (NmQ T q x σ0) := by
  obtain ⟨o1, o2, o3, o4⟩ := hO
  unfold f_X4_readNumber_83
  refine wp_gd hk (wp_nm0 (wp_gd hk ?_))
  have e6 : ld (wr σ x 6 v) x 6 = v := by rw [ld_wr, if_pos ⟨rfl, rfl⟩]
  rw [e6]
  have oth : ∀ j, j ≠ 6 → ld (wr σ x 6 v) x j = ld σ0 x j := fun j hj => by rw [ld_wr, if_neg (fun z => hj z.2)]; exact o4 j hj
  have fr : Fr (fun r => r = x) σ0 (wr σ x 6 v) := o1.trans (Fr.wr rfl)
  unfold lcmpW
  by_cases c1 : v < -2147483648
  · have hno : ¬ nmOk v := by unfold nmOk; omega
    rw [if_neg (by omega : ¬ -2147483648 < v), if_neg (by omega : ¬ v = -2147483648)]
    exact wp_pos (by decide) (wp_ok ⟨fun w => absurd w (fun w => by rw [hA.1 w] at hno; exact hno w), fun _ => rfl, fr, o2, o3, oth⟩)
  · have h0 : ¬ (if -2147483648 < v then 1 else if v = -2147483648 then 0 else -1 : Int) < 0 := by
      split
      · decide
      · rw [if_pos (by omega)]; decide
    refine wp_neg h0 (wp_gd hk ?_)
    by_cases c2 : v ≤ 2147483647
    · have hok : nmOk v := by unfold nmOk; omega
      have h1 : (if 2147483647 < v then 1 else if v = 2147483647 then 0 else -1 : Int) ≤ 0 := by
        rw [if_neg (by omega)]
        split <;> decide
      have hok2 : nmOk (nmA T q) := Classical.byContradiction fun z => hA.2 z hok
      exact wp_pos h1 (wp_ok ⟨fun w => ⟨rfl, e6.trans (hA.1 w)⟩, fun w => absurd hok2 w, fr, o2, o3, oth⟩)
    · have hno : ¬ nmOk v := by unfold nmOk; omega
      rw [if_pos (by omega : 2147483647 < v)]
      exact wp_neg (by decide) (wp_ok ⟨fun w => absurd w (fun w => by rw [hA.1 w] at hno; exact hno w), fun _ => rfl, fr, o2, o3, oth⟩)
theorem min2_eq {a b : Int} : f_J12_min_2 a b σ = some (min a b, σ) := by
  unfold f_J12_min_2 lcmpW
  by_cases h : b < a
  · rw [if_pos h, if_pos (by decide), Int.min_eq_right (by omega)]
  · rw [if_neg h]
    have : ¬ (0 : Int) < (if a = b then 0 else -1) := by split <;> decide
    rw [if_neg this, Int.min_eq_left (by omega)]
theorem readNumber_loop {neg : Int} (hb : BtOk T) (h0 : 0 ≤ q ∧ q < T.length) (hs : (bt T q ≠ 45 ∧ neg = 0 ∧ s = q) ∨ (bt T q = 45 ∧ neg = 1 ∧ s = q + 1)) (hd : ∀ i, s ≤ i → i < nmE T q → isDg (bt T i) = true) (h3 : ld σ0 x 3 = nmE T q) : ∀ (m k : Nat) (f : Nat) (σ : AS), m < f → s + k + m = nmE T q → TxOk σ x T → OnlyN σ0 σ x → ld σ x 6 = min 4000000000 (nvP T s k) → Wp (f_X4_readNumber_23 n f x neg (s + k) σ) (NmQ T q x σ0)
  | m, k, 0, σ, hf, _, _, _, _ => absurd hf (by omega)
  | 0, k, f + 1, σ, hf, hm, hT, hO, hv => by
    have hpos : 0 ≤ nvP T s k := nvP_pos fun i a b => hd i a (by omega)
    unfold f_X4_readNumber_23
    refine wp_gd hT.1 ?_
    rw [hO.2.2.2 3 (by decide), h3]
    refine wp_pos (by omega) ?_
    obtain ⟨a, b, c⟩ | ⟨a, b, c⟩ := hs
    · refine wp_pos b (wp_gd hT.1 (readNumber_end hT.1 hO ?_))
      have eA : nmA T q = nvP T s k := by
        unfold nmA
        rw [if_neg a, c, show (nmE T q - q).toNat = k by omega]
      rw [eA, hv]
      unfold nmOk
      omega
    · rw [hv]
      refine wp_neg (by omega) (wp_gd hT.1 (wp_gL (by omega) (readNumber_end hT.1 hO ?_)))
      have eA : nmA T q = - nvP T s k := by
        unfold nmA
        rw [if_pos a, c, show (nmE T q - (q + 1)).toNat = k by omega]
      rw [eA]
      unfold nmOk
      omega
  | m + 1, k, f + 1, σ, hf, hm, hT, hO, hv => by
    have hl := hb.1
    have hle := nmE_le h0.2
    have hpos : 0 ≤ nvP T s k := nvP_pos fun i a b => hd i a (by omega)
    have hc2 := isDg_iff.mp (hd (s + k) (by omega) (by omega))
    have eS : nvP T s (k + 1) = 10 * nvP T s k + (bt T (s + k) - 48) := rfl
    unfold f_X4_readNumber_23
    refine wp_gd hT.1 ?_
    rw [hO.2.2.2 3 (by decide), h3, hv]
    refine wp_neg (by omega) (wp_gd hT.1 (wp_gL (by omega) (wp_gd hT.1 (wp_c1e (c_at_eq hT (by omega)) ?_))))
    refine wp_gL (by omega) (wp_gL (by omega) (wp_c1e min2_eq (wp_gd hT.1 (wp_nm0 (wp_gI (by omega) (wp_nm0 ?_))))))
    rw [show s + (k : Int) + 1 = s + ((k + 1 : Nat) : Int) by omega]
    refine readNumber_loop hb h0 hs hd h3 m (k + 1) f _ (by omega) (by omega) (hT.sw (by decide)) ⟨hO.1.trans (Fr.wr rfl), hO.2.1, hO.2.2.1, fun j hj => by rw [ld_wr, if_neg (fun z => hj z.2)]; exact hO.2.2.2 j hj⟩ ?_
    rw [ld_wr, if_pos ⟨rfl, rfl⟩, eS]
    omega
theorem readNumber_wp {neg : Int} (hn : 1000000 ≤ n) (hb : BtOk T) (hT : TxOk σ x T) (h0 : 0 ≤ q ∧ q < T.length) (hN : nmB T q = true) (h2 : ld σ x 2 = q) (h3 : ld σ x 3 = nmE T q) (hneg : neg = if bt T q = 45 then 1 else 0) : Wp (f_X4_readNumber n x neg σ) (NmQ T q x σ) := by
  have hl := hb.1
  have hle := nmE_le h0.2
  have hin : ∀ i, q + 1 ≤ i → i < nmE T q → isDg (bt T i) = true := fun i a b => adv_in (P := fun i => isDg (bt T i)) a b
  have h1 : isDg (bt T q) = true ∨ (bt T q = 45 ∧ isDg (bt T (q + 1)) = true) := by
    unfold nmB at hN
    rw [Bool.or_eq_true, Bool.and_eq_true, decide_eq_true_iff] at hN
    exact hN
  unfold f_X4_readNumber f_X4_readNumber_22
  have hT1 : TxOk (wr σ x 6 0) x T := hT.sw (by decide)
  have hO : OnlyN σ (wr σ x 6 0) x := ⟨Fr.wr rfl, rfl, rfl, fun j hj => by rw [ld_wr, if_neg (fun z => hj z.2)]⟩
  have e2 : ld (wr σ x 6 0) x 2 = q := by rw [ld_wr, if_neg (by omega)]; exact h2
  have e6 : ld (wr σ x 6 0) x 6 = 0 := by rw [ld_wr, if_pos ⟨rfl, rfl⟩]
  refine wp_gd hT.1 (wp_nm0 ?_)
  rw [e2]
  by_cases c : bt T q = 45
  · rw [if_pos c] at hneg
    refine wp_neg (by omega) (wp_gd hT.1 (wp_gI (by omega) ?_))
    have := readNumber_loop (n := n) (neg := neg) (s := q + 1) hb h0 (Or.inr ⟨c, hneg, rfl⟩) hin h3 (nmE T q - (q + 1)).toNat 0 n _ (by omega) (by omega) hT1 hO (by rw [e6]; rfl)
    rw [show q + 1 + ((0 : Nat) : Int) = q + 1 by omega] at this
    exact this
  · rw [if_neg c] at hneg
    have hd : isDg (bt T q) = true := h1.resolve_right fun z => c z.1
    have hin2 : ∀ i, q ≤ i → i < nmE T q → isDg (bt T i) = true := fun i a b => by
      by_cases z : i = q
      · rw [z]; exact hd
      · exact hin i (by omega) b
    refine wp_pos hneg (wp_gd hT.1 ?_)
    have := readNumber_loop (n := n) (neg := neg) (s := q) hb h0 (Or.inl ⟨c, hneg, rfl⟩) hin2 h3 (nmE T q - q).toNat 0 n _ (by omega) (by omega) hT1 hO (by rw [e6]; rfl)
    rw [show q + ((0 : Nat) : Int) = q by omega] at this
    exact this
/-! which signs there are -/
theorem wSigns_iff : (c ∈ wSigns) ↔ sgn1 c ≠ 50 := by
  constructor
  · intro h
    have : ∀ z ∈ wSigns, sgn1 z ≠ 50 := by decide
    exact this c h
  · intro h
    apply Classical.byContradiction
    intro w
    apply h
    unfold wSigns at w
    simp only [List.mem_cons, List.not_mem_nil, or_false, not_or] at w
    unfold sgn1
    obtain ⟨w1, w2, w3, w4, w5, w6, w7, w8, w9, w10, w11, w12⟩ := w
    rw [if_neg w1, if_neg w2, if_neg w3, if_neg w4, if_neg w5, if_neg w6, if_neg w7, if_neg w8, if_neg w9, if_neg w10, if_neg w11, if_neg w12]
theorem ioc_loop (k0 : kd σ a = 102 ∨ kd σ a = 1102) (l0 : ln σ a = l.length) (ct : ∀ i : Nat, i < l.length → ld σ a i = l.getD i 0) (hl : l.length ≤ 2000) : ∀ (k i f : Nat), k < f → i + k = l.length → (∀ j, j < i → l.getD j 0 ≠ c) → ∃ v, f_J20_indexOfChar_7 n f a l.length c i σ = some (v, σ) ∧ (v < 0 ↔ ¬ c ∈ l)
  | k, i, 0, hf, _, _ => absurd hf (by omega)
  | 0, i, f + 1, hf, hk, hp => by
    refine ⟨-1, ?_, ⟨fun _ z => ?_, fun _ => by decide⟩⟩
    · unfold f_J20_indexOfChar_7
      rw [if_pos (by omega)]
    · obtain ⟨j, hj, e⟩ := List.getElem_of_mem z
      refine hp j (by omega) ?_
      rw [List.getD_eq_getElem?_getD, List.getElem?_eq_getElem hj]
      exact e
  | k + 1, i, f + 1, hf, hk, hp => by
    unfold f_J20_indexOfChar_7
    rw [if_neg (by omega), gd_pos ⟨k0, by omega, by rw [l0]; omega⟩, ct i (by omega)]
    by_cases z : l.getD i 0 = c
    · refine ⟨i, by rw [if_pos z], ⟨fun w => absurd w (by omega), fun w => absurd ?_ w⟩⟩
      rw [← z, List.getD_eq_getElem?_getD, List.getElem?_eq_getElem (by omega)]
      exact List.getElem_mem _
    · obtain ⟨v, e1, e2⟩ := ioc_loop k0 l0 ct hl k (i + 1) f (by omega) (by omega) fun j hj => by
        by_cases w : j = i
        · rw [w]; exact z
        · exact hp j (by omega)
      refine ⟨v, ?_, e2⟩
      rw [if_neg z, gI_pos (by omega), nm_eq, show (i : Int) + 1 = ((i + 1 : Nat) : Int) by omega]
      exact e1
theorem indexOf_eq (hn : 1000000 ≤ n) (hK : KS σ) (hc : -128 ≤ c ∧ c ≤ 127) : ∃ v, f_J15_indexOf n 99 c σ = some (v, σ) ∧ (v < 0 ↔ sgn1 c = 50) := by
  obtain ⟨⟨a1, a2, a3, a4, a5⟩, a6⟩ := hK.str (r := 99) (l := wSigns) (by decide)
  have g : kd σ 99 = 24 ∨ kd σ 99 = 1024 := Or.inr a6
  have hne : sgn1 c = 50 ↔ ¬ c ∈ wSigns := by
    rw [wSigns_iff]
    exact ⟨fun z w => w z, fun z => Classical.byContradiction z⟩
  have main : ∃ v, f_J20_indexOf n (ld σ 99 0) c 0 12 σ = some (v, σ) ∧ (v < 0 ↔ sgn1 c = 50) := by
    unfold f_J20_indexOf f_J20_canEncode_2
    by_cases z : c < 0
    · refine ⟨-1, by rw [if_pos z, c1_at, if_pos rfl], ⟨fun _ => ?_, fun _ => by decide⟩⟩
      rw [hne]
      intro w
      have : ∀ y ∈ wSigns, 0 ≤ y := by decide
      have := this c w
      omega
    · obtain ⟨v, e1, e2⟩ := ioc_loop (n := n) (c := c) a3 a4 a5 (by decide) 12 0 n (by omega) rfl (fun j hj => absurd hj (by omega))
      refine ⟨v, ?_, e2.trans hne.symm⟩
      have l12 : ln σ (ld σ 99 0) = 12 := a4
      unfold f_J12_max
      rw [if_neg z, if_neg (by omega), c1_at, if_neg (by decide), if_neg (by decide), c1_at, gd_pos a3, l12, f_J12_min_eq, c1_at, if_pos (by decide)]
      unfold f_J20_indexOfChar
      rw [nm_eq, bw_pos ⟨by omega, hc.2⟩]
      have e1' : f_J20_indexOfChar_7 n n (ld σ 99 0) 12 c 0 σ = some (v, σ) := e1
      rw [show min (12 : Int) 12 = 12 from rfl, e1', c1_at]
  obtain ⟨v, e1, e2⟩ := main
  refine ⟨v, ?_, e2⟩
  unfold f_J15_indexOf f_J15_indexOf_2 f_J15_isLatin1 f_J15_length f_J15_coder
  have l12 : ln σ (ld σ 99 0) = 12 := a4
  rw [gd_pos g, gd_pos g, if_neg (by decide), gd_pos g, a2, if_pos rfl, c1_at, if_neg (by decide), gd_pos g, gd_pos g, gd_pos g, gd_pos a3, gd_pos g, if_neg (by decide), gd_pos g, gd_pos (by rw [a2]; decide), c1_at, a2, l12, c1_at, show ishrW 12 0 = 12 from rfl, e1, c1_at, c1_at]
end CN
