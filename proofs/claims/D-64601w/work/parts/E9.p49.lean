/-! THE TWIN's graph: rows of labels, edges, properties -/
set_option maxRecDepth 100000
def PrOk (τ : TT) (L : List Pr) : Prop := τ 1022 6 = L.length ∧ ∀ (i : Nat) (x : Pr), L[i]? = some x → τ 1027 (4 * i) = x.1 ∧ τ 1027 (4 * i + 1) = x.2.1 ∧ τ 1027 (4 * i + 2) = x.2.2.1 ∧ τ 1027 (4 * i + 3) = x.2.2.2
def TG (τ : TT) (G : Gr) : Prop := (∀ n, 0 ≤ n → n < 400 → τ 1023 n = gl G n) ∧ (∀ e, 0 ≤ e → e < 1000 → τ 1024 e = gt G e) ∧ (∀ e, 0 ≤ e → e < 1000 → gt G e ≠ -1 → τ 1025 e = gf G e ∧ τ 1026 e = go G e) ∧ PrOk τ (gp G)
theorem PrOk.frame {τ τ' : TT} {L : List Pr} (h : PrOk τ L) (h1 : ∀ j, τ' 1027 j = τ 1027 j) (h2 : τ' 1022 6 = τ 1022 6) : PrOk τ' L :=
  ⟨h2.trans h.1, fun i x hx => by rw [h1, h1, h1, h1]; exact h.2 i x hx⟩
theorem TG.frame {τ τ' : TT} {G : Gr} (h : TG τ G) (h1 : ∀ r j, 1023 ≤ r → r ≤ 1027 → τ' r j = τ r j) (h2 : τ' 1022 6 = τ 1022 6) : TG τ' G := by
  obtain ⟨a1, a2, a3, a4⟩ := h
  exact ⟨fun n x y => by rw [h1 _ _ (by decide) (by decide)]; exact a1 n x y, fun n x y => by rw [h1 _ _ (by decide) (by decide)]; exact a2 n x y, fun n x y z => by rw [h1 _ _ (by decide) (by decide), h1 _ _ (by decide) (by decide)]; exact a3 n x y z, a4.frame (fun j => h1 _ _ (by decide) (by decide)) h2⟩
theorem ff_congr {f g : F1} : ∀ {m k : Nat}, (∀ i : Nat, k ≤ i → i < k + m → f i = g i) → ff f m k = ff g m k
  | 0, k, _ => rfl
  | m + 1, k, h => by
    unfold ff
    rw [h k (by omega) (by omega), ff_congr fun i a b => h i (by omega) (by omega)]
section TWB
variable {τ : TT} {n : Nat} {G : Gr} {L : List Pr} {s b k : Int}
theorem first_loop {r : Int} {N : Nat} (hr : (N : Int) ≤ tn r) (hN : N ≤ 1000) : ∀ (m q i : Nat), m < q → i + m = N → g_X7_first_2 n q r N i τ = some (((ff (τ r) m i : Nat) : Int), τ) := by
  intro m
  induction m with
  | zero =>
    intro q i hq hi
    obtain ⟨q, rfl⟩ : ∃ z, q = z + 1 := ⟨q - 1, by omega⟩
    unfold g_X7_first_2 ff
    rw [if_pos (by omega)]
  | succ m ih =>
    intro q i hq hi
    obtain ⟨q, rfl⟩ : ∃ z, q = z + 1 := ⟨q - 1, by omega⟩
    unfold g_X7_first_2 ff
    rw [if_neg (by omega), gd_pos ⟨by omega, by omega⟩]
    by_cases c : τ r (i : Int) = -1
    · rw [if_pos c, if_pos c]
    · rw [if_neg c, if_neg c, gI_pos (by omega)]
      show g_X7_first_2 n q r N ((i : Int) + 1) τ = _
      have := ih q (i + 1) (by omega) (by omega)
      rw [show (((i + 1 : Nat) : Int)) = (i : Int) + 1 by omega] at this
      exact this
theorem first_nodes (hn : 1000000 ≤ n) (h : TG τ G) : g_X7_first n 1023 400 τ = some (((ff (gl G) 400 0 : Nat) : Int), τ) := by
  unfold g_X7_first
  rw [← ff_congr (f := τ 1023) (g := gl G) (fun i a b => h.1 i (by omega) (by omega))]
  exact first_loop (r := 1023) (N := 400) (by decide) (by decide) 400 n 0 (by omega) (by omega)
theorem first_edges (hn : 1000000 ≤ n) (h : TG τ G) : g_X7_first n 1024 1000 τ = some (((ff (gt G) 1000 0 : Nat) : Int), τ) := by
  unfold g_X7_first
  rw [← ff_congr (f := τ 1024) (g := gt G) (fun i a b => h.2.1 i (by omega) (by omega))]
  exact first_loop (r := 1024) (N := 1000) (by decide) (by decide) 1000 n 0 (by omega) (by omega)
theorem isSmall_eq {a : Int} : g_X7_isSmall a τ = some (if isS a = true then 1 else 0, τ) := by
  unfold g_X7_isSmall isS
  by_cases c1 : a < 0
  · rw [if_pos c1, if_neg (by rw [decide_eq_true_iff]; omega)]
  · rw [if_neg c1]
    by_cases c2 : 32 ≤ a
    · rw [if_pos c2, if_neg (by rw [decide_eq_true_iff]; omega)]
    · rw [if_neg c2, if_pos (by rw [decide_eq_true_iff]; omega)]
theorem isNode_eq {a v : Int} (h : TG τ G) : g_X7_isNode a v τ = some (if isN G v = true then 1 else 0, τ) := by
  unfold g_X7_isNode isN
  by_cases c1 : v < 0
  · rw [if_pos c1, if_neg (by rw [decide_eq_true_iff]; omega)]
  · rw [if_neg c1]
    by_cases c2 : 400 ≤ v
    · rw [if_pos c2, if_neg (by rw [decide_eq_true_iff]; omega)]
    · rw [if_neg c2, gd_pos ⟨by omega, by omega⟩, h.1 v (by omega) (by omega)]
      by_cases c : gl G v = -1
      · rw [if_pos c, if_neg (by rw [decide_eq_true_iff]; exact fun z => z.2.2 c)]
      · rw [if_neg c, if_pos (by rw [decide_eq_true_iff]; exact ⟨by omega, by omega, c⟩)]
theorem isEdge_eq {a v : Int} (h : TG τ G) : g_X7_isEdge a v τ = some (if isE G v = true then 1 else 0, τ) := by
  unfold g_X7_isEdge isE
  by_cases c1 : v < 0
  · rw [if_pos c1, if_neg (by rw [decide_eq_true_iff]; omega)]
  · rw [if_neg c1]
    by_cases c2 : 1000 ≤ v
    · rw [if_pos c2, if_neg (by rw [decide_eq_true_iff]; omega)]
    · rw [if_neg c2, gd_pos ⟨by omega, by omega⟩, h.2.1 v (by omega) (by omega)]
      by_cases c : gt G v = -1
      · rw [if_pos c, if_neg (by rw [decide_eq_true_iff]; exact fun z => z.2.2 c)]
      · rw [if_neg c, if_pos (by rw [decide_eq_true_iff]; exact ⟨by omega, by omega, c⟩)]
/-- the place of a property -/
def pI (s b k : Int) : Nat → List Pr → Int
  | _, [] => -1
  | j, x :: L => if x.1 = s ∧ x.2.1 = b ∧ x.2.2.1 = k then (j : Int) else pI s b k (j + 1) L
theorem pI_spec : ∀ {L : List Pr} {j : Nat}, (pI s b k j L = -1 ∧ lk s b k L = none ∧ remP s b k L = L ∧ ∀ d, setP s b k d L = L ++ [(s, b, k, d)]) ∨ ∃ (i : Nat) (x : Pr), pI s b k j L = ((j + i : Nat) : Int) ∧ L[i]? = some x ∧ (x.1 = s ∧ x.2.1 = b ∧ x.2.2.1 = k) ∧ lk s b k L = some x.2.2.2 ∧ remP s b k L = L.eraseIdx i ∧ ∀ d, setP s b k d L = L.set i (s, b, k, d)
  | [], j => Or.inl ⟨rfl, rfl, rfl, fun _ => rfl⟩
  | x :: L, j => by
    by_cases c : x.1 = s ∧ x.2.1 = b ∧ x.2.2.1 = k
    · refine Or.inr ⟨0, x, ?_, rfl, c, ?_, ?_, fun d => ?_⟩
      · unfold pI; rw [if_pos c]; rfl
      · unfold lk; rw [if_pos c]
      · unfold remP; rw [if_pos c]; rfl
      · unfold setP; rw [if_pos c]; rfl
    · rcases pI_spec (L := L) (j := j + 1) with ⟨a1, a2, a3, a4⟩ | ⟨i, y, a1, a2, a3, a4, a5, a6⟩
      · refine Or.inl ⟨?_, ?_, ?_, fun d => ?_⟩
        · unfold pI; rw [if_neg c]; exact a1
        · unfold lk; rw [if_neg c]; exact a2
        · unfold remP; rw [if_neg c, a3]
        · unfold setP; rw [if_neg c, a4]; rfl
      · refine Or.inr ⟨i + 1, y, ?_, a2, a3, ?_, ?_, fun d => ?_⟩
        · unfold pI; rw [if_neg c, a1]; congr 1; omega
        · unfold lk; rw [if_neg c]; exact a4
        · unfold remP; rw [if_neg c, a5]; rfl
        · unfold setP; rw [if_neg c, a6]; rfl
theorem property_loop {a : Int} (hs : s = if a = 0 then 0 else 1) (h : PrOk τ L) (hL : L.length ≤ 400) : ∀ (m q j : Nat), m < q → j + m = L.length → g_X7_property_3 n q 1022 a b k j τ = some (pI s b k j (L.drop j), τ) := by
  intro m
  induction m with
  | zero =>
    intro q j hq hj
    obtain ⟨q, rfl⟩ : ∃ z, q = z + 1 := ⟨q - 1, by omega⟩
    unfold g_X7_property_3
    rw [h.1, if_pos (by omega), List.drop_of_length_le (by omega)]
    rfl
  | succ m ih =>
    intro q j hq hj
    obtain ⟨q, rfl⟩ : ∃ z, q = z + 1 := ⟨q - 1, by omega⟩
    obtain ⟨x, hx⟩ : ∃ x, L[j]? = some x := ⟨L[j], List.getElem?_eq_getElem (by omega)⟩
    obtain ⟨x1, x2, x3, x4⟩ := h.2 j x hx
    have ed : L.drop j = x :: L.drop (j + 1) := by
      obtain ⟨hj', hv⟩ := List.getElem?_eq_some_iff.mp hx
      rw [← hv]
      exact List.drop_eq_getElem_cons hj'
    have ih' := ih q (j + 1) (by omega) (by omega)
    rw [show (((j + 1 : Nat) : Int)) = (j : Int) + 1 by omega] at ih'
    have next : g_X7_property_66 n (g_X7_property_3 n q) 1022 a b k j τ = some (pI s b k (j + 1) (L.drop (j + 1)), τ) := by
      unfold g_X7_property_66
      rw [gI_pos (by omega)]
      exact ih'
    unfold g_X7_property_3
    rw [h.1, if_neg (by omega), gI_pos (by omega), gd_pos ⟨by omega, by omega⟩, ed]
    unfold pI
    have body : g_X7_property_30 n (g_X7_property_3 n q) 1022 a b k j (τ 1027 (4 * j)) s τ = some (if x.1 = s ∧ x.2.1 = b ∧ x.2.2.1 = k then (j : Int) else pI s b k (j + 1) (L.drop (j + 1)), τ) := by
      unfold g_X7_property_30
      rw [x1]
      by_cases c1 : x.1 = s
      · rw [if_pos c1, gI_pos (by omega), gI_pos (by omega), gd_pos ⟨by omega, by omega⟩, x2]
        by_cases c2 : x.2.1 = b
        · rw [if_pos c2, gI_pos (by omega), gI_pos (by omega), gd_pos ⟨by omega, by omega⟩, x3]
          by_cases c3 : x.2.2.1 = k
          · rw [if_pos c3, if_pos ⟨c1, c2, c3⟩]
          · rw [if_neg c3, next, if_neg (fun z => c3 z.2.2)]
        · rw [if_neg c2, next, if_neg (fun z => c2 z.2.1)]
      · rw [if_neg c1, next, if_neg (fun z => c1 z.1)]
    by_cases c : a = 0
    · rw [if_pos c] at hs ⊢
      rw [hs] at body ⊢
      exact body
    · rw [if_neg c] at hs ⊢
      rw [hs] at body ⊢
      exact body
theorem property_eq {a : Int} (hs : s = if a = 0 then 0 else 1) (hn : 1000000 ≤ n) (h : PrOk τ L) (hL : L.length ≤ 400) : g_X7_property n 1022 a b k τ = some (pI s b k 0 L, τ) := by
  have := property_loop (n := n) (b := b) (k := k) hs h hL L.length n 0 (by omega) (by omega)
  unfold g_X7_property
  exact this
/-- the cells behind a property move up -/
theorem remove_loop : ∀ (m q : Nat) (τ : TT) (i : Int), m < q → i + m = 4 * τ 1022 6 → 0 ≤ i → τ 1022 6 ≤ 400 → Wp (g_X7_removeProperty_14 n q 1022 i τ) fun τ' => ∀ r j, τ' r j = if r = 1027 ∧ i ≤ j ∧ j < 4 * τ 1022 6 then τ 1027 (j + 4) else τ r j := by
  intro m
  induction m with
  | zero =>
    intro q τ i hq hi h0 hL
    obtain ⟨q, rfl⟩ : ∃ z, q = z + 1 := ⟨q - 1, by omega⟩
    unfold g_X7_removeProperty_14
    refine wp_gI (by omega) (wp_pos (by omega) (wp_ok fun r j => ?_))
    rw [if_neg (by omega)]
  | succ m ih =>
    intro q τ i hq hi h0 hL
    obtain ⟨q, rfl⟩ : ∃ z, q = z + 1 := ⟨q - 1, by omega⟩
    unfold g_X7_removeProperty_14
    refine wp_gI (by omega) (wp_neg (by omega) (wp_gI (by omega) (wp_gd ⟨by omega, by omega⟩ (wp_gd ⟨by omega, by omega⟩ (wp_nm0 (wp_gI (by omega) (wp_nm0 ?_)))))))
    have e6 : sa τ 1027 i (τ 1027 (i + 4)) 1022 6 = τ 1022 6 := by rw [sa_at, if_neg (by omega)]
    refine wp_mono (ih q (sa τ 1027 i (τ 1027 (i + 4))) (i + 1) (by omega) (by rw [e6]; omega) (by omega) (by rw [e6]; exact hL)) fun τ' hq r j => ?_
    rw [hq, e6]
    by_cases c : r = 1027 ∧ i ≤ j ∧ j < 4 * τ 1022 6
    · rw [if_pos c]
      by_cases c2 : j = i
      · rw [if_neg (by omega), c2, sa_at, if_pos ⟨c.1, rfl⟩]
      · rw [if_pos ⟨c.1, by omega, c.2.2⟩, sa_at, if_neg (by omega)]
    · rw [if_neg c, if_neg (by omega), sa_at, if_neg (by omega)]
/-- what of the twin's contents stays -/
def PFr (τ τ' : TT) : Prop := ∀ r j, r ≠ 1027 → ¬ (r = 1022 ∧ j = 6) → τ' r j = τ r j
theorem removeProperty_wp {i : Nat} (hn : 1000000 ≤ n) (h : PrOk τ L) (hi : i < L.length) (hL : L.length ≤ 400) : Wp (g_X7_removeProperty n 1022 i τ) fun τ' => PrOk τ' (L.eraseIdx i) ∧ PFr τ τ' := by
  unfold g_X7_removeProperty
  rw [h.1]
  refine wp_gI (by omega) (wp_nm0 (wp_gI (by omega) (wp_nm0 ?_)))
  have e6 : sa τ 1022 6 ((L.length : Int) - 1) 1022 6 = (L.length : Int) - 1 := by rw [sa_at, if_pos ⟨rfl, rfl⟩]
  refine wp_mono (remove_loop (n := n) (4 * (L.length - 1) - 4 * i) n (sa τ 1022 6 ((L.length : Int) - 1)) (4 * i) (by omega) (by rw [e6]; omega) (by omega) (by rw [e6]; omega)) fun τ' hq => ⟨⟨?_, fun j x hx => ?_⟩, fun r j h1 h2 => ?_⟩
  · rw [hq, if_neg (by omega), e6, List.length_eraseIdx, if_pos hi]
    omega
  · have e7 : ∀ z, sa τ 1022 6 ((L.length : Int) - 1) 1027 z = τ 1027 z := fun z => by rw [sa_at, if_neg (by omega)]
    rw [hq, hq, hq, hq, e6, e7, e7, e7, e7, e7, e7, e7, e7]
    rw [List.getElem?_eraseIdx] at hx
    have hb : j < L.length - 1 := by
      have : j < (L.eraseIdx i).length := by
        rw [← List.getElem?_eraseIdx] at hx
        exact (List.getElem?_eq_some_iff.mp hx).1
      rw [List.length_eraseIdx, if_pos hi] at this
      exact this
    by_cases c : j < i
    · rw [if_pos c] at hx
      rw [if_neg (by omega), if_neg (by omega), if_neg (by omega), if_neg (by omega)]
      exact h.2 j x hx
    · rw [if_neg c] at hx
      rw [if_pos ⟨rfl, by omega, by omega⟩, if_pos ⟨rfl, by omega, by omega⟩, if_pos ⟨rfl, by omega, by omega⟩, if_pos ⟨rfl, by omega, by omega⟩]
      have := h.2 (j + 1) x hx
      rw [show (4 : Int) * j + 4 = 4 * ((j + 1 : Nat) : Int) by omega, show (4 : Int) * j + 1 + 4 = 4 * ((j + 1 : Nat) : Int) + 1 by omega, show (4 : Int) * j + 2 + 4 = 4 * ((j + 1 : Nat) : Int) + 2 by omega, show (4 : Int) * j + 3 + 4 = 4 * ((j + 1 : Nat) : Int) + 3 by omega]
      exact this
  · rw [hq, if_neg (fun z => h1 z.1), sa_at, if_neg h2]
theorem remA_append : ∀ {A B : List Pr}, remA s b (A ++ B) = remA s b A ++ remA s b B
  | [], B => rfl
  | x :: A, B => by
    show (if x.1 = s ∧ x.2.1 = b then remA s b (A ++ B) else x :: remA s b (A ++ B)) = (if x.1 = s ∧ x.2.1 = b then remA s b A else x :: remA s b A) ++ remA s b B
    by_cases c : x.1 = s ∧ x.2.1 = b
    · rw [if_pos c, if_pos c, remA_append]
    · rw [if_neg c, if_neg c, remA_append]; rfl
theorem PFr.trans {τ τ1 τ2 : TT} (h : PFr τ τ1) (h' : PFr τ1 τ2) : PFr τ τ2 := fun r j a b => (h' r j a b).trans (h r j a b)
theorem removeAll_loop {a : Int} (hs : s = if a = 0 then 0 else 1) (hn : 1000000 ≤ n) : ∀ (m q : Nat) (A B : List Pr) (τ : TT), A.length = m → m < q → PrOk τ (A ++ B) → (A ++ B).length ≤ 400 → Wp (g_X7_removeAll_7 n q 1022 a b ((A.length : Int) - 1) τ) fun τ' => PrOk τ' (remA s b A ++ B) ∧ PFr τ τ' := by
  intro m
  induction m with
  | zero =>
    intro q A B τ hA hq h hL
    obtain ⟨q, rfl⟩ : ∃ z, q = z + 1 := ⟨q - 1, by omega⟩
    have : A = [] := List.length_eq_zero_iff.mp hA
    subst this
    unfold g_X7_removeAll_7
    exact wp_pos (by show ((0 : Nat) : Int) - 1 < 0; omega) (wp_ok ⟨h, fun _ _ _ _ => rfl⟩)
  | succ m ih =>
    intro q A B τ hA hq h hL
    obtain ⟨q, rfl⟩ : ∃ z, q = z + 1 := ⟨q - 1, by omega⟩
    obtain ⟨A', x, rfl⟩ : ∃ A' x, A = A' ++ [x] := by
      rcases List.eq_nil_or_concat A with e | ⟨A', x, e⟩
      · rw [e] at hA; simp at hA
      · exact ⟨A', x, by rw [e, List.concat_eq_append]⟩
    have lA : A'.length = m := by simp at hA; exact hA
    have lL : A'.length + 1 + B.length ≤ 400 := by simp at hL; omega
    rw [List.append_assoc] at h
    have hx : (A' ++ ([x] ++ B))[A'.length]? = some x := by simp
    obtain ⟨x1, x2, x3, x4⟩ := h.2 A'.length x hx
    have e1 : (((A' ++ [x]).length : Nat) : Int) - 1 = A'.length := by simp
    rw [e1]
    have next : ∀ (B' : List Pr) (τ1 : TT), PrOk τ1 (A' ++ B') → (A' ++ B').length ≤ 400 → remA s b [x] ++ B = B' → PFr τ τ1 → Wp (g_X7_removeAll_50 n (g_X7_removeAll_7 n q) 1022 a b A'.length τ1) fun τ' => PrOk τ' (remA s b (A' ++ [x]) ++ B) ∧ PFr τ τ' := fun B' τ1 g1 g2 g3 g4 => by
      unfold g_X7_removeAll_50
      refine wp_gI (by omega) (wp_nm0 ?_)
      refine wp_mono (ih q A' B' τ1 lA (by omega) g1 g2) fun τ' hq => ⟨?_, g4.trans hq.2⟩
      rw [remA_append, List.append_assoc, g3]
      exact hq.1
    have keep : ¬ (x.1 = s ∧ x.2.1 = b) → Wp (g_X7_removeAll_50 n (g_X7_removeAll_7 n q) 1022 a b A'.length τ) fun τ' => PrOk τ' (remA s b (A' ++ [x]) ++ B) ∧ PFr τ τ' := fun c => by
      refine next ([x] ++ B) τ h (by simp; omega) ?_ fun _ _ _ _ => rfl
      unfold remA
      rw [if_neg c]
      rfl
    unfold g_X7_removeAll_7
    refine wp_neg (by omega) (wp_gI (by omega) (wp_gd ⟨by omega, by omega⟩ ?_))
    have body : Wp (g_X7_removeAll_28 n (g_X7_removeAll_7 n q) 1022 a b A'.length (τ 1027 (4 * A'.length)) s τ) fun τ' => PrOk τ' (remA s b (A' ++ [x]) ++ B) ∧ PFr τ τ' := by
      unfold g_X7_removeAll_28
      rw [x1]
      refine wp_ite (fun c1 => ?_) (fun c1 => keep fun z => c1 z.1)
      refine wp_gI (by omega) (wp_gI (by omega) (wp_gd ⟨by omega, by omega⟩ ?_))
      rw [x2]
      refine wp_ite (fun c2 => ?_) (fun c2 => keep fun z => c2 z.2)
      refine wp_t0 (wp_mono (removeProperty_wp hn h (i := A'.length) (by simp) (by simp; omega)) fun τ1 hq => ?_)
      have e : (A' ++ ([x] ++ B)).eraseIdx A'.length = A' ++ B := by
        rw [List.eraseIdx_append_of_length_le (Nat.le_refl _), Nat.sub_self]
        rfl
      rw [e] at hq
      refine next B τ1 hq.1 (by simp; omega) ?_ hq.2
      unfold remA
      rw [if_pos ⟨c1, c2⟩]
      rfl
    by_cases c : a = 0
    · rw [if_pos c] at hs ⊢
      rw [hs] at body ⊢
      exact body
    · rw [if_neg c] at hs ⊢
      rw [hs] at body ⊢
      exact body
theorem removeAll_wp {a : Int} (hs : s = if a = 0 then 0 else 1) (hn : 1000000 ≤ n) (h : PrOk τ L) (hL : L.length ≤ 400) : Wp (g_X7_removeAll n 1022 a b τ) fun τ' => PrOk τ' (remA s b L) ∧ PFr τ τ' := by
  unfold g_X7_removeAll
  rw [h.1]
  refine wp_gI (by omega) (wp_nm0 ?_)
  have := removeAll_loop (b := b) hs hn L.length n L [] τ rfl (by omega) (by rw [List.append_nil]; exact h) (by rw [List.append_nil]; exact hL)
  rw [List.append_nil] at this
  exact this
end TWB
