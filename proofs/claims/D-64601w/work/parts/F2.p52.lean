/-! THE TWIN's calls over the graph: what is read; crash, sync, count -/
set_option maxRecDepth 100000
theorem ctT_append {s b : Int} : ∀ {A B : List Pr}, ctT s b (A ++ B) = ctT s b A + ctT s b B
  | [], B => (Nat.zero_add _).symm
  | x :: A, B => by
    show (if x.1 = s ∧ x.2.1 = b then 1 else 0) + ctT s b (A ++ B) = (if x.1 = s ∧ x.2.1 = b then 1 else 0) + ctT s b A + ctT s b B
    rw [ctT_append, Nat.add_assoc]
theorem ctT_le {s b : Int} : ∀ {A : List Pr}, ctT s b A ≤ A.length
  | [] => Nat.le_refl 0
  | x :: A => by
    have := ctT_le (s := s) (b := b) (A := A)
    show (if x.1 = s ∧ x.2.1 = b then 1 else 0) + ctT s b A ≤ A.length + 1
    by_cases c : x.1 = s ∧ x.2.1 = b
    · rw [if_pos c]; omega
    · rw [if_neg c]; omega
theorem nums_split : ∀ {n e : Nat}, e < n → ∃ R, nums n = nums e ++ ((e : Int) :: R)
  | n + 1, e, h => by
    by_cases c : e = n
    · exact ⟨[], by rw [nums_succ, c]⟩
    · obtain ⟨R, hR⟩ := nums_split (n := n) (e := e) (by omega)
      exact ⟨R ++ [(n : Int)], by rw [nums_succ, hR, List.append_assoc]; rfl⟩
theorem getD_mid {A R : List Int} {x : Int} : (A ++ x :: R).getD A.length 0 = x := by
  simp
section TWE
variable {τ : TT} {n : Nat} {k : Nat} {l : List Ch} {G : Gr}
theorem propsOf_loop {s b a : Int} {L : List Pr} (hs : s = if a = 0 then 0 else 1) (h : PrOk τ L) (hL : L.length ≤ 400) : ∀ (m q j : Nat), m < q → j + m = L.length → g_X7_propertiesOf_5 n q 1022 a b (ctT s b (L.take j) : Nat) j τ = some (((ctT s b L : Nat) : Int), τ) := by
  intro m
  induction m with
  | zero =>
    intro q j hq hj
    obtain ⟨q, rfl⟩ : ∃ z, q = z + 1 := ⟨q - 1, by omega⟩
    unfold g_X7_propertiesOf_5
    rw [h.1, if_pos (by omega), List.take_of_length_le (by omega)]
  | succ m ih =>
    intro q j hq hj
    obtain ⟨q, rfl⟩ : ∃ z, q = z + 1 := ⟨q - 1, by omega⟩
    obtain ⟨x, hx⟩ : ∃ x, L[j]? = some x := ⟨L[j], List.getElem?_eq_getElem (by omega)⟩
    obtain ⟨x1, x2, x3, x4⟩ := h.2 j x hx
    have ed : L.take (j + 1) = L.take j ++ [x] := by
      rw [List.take_add_one, hx]
      rfl
    have hle := ctT_le (s := s) (b := b) (A := L.take j)
    rw [List.length_take] at hle
    have ih' := ih q (j + 1) (by omega) (by omega)
    have step : ∀ s1 : Int, s1 = (if x.1 = s ∧ x.2.1 = b then 1 else 0 : Nat) → g_X7_propertiesOf_56 n (g_X7_propertiesOf_5 n q) 1022 a b j (ctT s b (L.take j) : Nat) s1 τ = some (((ctT s b L : Nat) : Int), τ) := fun s1 e => by
      have e1 : ctT s b (L.take (j + 1)) = ctT s b (L.take j) + (if x.1 = s ∧ x.2.1 = b then 1 else 0) := by
        rw [ed, ctT_append]
        rfl
      rw [e1] at ih'
      have : (if x.1 = s ∧ x.2.1 = b then 1 else 0 : Nat) ≤ 1 := by
        by_cases c : x.1 = s ∧ x.2.1 = b
        · rw [if_pos c]; exact Nat.le_refl 1
        · rw [if_neg c]; exact Nat.zero_le 1
      generalize (if x.1 = s ∧ x.2.1 = b then 1 else 0 : Nat) = w at *
      unfold g_X7_propertiesOf_56
      rw [gI_pos (by omega), nm_eq, gI_pos (by omega), nm_eq, e, show (((ctT s b (L.take j) : Nat) : Int) + (w : Int)) = ((ctT s b (L.take j) + w : Nat) : Int) by omega, show (j : Int) + 1 = ((j + 1 : Nat) : Int) by omega]
      exact ih'
    have none' : g_X7_propertiesOf_55 n (g_X7_propertiesOf_56 n (g_X7_propertiesOf_5 n q)) 1022 a b j (ctT s b (L.take j) : Nat) τ = g_X7_propertiesOf_56 n (g_X7_propertiesOf_5 n q) 1022 a b j (ctT s b (L.take j) : Nat) 0 τ := rfl
    have body : g_X7_propertiesOf_33 n (g_X7_propertiesOf_5 n q) 1022 a b j (ctT s b (L.take j) : Nat) (τ 1027 (4 * j)) s τ = some (((ctT s b L : Nat) : Int), τ) := by
      unfold g_X7_propertiesOf_33
      rw [x1]
      by_cases c1 : x.1 = s
      · rw [if_pos c1, gI_pos (by omega), gI_pos (by omega), gd_pos ⟨by omega, by omega⟩, x2]
        by_cases c2 : x.2.1 = b
        · rw [if_pos c2]
          exact step 1 (by rw [if_pos ⟨c1, c2⟩]; rfl)
        · rw [if_neg c2, none']
          exact step 0 (by rw [if_neg (fun z => c2 z.2)]; rfl)
      · rw [if_neg c1, none']
        exact step 0 (by rw [if_neg (fun z => c1 z.1)]; rfl)
    unfold g_X7_propertiesOf_5
    rw [h.1, if_neg (by omega), gI_pos (by omega), gd_pos ⟨by omega, by omega⟩]
    by_cases c : a = 0
    · rw [if_pos c] at hs ⊢
      rw [hs] at body ⊢
      exact body
    · rw [if_neg c] at hs ⊢
      rw [hs] at body ⊢
      exact body
theorem propsOf_eq {s b a : Int} {L : List Pr} (hs : s = if a = 0 then 0 else 1) (hn : 1000000 ≤ n) (h : PrOk τ L) (hL : L.length ≤ 400) : g_X7_propertiesOf n 1022 a b τ = some (((ctT s b L : Nat) : Int), τ) := by
  have := propsOf_loop (n := n) (b := b) hs h hL L.length n 0 (by omega) (by omega)
  unfold g_X7_propertiesOf
  exact this
theorem tw_ofNode {v w : Int} (hn : 1000000 ≤ n) (h : TI τ k l) (hl : l.length ≤ 64) : Wp (g_X7_ofNode n 1022 v w τ) (TAns τ k l (sOfN (run l) v w)) := by
  obtain ⟨l1, l2, l3, hG⟩ := h.len (by omega)
  have h0 := h.code (v := 0)
  have thr : ∀ c : Int, 0 < c → Wp (g_X7_ofNode_27 n 1022 v w 1022 c τ) (TAns τ k l (c, 0, [])) := fun c hc => by
    unfold g_X7_ofNode_27
    refine wp_nm0 ?_
    rw [code_at]
    exact wp_neg (by omega) (wp_ok (tans_throw h (by omega)))
  unfold g_X7_ofNode
  refine wp_t1e (isNode_eq h.1) ?_
  by_cases c : isN (run l) v = true
  · have hv := isN_iff.mp c
    rw [if_pos c]
    refine wp_neg (by decide) ?_
    by_cases cw : 0 ≤ w ∧ w ≤ 3
    · refine wp_neg (by omega) (wp_pos (by omega) ?_)
      unfold g_X7_ofNode_27
      refine wp_nm0 ?_
      rw [code_at]
      refine wp_pos (by decide) ?_
      by_cases w0 : w = 0
      · have es : sOfN (run l) v w = (0, gl (run l) v, []) := by unfold sOfN; rw [if_pos c, if_pos w0]
        rw [es]
        refine wp_pos w0 (wp_gd ⟨hv.1, hv.2.1⟩ ?_)
        rw [h0.1.1 v hv.1 hv.2.1]
        exact wp_ok (tans_see h)
      refine wp_neg w0 ?_
      by_cases w3 : w = 3
      · have es : sOfN (run l) v w = (0, ((ctT 0 v (gp (run l)) : Nat) : Int), []) := by unfold sOfN; rw [if_pos c, if_neg w0, if_neg (by omega), if_neg (by omega), if_pos w3]
        rw [es]
        exact wp_pos w3 (wp_t1e (propsOf_eq (s := 0) (a := 0) rfl hn h0.1.2.2.2 l1) (wp_ok (tans_see h)))
      refine wp_neg w3 ?_
      by_cases w2 : w = 2
      · have es : sOfN (run l) v w = (0, ((dgI (run l) v : Nat) : Int), []) := by unfold sOfN; rw [if_pos c, if_neg w0, if_neg (by omega), if_pos w2]
        rw [es]
        refine wp_pos w2 ?_
        unfold g_X7_ofNode_78
        exact wp_t1e (degree_eq hn h0.1) (wp_ok (tans_see h))
      · have es : sOfN (run l) v w = (0, ((dgO (run l) v : Nat) : Int), []) := by unfold sOfN; rw [if_pos c, if_neg w0, if_pos (by omega)]
        rw [es]
        refine wp_neg w2 ?_
        unfold g_X7_ofNode_78
        exact wp_t1e (degree_eq hn h0.1) (wp_ok (tans_see h))
    · have es : sOfN (run l) v w = (2, 0, []) := by unfold sOfN; rw [if_pos c, if_neg (by omega), if_neg (by omega), if_neg (by omega), if_neg (by omega)]
      rw [es]
      unfold g_X7_ofNode_22
      by_cases c1 : w < 0
      · exact wp_pos c1 (thr 2 (by decide))
      · exact wp_neg c1 (wp_neg (by omega) (thr 2 (by decide)))
  · have es : sOfN (run l) v w = (1, 0, []) := by unfold sOfN; rw [if_neg c]
    rw [if_neg c, es]
    exact wp_pos rfl (thr 1 (by decide))
theorem tw_ofEdge {v w : Int} (hn : 1000000 ≤ n) (h : TI τ k l) (hl : l.length ≤ 64) : Wp (g_X7_ofEdge n 1022 v w τ) (TAns τ k l (sOfE (run l) v w)) := by
  obtain ⟨l1, l2, l3, hG⟩ := h.len (by omega)
  have h0 := h.code (v := 0)
  have thr : ∀ c : Int, 0 < c → Wp (g_X7_ofEdge_27 n 1022 v w 1022 c τ) (TAns τ k l (c, 0, [])) := fun c hc => by
    unfold g_X7_ofEdge_27
    refine wp_nm0 ?_
    rw [code_at]
    exact wp_neg (by omega) (wp_ok (tans_throw h (by omega)))
  unfold g_X7_ofEdge
  refine wp_t1e (isEdge_eq h.1) ?_
  by_cases c : isE (run l) v = true
  · have hv := isE_iff.mp c
    rw [if_pos c]
    refine wp_neg (by decide) ?_
    by_cases cw : 0 ≤ w ∧ w ≤ 3
    · refine wp_neg (by omega) (wp_pos (by omega) ?_)
      unfold g_X7_ofEdge_27
      refine wp_nm0 ?_
      rw [code_at]
      refine wp_pos (by decide) ?_
      have hh := h0.1.2.2.1 v hv.1 hv.2.1 hv.2.2
      by_cases w0 : w = 0
      · have es : sOfE (run l) v w = (0, gt (run l) v, []) := by unfold sOfE; rw [if_pos c, if_pos w0]
        rw [es]
        refine wp_pos w0 (wp_gd ⟨hv.1, hv.2.1⟩ ?_)
        rw [h0.1.2.1 v hv.1 hv.2.1]
        exact wp_ok (tans_see h)
      refine wp_neg w0 ?_
      by_cases w1 : w = 1
      · have es : sOfE (run l) v w = (0, gf (run l) v, []) := by unfold sOfE; rw [if_pos c, if_neg w0, if_pos w1]
        rw [es]
        refine wp_pos w1 (wp_gd ⟨hv.1, hv.2.1⟩ ?_)
        rw [hh.1]
        exact wp_ok (tans_see h)
      refine wp_neg w1 ?_
      by_cases w2 : w = 2
      · have es : sOfE (run l) v w = (0, go (run l) v, []) := by unfold sOfE; rw [if_pos c, if_neg w0, if_neg w1, if_pos w2]
        rw [es]
        refine wp_pos w2 (wp_gd ⟨hv.1, hv.2.1⟩ ?_)
        rw [hh.2]
        exact wp_ok (tans_see h)
      · have es : sOfE (run l) v w = (0, ((ctT 1 v (gp (run l)) : Nat) : Int), []) := by unfold sOfE; rw [if_pos c, if_neg w0, if_neg w1, if_neg w2, if_pos (by omega)]
        rw [es]
        exact wp_neg w2 (wp_t1e (propsOf_eq (s := 1) (a := 1) rfl hn h0.1.2.2.2 l1) (wp_ok (tans_see h)))
    · have es : sOfE (run l) v w = (2, 0, []) := by unfold sOfE; rw [if_pos c, if_neg (by omega), if_neg (by omega), if_neg (by omega), if_neg (by omega)]
      rw [es]
      unfold g_X7_ofEdge_22
      by_cases c1 : w < 0
      · exact wp_pos c1 (thr 2 (by decide))
      · exact wp_neg c1 (wp_neg (by omega) (thr 2 (by decide)))
  · have es : sOfE (run l) v w = (1, 0, []) := by unfold sOfE; rw [if_neg c]
    rw [if_neg c, es]
    exact wp_pos rfl (thr 1 (by decide))
/-- the twin's search for the a-th edge -/
theorem edgeAt_loop {v t : Int} {P : Int → Bool} (h : TG τ G) (h0 : τ 1022 0 = 0) (hP : ∀ e, P e = decide (gt G e ≠ -1 ∧ (if t = 0 then gf G e else go G e) = v)) : ∀ (m q j a : Nat), m < q → j + m = 1000 → a ≤ 2147483647 → Wp (g_X7_edgeAt_27 n q 1022 v t a j τ) fun y => if a + ((nums j).filter P).length < ((nums 1000).filter P).length then y = (((nums 1000).filter P).getD (a + ((nums j).filter P).length) 0, τ) else y.2 = sa τ 1022 0 1 := by
  intro m
  induction m with
  | zero =>
    intro q j a hq hj ha0
    obtain ⟨q, rfl⟩ : ∃ z, q = z + 1 := ⟨q - 1, by omega⟩
    have e : j = 1000 := by omega
    unfold g_X7_edgeAt_27
    refine wp_pos (by omega) (wp_nm0 (wp_ok ?_))
    rw [e, if_neg (by omega)]
  | succ m ih =>
    intro q j a hq hj ha0
    obtain ⟨q, rfl⟩ : ∃ z, q = z + 1 := ⟨q - 1, by omega⟩
    have ej : (j : Int) + 1 = ((j + 1 : Nat) : Int) := by omega
    have next : ∀ a' : Nat, a' ≤ 2147483647 → a' + ((nums (j + 1)).filter P).length = a + ((nums j).filter P).length → Wp (g_X7_edgeAt_89 n (g_X7_edgeAt_27 n q) 1022 v t a' j τ) fun y => if a + ((nums j).filter P).length < ((nums 1000).filter P).length then y = (((nums 1000).filter P).getD (a + ((nums j).filter P).length) 0, τ) else y.2 = sa τ 1022 0 1 := fun a' hb ha => by
      unfold g_X7_edgeAt_89
      refine wp_gI (by omega) (wp_nm0 ?_)
      rw [ej]
      refine wp_mono (ih q (j + 1) a' (by omega) (by omega) hb) fun y hy => ?_
      rw [ha] at hy
      exact hy
    have fsucc : ((nums (j + 1)).filter P).length = ((nums j).filter P).length + (if P j = true then 1 else 0) := by
      rw [nums_succ, List.filter_append, List.length_append, List.filter_cons]
      by_cases c : P (j : Int) = true
      · rw [if_pos c, if_pos c]; rfl
      · rw [if_neg c, if_neg c]; rfl
    have no : ¬ P j = true → Wp (g_X7_edgeAt_89 n (g_X7_edgeAt_27 n q) 1022 v t a j τ) fun y => if a + ((nums j).filter P).length < ((nums 1000).filter P).length then y = (((nums 1000).filter P).getD (a + ((nums j).filter P).length) 0, τ) else y.2 = sa τ 1022 0 1 := fun c => next a ha0 (by rw [fsucc, if_neg c]; omega)
    have yes : P j = true → Wp (g_X7_edgeAt_74 n (g_X7_edgeAt_89 n (g_X7_edgeAt_27 n q)) 1022 v t a j v τ) fun y => if a + ((nums j).filter P).length < ((nums 1000).filter P).length then y = (((nums 1000).filter P).getD (a + ((nums j).filter P).length) 0, τ) else y.2 = sa τ 1022 0 1 := fun c => by
      unfold g_X7_edgeAt_74
      refine wp_pos rfl ?_
      by_cases ca : a = 0
      · refine wp_pos (by omega) (wp_ok ?_)
        obtain ⟨R, hR⟩ := nums_split (n := 1000) (e := j) (by omega)
        have ef : (nums 1000).filter P = (nums j).filter P ++ ((j : Int) :: R.filter P) := by
          rw [hR, List.filter_append, List.filter_cons, if_pos c]
        rw [ca, Nat.zero_add, ef, getD_mid, List.length_append, if_pos (by simp)]
      · refine wp_neg (by omega) (wp_gI (by omega) (wp_nm0 ?_))
        have := next (a - 1) (by omega) (by rw [fsucc, if_pos c]; omega)
        rw [show ((a - 1 : Nat) : Int) = (a : Int) + -1 by omega] at this
        exact this
    unfold g_X7_edgeAt_27
    refine wp_neg (by omega) (wp_pos h0 (wp_gd ⟨by omega, by omega⟩ ?_))
    rw [h.2.1 j (by omega) (by omega)]
    by_cases c1 : gt G j = -1
    · exact wp_pos c1 (no (by rw [hP, decide_eq_true_iff]; exact fun z => z.1 c1))
    · refine wp_neg c1 ?_
      obtain ⟨t1, t2⟩ := h.2.2.1 j (by omega) (by omega) c1
      by_cases ct : t = 0
      · refine wp_pos ct (wp_gd ⟨by omega, by omega⟩ ?_)
        rw [t1]
        by_cases c2 : gf G j = v
        · rw [c2]
          exact yes (by rw [hP, decide_eq_true_iff, if_pos ct]; exact ⟨c1, c2⟩)
        · unfold g_X7_edgeAt_74
          exact wp_neg c2 (no (by rw [hP, decide_eq_true_iff, if_pos ct]; exact fun z => c2 z.2))
      · refine wp_neg ct (wp_gd ⟨by omega, by omega⟩ ?_)
        rw [t2]
        by_cases c2 : go G j = v
        · rw [c2]
          exact yes (by rw [hP, decide_eq_true_iff, if_neg ct]; exact ⟨c1, c2⟩)
        · unfold g_X7_edgeAt_74
          exact wp_neg c2 (no (by rw [hP, decide_eq_true_iff, if_neg ct]; exact fun z => c2 z.2))
theorem tw_edgeAt {v t a : Int} (hn : 1000000 ≤ n) (h : TI τ k l) (hl : l.length ≤ 64) (ha : -2147483648 ≤ a ∧ a ≤ 2147483647) : Wp (g_X7_edgeAt n 1022 v t a τ) (TAns τ k l (sEAt (run l) v t a)) := by
  have h0 := h.code (v := 0)
  have thr : Wp (g_X7_edgeAt_18 n 1022 v t a 1022 1 τ) (TAns τ k l (1, 0, [])) := by
    obtain ⟨q, rfl⟩ : ∃ z, n = z + 1 := ⟨n - 1, by omega⟩
    unfold g_X7_edgeAt_18
    refine wp_nm0 ?_
    unfold g_X7_edgeAt_27
    rw [code_at]
    refine wp_neg (by decide) (wp_neg (by decide) (wp_nm0 (wp_ok ?_)))
    have e : sa (sa τ 1022 0 1) 1022 0 1 = sa τ 1022 0 1 := by
      funext r j
      rw [sa_at, sa_at]
      by_cases c : r = 1022 ∧ j = 0
      · rw [if_pos c, if_pos c]
      · rw [if_neg c]
    rw [e]
    exact tans_throw h (by decide)
  unfold g_X7_edgeAt
  refine wp_t1e (isNode_eq h.1) ?_
  by_cases c : isN (run l) v = true
  · rw [if_pos c]
    refine wp_neg (by decide) ?_
    by_cases ca : a < 0
    · have es : sEAt (run l) v t a = (1, 0, []) := by unfold sEAt; rw [if_pos c, if_neg (by omega)]
      rw [es]
      exact wp_pos ca thr
    · refine wp_neg ca ?_
      unfold g_X7_edgeAt_18
      refine wp_nm0 ?_
      obtain ⟨b, hb⟩ : ∃ b : Nat, (b : Int) = a := ⟨a.toNat, by omega⟩
      have eM : (if t = 0 then outL (run l) v else inL (run l) v) = (nums 1000).filter fun e => decide (gt (run l) e ≠ -1 ∧ (if t = 0 then gf (run l) e else go (run l) e) = v) := by
        by_cases ct : t = 0
        · simp only [if_pos ct]; rfl
        · simp only [if_neg ct]; rfl
      have hloop := edgeAt_loop (n := n) (v := v) (t := t) (P := fun e => decide (gt (run l) e ≠ -1 ∧ (if t = 0 then gf (run l) e else go (run l) e) = v)) h0.1 code_at (fun e => rfl) 1000 n 0 b (by omega) (by omega) (by omega)
      rw [hb] at hloop
      unfold sEAt
      rw [if_pos c, eM]
      generalize (nums 1000).filter (fun e => decide (gt (run l) e ≠ -1 ∧ (if t = 0 then gf (run l) e else go (run l) e) = v)) = M at *
      refine wp_mono hloop fun y hy => ?_
      change if b + 0 < M.length then y = (M.getD (b + 0) 0, _) else _ at hy
      rw [Nat.add_zero] at hy
      by_cases cl : b < M.length
      · rw [if_pos cl] at hy
        rw [if_pos (by omega), hy, show a.toNat = b by omega]
        exact tans_see h
      · rw [if_neg cl] at hy
        rw [if_neg (by omega)]
        obtain ⟨y1, y2⟩ := y
        change y2 = _ at hy
        have e : sa (sa τ 1022 0 0) 1022 0 1 = sa τ 1022 0 1 := by
          funext r j
          rw [sa_at, sa_at, sa_at]
          by_cases c : r = 1022 ∧ j = 0
          · rw [if_pos c, if_pos c]
          · rw [if_neg c, if_neg c, if_neg c]
        rw [hy, e]
        exact tans_throw h (by decide)
  · have es : sEAt (run l) v t a = (1, 0, []) := by unfold sEAt; rw [if_neg c]
    rw [if_neg c, es]
    exact wp_pos rfl thr
theorem tw_sync (h : TI τ k l) (hl : l.length ≤ 64) : Wp (g_X7_sync 1022 τ) fun y => y.1 = k ∧ TI y.2 0 l ∧ GFr τ y.2 := by
  obtain ⟨h1, h2, h3⟩ := h
  unfold g_X7_sync
  refine wp_nm0 ?_
  have e8 : sa τ 1022 0 0 1022 8 = l.length := by rw [sa_at, if_neg (by omega)]; exact h2.1
  have e9 : sa τ 1022 0 0 1022 9 = (l.length : Int) - k := by rw [sa_at, if_neg (by omega)]; exact h2.2.1
  rw [e8, e9]
  have := h2.2.2.1
  refine wp_gI (by omega) (wp_nm0 (wp_nm0 (wp_ok ?_)))
  generalize eτ : sa (sa τ 1022 0 0) 1022 9 (l.length : Int) = τ2
  have f : ∀ r j, ¬ (r = 1022 ∧ (j = 0 ∨ j = 9)) → τ2 r j = τ r j := fun r j z => by
    rw [← eτ, sa_at, if_neg (fun w => z ⟨w.1, Or.inr w.2⟩), sa_at, if_neg (fun w => z ⟨w.1, Or.inl w.2⟩)]
  have f9 : τ2 1022 9 = l.length := by rw [← eτ, sa_at, if_pos ⟨rfl, rfl⟩]
  clear eτ
  refine ⟨by show (l.length : Int) - (l.length - k) = k; omega, ⟨?_, ?_, h3⟩, fun r j a b => ?_⟩
  · exact h1.frame (fun r j a b => f r j (by omega)) (f _ _ (by omega))
  · refine ⟨(f _ _ (by omega)).trans h2.1, by show τ2 1022 9 = _; rw [f9]; omega, Nat.zero_le _, fun i c hc => ?_⟩
    show τ2 1028 (5 * i) = c.1 ∧ τ2 1028 (5 * i + 1) = c.2.1 ∧ τ2 1028 (5 * i + 2) = c.2.2.1 ∧ τ2 1028 (5 * i + 3) = c.2.2.2.1 ∧ τ2 1028 (5 * i + 4) = c.2.2.2.2
    rw [f _ _ (by omega), f _ _ (by omega), f _ _ (by omega), f _ _ (by omega), f _ _ (by omega)]
    exact h2.2.2.2 i c hc
  · exact f r j (fun z => b ⟨z.1, by omega⟩)
end TWE
