/-! THE TWIN's walk -/
set_option maxRecDepth 100000
def WkT (τ : TT) (M : List (Int × Int)) : Prop := τ 1022 13 = M.length ∧ ∀ (i : Nat) (x : Int × Int), M[i]? = some x → τ 1030 i = x.1 ∧ τ 1031 i = x.2
def WFr (τ τ' : TT) : Prop := ∀ r j, ¬ (1029 ≤ r ∧ r ≤ 1031) → ¬ (r = 1022 ∧ (j = 0 ∨ j = 13)) → τ' r j = τ r j
theorem WFr.rf {τ : TT} : WFr τ τ := fun _ _ _ _ => rfl
theorem WFr.trans {τ τ1 τ2 : TT} (h : WFr τ τ1) (h' : WFr τ1 τ2) : WFr τ τ2 := fun r j a b => (h' r j a b).trans (h r j a b)
theorem TI.w {τ τ' : TT} {k : Nat} {l : List Ch} (h : TI τ k l) (hF : WFr τ τ') : TI τ' k l := by
  obtain ⟨h1, h2, h3⟩ := h
  exact ⟨h1.frame (fun r j a b => hF r j (by omega) (by omega)) (hF _ _ (by omega) (by omega)), h2.frame (fun j => hF _ _ (by omega) (by omega)) (hF _ _ (by omega) (by omega)) (hF _ _ (by omega) (by omega)), h3⟩
section TWW
variable {τ τ0 : TT} {n : Nat} {k : Nat} {l : List Ch} {G : Gr} {ty fr most : Int}
/-- while hops are counted -/
def TH1 (τ0 τ : TT) (d : F1) : Prop := (∀ i, 0 ≤ i → i < 400 → τ 1029 i = d i) ∧ WFr τ0 τ ∧ τ 1022 0 = τ0 1022 0
theorem TH1.set {d : F1} {v w : Int} (h : TH1 τ0 τ d) : TH1 τ0 (sa τ 1029 v w) (ud d v w) := by
  refine ⟨fun i a b => ?_, fun r j a b => ?_, ?_⟩
  · rw [sa_at, ud_at]
    by_cases c : i = v
    · rw [if_pos ⟨rfl, c⟩, if_pos c]
    · rw [if_neg (fun z => c z.2), if_neg c]; exact h.1 i a b
  · rw [sa_at, if_neg (fun z => a (by omega))]; exact h.2.1 r j a b
  · rw [sa_at, if_neg (by omega)]; exact h.2.2
theorem tw95 {h : Nat} {K : Int → Int → Int → Int → TT → Option (Int × TT)} {Q : Int × TT → Prop} (hI : TG τ0 G) (hG : okG G) (hh : h < 400) (hK : ∀ τ', TH1 τ0 τ' (lev G ty fr (h + 1)) → Wp (K 1022 ty most (h + 1 : Int) τ') Q) : ∀ (c q j : Nat) (τ : TT), c < q → j + c = 1000 → TH1 τ0 τ (mid G ty (lev G ty fr h) h (fun e => e < j)) → Wp (g_X7_walk_95 n K q 1022 ty most h j τ) Q := by
  intro c
  induction c with
  | zero =>
    intro q j τ hq hj hw
    obtain ⟨q, rfl⟩ : ∃ z, q = z + 1 := ⟨q - 1, by omega⟩
    unfold g_X7_walk_95
    refine wp_pos (by omega) (wp_gI (by omega) (wp_nm0 (hK τ ?_)))
    have e : mid G ty (lev G ty fr h) h (fun e => e < (j : Int)) = lev G ty fr (h + 1) := by
      rw [lev_succ]
      refine mid_congr fun e he _ => ⟨fun _ => trivial, fun _ => ?_⟩
      have := he.1.2.1
      omega
    rw [← e]
    exact hw
  | succ c ih =>
    intro q j τ hq hj hw
    obtain ⟨q, rfl⟩ : ∃ z, q = z + 1 := ⟨q - 1, by omega⟩
    obtain ⟨w1, w2, w3⟩ := hw
    have hw : TH1 τ0 τ (mid G ty (lev G ty fr h) h (fun e => e < j)) := ⟨w1, w2, w3⟩
    have eL : τ 1024 j = gt G j := by rw [w2 _ _ (by omega) (by omega)]; exact hI.2.1 j (by omega) (by omega)
    have ej : (j : Int) + 1 = ((j + 1 : Nat) : Int) := by omega
    have pe : (fun e : Int => e < ((j + 1 : Nat) : Int)) = (fun e => e < (j : Int) ∨ e = j) := by
      funext x
      exact propext ⟨fun z => by omega, fun z => by omega⟩
    have ms := mid_step (G := G) (ty := ty) (h := (h : Int)) (d := lev G ty fr h) (P := fun e => e < (j : Int)) (e := j) (by omega)
    rw [← pe] at ms
    have hle : ∀ n, lev G ty fr h n ≤ h := fun n => by
      have := lev_range (G := G) (ty := ty) (fr := fr) (h := h) (n := n)
      omega
    have next : ∀ τ', TH1 τ0 τ' (mid G ty (lev G ty fr h) h (fun e => e < ((j + 1 : Nat) : Int))) → Wp (g_X7_walk_179 n (g_X7_walk_95 n K q) 1022 ty most h j τ') Q := fun τ' z => by
      unfold g_X7_walk_179
      refine wp_gI (by omega) (wp_nm0 ?_)
      rw [ej]
      exact ih q (j + 1) τ' (by omega) (by omega) z
    have skip : ¬ (Walks G ty j ∧ lev G ty fr h (gf G j) = h ∧ mid G ty (lev G ty fr h) h (fun e => e < (j : Int)) (go G j) = -1) → Wp (g_X7_walk_179 n (g_X7_walk_95 n K q) 1022 ty most h j τ) Q := fun z => by
      rw [if_neg z] at ms
      exact next τ (by rw [ms]; exact hw)
    have body : gt G j ≠ -1 → (ty = -1 ∨ gt G j = ty) → Wp (g_X7_walk_130 n (g_X7_walk_179 n (g_X7_walk_95 n K q)) 1022 ty most h j τ) Q := fun z1 z2 => by
      have ends := hG.2.1 j z1
      obtain ⟨t1, t2⟩ := hI.2.2.1 j (by omega) (by omega) z1
      have u1 : τ 1025 j = gf G j := by rw [w2 _ _ (by omega) (by omega)]; exact t1
      have u2 : τ 1026 j = go G j := by rw [w2 _ _ (by omega) (by omega)]; exact t2
      have W : Walks G ty j := ⟨⟨by omega, by omega, z1⟩, z2⟩
      have it := mid_eq (G := G) (ty := ty) (d := lev G ty fr h) (h := (h : Int)) (P := fun e => e < (j : Int)) (n := gf G j) (by omega) hle
      unfold g_X7_walk_130
      rw [u1, u2]
      refine wp_gd ⟨by omega, by omega⟩ (wp_gd ⟨ends.2.2.2.1.1, ends.2.2.2.1.2.1⟩ ?_)
      rw [w1 (gf G j) ends.2.2.2.1.1 ends.2.2.2.1.2.1]
      by_cases c1 : mid G ty (lev G ty fr h) h (fun e => e < (j : Int)) (gf G j) = h
      · refine wp_pos c1 (wp_gd ⟨by omega, by omega⟩ (wp_gd ⟨ends.2.2.2.2.1, ends.2.2.2.2.2.1⟩ ?_))
        rw [w1 (go G j) ends.2.2.2.2.1 ends.2.2.2.2.2.1]
        by_cases c2 : mid G ty (lev G ty fr h) h (fun e => e < (j : Int)) (go G j) = -1
        · refine wp_pos c2 (wp_gd ⟨by omega, by omega⟩ (wp_gI (by omega) (wp_gd ⟨ends.2.2.2.2.1, ends.2.2.2.2.2.1⟩ (wp_nm0 (next _ ?_)))))
          rw [if_pos ⟨W, it.mp c1, c2⟩] at ms
          rw [ms]
          exact hw.set
        · exact wp_neg c2 (skip fun z => c2 z.2.2)
      · exact wp_neg c1 (skip fun z => c1 (it.mpr z.2.1))
    unfold g_X7_walk_95
    refine wp_neg (by omega) (wp_gd ⟨by omega, by omega⟩ ?_)
    rw [eL]
    by_cases c1 : gt G j = -1
    · exact wp_pos c1 (skip fun z => z.1.1.2.2 c1)
    · refine wp_neg c1 ?_
      by_cases c2 : ty = -1
      · exact wp_pos c2 (body c1 (Or.inl c2))
      · refine wp_neg c2 (wp_gd ⟨by omega, by omega⟩ ?_)
        by_cases c3 : gt G j = ty
        · exact wp_pos c3 (body c1 (Or.inr c3))
        · exact wp_neg c3 (skip fun z => z.1.2.elim c2 c3)
/-- while nodes are told -/
def TH2 (τ0 τ : TT) (d : F1) (M : List (Int × Int)) : Prop := TH1 τ0 τ d ∧ WkT τ M
theorem TH2.tell {d : F1} {M : List (Int × Int)} {v h : Int} (hw : TH2 τ0 τ d M) : TH2 τ0 (sa (sa (sa τ 1030 M.length v) 1031 M.length h) 1022 13 (M.length + 1 : Int)) d (M ++ [(v, h)]) := by
  obtain ⟨⟨h1, h2, h3⟩, h4, h5⟩ := hw
  refine ⟨⟨fun i a b => ?_, fun r j a b => ?_, ?_⟩, ?_, fun i x hx => ?_⟩
  · rw [sa_at, if_neg (by omega), sa_at, if_neg (by omega), sa_at, if_neg (by omega)]; exact h1 i a b
  · rw [sa_at, if_neg (fun z => b ⟨z.1, Or.inr z.2⟩), sa_at, if_neg (fun z => a (by omega)), sa_at, if_neg (fun z => a (by omega))]; exact h2 r j a b
  · rw [sa_at, if_neg (by omega), sa_at, if_neg (by omega), sa_at, if_neg (by omega)]; exact h3
  · rw [sa_at, if_pos ⟨rfl, rfl⟩]; simp
  · have e0 : ∀ z : Int, sa (sa (sa τ 1030 M.length v) 1031 M.length h) 1022 13 (M.length + 1 : Int) 1030 z = if z = M.length then v else τ 1030 z := fun z => by
      rw [sa_at, if_neg (by omega), sa_at, if_neg (by omega), sa_at]
      by_cases c : z = M.length
      · rw [if_pos ⟨rfl, c⟩, if_pos c]
      · rw [if_neg (fun w => c w.2), if_neg c]
    have e1 : ∀ z : Int, sa (sa (sa τ 1030 M.length v) 1031 M.length h) 1022 13 (M.length + 1 : Int) 1031 z = if z = M.length then h else τ 1031 z := fun z => by
      rw [sa_at, if_neg (by omega), sa_at]
      by_cases c : z = M.length
      · rw [if_pos ⟨rfl, c⟩, if_pos c]
      · rw [if_neg (fun w => c w.2), if_neg c, sa_at, if_neg (by omega)]
    rw [e0, e1]
    by_cases c : i < M.length
    · rw [List.getElem?_append_left c] at hx
      rw [if_neg (by omega), if_neg (by omega)]
      exact h5 i x hx
    · have e : i = M.length := by
        have := (List.getElem?_eq_some_iff.mp hx).1
        simp at this
        omega
      subst e
      have : (v, h) = x := by simpa using hx
      rw [if_pos rfl, if_pos rfl, ← this]
      exact ⟨rfl, rfl⟩
theorem tw216 {h : Nat} {K : Int → Int → Int → TT → Option (Int × TT)} {Q : Int × TT → Prop} (hI : TG τ0 G) (hG : okG G) (hfr : nodeAt G fr) (hh : h < 400) (hK : ∀ τ', TH2 τ0 τ' (lev G ty fr 400) (wls (lev G ty fr 400) (h + 1)) → Wp (K 1022 most (h + 1 : Int) τ') Q) : ∀ (c q j : Nat) (τ : TT), c < q → j + c = 400 → TH2 τ0 τ (lev G ty fr 400) (wls (lev G ty fr 400) h ++ wlv (lev G ty fr 400) h j) → Wp (g_X7_walk_216 n K q 1022 most h j τ) Q := by
  intro c
  induction c with
  | zero =>
    intro q j τ hq hj hw
    obtain ⟨q, rfl⟩ : ∃ z, q = z + 1 := ⟨q - 1, by omega⟩
    have ej : j = 400 := by omega
    rw [ej] at hw
    unfold g_X7_walk_216
    exact wp_pos (by omega) (wp_gI (by omega) (wp_nm0 (hK τ hw)))
  | succ c ih =>
    intro q j τ hq hj hw
    obtain ⟨q, rfl⟩ : ∃ z, q = z + 1 := ⟨q - 1, by omega⟩
    obtain ⟨⟨w1, w2, w3⟩, w4, w5⟩ := hw
    have hw : TH2 τ0 τ (lev G ty fr 400) (wls (lev G ty fr 400) h ++ wlv (lev G ty fr 400) h j) := ⟨⟨w1, w2, w3⟩, w4, w5⟩
    have eL : τ 1023 j = gl G j := by rw [w2 _ _ (by omega) (by omega)]; exact hI.1 j (by omega) (by omega)
    have ej : (j : Int) + 1 = ((j + 1 : Nat) : Int) := by omega
    have next : ∀ τ', TH2 τ0 τ' (lev G ty fr 400) (wls (lev G ty fr 400) h ++ wlv (lev G ty fr 400) h (j + 1)) → Wp (g_X7_walk_279 n (g_X7_walk_216 n K q) 1022 most h j τ') Q := fun τ' z => by
      unfold g_X7_walk_279
      refine wp_gI (by omega) (wp_nm0 ?_)
      rw [ej]
      exact ih q (j + 1) τ' (by omega) (by omega) z
    have skip : lev G ty fr 400 j ≠ h → Wp (g_X7_walk_279 n (g_X7_walk_216 n K q) 1022 most h j τ) Q := fun z => next τ (by
      have : wlv (lev G ty fr 400) h (j + 1) = wlv (lev G ty fr 400) h j := by
        show wlv (lev G ty fr 400) h j ++ (if lev G ty fr 400 (j : Int) = h then [((j : Int), (h : Int))] else []) = _
        rw [if_neg z, List.append_nil]
      rw [this]
      exact hw)
    unfold g_X7_walk_216
    refine wp_neg (by omega) (wp_gd ⟨by omega, by omega⟩ ?_)
    rw [eL, w1 j (by omega) (by omega)]
    by_cases c1 : gl G j = -1
    · refine wp_pos c1 (skip fun z => ?_)
      exact (lev_alive (h := 400) hfr hG (by rw [z]; omega)).2.2 c1
    · refine wp_neg c1 (wp_gd ⟨by omega, by omega⟩ ?_)
      by_cases c2 : lev G ty fr 400 j = h
      · have hM : (wls (lev G ty fr 400) h ++ wlv (lev G ty fr 400) h j).length < 400 := by
          have := wlv_le (D := lev G ty fr 400) (h := h) (m := j + 1) (by omega)
          rw [show wlv (lev G ty fr 400) (h : Int) (j + 1) = wlv (lev G ty fr 400) h j ++ [((j : Int), (h : Int))] by
            show wlv (lev G ty fr 400) h j ++ (if lev G ty fr 400 (j : Int) = h then [((j : Int), (h : Int))] else []) = _
            rw [if_pos c2]] at this
          simp only [List.length_append, List.length_cons, List.length_nil] at this ⊢
          omega
        have eM : wls (lev G ty fr 400) h ++ wlv (lev G ty fr 400) h (j + 1) = (wls (lev G ty fr 400) h ++ wlv (lev G ty fr 400) h j) ++ [((j : Int), (h : Int))] := by
          rw [List.append_assoc]
          congr 1
          show wlv (lev G ty fr 400) h j ++ (if lev G ty fr 400 (j : Int) = h then [((j : Int), (h : Int))] else []) = _
          rw [if_pos c2]
        rw [eM] at next
        generalize wls (lev G ty fr 400) h ++ wlv (lev G ty fr 400) h j = M at *
        refine wp_pos c2 ?_
        rw [w4]
        refine wp_gd ⟨by omega, by omega⟩ (wp_nm0 ?_)
        have x13 : sa τ 1030 M.length j 1022 13 = M.length := by rw [sa_at, if_neg (by omega)]; exact w4
        rw [x13]
        refine wp_gd ⟨by omega, by omega⟩ (wp_nm0 ?_)
        have y13 : sa (sa τ 1030 M.length j) 1031 M.length h 1022 13 = M.length := by rw [sa_at, if_neg (by omega)]; exact x13
        rw [y13]
        exact wp_gI (by omega) (wp_nm0 (next _ hw.tell))
      · exact wp_neg c2 (skip c2)
theorem tw199 (hn : 1000000 ≤ n) (hI : TG τ0 G) (hG : okG G) (hfr : nodeAt G fr) (hm : 0 ≤ most) : ∀ (c q h : Nat) (τ : TT), c < q → h + c = 400 → (h : Int) ≤ most + 1 → TH2 τ0 τ (lev G ty fr 400) (wls (lev G ty fr 400) h) → Wp (g_X7_walk_199 n q 1022 most h τ) fun y => y.1 = ((walkL G fr ty most).length : Int) ∧ TH2 τ0 y.2 (lev G ty fr 400) (walkL G fr ty most) := by
  intro c
  induction c with
  | zero =>
    intro q h τ hq hj hb hw
    obtain ⟨q, rfl⟩ : ∃ z, q = z + 1 := ⟨q - 1, by omega⟩
    have e : wls (lev G ty fr 400) h = walkL G fr ty most := by unfold walkL; congr 1; omega
    rw [e] at hw
    unfold g_X7_walk_199
    rw [hw.2.1]
    exact wp_pos (by omega) (wp_ok ⟨rfl, hw⟩)
  | succ c ih =>
    intro q h τ hq hj hb hw
    obtain ⟨q, rfl⟩ : ∃ z, q = z + 1 := ⟨q - 1, by omega⟩
    unfold g_X7_walk_199
    refine wp_neg (by omega) ?_
    by_cases cm : most < (h : Int)
    · have e : wls (lev G ty fr 400) h = walkL G fr ty most := by unfold walkL; congr 1; omega
      rw [e] at hw
      rw [hw.2.1]
      exact wp_pos cm (wp_ok ⟨rfl, hw⟩)
    · refine wp_neg cm ?_
      refine tw216 (τ0 := τ0) (G := G) (ty := ty) (fr := fr) (h := h) hI hG hfr (by omega) (fun τ' hw' => ?_) 400 n 0 τ (by omega) (by omega) ?_
      · rw [show (h : Int) + 1 = ((h + 1 : Nat) : Int) by omega]
        exact ih q (h + 1) τ' (by omega) (by omega) (by omega) hw'
      · rw [show wls (lev G ty fr 400) h ++ wlv (lev G ty fr 400) h 0 = wls (lev G ty fr 400) h from List.append_nil _]
        exact hw
theorem tw84 (hn : 1000000 ≤ n) (hI : TG τ0 G) (hG : okG G) (hfr : nodeAt G fr) (hm : 0 ≤ most) : ∀ (c q h : Nat) (τ : TT), c < q → h + c = 400 → TH1 τ0 τ (lev G ty fr h) → Wp (g_X7_walk_84 n q 1022 ty most h τ) fun y => y.1 = ((walkL G fr ty most).length : Int) ∧ TH2 τ0 y.2 (lev G ty fr 400) (walkL G fr ty most) := by
  intro c
  induction c with
  | zero =>
    intro q h τ hq hj hw
    obtain ⟨q, rfl⟩ : ∃ z, q = z + 1 := ⟨q - 1, by omega⟩
    have e : h = 400 := by omega
    rw [e] at hw
    unfold g_X7_walk_84
    refine wp_pos (by omega) (wp_nm0 (tw199 hn hI hG hfr hm 400 n 0 _ (by omega) (by omega) (by omega) ⟨⟨fun i a b => ?_, fun r j a b => ?_, ?_⟩, by rw [sa_at, if_pos ⟨rfl, rfl⟩]; rfl, fun i x hx => by cases hx⟩))
    · rw [sa_at, if_neg (by omega)]; exact hw.1 i a b
    · rw [sa_at, if_neg (fun z => b ⟨z.1, Or.inr z.2⟩)]; exact hw.2.1 r j a b
    · rw [sa_at, if_neg (by omega)]; exact hw.2.2
  | succ c ih =>
    intro q h τ hq hj hw
    obtain ⟨q, rfl⟩ : ∃ z, q = z + 1 := ⟨q - 1, by omega⟩
    unfold g_X7_walk_84
    refine wp_neg (by omega) ?_
    refine tw95 (τ0 := τ0) (G := G) (fr := fr) (h := h) hI hG (by omega) (fun τ' hw' => ?_) 1000 n 0 τ (by omega) (by omega) ?_
    · rw [show (h : Int) + 1 = ((h + 1 : Nat) : Int) by omega]
      exact ih q (h + 1) τ' (by omega) (by omega) hw'
    · have e : mid G ty (lev G ty fr h) h (fun e => e < ((0 : Nat) : Int)) = lev G ty fr h := by
        have e2 : mid G ty (lev G ty fr h) h (fun e => e < ((0 : Nat) : Int)) = mid G ty (lev G ty fr h) h (fun _ => False) := by
          refine mid_congr fun e he _ => ⟨fun z => ?_, fun z => z.elim⟩
          have := he.1.1
          omega
        rw [e2, mid_empty]
      rw [e]
      exact hw
theorem tw49 (hn : 1000000 ≤ n) (hI : TG τ0 G) (hG : okG G) (hfr : nodeAt G fr) (hm : 0 ≤ most) : ∀ (c q j : Nat) (τ : TT), c < q → j + c = 400 → (∀ i : Int, 0 ≤ i → i < j → τ 1029 i = if i = fr then 0 else -1) → WFr τ0 τ → τ 1022 0 = τ0 1022 0 → Wp (g_X7_walk_49 n q 1022 fr ty most j τ) fun y => y.1 = ((walkL G fr ty most).length : Int) ∧ TH2 τ0 y.2 (lev G ty fr 400) (walkL G fr ty most) := by
  intro c
  induction c with
  | zero =>
    intro q j τ hq hj h1 h2 h3
    obtain ⟨q, rfl⟩ : ∃ z, q = z + 1 := ⟨q - 1, by omega⟩
    unfold g_X7_walk_49
    refine wp_pos (by omega) (tw84 hn hI hG hfr hm 400 n 0 τ (by omega) (by omega) ⟨fun i a b => ?_, h2, h3⟩)
    rw [lev_zero]
    exact h1 i a (by omega)
  | succ c ih =>
    intro q j τ hq hj h1 h2 h3
    obtain ⟨q, rfl⟩ : ∃ z, q = z + 1 := ⟨q - 1, by omega⟩
    have body : ∀ w : Int, w = (if (j : Int) = fr then 0 else -1) → Wp (g_X7_walk_74 n (g_X7_walk_49 n q) 1022 fr ty most j 1029 j w τ) fun y => y.1 = ((walkL G fr ty most).length : Int) ∧ TH2 τ0 y.2 (lev G ty fr 400) (walkL G fr ty most) := fun w hw => by
      unfold g_X7_walk_74
      refine wp_gd ⟨by omega, by show (j : Int) < tn 1029; rw [show tn 1029 = 400 from rfl]; omega⟩ (wp_nm0 (wp_gI (by omega) (wp_nm0 ?_)))
      rw [show (j : Int) + 1 = ((j + 1 : Nat) : Int) by omega]
      refine ih q (j + 1) _ (by omega) (by omega) (fun i a b => ?_) (fun r i a b => ?_) ?_
      · rw [sa_at]
        by_cases c : i = j
        · rw [if_pos ⟨rfl, c⟩, hw, c]
        · rw [if_neg (fun z => c z.2)]; exact h1 i a (by omega)
      · rw [sa_at, if_neg (fun z => a (by omega))]; exact h2 r i a b
      · rw [sa_at, if_neg (by omega)]; exact h3
    unfold g_X7_walk_49
    refine wp_neg (by omega) ?_
    by_cases c : (j : Int) = fr
    · exact wp_pos c (body 0 (by rw [if_pos c]))
    · exact wp_neg c (body (-1) (by rw [if_neg c]))
theorem tw_walk (hn : 1000000 ≤ n) (h : TI τ k l) (hl : l.length ≤ 64) : Wp (g_X7_walk n 1022 fr ty most τ) fun y => y.2 1022 0 = (sWalk (run l) fr ty most).1 ∧ (y.2 1022 0 = 0 → y.1 = (sWalk (run l) fr ty most).2.1 ∧ WkT y.2 (walkL (run l) fr ty most)) ∧ (y.2 1022 0 ≠ 0 → y.2 1022 13 = τ 1022 13 ∧ ∀ i, y.2 1030 i = τ 1030 i ∧ y.2 1031 i = τ 1031 i) ∧ TI y.2 k l ∧ WFr τ y.2 := by
  obtain ⟨l1, l2, l3, hG⟩ := h.len (by omega)
  have thr : ∀ c : Int, 0 < c → (sWalk (run l) fr ty most).1 = c → Wp (g_X7_walk_34 n 1022 fr ty most 1022 c τ) fun y => y.2 1022 0 = (sWalk (run l) fr ty most).1 ∧ (y.2 1022 0 = 0 → y.1 = (sWalk (run l) fr ty most).2.1 ∧ WkT y.2 (walkL (run l) fr ty most)) ∧ (y.2 1022 0 ≠ 0 → y.2 1022 13 = τ 1022 13 ∧ ∀ i, y.2 1030 i = τ 1030 i ∧ y.2 1031 i = τ 1031 i) ∧ TI y.2 k l ∧ WFr τ y.2 := fun c hc e => by
    unfold g_X7_walk_34
    refine wp_nm0 ?_
    rw [code_at]
    have f : ∀ r j, ¬ (r = 1022 ∧ j = 0) → sa τ 1022 0 c r j = τ r j := fun r j z => by rw [sa_at, if_neg z]
    refine wp_neg (by omega) (wp_ok ⟨by rw [e]; exact code_at (τ := τ) (v := c), fun z => ?_, fun _ => ⟨f 1022 13 (by omega), fun i => ⟨f 1030 i (by omega), f 1031 i (by omega)⟩⟩, h.code, fun r j a b => f r j (fun z => b ⟨z.1, Or.inl z.2⟩)⟩)
    have z' : sa τ 1022 0 c 1022 0 = 0 := z
    rw [code_at] at z'
    omega
  unfold g_X7_walk
  refine wp_t1e (isNode_eq h.1) ?_
  by_cases c : isN (run l) fr = true
  · have hfr := isN_iff.mp c
    rw [if_pos c]
    refine wp_neg (by decide) ?_
    have ok : (ty = -1 ∨ isS ty = true) → Wp (g_X7_walk_25 n (g_X7_walk_34 n) (g_X7_walk_29 n (g_X7_walk_34 n)) 1022 fr ty most 1022 τ) fun y => y.2 1022 0 = (sWalk (run l) fr ty most).1 ∧ (y.2 1022 0 = 0 → y.1 = (sWalk (run l) fr ty most).2.1 ∧ WkT y.2 (walkL (run l) fr ty most)) ∧ (y.2 1022 0 ≠ 0 → y.2 1022 13 = τ 1022 13 ∧ ∀ i, y.2 1030 i = τ 1030 i ∧ y.2 1031 i = τ 1031 i) ∧ TI y.2 k l ∧ WFr τ y.2 := fun ct => by
      unfold g_X7_walk_25
      by_cases cm : 0 ≤ most
      · refine wp_pos cm ?_
        have es : sWalk (run l) fr ty most = (0, ((walkL (run l) fr ty most).length : Int), []) := by
          unfold sWalk; rw [if_pos c, if_pos ⟨ct, cm⟩]
        rw [es]
        unfold g_X7_walk_34
        refine wp_nm0 ?_
        rw [code_at]
        refine wp_pos (by decide) ?_
        refine wp_mono (tw49 (τ0 := sa τ 1022 0 0) hn h.code.1 hG hfr cm 400 n 0 _ (by omega) (by omega) (fun i a b => by omega) WFr.rf rfl) fun y hq => ?_
        obtain ⟨q1, ⟨q2, q3, q4⟩, q5⟩ := hq
        have q6 : y.2 1022 0 = 0 := q4.trans code_at
        have fr0 : WFr τ (sa τ 1022 0 0) := fun r j a b => by rw [sa_at, if_neg (fun z => b ⟨z.1, Or.inl z.2⟩)]
        exact ⟨q6, fun _ => ⟨q1, q5⟩, fun z => absurd q6 z, h.w (fr0.trans q3), fr0.trans q3⟩
      · refine wp_neg cm ?_
        unfold g_X7_walk_29
        exact thr 2 (by decide) (by unfold sWalk; rw [if_pos c, if_neg (fun z => cm z.2)])
    by_cases c1 : ty = -1
    · exact wp_pos c1 (ok (Or.inl c1))
    · refine wp_neg c1 (wp_t1e isSmall_eq ?_)
      by_cases c2 : isS ty = true
      · rw [if_pos c2]
        exact wp_neg (by decide) (ok (Or.inr c2))
      · rw [if_neg c2]
        refine wp_pos rfl ?_
        unfold g_X7_walk_29
        exact thr 2 (by decide) (by unfold sWalk; rw [if_pos c, if_neg (fun z => z.1.elim c1 c2)])
  · rw [if_neg c]
    exact wp_pos rfl (thr 1 (by decide) (by unfold sWalk; rw [if_neg c]))
end TWW
