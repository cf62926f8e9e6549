/-! ORDERS: has the question a count; a count that is none of the items -/
set_option maxRecDepth 100000
def hcB (its : List Trm) : Bool := its.any fun t => decide (t.1 = -2)
def hcI (its : List Trm) : Int := if hcB its = true then 1 else 0
theorem hcI_rng {its : List Trm} : 0 ≤ hcI its ∧ hcI its ≤ 1 := by
  unfold hcI
  split <;> omega
theorem hcI_nil {its : List Trm} : hcI (its.take 0) = 0 := by
  unfold hcI hcB
  simp
theorem hcB_take {its : List Trm} {i : Nat} (hi : i < its.length) : hcB (its.take (i + 1)) = (hcB (its.take i) || decide ((its.getD i t0d).1 = -2)) := by
  unfold hcB
  rw [List.take_add_one, List.getElem?_eq_getElem hi, List.any_append, List.getD_eq_getElem?_getD, List.getElem?_eq_getElem hi]
  simp
theorem hcI_take {its : List Trm} {i : Nat} (hi : i < its.length) : hcI (its.take (i + 1)) = if hcI (its.take i) = 0 ∧ (its.getD i t0d).1 ≠ -2 then 0 else 1 := by
  unfold hcI
  rw [hcB_take hi]
  by_cases c : (its.getD i t0d).1 = -2
  · have : decide ((its.getD i t0d).1 = -2) = true := decide_eq_true c
    rw [this, Bool.or_true, if_pos rfl, if_neg (fun u => u.2 c)]
  · have : decide ((its.getD i t0d).1 = -2) = false := decide_eq_false c
    rw [this, Bool.or_false]
    by_cases c2 : hcB (its.take i) = true
    · rw [if_pos c2, if_neg (fun u => absurd u.1 (by decide))]
    · rw [if_neg c2, if_pos ⟨rfl, c⟩]
section OH
variable {σ σ0 σ1 σ2 σ3 σ' : AS} {τ τ0 τ' : TT} {n M : Nat} {N0 U0 z z' k q q0 q' p v l r C l1 l2 l4 l5 e var x a b c s0 : Int} {T : List Int} {S S' : PS} {cs : List Cnd} {its : List Trm} {F : Nat → List Int}
theorem LsOk.get {i : Nat} (h : LsOk σ N0 F) (hi : i < 5) {j : Int} (hj : 0 ≤ j ∧ j < (F i).length) : f_J32_get (lref N0 i) j σ = some ((F i).getD j.toNat 0, σ) := by
  obtain ⟨t, Ow, h⟩ := h
  exact list_get (h i hi).1 hj
theorem ior01 {a b : Bool} : iorW (if a = true then 1 else 0) (if b = true then 1 else 0) = if (a || b) = true then 1 else 0 := by
  cases a <;> cases b <;> decide
theorem counts_loop (h : ShP T N0 U0 σ z k q S) (hA : IsAt σ (S.2 3) its) (h8 : its.length ≤ 20) : ∀ {m Q i : Nat}, i + m = its.length → m < Q → f_X18_counts_4 n Q N0 (hcI (its.take i)) i σ = some (hcI its, σ)
  | 0, Q + 1, i, hm, _ => by
    have hN := h.2.2.2.2.2.2.1
    have g8 := h.n5.1
    have L1 := h.2.2.2.2.2.2.2.1
    unfold f_X18_counts_4
    rw [gd_pos hN.1, g8, gd_pos (lsok_kd L1 (by decide)), L1.size (by decide), c1_at, hA.1, if_pos (by omega), List.take_of_length_le (by omega), gd_pos hcI_rng]
  | m + 1, Q + 1, i, hm, hQ => by
    have hN := h.2.2.2.2.2.2.1
    have g8 := h.n5.1
    have L1 := h.2.2.2.2.2.2.2.1
    have hi : i < its.length := by omega
    have ih := counts_loop h hA h8 (m := m) (Q := Q) (i := i + 1) (by omega) (by omega)
    have ht := hA.2 i hi
    have hl := hA.1
    unfold f_X18_counts_4
    rw [gd_pos hN.1, g8, gd_pos (lsok_kd L1 (by decide)), L1.size (by decide), c1_at, if_neg (by omega), gd_pos hN.1, g8, gd_pos (lsok_kd L1 (by decide)), L1.get (by decide) (by omega), c1_at, Int.toNat_natCast]
    rw [gd_pos (Or.inr ht.1), gd_pos ht.1]
    have ec : f_X22_isCount ((S.2 3).getD i 0) σ = some (if decide ((its.getD i t0d).1 = -2) = true then 1 else 0, σ) := by
      unfold f_X22_isCount
      rw [gd_pos ht.1, ht.2.2.1]
      by_cases c : (its.getD i t0d).1 = -2
      · rw [if_pos c, if_pos (decide_eq_true c)]
      · rw [if_neg c, if_neg (by rw [decide_eq_true_eq]; exact c)]
    rw [ec, c1_at, nm_eq, gI_pos (by omega), nm_eq]
    have : iorW (hcI (its.take i)) (if decide ((its.getD i t0d).1 = -2) = true then 1 else 0) = hcI (its.take (i + 1)) := by
      unfold hcI
      rw [ior01, hcB_take hi]
    rw [this]
    exact ih
theorem counts_eq (hn : 1000000 ≤ n) (h : ShP T N0 U0 σ z k q S) (hA : IsAt σ (S.2 3) its) (h8 : its.length ≤ 20) : f_X18_counts n N0 σ = some (hcI its, σ) := by
  have t := counts_loop (n := n) h hA h8 (m := its.length) (Q := n) (i := 0) (by omega) (by omega)
  rw [hcI_nil, show ((0 : Nat) : Int) = 0 from rfl] at t
  unfold f_X18_counts
  exact t
theorem hasCount_4_eq {Q : Nat} {i : Int} : g_X7_hasCount_4 n (Q + 1) 1022 a i τ = if τ 1022 36 ≤ i then gd (0 ≤ a ∧ a ≤ 1) (some (a, τ)) else if a = 0 then gI (4 * i) (gd ((0 : Int) ≤ 4 * i ∧ 4 * i < 32) (if τ 1039 (4 * i) = 0 then gI (i + 1) (g_X7_hasCount_4 n Q 1022 1 (i + 1) τ) else gI (i + 1) (g_X7_hasCount_4 n Q 1022 0 (i + 1) τ))) else gI (i + 1) (g_X7_hasCount_4 n Q 1022 1 (i + 1) τ) := rfl
theorem hasCount_loop (hT : IsT τ its) (h8 : its.length ≤ 8) : ∀ {m Q i : Nat}, i + m = its.length → m < Q → g_X7_hasCount_4 n Q 1022 (hcI (its.take i)) i τ = some (hcI its, τ)
  | 0, Q + 1, i, hm, _ => by
    rw [hasCount_4_eq]
    rw [if_pos (by rw [hT.1]; omega), List.take_of_length_le (by omega), gd_pos hcI_rng]
  | m + 1, Q + 1, i, hm, hQ => by
    have hi : i < its.length := by omega
    have ih := hasCount_loop hT h8 (m := m) (Q := Q) (i := i + 1) (by omega) (by omega)
    obtain ⟨t1', t2, t3, t4⟩ := hT.2 i hi
    have e1 : (i : Int) + 1 = ((i + 1 : Nat) : Int) := by omega
    rw [hasCount_4_eq]
    rw [if_neg (by rw [hT.1]; omega)]
    have hs : hcI (its.take (i + 1)) = if hcI (its.take i) = 0 ∧ (its.getD i t0d).1 ≠ -2 then 0 else 1 := hcI_take hi
    by_cases c0 : hcI (its.take i) = 0
    · rw [if_pos c0, gI_pos (by omega), gd_pos (by omega)]
      by_cases c2 : (its.getD i t0d).1 = -2
      · have z0 : τ 1039 (4 * (i : Int)) = 0 := by
          rcases t4 with w | w
          · exact w.2.2
          · have := w.1; omega
        rw [if_pos z0, gI_pos (by omega), e1]
        rw [hs, if_neg (fun u => u.2 c2)] at ih
        exact ih
      · have z0 : τ 1039 (4 * (i : Int)) ≠ 0 := by
          rcases t4 with w | ⟨-, w | w⟩
          · exact absurd w.1 c2
          · omega
          · omega
        rw [if_neg z0, gI_pos (by omega), e1]
        rw [hs, if_pos ⟨c0, c2⟩] at ih
        exact ih
    · rw [if_neg c0, gI_pos (by omega), e1]
      rw [hs, if_neg (fun u => c0 u.1)] at ih
      exact ih
theorem hasCount_eq (hn : 1000000 ≤ n) (hT : IsT τ its) (h8 : its.length ≤ 8) : g_X7_hasCount n 1022 τ = some (hcI its, τ) := by
  have t := hasCount_loop (n := n) hT h8 (m := its.length) (Q := n) (i := 0) (by omega) (by omega)
  rw [hcI_nil, show ((0 : Nat) : Int) = 0 from rfl] at t
  unfold g_X7_hasCount
  exact t
/-- the outcome of a count that is none of the items -/
def ItC (T : List Int) (N0 U0 z k : Int) (σ : AS) (τ : TT) (q : Int) (S : PS) (M : Nat) (b : Int) (y : Int × AS) (w : Int × TT) : Prop :=
  EfX N0 σ y.2 ∧ ItF 1040 b τ w.2 ∧ elQ y.2 y.1 ∧ ((w.1 = 1 ∧ ShP T N0 U0 y.2 z (k + 1) (nxq T q) S ∧ OKW T y.2 (wrg w.2 6 q) (nxq T q) S M ∧ (∀ i : Nat, i < S.1.1.length → w.2 1036 i = τ 1036 i) ∧ TrAt y.2 y.1 (-2, -1, 0) ∧ ItT w.2 1040 b (-2, -1, 0) ∧ w.2 1040 (b + 3) = 0 ∧ ld y.2 1007 5 ≠ 0) ∨ (w.1 = 0 ∧ Fl T N0 U0 z (k + 1) y.2 w.2))
theorem lk_itemC (hn : 1000000 ≤ n) (hb : BtOk T) (h : ShP T N0 U0 σ z k q S) (hO : OKW T σ τ q S M) {i : Nat} (hi : i < 8) (c15 : tkC T q = 15) : Wp (f_X3_means 1007 6 q σ) fun σ1 => Wp (f_X3_item n 1007 M σ1) fun y => Wp (g_X7_item n 1022 1040 i τ) fun w => ItC T N0 U0 z k σ τ q S M (4 * i) y w := by
  have o2 := hO.1.2.1
  have e19 : τ 1022 19 = tkC T q := o2.2.1
  have ht : tn 1040 = 32 := by decide
  have hqq := nxq_le h
  have hrg := sh_rng h
  have hbl := hb.1
  have e22 : g_X7_item n 1022 1040 i τ = t1 (g_X7_next n 1022 (sa (sa (sa (sa τ 1040 (4 * (i : Int)) 0) 1040 (4 * (i : Int) + 1) (-1)) 1040 (4 * (i : Int) + 2) (-1)) 1040 (4 * (i : Int) + 3) 0)) (fun v43 τ44 => gd (0 ≤ v43 ∧ v43 ≤ 1) <| some (v43, τ44)) := by
    unfold g_X7_item g_X7_item_22
    rw [e19, if_pos c15, if_neg (show ¬ (i : Int) = 8 by omega), gI_pos (by omega), nm_eq, ht, gd_pos (by omega), nm_eq, gI_pos (by omega), gd_pos (by omega), nm_eq, gI_pos (by omega), gd_pos (by omega), nm_eq, gI_pos (by omega), gd_pos (by omega), nm_eq]
    have : sa (sa (sa (sa τ 1040 (4 * (i : Int)) 0) 1040 (4 * (i : Int) + 1) (-1)) 1040 (4 * (i : Int) + 2) (-1)) 1040 (4 * (i : Int) + 3) 0 1022 19 = 15 := by
      rw [sa_at, if_neg (by omega), sa_at, if_neg (by omega), sa_at, if_neg (by omega), sa_at, if_neg (by omega)]; exact e19.trans c15
    rw [if_pos this]
  have ea : ∀ r j, r ≠ 1040 → sa (sa (sa (sa τ 1040 (4 * (i : Int)) 0) 1040 (4 * (i : Int) + 1) (-1)) 1040 (4 * (i : Int) + 2) (-1)) 1040 (4 * (i : Int) + 3) 0 r j = τ r j := fun r j hh => by
    rw [sa_at, if_neg (fun u => hh u.1), sa_at, if_neg (fun u => hh u.1), sa_at, if_neg (fun u => hh u.1), sa_at, if_neg (fun u => hh u.1)]
  have ec0 : sa (sa (sa (sa τ 1040 (4 * (i : Int)) 0) 1040 (4 * (i : Int) + 1) (-1)) 1040 (4 * (i : Int) + 2) (-1)) 1040 (4 * (i : Int) + 3) 0 1040 (4 * (i : Int)) = 0 := by rw [sa_at, if_neg (by omega), sa_at, if_neg (by omega), sa_at, if_neg (by omega), sa_at, if_pos ⟨rfl, rfl⟩]
  have ec1 : sa (sa (sa (sa τ 1040 (4 * (i : Int)) 0) 1040 (4 * (i : Int) + 1) (-1)) 1040 (4 * (i : Int) + 2) (-1)) 1040 (4 * (i : Int) + 3) 0 1040 (4 * (i : Int) + 1) = -1 := by rw [sa_at, if_neg (by omega), sa_at, if_neg (by omega), sa_at, if_pos ⟨rfl, rfl⟩]
  have ec2 : sa (sa (sa (sa τ 1040 (4 * (i : Int)) 0) 1040 (4 * (i : Int) + 1) (-1)) 1040 (4 * (i : Int) + 2) (-1)) 1040 (4 * (i : Int) + 3) 0 1040 (4 * (i : Int) + 2) = -1 := by rw [sa_at, if_neg (by omega), sa_at, if_pos ⟨rfl, rfl⟩]
  have ec3 : sa (sa (sa (sa τ 1040 (4 * (i : Int)) 0) 1040 (4 * (i : Int) + 1) (-1)) 1040 (4 * (i : Int) + 2) (-1)) 1040 (4 * (i : Int) + 3) 0 1040 (4 * (i : Int) + 3) = 0 := by rw [sa_at, if_pos ⟨rfl, rfl⟩]
  have F4 : ItF 1040 (4 * i) τ (sa (sa (sa (sa τ 1040 (4 * (i : Int)) 0) 1040 (4 * (i : Int) + 1) (-1)) 1040 (4 * (i : Int) + 2) (-1)) 1040 (4 * (i : Int) + 3) 0) := (itF_sa (by omega)).trans ((itF_sa (by omega)).trans ((itF_sa (by omega)).trans (itF_sa (by omega))))
  rw [e22]
  generalize sa (sa (sa (sa τ 1040 (4 * (i : Int)) 0) 1040 (4 * (i : Int) + 1) (-1)) 1040 (4 * (i : Int) + 2) (-1)) 1040 (4 * (i : Int) + 3) 0 = τ4 at *
  have hO4 : OKW T σ τ4 q S M := hO.fr (fun j _ => ea _ _ (by omega)) fun r j g1 g2 => ea _ _ (by omega)
  obtain ⟨p1, p2, p3, p4, p5⟩ := hO4.1
  refine wp_mono (means_wp h (c := 6) (p := q)) fun σ1 hm => ?_
  obtain ⟨m1, m2, m3, m4, m5, m6, m7⟩ := hm
  obtain ⟨L1, L2⟩ := p4.both (c := 6) (by omega) (by decide) m6 m7
  unfold f_X3_item
  refine wp_gd m1.2.2.2.2.1.1 (wp_c1 (wp_mono (takes_yes hn hb m1 (r := 65) (C := 15) (by decide) (by unfold spC; omega) ((m5 3 (by decide) (by decide)).trans p1) c15) fun y hy => ?_))
  obtain ⟨y1, y2, y3, y4⟩ := hy
  have hn0 := y2.2.2.2.2.2.1
  obtain ⟨σ3, e1, k1, ⟨f0, f1, f2⟩, n1, u1, F1⟩ := new_term (σ := y.2) (a := -2) (b := -1) (c := 0) (by omega)
  refine wp_neg (by omega) (wp_nm0 (wp_nm0 (wp_gd (by omega) (wp_c0e e1 (wp_ok ?_)))))
  obtain ⟨s1, s2, s3⟩ := sh_fresh (cc := 1) y2 F1 (by omega) (by omega)
  have tr : TrAt σ3 (nx y.2) (-2, -1, 0) := ⟨k1, ⟨by omega, by omega⟩, f0, f1, f2⟩
  have j7 : ∀ j, ld σ3 1007 j = ld σ1 1007 j := fun j => (s3 j).trans (y4 j)
  refine wp_t1 (wp_mono (tw_next2 (q := q) hn hb p3 p2.2.2.1 ⟨hrg.1, hrg.2.1⟩) fun w hw => ?_)
  obtain ⟨w1, w2⟩ := hw
  have wa : ∀ j, w.2 1040 j = τ4 1040 j := fun j => w1 _ _ (by omega)
  have EX : EfX N0 σ σ3 := ⟨m2.trans (y3.1.trans s2.1), fun j => (s2.2.1 j).trans ((y3.2.1 j).trans (m3 j)), fun j => (s2.2.2.1 j).trans ((y3.2.2.1 j).trans (m4 j)), fun u => absurd (by rw [← j7]; exact u) L2⟩
  refine wp_gd (by rcases w2 with u | u <;> omega) (wp_ok ⟨EX, F4.trans w1.nv.it, tr.el, ?_⟩)
  rcases w2 with ⟨v1, v2⟩ | ⟨v1, v2, v3, v4⟩
  · have w36 : ∀ r j, ¬ (r = 1022 ∧ (j = 27 ∨ j = 28)) → wrg w.2 6 q r j = w.2 r j := fun r j hh => wrg_at hh
    have e27 : wrg w.2 6 q 1022 27 = wrg τ4 6 q 1022 27 ∧ wrg w.2 6 q 1022 28 = wrg τ4 6 q 1022 28 := by
      have e28 : w.2 1022 28 = τ4 1022 28 := w1 _ _ (by omega)
      have e27 : w.2 1022 27 = τ4 1022 27 := w1 _ _ (by omega)
      unfold wrg
      rw [e28]
      by_cases c : τ4 1022 28 ≤ q
      · rw [if_pos c, if_pos c]; exact ⟨e27, e28⟩
      · rw [if_neg c, if_neg c]; simp [sa_at]
    obtain ⟨b1, b2, b3, b4, b5, b6, b7⟩ := v2
    refine Or.inl ⟨v1, s1, ⟨⟨(j7 3).trans ((m5 3 (by decide) (by decide)).trans p1), ⟨by rw [w36 _ _ (by omega)]; exact b1, by rw [w36 _ _ (by omega)]; exact b2, by rw [w36 _ _ (by omega)]; exact b3, fun u => by rw [w36 _ _ (by omega)]; exact b4 u, b5, b6, b7⟩, ⟨by rw [w36 _ _ (by omega), w1 _ _ (by omega)]; exact p3.1, fun j hj => by rw [w36 _ _ (by omega), w1 _ _ (by omega)]; exact p3.2 j hj⟩, (L1.congr (j7 5) (j7 6) e27.1 e27.2).le hqq, p5.congr (by rw [w36 _ _ (by omega), w1 _ _ (by omega)]) fun j => ⟨by rw [w36 _ _ (by omega), w1 _ _ (by omega)], by rw [w36 _ _ (by omega), w1 _ _ (by omega)]⟩⟩, hO.2.1, fun j hj => by rw [w36 _ _ (by omega), w1 _ _ (by omega)]; exact hO4.2.2 j hj⟩, fun j _ => by rw [w1 _ _ (by omega), ea _ _ (by omega)], tr, ⟨rfl, by rw [wa]; exact ec1, by rw [wa]; exact ec2, Or.inl ⟨rfl, rfl, by rw [wa]; exact ec0⟩⟩, by rw [wa]; exact ec3, by rw [j7]; exact L2⟩
  · refine Or.inr ⟨v1, S, nxq T q, s1, Or.inr ⟨(j7 3).trans ((m5 3 (by decide) (by decide)).trans p1), v2, v3, v4.symm⟩⟩
end OH
