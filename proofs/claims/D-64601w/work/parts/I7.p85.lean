/-! NAMES: the twin's -/
set_option maxRecDepth 100000
def NmT (τ : TT) (T : List Int) (NL : List (List Int)) : Prop := τ 1022 26 = NL.length ∧ NL.length ≤ 8 ∧ ∀ i : Nat, i < NL.length → 0 ≤ τ 1034 i ∧ 0 ≤ τ 1035 i ∧ τ 1034 i + τ 1035 i ≤ T.length ∧ slc T (τ 1034 i) (τ 1034 i + τ 1035 i) = NL.getD i []
def addT (τ : TT) (k : Nat) (q e : Int) : TT := sa (sa (sa (sa τ 1034 k q) 1035 k (e - q)) 1036 k 0) 1022 26 (k + 1)
theorem NmT.congr {τ τ' : TT} {T : List Int} {NL : List (List Int)} (h : NmT τ T NL) (h1 : τ' 1022 26 = τ 1022 26) (h2 : ∀ i, τ' 1034 i = τ 1034 i ∧ τ' 1035 i = τ 1035 i) : NmT τ' T NL := by
  obtain ⟨a1, a2, a3⟩ := h
  refine ⟨h1.trans a1, a2, fun i hi => ?_⟩
  rw [(h2 i).1, (h2 i).2]
  exact a3 i hi
theorem getD_snocL {L : List (List Int)} {b : List Int} {i : Nat} (h : i < L.length + 1) : (L ++ [b]).getD i [] = if i = L.length then b else L.getD i [] := by
  by_cases c : i = L.length
  · rw [if_pos c, c, List.getD_eq_getElem?_getD, List.getElem?_append_right (Nat.le_refl _), Nat.sub_self]; rfl
  · rw [if_neg c, List.getD_eq_getElem?_getD, List.getD_eq_getElem?_getD, List.getElem?_append_left (by omega)]
section NT
variable {τ : TT} {T : List Int} {n : Nat} {q e f : Int} {NL : List (List Int)}
theorem byte_eq (hT : TpT τ T) {i : Int} (h : 0 ≤ i ∧ i < T.length) : τ 1033 i = bt T i := by
  have := hT.2 i.toNat (by omega)
  rw [show ((i.toNat : Nat) : Int) = i by omega] at this
  exact this
theorem NmT.add (h : NmT τ T NL) (hl : NL.length < 8) (h0 : 0 ≤ q ∧ q ≤ e) (he : e ≤ T.length) : NmT (addT τ NL.length q e) T (NL ++ [slc T q e]) := by
  obtain ⟨a1, a2, a3⟩ := h
  unfold addT
  refine ⟨?_, by simp; omega, fun i hi => ?_⟩
  · rw [sa_at, if_pos ⟨rfl, rfl⟩]; simp
  · have hi' : i < NL.length + 1 := by simpa using hi
    rw [getD_snocL hi']
    have e4 : sa (sa (sa (sa τ 1034 NL.length q) 1035 NL.length (e - q)) 1036 NL.length 0) 1022 26 (NL.length + 1) 1034 i = if i = NL.length then q else τ 1034 i := by
      rw [sa_at, if_neg (by omega), sa_at, if_neg (by omega), sa_at, if_neg (by omega), sa_at]
      by_cases c : i = NL.length
      · rw [if_pos ⟨rfl, by rw [c]⟩, if_pos c]
      · rw [if_neg (fun z => c (by omega)), if_neg c]
    have e5 : sa (sa (sa (sa τ 1034 NL.length q) 1035 NL.length (e - q)) 1036 NL.length 0) 1022 26 (NL.length + 1) 1035 i = if i = NL.length then e - q else τ 1035 i := by
      rw [sa_at, if_neg (by omega), sa_at, if_neg (by omega), sa_at]
      by_cases c : i = NL.length
      · rw [if_pos ⟨rfl, by rw [c]⟩, if_pos c]
      · rw [if_neg (fun z => c (by omega)), if_neg c, sa_at, if_neg (by omega)]
    rw [e4, e5]
    by_cases c : i = NL.length
    · rw [if_pos c, if_pos c, if_pos c]
      refine ⟨h0.1, by omega, by omega, ?_⟩
      rw [show q + (e - q) = e by omega]
    · rw [if_neg c, if_neg c, if_neg c]
      exact a3 i (by omega)
theorem name_cmp (hT : TpT τ T) (hb : BtOk T) (hq : τ 1022 20 = q) (he : τ 1022 21 = e) (h0 : 0 ≤ q ∧ q ≤ e) (hel : e ≤ T.length) {K : Int → Int → TT → Option (Int × TT)} {i : Nat} (hi : i < 8) (hf : τ 1034 i = f) (h1 : 0 ≤ f ∧ f + (e - q) ≤ T.length) : ∀ (m k fu : Nat), m < fu → (k : Int) + m = e - q → (∀ j : Nat, j < k → bt T (f + j) = bt T (q + j)) → g_X7_name_36 n K fu 1022 i 1 k τ = if slc T f (f + (e - q)) = slc T q e then some ((i : Int), τ) else K 1022 (i + 1) τ
  | m, k, 0, hfu, _, _ => absurd hfu (by omega)
  | 0, k, fu + 1, hfu, hk, hp => by
    have hl := hb.1
    have l1 : ((slc T f (f + (e - q))).length : Int) = e - q := by rw [slc_len h1.1 (by omega) h1.2]; omega
    have l2 : ((slc T q e).length : Int) = e - q := slc_len h0.1 h0.2 hel
    unfold g_X7_name_36
    rw [he, hq, gI_pos (by omega), if_pos (by omega)]
    unfold g_X7_name_92
    rw [if_neg (by decide), if_pos]
    refine list_ext (by omega) fun j hj => ?_
    rw [slc_at h1.1 (by omega), slc_at h0.1 (by omega)]
    exact hp j (by omega)
  | m + 1, k, fu + 1, hfu, hk, hp => by
    have hl := hb.1
    have l1 : ((slc T f (f + (e - q))).length : Int) = e - q := by rw [slc_len h1.1 (by omega) h1.2]; omega
    have l2 : ((slc T q e).length : Int) = e - q := slc_len h0.1 h0.2 hel
    unfold g_X7_name_36
    rw [he, hq, gI_pos (by omega), if_neg (by omega), if_neg (by decide), gd_pos ⟨by omega, by omega⟩, hf, gI_pos (by omega), gd_pos ⟨by omega, by omega⟩, gI_pos (by omega), gd_pos ⟨by omega, by omega⟩, byte_eq hT ⟨by omega, by omega⟩, byte_eq hT ⟨by omega, by omega⟩]
    by_cases c : bt T (f + k) = bt T (q + k)
    · rw [if_pos c]
      unfold g_X7_name_85
      rw [gI_pos (by omega), nm_eq, show (k : Int) + 1 = ((k + 1 : Nat) : Int) by omega]
      exact name_cmp hT hb hq he h0 hel hi hf h1 m (k + 1) fu (by omega) (by omega) fun j hj => by
        by_cases z : j = k
        · rw [z]; exact c
        · exact hp j (by omega)
    · have hne : ¬ slc T f (f + (e - q)) = slc T q e := fun z => by
        have h3 := slc_at (T := T) (q := f) (e := f + (e - q)) (i := k) h1.1 (by omega)
        have h4 := slc_at (T := T) (q := q) (e := e) (i := k) h0.1 (by omega)
        rw [z, h4] at h3
        exact c h3.symm
      rw [if_neg c, if_neg hne]
      unfold g_X7_name_85
      obtain ⟨fu', rfl⟩ : ∃ z, fu = z + 1 := ⟨fu - 1, by omega⟩
      rw [gI_pos (by omega), nm_eq]
      unfold g_X7_name_36 g_X7_name_92
      rw [he, hq, gI_pos (by omega), if_pos rfl, gI_pos (by omega), nm_eq]
      split
      · rfl
      · rw [if_pos rfl]
theorem name_loop (hn : 1000000 ≤ n) (hT : TpT τ T) (hb : BtOk T) (hN : NmT τ T NL) (hq : τ 1022 20 = q) (he : τ 1022 21 = e) (h0 : 0 ≤ q ∧ q ≤ e) (hel : e ≤ T.length) : ∀ (m i fu : Nat), m < fu → i + m = NL.length → (∀ j, j < i → NL.getD j [] ≠ slc T q e) → g_X7_name_2 n fu 1022 i τ = if slc T q e ∈ NL.drop i then some (((i + pos (slc T q e) (NL.drop i) : Nat) : Int), τ) else if NL.length = 8 then some (-1, sa (sa τ 1022 17 3) 1022 18 q) else some ((NL.length : Int), addT τ NL.length q e)
  | m, i, 0, hf, _, _ => absurd hf (by omega)
  | 0, i, fu + 1, hf, hm, hp => by
    have hl := hb.1
    obtain ⟨a1, a2, a3⟩ := hN
    unfold g_X7_name_2
    rw [a1, if_pos (by omega), List.drop_eq_nil_of_le (by omega), if_neg List.not_mem_nil]
    by_cases c : NL.length = 8
    · rw [if_pos (by omega), if_pos c]
      unfold g_X7_flaw
      rw [nm_eq, nm_eq, t1_at, hq]
    · rw [if_neg (by omega), if_neg c, gd_pos ⟨by omega, by omega⟩, nm_eq, hq]
      have e21 : sa τ 1034 NL.length q 1022 21 = e := by rw [sa_at, if_neg (by omega)]; exact he
      have e20 : sa τ 1034 NL.length q 1022 20 = q := by rw [sa_at, if_neg (by omega)]; exact hq
      have e26 : sa τ 1034 NL.length q 1022 26 = NL.length := by rw [sa_at, if_neg (by omega)]; exact a1
      rw [e21, e20, gI_pos (by omega), e26, gd_pos ⟨by omega, by omega⟩, nm_eq]
      have f26 : sa (sa τ 1034 NL.length q) 1035 NL.length (e - q) 1022 26 = NL.length := by rw [sa_at, if_neg (by omega)]; exact e26
      rw [f26, gd_pos ⟨by omega, by omega⟩, nm_eq]
      have g26 : sa (sa (sa τ 1034 NL.length q) 1035 NL.length (e - q)) 1036 NL.length 0 1022 26 = NL.length := by rw [sa_at, if_neg (by omega)]; exact f26
      rw [g26, gI_pos (by omega), nm_eq]
      have h26 : sa (sa (sa (sa τ 1034 NL.length q) 1035 NL.length (e - q)) 1036 NL.length 0) 1022 26 (NL.length + 1) 1022 26 = NL.length + 1 := by rw [sa_at, if_pos ⟨rfl, rfl⟩]
      rw [h26, gI_pos (by omega), show (NL.length : Int) + 1 - 1 = NL.length by omega]
      rfl
  | m + 1, i, fu + 1, hf, hm, hp => by
    have hl := hb.1
    obtain ⟨a1, a2, a3⟩ := id hN
    obtain ⟨b1, b2, b3, b4⟩ := a3 i (by omega)
    have l2 : ((slc T q e).length : Int) = e - q := slc_len h0.1 h0.2 hel
    have hdrop : NL.drop i = NL.getD i [] :: NL.drop (i + 1) := by
      rw [List.getD_eq_getElem?_getD, List.getElem?_eq_getElem (by omega), List.drop_eq_getElem_cons (by omega)]
      rfl
    unfold g_X7_name_2
    rw [a1, if_neg (by omega), gd_pos ⟨by omega, by omega⟩, he, hq, gI_pos (by omega)]
    have next : NL.getD i [] ≠ slc T q e → g_X7_name_2 n fu 1022 (i + 1) τ = (if slc T q e ∈ NL.drop i then some (((i + pos (slc T q e) (NL.drop i) : Nat) : Int), τ) else if NL.length = 8 then some (-1, sa (sa τ 1022 17 3) 1022 18 q) else some ((NL.length : Int), addT τ NL.length q e)) := fun z => by
      have := name_loop hn hT hb hN hq he h0 hel m (i + 1) fu (by omega) (by omega) fun j hj => by
        by_cases y : j = i
        · rw [y]; exact z
        · exact hp j (by omega)
      rw [show (((i + 1 : Nat) : Int)) = (i : Int) + 1 by omega] at this
      rw [this, hdrop]
      have hmem : (slc T q e ∈ NL.getD i [] :: NL.drop (i + 1)) ↔ slc T q e ∈ NL.drop (i + 1) := by
        rw [List.mem_cons]
        exact ⟨fun y => y.resolve_left fun w => z w.symm, Or.inr⟩
      have hpos : pos (slc T q e) (NL.getD i [] :: NL.drop (i + 1)) = pos (slc T q e) (NL.drop (i + 1)) + 1 := if_neg z
      rw [hpos]
      by_cases y : slc T q e ∈ NL.drop (i + 1)
      · rw [if_pos y, if_pos (hmem.mpr y), show i + 1 + pos (slc T q e) (NL.drop (i + 1)) = i + (pos (slc T q e) (NL.drop (i + 1)) + 1) by omega]
      · rw [if_neg y, if_neg (fun w => y (hmem.mp w))]
    by_cases c : τ 1035 i = e - q
    · rw [if_pos c]
      unfold g_X7_name_33
      have := name_cmp (n := n) (f := τ 1034 i) (K := g_X7_name_2 n fu) hT hb hq he h0 hel (i := i) (by omega) rfl ⟨b1, by omega⟩ (e - q).toNat 0 n (by omega) (by omega) (fun j hj => absurd hj (by omega))
      rw [show ((0 : Nat) : Int) = 0 from rfl] at this
      rw [this]
      rw [c] at b4
      by_cases z : slc T (τ 1034 i) (τ 1034 i + (e - q)) = slc T q e
      · rw [if_pos z, hdrop, if_pos (by rw [← b4, z]; exact List.mem_cons_self)]
        have : pos (slc T q e) (NL.getD i [] :: NL.drop (i + 1)) = 0 := if_pos (by rw [← b4, z])
        rw [this]; rfl
      · rw [if_neg z]
        exact next (by rw [← b4]; exact z)
    · rw [if_neg c]
      unfold g_X7_name_33
      obtain ⟨n', rfl⟩ : ∃ z, n = z + 1 := ⟨n - 1, by omega⟩
      have hne : NL.getD i [] ≠ slc T q e := fun z => by
        have l1 : ((slc T (τ 1034 i) (τ 1034 i + τ 1035 i)).length : Int) = τ 1035 i := by rw [slc_len b1 (by omega) b3]; omega
        rw [b4, z] at l1
        exact c (by omega)
      rw [← next hne]
      unfold g_X7_name_36 g_X7_name_92
      rw [he, hq, gI_pos (by omega), if_pos rfl, gI_pos (by omega), nm_eq]
      split
      · rfl
      · rw [if_pos rfl]
theorem tw_name (hn : 1000000 ≤ n) (hT : TpT τ T) (hb : BtOk T) (hN : NmT τ T NL) (hq : τ 1022 20 = q) (he : τ 1022 21 = e) (h0 : 0 ≤ q ∧ q ≤ e) (hel : e ≤ T.length) : g_X7_name n 1022 τ = if slc T q e ∈ NL then some ((pos (slc T q e) NL : Int), τ) else if NL.length = 8 then some (-1, sa (sa τ 1022 17 3) 1022 18 q) else some ((NL.length : Int), addT τ NL.length q e) := by
  unfold g_X7_name
  have := name_loop hn hT hb hN hq he h0 hel NL.length 0 n (by have := hN.2.1; omega) (by omega) (fun j hj => absurd hj (by omega))
  rw [List.drop_zero, Nat.zero_add] at this
  exact this
end NT
