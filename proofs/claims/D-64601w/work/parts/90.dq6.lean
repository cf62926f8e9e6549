/-! ArrayDeque.clear -/
set_option maxRecDepth 100000
theorem f_J1_circularClear_12_wpA {n : Nat} {e t : Int} {S : Int → Prop} (hS : S e) : ∀ (m q : Nat) (k : Int) (σ : AS), k + m = t → m < q → kd σ e = 105 → 0 ≤ k → t ≤ ln σ e → ln σ e ≤ 100000 →
    Wp (f_J1_circularClear_12 n q e k t t σ) fun σ' => Fr S σ σ' ∧ nx σ' = nx σ ∧ us σ' = us σ ∧ (∀ a j, a ≠ e → ld σ' a j = ld σ a j) ∧ ∀ j, ld σ' e j = if k ≤ j ∧ j < t then 0 else ld σ e j := by
  intro m
  induction m with
  | zero =>
    intro q k σ hk hq h1 h2 h3 h4
    obtain ⟨q, rfl⟩ : ∃ z, q = z + 1 := ⟨q - 1, by omega⟩
    unfold f_J1_circularClear_12
    refine wp_pos (by omega) (wp_pos rfl ?_)
    exact wp_ok ⟨Fr.rf, rfl, rfl, fun _ _ _ => rfl, fun j => by rw [if_neg (fun z => by omega)]⟩
  | succ m ih =>
    intro q k σ hk hq h1 h2 h3 h4
    obtain ⟨q, rfl⟩ : ∃ z, q = z + 1 := ⟨q - 1, by omega⟩
    unfold f_J1_circularClear_12
    refine wp_neg (by omega) ?_
    refine wp_gd ⟨h1, h2, by omega⟩ ?_
    refine wp_nm0 ?_
    refine wp_gI (by omega) ?_
    refine wp_nm0 ?_
    refine wp_mono (ih q (k + 1) (wr σ e k 0) (by omega) (by omega) h1 (by omega) h3 h4) fun σ' hq => ?_
    obtain ⟨g1, g2, g3, g4, g5⟩ := hq
    refine ⟨(Fr.wr hS).trans g1, g2, g3, fun a j ha => by rw [g4 a j ha, ld_wr, if_neg (fun z => ha z.1)], fun j => ?_⟩
    rw [g5, ld_wr]
    by_cases e2 : k + 1 ≤ j ∧ j < t
    · rw [if_pos e2, if_pos ⟨by omega, e2.2⟩]
    · rw [if_neg e2]
      by_cases e1 : j = k
      · rw [if_pos ⟨rfl, e1⟩, if_pos ⟨by omega, by omega⟩]
      · rw [if_neg (fun z => e1 z.2), if_neg (fun z => e2 ⟨by omega, z.2⟩)]
theorem f_J1_circularClear_12_wpB {n : Nat} {e t N : Int} {S : Int → Prop} (hS : S e) (ht : 0 ≤ t ∧ t < N) : ∀ (m q : Nat) (k : Int) (σ : AS), k + m = N → m + t.toNat + 1 < q → kd σ e = 105 → 0 ≤ k → ln σ e = N → N ≤ 100000 →
    Wp (f_J1_circularClear_12 n q e k t N σ) fun σ' => Fr S σ σ' ∧ nx σ' = nx σ ∧ us σ' = us σ ∧ (∀ a j, a ≠ e → ld σ' a j = ld σ a j) ∧ ∀ j, ld σ' e j = if k ≤ j ∧ j < N ∨ 0 ≤ j ∧ j < t then 0 else ld σ e j := by
  intro m
  induction m with
  | zero =>
    intro q k σ hk hq h1 h2 h3 h4
    obtain ⟨q, rfl⟩ : ∃ z, q = z + 1 := ⟨q - 1, by omega⟩
    unfold f_J1_circularClear_12
    refine wp_pos (by omega) (wp_neg (by omega) ?_)
    refine wp_mono (f_J1_circularClear_12_wpA (S := S) hS t.toNat q 0 σ (by omega) (by omega) h1 (by omega) (by omega) (by omega)) fun σ' hq => ?_
    obtain ⟨g1, g2, g3, g4, g5⟩ := hq
    refine ⟨g1, g2, g3, g4, fun j => ?_⟩
    rw [g5]
    by_cases c : 0 ≤ j ∧ j < t
    · rw [if_pos c, if_pos (Or.inr c)]
    · rw [if_neg c, if_neg (fun z => z.elim (fun z => by omega) c)]
  | succ m ih =>
    intro q k σ hk hq h1 h2 h3 h4
    obtain ⟨q, rfl⟩ : ∃ z, q = z + 1 := ⟨q - 1, by omega⟩
    unfold f_J1_circularClear_12
    refine wp_neg (by omega) ?_
    refine wp_gd ⟨h1, h2, by omega⟩ ?_
    refine wp_nm0 ?_
    refine wp_gI (by omega) ?_
    refine wp_nm0 ?_
    refine wp_mono (ih q (k + 1) (wr σ e k 0) (by omega) (by omega) h1 (by omega) h3 h4) fun σ' hq => ?_
    obtain ⟨g1, g2, g3, g4, g5⟩ := hq
    refine ⟨(Fr.wr hS).trans g1, g2, g3, fun a j ha => by rw [g4 a j ha, ld_wr, if_neg (fun z => ha z.1)], fun j => ?_⟩
    rw [g5, ld_wr]
    by_cases e2 : k + 1 ≤ j ∧ j < N ∨ 0 ≤ j ∧ j < t
    · rw [if_pos e2, if_pos (by omega)]
    · rw [if_neg e2]
      by_cases e1 : j = k
      · rw [if_pos ⟨rfl, e1⟩, if_pos (by omega)]
      · rw [if_neg (fun z => e1 z.2), if_neg (by omega)]
theorem f_J1_clear_wp {n : Nat} {d : Int} {L : List Int} {σ : AS} {S : Int → Prop} (hS : S d) (hS2 : S (ld σ d 0)) (hn : 1000000 ≤ n) (h : DqOk σ d L) (hd : d < nx σ) (he : ld σ d 0 < nx σ) (hN : ln σ (ld σ d 0) ≤ 100000) :
    Wp (f_J1_clear n d σ) fun σ' => Fr S σ σ' ∧ nx σ' = nx σ ∧ us σ' = us σ ∧ DqOk σ' d [] ∧ ld σ' d 0 = ld σ d 0 := by
  obtain ⟨h1, h2, h3, h4, h5, h6, h7, h8, h9⟩ := h
  have hde : d ≠ ld σ d 0 := fun e => by rw [← e, h1] at h2; cases h2
  generalize hes : ld σ d 0 = es at *
  generalize hh : ld σ d 1 = hd1 at *
  generalize hNN : ln σ es = N at *
  have hw := wrp_in (N := N) (x := hd1 + L.length) ⟨by omega, by omega⟩
  have out : ∀ j, 0 ≤ j → j < N → (∀ i : Nat, i < L.length → wrp N (hd1 + i) ≠ j) → ld σ es j = 0 := fun j q1 q2 q3 => by
    obtain ⟨i, hi, ei⟩ : ∃ i : Nat, (i : Int) < N ∧ wrp N (hd1 + i) = j := by
      by_cases c : hd1 ≤ j
      · exact ⟨(j - hd1).toNat, by omega, by unfold wrp; rw [if_pos (by omega)]; omega⟩
      · exact ⟨(j - hd1 + N).toNat, by omega, by unfold wrp; rw [if_neg (by omega)]; omega⟩
    by_cases c : i < L.length
    · exact absurd ei (q3 i c)
    · rw [← ei]; exact h9 i (by omega) hi
  have key : Wp (f_J1_circularClear n es hd1 (ld σ d 2) σ) fun σ' => Fr S σ σ' ∧ nx σ' = nx σ ∧ us σ' = us σ ∧ (∀ a j, a ≠ es → ld σ' a j = ld σ a j) ∧ ∀ j, 0 ≤ j → j < N → ld σ' es j = 0 := by
    unfold f_J1_circularClear f_J1_circularClear_11
    rw [h7]
    refine wp_ite (fun c => ?_) (fun c => ?_)
    · refine wp_gd (Or.inl h2) ?_
      rw [hNN]
      refine wp_mono (f_J1_circularClear_12_wpB (S := S) hS2 hw (N - hd1).toNat n hd1 σ (by omega) (by omega) h2 h5 hNN (by omega)) fun σ' hq => ?_
      obtain ⟨g1, g2, g3, g4, g5⟩ := hq
      refine ⟨g1, g2, g3, g4, fun j q1 q2 => ?_⟩
      rw [g5]
      by_cases c1 : hd1 ≤ j ∧ j < N ∨ 0 ≤ j ∧ j < wrp N (hd1 + L.length)
      · rw [if_pos c1]
      · rw [if_neg c1]
        refine out j q1 q2 fun i hi z => ?_
        unfold wrp at c c1 z
        split at z <;> split at c <;> omega
    · refine wp_mono (f_J1_circularClear_12_wpA (S := S) hS2 (wrp N (hd1 + L.length) - hd1).toNat n hd1 σ (by omega) (by omega) h2 h5 (by omega) (by omega)) fun σ' hq => ?_
      obtain ⟨g1, g2, g3, g4, g5⟩ := hq
      refine ⟨g1, g2, g3, g4, fun j q1 q2 => ?_⟩
      rw [g5]
      by_cases c1 : hd1 ≤ j ∧ j < wrp N (hd1 + L.length)
      · rw [if_pos c1]
      · rw [if_neg c1]
        refine out j q1 q2 fun i hi z => ?_
        unfold wrp at c c1 z
        split at z <;> split at c <;> omega
  unfold f_J1_clear
  refine wp_gd h1 (wp_gd h1 (wp_gd h1 ?_))
  rw [hes, hh]
  refine wp_c0 (wp_mono key fun σ1 hq => ?_)
  obtain ⟨g1, g2, g3, g4, g5⟩ := hq
  have k1 : kd σ1 d = 23 := (g1.kd hd).trans h1
  have k2 : kd σ1 es = 105 := (g1.kd he).trans h2
  have k3 : ln σ1 es = N := (g1.ln he).trans hNN
  refine wp_gd k1 ?_
  refine wp_nm0 ?_
  refine wp_gd k1 ?_
  refine wp_nm0 ?_
  have a0 : ld (wr (wr σ1 d 2 0) d 1 0) d 0 = es := by rw [ld_wr, if_neg (fun z => by omega), ld_wr, if_neg (fun z => by omega), g4 _ _ hde]; exact hes
  have a1 : ld (wr (wr σ1 d 2 0) d 1 0) d 1 = 0 := by rw [ld_wr, if_pos ⟨rfl, rfl⟩]
  have a2 : ld (wr (wr σ1 d 2 0) d 1 0) d 2 = 0 := by rw [ld_wr, if_neg (fun z => by omega), ld_wr, if_pos ⟨rfl, rfl⟩]
  have a3 : ∀ j, ld (wr (wr σ1 d 2 0) d 1 0) es j = ld σ1 es j := fun j => by rw [ld_wr, if_neg (fun z => hde z.1.symm), ld_wr, if_neg (fun z => hde z.1.symm)]
  refine wp_ok ⟨g1.trans ((Fr.wr hS).trans (Fr.wr hS)), g2, g3, ?_, a0⟩
  have e3 : ln (wr (wr σ1 d 2 0) d 1 0) es = N := k3
  unfold DqOk
  rw [a0, a1, a2, e3]
  refine ⟨k1, k2, h3, ?_, by omega, by omega, ?_, fun i hi => absurd hi (Nat.not_lt_zero i), fun i _ hi => ?_⟩
  · show ((0 : Nat) : Int) < N
    omega
  · unfold wrp
    show (0 : Int) = if 0 + ((0 : Nat) : Int) < N then 0 + ((0 : Nat) : Int) else 0 + ((0 : Nat) : Int) - N
    rw [if_pos (by omega)]; rfl
  · rw [a3]
    have w := wrp_in (N := N) (x := 0 + (i : Int)) ⟨by omega, by omega⟩
    exact g5 _ w.1 w.2
