/-! ArrayDeque.push -/
set_option maxRecDepth 100000
theorem f_J1_dec_eq {a m : Int} {σ : AS} (h : 0 ≤ a ∧ a < m ∧ m ≤ 1000000) : f_J1_dec a m σ = some (if a = 0 then m - 1 else a - 1, σ) := by
  unfold f_J1_dec
  rw [gI_pos (by omega)]
  dsimp only [nm]
  by_cases e : a = 0
  · rw [if_neg (by omega), if_pos e, gI_pos (by omega)]
  · rw [if_pos (by omega), if_neg e]
    congr 2
theorem f_J1_push_wp {n : Nat} {d v : Int} {L : List Int} {σ : AS} {S : Int → Prop} (hS : S d) (hS2 : S (ld σ d 0)) (hn : 1000000 ≤ n) (h : DqOk σ d L) (hd : d < nx σ) (he : ld σ d 0 < nx σ) (hN : ln σ (ld σ d 0) ≤ 128) (hL : L.length < 63 ∨ ln σ (ld σ d 0) < 64) (hE : ∀ i : Nat, i < L.length → elOk σ (.object "java/lang/Object") (L.getD i 0) ∧ L.getD i 0 < nx σ) (hv : elOk σ (.object "java/lang/Object") v ∧ v ≠ 0 ∧ v < nx σ) :
    Wp (f_J1_push n d v σ) fun σ' => Fr S σ σ' ∧ nx σ' ≤ nx σ + 1 ∧ us σ' ≤ us σ + 130 ∧ DqOk σ' d (v :: L) ∧ ln σ' (ld σ' d 0) ≤ 128 ∧ (ld σ' d 0 = ld σ d 0 ∨ ld σ' d 0 = nx σ) := by
  obtain ⟨h1, h2, h3, h4, h5, h6, h7, h8, h9⟩ := h
  have hde : d ≠ ld σ d 0 := fun e => by rw [← e, h1] at h2; cases h2
  generalize hes : ld σ d 0 = es at *
  generalize hh : ld σ d 1 = hd1 at *
  generalize hNN : ln σ es = N at *
  generalize hk : (if hd1 = 0 then N - 1 else hd1 - 1) = k
  have hk0 : 0 ≤ k ∧ k < N ∧ wrp N (k + 1) = hd1 := by
    unfold wrp
    rw [← hk]
    split <;> split <;> omega
  have hw : ∀ i : Nat, (i : Int) < N → wrp N (k + ((i : Int) + 1)) = wrp N (hd1 + i) := fun i hi => by
    rw [← hk0.2.2]
    exact (wrp_wrp ⟨hk0.1, hk0.2.1⟩ ⟨by omega, by omega⟩).symm
  have hk00 : wrp N (k + ((0 : Nat) : Int)) = k := by unfold wrp; rw [if_pos (by omega)]; omega
  unfold f_J1_push
  refine wp_gd h1 ?_
  refine wp_c0 ?_
  unfold f_J1_addFirst
  refine wp_neg hv.2.1 ?_
  refine wp_gd h1 ?_
  rw [hes]
  refine wp_nm0 ?_
  refine wp_gd h1 ?_
  refine wp_gd (Or.inl h2) ?_
  rw [hh, hNN, f_J1_dec_eq ⟨h5, h6, by omega⟩, c1_at, hk]
  refine wp_gd h1 ?_
  refine wp_nm0 ?_
  refine wp_gd ⟨h2, hk0.1, by show k < ln σ es; omega⟩ ?_
  refine wp_gdc (elOk_kd hv.1 rfl) ?_
  refine wp_nm0 ?_
  refine wp_gd h1 ?_
  refine wp_gd h1 ?_
  have a0 : ld (wr (wr σ d 1 k) es k v) d 0 = es := by rw [ld_wr, if_neg (fun z => hde z.1), ld_wr, if_neg (fun z => by omega)]; exact hes
  have a1 : ld (wr (wr σ d 1 k) es k v) d 1 = k := by rw [ld_wr, if_neg (fun z => hde z.1), ld_wr, if_pos ⟨rfl, rfl⟩]
  have a2 : ld (wr (wr σ d 1 k) es k v) d 2 = ld σ d 2 := by rw [ld_wr, if_neg (fun z => hde z.1), ld_wr, if_neg (fun z => by omega)]
  have a3 : ∀ j, j ≠ k → ld (wr (wr σ d 1 k) es k v) es j = ld σ es j := fun j hj => by
    rw [ld_wr, if_neg (fun z => hj z.2), ld_wr, if_neg (fun z => hde z.1.symm)]
  have a4 : ld (wr (wr σ d 1 k) es k v) es k = v := by rw [ld_wr, if_pos ⟨rfl, rfl⟩]
  have fr : Fr S σ (wr (wr σ d 1 k) es k v) := (Fr.wr hS).trans (Fr.wr hS2)
  -- the cells of the list
  have cont : ∀ i : Nat, i < L.length + 1 → ld (wr (wr σ d 1 k) es k v) es (wrp N (k + i)) = (v :: L).getD i 0 ∧ (v :: L).getD i 0 ≠ 0 := fun i hi => by
    cases i with
    | zero => rw [hk00, a4]; exact ⟨rfl, hv.2.1⟩
    | succ i =>
      have e1 : wrp N (k + ((i + 1 : Nat) : Int)) = wrp N (hd1 + i) := hw i (by omega)
      have e2 : wrp N (k + ((i + 1 : Nat) : Int)) ≠ k := fun z => by
        have := wrp_inj (N := N) (h := k) (i := ((i + 1 : Nat) : Int)) (j := ((0 : Nat) : Int)) ⟨hk0.1, hk0.2.1⟩ ⟨by omega, by omega⟩ ⟨by omega, by omega⟩ (z.trans hk00.symm)
        omega
      rw [a3 _ e2, e1]
      exact h8 i (by omega)
  rw [a1, a2, h7]
  refine wp_ite (fun hc => ?_) (fun hc => ?_)
  · have hfull : (L.length : Int) + 1 = N := by
      rw [← hk0.2.2] at hc
      unfold wrp at hc hk0
      split at hc <;> split at hc <;> omega
    refine wp_gd h1 ?_
    refine wp_c0 ?_
    refine wp_mono (f_J1_grow_wp (S := S) (e := es) (h := k) hS hn h1 a0 h2 hd he (by show 17 ≤ ln σ es; omega) (by show ln σ es < 64; omega) a1 (by rw [a2, h7, ← hc]) ⟨hk0.1, by show k < ln σ es; omega⟩ (fun i q1 q2 => ?_)) fun σ' hq => ?_
    · have q2 : i < N := by rw [← hNN]; exact q2
      obtain ⟨j, hj, ej⟩ : ∃ j : Nat, j < L.length + 1 ∧ wrp N (k + j) = i := by
        by_cases c : k ≤ i
        · exact ⟨(i - k).toNat, by omega, by unfold wrp; rw [if_pos (by omega)]; omega⟩
        · exact ⟨(i - k + N).toNat, by omega, by unfold wrp; rw [if_neg (by omega)]; omega⟩
      have c := cont j hj
      rw [ej] at c
      rw [c.1]
      cases j with
      | zero => exact ⟨elOk_kd hv.1 rfl, hv.2.1, hv.2.2⟩
      | succ j => exact ⟨elOk_kd (hE j (by omega)).1 rfl, c.2, (hE j (by omega)).2⟩
    · obtain ⟨g1, g2, g3, g4, g5, g6, g7, g8, g9⟩ := hq
      have en : ln (wr (wr σ d 1 k) es k v) es = N := hNN
      rw [en] at g3 g6 g7 g9
      have en2 : nx (wr (wr σ d 1 k) es k v) = nx σ := rfl
      have eu2 : us (wr (wr σ d 1 k) es k v) = us σ := rfl
      rw [en2] at g2 g4 g5 g6 g9
      rw [eu2] at g3
      refine wp_ok (wp_ok ⟨fr.trans g1, by omega, by omega, ?_, by rw [g4, g6]; omega, Or.inr g4⟩)
      have hl : (v :: L).length = L.length + 1 := rfl
      unfold DqOk
      rw [g4, g6, g7, g8, hl]
      refine ⟨(g1.kd (by show d < nx σ; omega)).trans h1, g5, by omega, by omega, by omega, by omega, ?_, fun i hi => ?_, fun i hi hi2 => ?_⟩
      · unfold wrp
        rw [if_neg (by omega)]
        omega
      · have c := cont i hi
        refine ⟨?_, c.2⟩
        rw [← c.1]
        have w := wrp_in (N := 2 * N + 2) (x := k + (N + 2) + i) ⟨by omega, by omega⟩
        rw [g9 _ w.1 w.2]
        unfold wrp
        by_cases c1 : k + (N + 2) + i < 2 * N + 2
        · rw [if_pos c1, if_neg (by omega), if_neg (by omega), if_pos (by omega)]
          congr 1; omega
        · rw [if_neg c1, if_pos (by omega), if_neg (by omega)]
          congr 1; omega
      · have w := wrp_in (N := 2 * N + 2) (x := k + (N + 2) + i) ⟨by omega, by omega⟩
        have e5 : wrp (2 * N + 2) (k + (N + 2) + i) = k + i - N := by unfold wrp; rw [if_neg (by omega)]; omega
        rw [g9 _ w.1 w.2, e5, if_neg (by omega), if_pos (by omega)]
  · refine wp_ok (wp_ok ⟨fr, by rw [nx_wr, nx_wr]; omega, by rw [us_wr, us_wr]; omega, ?_, ?_, Or.inl ?_⟩)
    · have hnf : (L.length : Int) + 1 < N := by
        rw [← hk0.2.2] at hc
        unfold wrp at hc hk0
        split at hc <;> split at hc <;> omega
      have hl : (v :: L).length = L.length + 1 := rfl
      have en : ln (wr (wr σ d 1 k) es k v) es = N := hNN
      unfold DqOk
      rw [a0, a1, a2, en, hl]
      refine ⟨h1, h2, h3, by omega, hk0.1, hk0.2.1, ?_, cont, fun i hi hi2 => ?_⟩
      · rw [h7]
        exact (hw L.length (by omega)).symm
      · obtain ⟨i, rfl⟩ : ∃ z, i = z + 1 := ⟨i - 1, by omega⟩
        have e1 : wrp N (k + ((i + 1 : Nat) : Int)) = wrp N (hd1 + i) := hw i (by omega)
        have e2 : wrp N (k + ((i + 1 : Nat) : Int)) ≠ k := fun z => by
          have := wrp_inj (N := N) (h := k) (i := ((i + 1 : Nat) : Int)) (j := ((0 : Nat) : Int)) ⟨hk0.1, hk0.2.1⟩ ⟨by omega, by omega⟩ ⟨by omega, by omega⟩ (z.trans hk00.symm)
          omega
        rw [a3 _ e2, e1]
        exact h9 i (by omega) (by omega)
    · rw [a0]; show ln σ es ≤ 128; omega
    · exact a0
