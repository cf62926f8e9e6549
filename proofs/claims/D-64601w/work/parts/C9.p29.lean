/-! THE STACK OF CHANGES -/
set_option maxRecDepth 100000
theorem f_J1_push_wp2 {n : Nat} {d v : Int} {L : List Int} {σ : AS} {S : Int → Prop} (hS : S d) (hS2 : S (ld σ d 0)) (hn : 1000000 ≤ n) (h : DqOk σ d L) (hd : d < nx σ) (he : ld σ d 0 < nx σ) (hN : ln σ (ld σ d 0) ≤ 128) (hL : (L.length : Int) + 1 = ln σ (ld σ d 0) → ln σ (ld σ d 0) < 64) (hE : ∀ i : Nat, i < L.length → elOk σ (.object "java/lang/Object") (L.getD i 0) ∧ L.getD i 0 < nx σ) (hv : elOk σ (.object "java/lang/Object") v ∧ v ≠ 0 ∧ v < nx σ) :
    Wp (f_J1_push n d v σ) fun σ' => Fr S σ σ' ∧ nx σ' ≤ nx σ + 1 ∧ us σ' ≤ us σ + 130 ∧ DqOk σ' d (v :: L) ∧ (ln σ' (ld σ' d 0) = ln σ (ld σ d 0) ∨ ((L.length : Int) + 1 = ln σ (ld σ d 0) ∧ ln σ' (ld σ' d 0) = 2 * ln σ (ld σ d 0) + 2)) ∧ (ld σ' d 0 = ld σ d 0 ∨ (ld σ' d 0 = nx σ ∧ nx σ' = nx σ + 1)) := by
  obtain ⟨h1, h2, h3, h4, h5, h6, h7, h8, h9⟩ := h
  have hde : d ≠ ld σ d 0 := fun e => by rw [← e, h1] at h2; cases h2
  generalize hes : ld σ d 0 = es at *
  generalize hh : ld σ d 1 = hd1 at *
  generalize hNN : ln σ es = N at *
  generalize hk : (if hd1 = 0 then N - 1 else hd1 - 1) = k
  have hk0 : 0 ≤ k ∧ k < N ∧ wrp N (k + 1) = hd1 := by
    unfold wrp
    rw [← hk]
    split <;> split <;> omega
  have hw : ∀ i : Nat, (i : Int) < N → wrp N (k + ((i : Int) + 1)) = wrp N (hd1 + i) := fun i hi => by
    rw [← hk0.2.2]
    exact (wrp_wrp ⟨hk0.1, hk0.2.1⟩ ⟨by omega, by omega⟩).symm
  have hk00 : wrp N (k + ((0 : Nat) : Int)) = k := by unfold wrp; rw [if_pos (by omega)]; omega
  unfold f_J1_push
  refine wp_gd h1 ?_
  refine wp_c0 ?_
  unfold f_J1_addFirst
  refine wp_neg hv.2.1 ?_
  refine wp_gd h1 ?_
  rw [hes]
  refine wp_nm0 ?_
  refine wp_gd h1 ?_
  refine wp_gd (Or.inl h2) ?_
  rw [hh, hNN, f_J1_dec_eq ⟨h5, h6, by omega⟩, c1_at, hk]
  refine wp_gd h1 ?_
  refine wp_nm0 ?_
  refine wp_gd ⟨h2, hk0.1, by show k < ln σ es; omega⟩ ?_
  refine wp_gdc (elOk_kd hv.1 rfl) ?_
  refine wp_nm0 ?_
  refine wp_gd h1 ?_
  refine wp_gd h1 ?_
  have a0 : ld (wr (wr σ d 1 k) es k v) d 0 = es := by rw [ld_wr, if_neg (fun z => hde z.1), ld_wr, if_neg (fun z => by omega)]; exact hes
  have a1 : ld (wr (wr σ d 1 k) es k v) d 1 = k := by rw [ld_wr, if_neg (fun z => hde z.1), ld_wr, if_pos ⟨rfl, rfl⟩]
  have a2 : ld (wr (wr σ d 1 k) es k v) d 2 = ld σ d 2 := by rw [ld_wr, if_neg (fun z => hde z.1), ld_wr, if_neg (fun z => by omega)]
  have a3 : ∀ j, j ≠ k → ld (wr (wr σ d 1 k) es k v) es j = ld σ es j := fun j hj => by
    rw [ld_wr, if_neg (fun z => hj z.2), ld_wr, if_neg (fun z => hde z.1.symm)]
  have a4 : ld (wr (wr σ d 1 k) es k v) es k = v := by rw [ld_wr, if_pos ⟨rfl, rfl⟩]
  have fr : Fr S σ (wr (wr σ d 1 k) es k v) := (Fr.wr hS).trans (Fr.wr hS2)
  -- the cells of the list
  have cont : ∀ i : Nat, i < L.length + 1 → ld (wr (wr σ d 1 k) es k v) es (wrp N (k + i)) = (v :: L).getD i 0 ∧ (v :: L).getD i 0 ≠ 0 := fun i hi => by
    cases i with
    | zero => rw [hk00, a4]; exact ⟨rfl, hv.2.1⟩
    | succ i =>
      have e1 : wrp N (k + ((i + 1 : Nat) : Int)) = wrp N (hd1 + i) := hw i (by omega)
      have e2 : wrp N (k + ((i + 1 : Nat) : Int)) ≠ k := fun z => by
        have := wrp_inj (N := N) (h := k) (i := ((i + 1 : Nat) : Int)) (j := ((0 : Nat) : Int)) ⟨hk0.1, hk0.2.1⟩ ⟨by omega, by omega⟩ ⟨by omega, by omega⟩ (z.trans hk00.symm)
        omega
      rw [a3 _ e2, e1]
      exact h8 i (by omega)
  rw [a1, a2, h7]
  refine wp_ite (fun hc => ?_) (fun hc => ?_)
  · have hfull : (L.length : Int) + 1 = N := by
      rw [← hk0.2.2] at hc
      unfold wrp at hc hk0
      split at hc <;> split at hc <;> omega
    refine wp_gd h1 ?_
    refine wp_c0 ?_
    refine wp_mono (f_J1_grow_wp (S := S) (e := es) (h := k) hS hn h1 a0 h2 hd he (by show 17 ≤ ln σ es; omega) (by show ln σ es < 64; rw [hNN]; exact hL hfull) a1 (by rw [a2, h7, ← hc]) ⟨hk0.1, by show k < ln σ es; omega⟩ (fun i q1 q2 => ?_)) fun σ' hq => ?_
    · have q2 : i < N := by rw [← hNN]; exact q2
      obtain ⟨j, hj, ej⟩ : ∃ j : Nat, j < L.length + 1 ∧ wrp N (k + j) = i := by
        by_cases c : k ≤ i
        · exact ⟨(i - k).toNat, by omega, by unfold wrp; rw [if_pos (by omega)]; omega⟩
        · exact ⟨(i - k + N).toNat, by omega, by unfold wrp; rw [if_neg (by omega)]; omega⟩
      have c := cont j hj
      rw [ej] at c
      rw [c.1]
      cases j with
      | zero => exact ⟨elOk_kd hv.1 rfl, hv.2.1, hv.2.2⟩
      | succ j => exact ⟨elOk_kd (hE j (by omega)).1 rfl, c.2, (hE j (by omega)).2⟩
    · obtain ⟨g1, g2, g3, g4, g5, g6, g7, g8, g9⟩ := hq
      have en : ln (wr (wr σ d 1 k) es k v) es = N := hNN
      rw [en] at g3 g6 g7 g9
      have en2 : nx (wr (wr σ d 1 k) es k v) = nx σ := rfl
      have eu2 : us (wr (wr σ d 1 k) es k v) = us σ := rfl
      rw [en2] at g2 g4 g5 g6 g9
      rw [eu2] at g3
      refine wp_ok (wp_ok ⟨fr.trans g1, by omega, by omega, ?_, Or.inr ⟨hfull, by rw [g4, g6]⟩, Or.inr ⟨g4, g2⟩⟩)
      have hl : (v :: L).length = L.length + 1 := rfl
      unfold DqOk
      rw [g4, g6, g7, g8, hl]
      refine ⟨(g1.kd (by show d < nx σ; omega)).trans h1, g5, by omega, by omega, by omega, by omega, ?_, fun i hi => ?_, fun i hi hi2 => ?_⟩
      · unfold wrp
        rw [if_neg (by omega)]
        omega
      · have c := cont i hi
        refine ⟨?_, c.2⟩
        rw [← c.1]
        have w := wrp_in (N := 2 * N + 2) (x := k + (N + 2) + i) ⟨by omega, by omega⟩
        rw [g9 _ w.1 w.2]
        unfold wrp
        by_cases c1 : k + (N + 2) + i < 2 * N + 2
        · rw [if_pos c1, if_neg (by omega), if_neg (by omega), if_pos (by omega)]
          congr 1; omega
        · rw [if_neg c1, if_pos (by omega), if_neg (by omega)]
          congr 1; omega
      · have w := wrp_in (N := 2 * N + 2) (x := k + (N + 2) + i) ⟨by omega, by omega⟩
        have e5 : wrp (2 * N + 2) (k + (N + 2) + i) = k + i - N := by unfold wrp; rw [if_neg (by omega)]; omega
        rw [g9 _ w.1 w.2, e5, if_neg (by omega), if_pos (by omega)]
  · refine wp_ok (wp_ok ⟨fr, by rw [nx_wr, nx_wr]; omega, by rw [us_wr, us_wr]; omega, ?_, ?_, Or.inl ?_⟩)
    · have hnf : (L.length : Int) + 1 < N := by
        rw [← hk0.2.2] at hc
        unfold wrp at hc hk0
        split at hc <;> split at hc <;> omega
      have hl : (v :: L).length = L.length + 1 := rfl
      have en : ln (wr (wr σ d 1 k) es k v) es = N := hNN
      unfold DqOk
      rw [a0, a1, a2, en, hl]
      refine ⟨h1, h2, h3, by omega, hk0.1, hk0.2.1, ?_, cont, fun i hi hi2 => ?_⟩
      · rw [h7]
        exact (hw L.length (by omega)).symm
      · obtain ⟨i, rfl⟩ : ∃ z, i = z + 1 := ⟨i - 1, by omega⟩
        have e1 : wrp N (k + ((i + 1 : Nat) : Int)) = wrp N (hd1 + i) := hw i (by omega)
        have e2 : wrp N (k + ((i + 1 : Nat) : Int)) ≠ k := fun z => by
          have := wrp_inj (N := N) (h := k) (i := ((i + 1 : Nat) : Int)) (j := ((0 : Nat) : Int)) ⟨hk0.1, hk0.2.1⟩ ⟨by omega, by omega⟩ ⟨by omega, by omega⟩ (z.trans hk00.symm)
          omega
        rw [a3 _ e2, e1]
        exact h9 i (by omega) (by omega)
    · rw [a0]; exact Or.inl hNN
    · exact a0
section Stk
variable {σ σ' : AS} {Ow Ow' : F1} {S : Int → Prop} {r v : Int} {L : List Int}
/-- a change's record -/
def Rec (σ : AS) (Ow : F1) (r : Int) : Prop := 1054 ≤ r ∧ r < nx σ ∧ Ow r = 1 ∧ 6 ≤ kd σ r ∧ kd σ r ≤ 10
theorem elOk_rec (h : Rec σ Ow r) : elOk σ (.object "java/lang/Object") r := by
  obtain ⟨-, -, -, h1, h2⟩ := h
  refine Or.inr ⟨kd σ r - 1, Or.inl (by omega), ?_⟩
  generalize kd σ r = k at *
  have : k = 6 ∨ k = 7 ∨ k = 8 ∨ k = 9 ∨ k = 10 := by omega
  rcases this with e | e | e | e | e <;> subst e
  · exact ⟨_, rfl, Or.inr (by decide +kernel)⟩
  · exact ⟨_, rfl, Or.inr (by decide +kernel)⟩
  · exact ⟨_, rfl, Or.inr (by decide +kernel)⟩
  · exact ⟨_, rfl, Or.inr (by decide +kernel)⟩
  · exact ⟨_, rfl, Or.inr (by decide +kernel)⟩
theorem Rec.frame (h : Rec σ Ow r) (hF : Fr S σ σ') (hO : ∀ r, r < nx σ → Ow' r = Ow r) : Rec σ' Ow' r := by
  obtain ⟨h1, h2, h3, h4, h5⟩ := h
  exact ⟨h1, Int.lt_of_lt_of_le h2 hF.1, by rw [hO r h2]; exact h3, by rw [hF.kd h2]; exact h4, by rw [hF.kd h2]; exact h5⟩
def StkOk (σ : AS) (Ow : F1) (L : List Int) : Prop := kd σ 1000 = 1 ∧ ld σ 1000 0 = 1001 ∧ ld σ 1000 1 = 1004 ∧ DqOk σ 1004 L ∧ 1005 ≤ ld σ 1004 0 ∧ ld σ 1004 0 < nx σ ∧ Ow (ld σ 1004 0) = 2 ∧ (ld σ 1004 0 = 1005 ∨ 1054 ≤ ld σ 1004 0) ∧ (ln σ (ld σ 1004 0) = 17 ∨ ln σ (ld σ 1004 0) = 36 ∨ ln σ (ld σ 1004 0) = 74) ∧ ∀ r, r ∈ L → Rec σ Ow r
theorem DqOk.frame {d : Int} (h : DqOk σ d L) (k1 : kd σ' d = kd σ d) (k2 : kd σ' (ld σ d 0) = kd σ (ld σ d 0)) (k3 : ln σ' (ld σ d 0) = ln σ (ld σ d 0)) (l1 : ∀ j, ld σ' d j = ld σ d j) (l2 : ∀ j, ld σ' (ld σ d 0) j = ld σ (ld σ d 0) j) : DqOk σ' d L := by
  obtain ⟨h1, h2, h3, h4, h5, h6, h7, h8, h9⟩ := h
  exact ⟨by rw [k1]; exact h1, by rw [l1, k2]; exact h2, by rw [l1, k3]; exact h3, by rw [l1, k3]; exact h4, by rw [l1]; exact h5, by rw [l1, l1, k3]; exact h6, by rw [l1, l1, l1, k3]; exact h7, fun i hi => by rw [l1, l1, k3, l2]; exact h8 i hi, fun i a b => by rw [l1, k3] at b; rw [l1, l1, k3, l2]; exact h9 i a b⟩
theorem StkOk.frame (h : StkOk σ Ow L) (hx : 1054 ≤ nx σ) (hF : Fr S σ σ') (hO : ∀ r, r < nx σ → Ow' r = Ow r) (hS : ∀ r, S r → r ≠ 1000 ∧ r ≠ 1004 ∧ r ≠ 1005 ∧ (1054 ≤ r → Ow r ≠ 2)) : StkOk σ' Ow' L := by
  obtain ⟨h1, h2, h3, h4, h5, h6, h7, h8, h9, h10⟩ := h
  have n1 := hF.1
  have x0 : ∀ j, ld σ' 1000 j = ld σ 1000 j := hF.ld (by omega) (fun z => (hS _ z).1 rfl)
  have x4 : ∀ j, ld σ' 1004 j = ld σ 1004 j := hF.ld (by omega) (fun z => (hS _ z).2.1 rfl)
  have xe : ∀ j, ld σ' (ld σ 1004 0) j = ld σ (ld σ 1004 0) j := hF.ld h6 (fun z => by
    have y := hS _ z
    rcases h8 with e | e
    · exact y.2.2.1 e
    · exact y.2.2.2 e h7)
  exact ⟨by rw [hF.kd (by omega)]; exact h1, by rw [x0]; exact h2, by rw [x0]; exact h3, h4.frame (hF.kd (by omega)) (hF.kd h6) (hF.ln h6) x4 xe, by rw [x4]; exact h5, by rw [x4]; omega, by rw [x4, hO _ h6]; exact h7, by rw [x4]; exact h8, by rw [x4, hF.ln h6]; exact h9, fun r hr => (h10 r hr).frame hF hO⟩
/-- cells of the stack -/
def SD (Ow : F1) : Int → Prop := fun r => r = 1004 ∨ (1005 ≤ r ∧ Ow r = 2)
theorem StkOk.push {n : Nat} (hn : 1000000 ≤ n) (h : StkOk σ Ow L) (hx : 1054 ≤ nx σ) (hv : Rec σ Ow v) (hL : L.length < 64) : Wp (f_J1_push n 1004 v σ) fun σ' => ∃ Ow' : F1, StkOk σ' Ow' (v :: L) ∧ Fr (SD Ow) σ σ' ∧ (∀ r, r < nx σ → Ow' r = Ow r) ∧ (∀ r, nx σ ≤ r → r < nx σ' → Ow' r = 2) ∧ nx σ' ≤ nx σ + 1 ∧ us σ' ≤ us σ + 130 := by
  obtain ⟨h1, h2, h3, h4, h5, h6, h7, h8, h9, h10⟩ := h
  have v0 : v ≠ 0 := by have := hv.1; omega
  refine wp_mono (f_J1_push_wp2 (S := SD Ow) (Or.inl rfl) (Or.inr ⟨h5, h7⟩) hn h4 (by omega) h6 (by omega) (fun z => by omega) (fun i hi => ?_) ⟨elOk_rec hv, v0, hv.2.1⟩) fun σ' hq => ?_
  · have hm : L.getD i 0 ∈ L := by rw [gD_get hi]; exact List.getElem_mem hi
    exact ⟨elOk_rec (h10 _ hm), (h10 _ hm).2.1⟩
  · obtain ⟨g1, g2, g3, g4, g5, g6⟩ := hq
    have n1 := g1.1
    have hO : ∀ r, r < nx σ → (fun r => if nx σ ≤ r ∧ r < nx σ' then 2 else Ow r) r = Ow r := fun r hr => if_neg (by omega)
    have x0 : ∀ j, ld σ' 1000 j = ld σ 1000 j := g1.ld (by omega) (fun z => by unfold SD at z; omega)
    have ne : ld σ' 1004 0 < nx σ' := by
      have := g4.2.1
      rcases g6 with q | q
      · rw [q]; omega
      · rw [q.1]; omega
    refine ⟨_, ⟨by rw [g1.kd (by omega)]; exact h1, by rw [x0]; exact h2, by rw [x0]; exact h3, g4, ?_, ne, ?_, ?_, by omega, fun r hr => ?_⟩, g1, hO, fun r a b => if_pos ⟨a, b⟩, g2, g3⟩
    · rcases g6 with q | q
      · rw [q]; exact h5
      · rw [q.1]; omega
    · show (if nx σ ≤ ld σ' 1004 0 ∧ ld σ' 1004 0 < nx σ' then 2 else Ow (ld σ' 1004 0)) = 2
      rcases g6 with q | q
      · rw [if_neg (by omega), q]; exact h7
      · rw [if_pos ⟨by omega, ne⟩]
    · rcases g6 with q | q
      · rw [q]; exact h8
      · rw [q.1]; exact Or.inr hx
    · rcases List.mem_cons.mp hr with e | e
      · rw [e]; exact hv.frame g1 hO
      · exact (h10 r e).frame g1 hO
end Stk
