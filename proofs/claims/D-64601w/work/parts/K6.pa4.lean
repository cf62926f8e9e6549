/-! AN EDGE: the twin's ops, the component's object -/
set_option maxRecDepth 100000
section EH
variable {σ σ0 σ' : AS} {τ τ0 : TT} {n : Nat} {N0 U0 z k q q0 q' c p v l r C l1 l2 l3 l4 l5 l6 s0 e : Int} {T : List Int} {S : PS} {ps : List Part} {ops eo : List Op} {tl : Tl}
theorem OpF.rf {τ : TT} : OpF τ τ := fun _ _ _ _ => rfl
theorem OpF.trans {τ τ1 τ2 : TT} (h : OpF τ τ1) (h' : OpF τ1 τ2) : OpF τ τ2 := fun r j a b => (h' r j a b).trans (h r j a b)
/-- the twin's last step of an edge -/
noncomputable def edLast (n : Nat) (τ : TT) : Option (Int × TT) := t1 (g_X7_next n 1022 τ) fun v17 τ18 => gd (0 ≤ v17 ∧ v17 ≤ 1) <| some (v17, τ18)
theorem tw_248 {pp : Part} {tw : Int} {n : Nat} : ∀ {m Q j : Nat} {τ : TT} {ops : List Op}, m < Q → OpT τ ops → ops.length + m < 60 → j + m < 100 → ∃ τ', g_X7_edgeText_248 n Q 1022 (pT pp) (pLo pp) ((j + m : Nat) : Int) tw j τ = edLast n τ' ∧ OpT τ' (ops ++ chn pp tw j m) ∧ OpF τ τ'
  | 0, Q + 1, j, τ, ops, _, hT, _, _ => by
    refine ⟨τ, ?_, by unfold chn; rw [List.append_nil]; exact hT, OpF.rf⟩
    unfold g_X7_edgeText_248
    rw [if_pos (by omega)]
    rfl
  | m + 1, Q + 1, j, τ, ops, hQ, hT, hl, hj9 => by
    obtain ⟨τ1, e1, f1, f2⟩ := op_eq (a := 3) (b := -1) (c := pT pp) (d := tw) (e := if j < pLo pp then 1 else 0) hT (by omega)
    obtain ⟨τ2, e2, f3, f4⟩ := tw_248 (pp := pp) (tw := tw) (n := n) (m := m) (Q := Q) (j := j + 1) (by omega) f1 (by simp; omega) (by omega)
    refine ⟨τ2, ?_, ?_, f2.trans f4⟩
    · unfold g_X7_edgeText_248
      rw [if_neg (by omega)]
      have hj : ((j + (m + 1) : Nat) : Int) = ((j + 1 + m : Nat) : Int) := by omega
      have hj1 : (j : Int) + 1 = ((j + 1 : Nat) : Int) := by omega
      unfold g_X7_edgeText_273
      by_cases cj : j < pLo pp
      · rw [if_pos cj] at e1
        rw [if_neg (by omega), e1, t0_at, gI_pos (by omega), nm_eq, hj, hj1]
        exact e2
      · rw [if_neg cj] at e1
        rw [if_pos (by omega), e1, t0_at, gI_pos (by omega), nm_eq, hj, hj1]
        exact e2
    · rw [List.append_assoc] at f3
      exact f3
/-- the twin's ops of an edge -/
theorem tw_210 {lo hi : Nat} (hn : 1000000 ≤ n) (hT : OpT τ ops) (hl : ops.length ≤ 50) (h45 : (l4 = 0 ∧ l5 = 0 ∧ lo = 1 ∧ hi = 1) ∨ (l2 = -1 ∧ l4 = lo ∧ l5 = hi ∧ 1 ≤ hi ∧ hi ≤ 4)) : ∃ τ' eo, g_X7_edgeText_210 n 1022 l1 l2 l3 l4 l5 l6 τ = edLast n τ' ∧ OpT τ' (ops ++ eo) ∧ OpF τ τ' ∧ eo.length ≤ 4 ∧ ∀ v l, PartOps (v, l, (1, l2, l3, (if l1 = 0 then (if l6 = 0 then 0 else 1) else -1), lo, hi)) (eo ++ [(2, v, l, 0, 0)]) := by
  have main : ∀ w tw : Int, twy w tw → ∃ τ' eo, g_X7_edgeText_228 n 1022 l2 l3 l4 l5 tw τ = edLast n τ' ∧ OpT τ' (ops ++ eo) ∧ OpF τ τ' ∧ eo.length ≤ 4 ∧ ∀ v l, PartOps (v, l, (1, l2, l3, w, lo, hi)) (eo ++ [(2, v, l, 0, 0)]) := fun w tw hw => by
    unfold g_X7_edgeText_228 g_X7_edgeText_245
    rcases h45 with ⟨a1, a2, a3, a4⟩ | ⟨a1, a2, a3, a4, a5⟩
    · rw [if_pos a2]
      obtain ⟨τ1, e1, f1, f2⟩ := op_eq (a := 1) (b := l2) (c := l3) (d := tw) (e := 0) hT (by omega)
      refine ⟨τ1, [(1, l2, l3, tw, 0)], ?_, f1, f2, by simp, fun v l => Or.inr ⟨by show (1 : Int) ≠ 0; decide, tw, hw, Or.inl ⟨a3, a4, rfl⟩⟩⟩
      rw [e1, t0_at]
      have : ∃ n', n = n' + 1 := ⟨n - 1, by omega⟩
      obtain ⟨n', hn'⟩ := this
      have hu : ∀ Q, g_X7_edgeText_248 n (Q + 1) 1022 l3 l4 l5 tw 0 τ1 = edLast n τ1 := fun Q => by
        unfold g_X7_edgeText_248
        rw [if_pos (by omega)]
        rfl
      have := hu n'
      rw [← hn'] at this
      exact this
    · rw [if_neg (by omega)]
      obtain ⟨τ2, e2, f3, f4⟩ := tw_248 (pp := (0, 0, 1, l2, l3, w, lo, hi)) (tw := tw) (n := n) (m := hi) (Q := n) (j := 0) (by omega) hT (by omega) (by omega)
      refine ⟨τ2, chn (0, 0, 1, l2, l3, w, lo, hi) tw 0 hi, ?_, f3, f4, ?_, fun v l => Or.inr ⟨by show (1 : Int) ≠ 0; decide, tw, hw, Or.inr ⟨a1, ?_⟩⟩⟩
      · rw [a2, a3]
        have z : ((0 + hi : Nat) : Int) = hi := by omega
        rw [z] at e2
        exact e2
      · have : ∀ (j m : Nat), (chn (0, 0, 1, l2, l3, w, lo, hi) tw j m).length = m := fun j m => by
          induction m generalizing j with
          | zero => rfl
          | succ m ih => show (_ :: chn _ tw (j + 1) m).length = _; rw [List.length_cons, ih]
        rw [this]; exact a5
      · have : ∀ (j m : Nat), chn (0, 0, 1, l2, l3, w, lo, hi) tw j m = chn (v, l, 1, l2, l3, w, lo, hi) tw j m := fun j m => by
          induction m generalizing j with
          | zero => rfl
          | succ m ih =>
            show (_ :: chn _ tw (j + 1) m) = (_ :: chn _ tw (j + 1) m)
            rw [ih]
            rfl
        rw [this]
        rfl
  unfold g_X7_edgeText_210
  by_cases c1 : l1 = 0
  · rw [if_pos c1, if_pos c1]
    by_cases c6 : l6 = 0
    · rw [if_pos c6, if_pos c6]
      exact main 0 2 (Or.inr (Or.inr ⟨rfl, rfl⟩))
    · rw [if_neg c6, if_neg c6]
      exact main 1 0 (Or.inl ⟨rfl, rfl⟩)
  · rw [if_neg c1, if_neg c1]
    exact main (-1) 1 (Or.inr (Or.inl ⟨rfl, rfl⟩))
/-- an edge's part: the object -/
theorem new_edge {a b c d e : Int} (h0 : 0 < nx σ) : ∃ σ', f_X20_init (nx σ) a b c d e (al σ 14 0 5) = some σ' ∧ kd σ' (nx σ) = 14 ∧ (ld σ' (nx σ) 0 = a ∧ ld σ' (nx σ) 1 = b ∧ ld σ' (nx σ) 2 = c ∧ ld σ' (nx σ) 3 = d ∧ ld σ' (nx σ) 4 = e) ∧ nx σ' = nx σ + 1 ∧ us σ' = us σ + 5 ∧ Fr (fun _ => False) σ σ' := by
  have k1 : kd (al σ 14 0 5) (nx σ) = 14 := by rw [kd_al, if_pos rfl]
  refine ⟨wr (wr (wr (wr (wr (al σ 14 0 5) (nx σ) 0 a) (nx σ) 1 b) (nx σ) 2 c) (nx σ) 3 d) (nx σ) 4 e, ?_, k1, ⟨?_, ?_, ?_, ?_, ?_⟩, rfl, rfl, ?_⟩
  · unfold f_X20_init f_J9_init
    rw [gd_pos (by omega), gd_pos (by omega), c0_at, gd_pos k1, nm_eq, gd_pos (show kd (wr (al σ 14 0 5) (nx σ) 0 a) (nx σ) = 14 from k1), nm_eq, gd_pos (show kd (wr (wr (al σ 14 0 5) (nx σ) 0 a) (nx σ) 1 b) (nx σ) = 14 from k1), nm_eq, gd_pos (show kd (wr (wr (wr (al σ 14 0 5) (nx σ) 0 a) (nx σ) 1 b) (nx σ) 2 c) (nx σ) = 14 from k1), nm_eq, gd_pos (show kd (wr (wr (wr (wr (al σ 14 0 5) (nx σ) 0 a) (nx σ) 1 b) (nx σ) 2 c) (nx σ) 3 d) (nx σ) = 14 from k1), nm_eq]
  · simp [ld_wr]
  · simp [ld_wr]
  · simp [ld_wr]
  · simp [ld_wr]
  · simp [ld_wr]
  · have g1 : Fr (fun _ => False) σ (al σ 14 0 5) := Fr.al (by decide)
    have g2 : Fr (fun r => r = nx σ) (al σ 14 0 5) (wr (wr (wr (wr (wr (al σ 14 0 5) (nx σ) 0 a) (nx σ) 1 b) (nx σ) 2 c) (nx σ) 3 d) (nx σ) 4 e) := Fr.trans (Fr.wr rfl) (Fr.trans (Fr.wr rfl) (Fr.trans (Fr.wr rfl) (Fr.trans (Fr.wr rfl) (Fr.wr rfl))))
    exact g1.tr2 g2 fun r hr w => by
      have w' : r = nx σ := w
      omega
theorem e219_wp (h0 : 0 < nx σ) : Wp (f_X3_edge_219 n l1 l2 l3 l4 l5 l6 σ) fun y => y.1 = nx σ ∧ kd y.2 (nx σ) = 14 ∧ (ld y.2 (nx σ) 0 = l2 ∧ ld y.2 (nx σ) 1 = l3 ∧ ld y.2 (nx σ) 2 = (if l1 = 0 then (if l6 = 0 then 0 else 1) else -1) ∧ ld y.2 (nx σ) 3 = l4 ∧ ld y.2 (nx σ) 4 = l5) ∧ nx y.2 = nx σ + 1 ∧ us y.2 = us σ + 5 ∧ Fr (fun _ => False) σ y.2 := by
  have main : ∀ w, Wp (f_X3_edge_243 n l4 l5 (nx σ) (nx σ) l2 l3 w (al σ 14 0 5)) fun y => y.1 = nx σ ∧ kd y.2 (nx σ) = 14 ∧ (ld y.2 (nx σ) 0 = l2 ∧ ld y.2 (nx σ) 1 = l3 ∧ ld y.2 (nx σ) 2 = w ∧ ld y.2 (nx σ) 3 = l4 ∧ ld y.2 (nx σ) 4 = l5) ∧ nx y.2 = nx σ + 1 ∧ us y.2 = us σ + 5 ∧ Fr (fun _ => False) σ y.2 := fun w => by
    obtain ⟨σ1, e1, k1, f1, n1, u1, F1⟩ := new_edge (a := l2) (b := l3) (c := w) (d := l4) (e := l5) h0
    unfold f_X3_edge_243
    exact wp_gd (by omega) (wp_c0e e1 (wp_ok ⟨rfl, k1, f1, n1, u1, F1⟩))
  unfold f_X3_edge_219
  refine wp_nm0 (wp_nm0 ?_)
  by_cases c1 : l1 = 0
  · rw [if_pos c1, if_pos c1]
    by_cases c6 : l6 = 0
    · rw [if_pos c6, if_pos c6]; exact main 0
    · rw [if_neg c6, if_neg c6]; exact main 1
  · rw [if_neg c1, if_neg c1]; exact main (-1)
end EH
