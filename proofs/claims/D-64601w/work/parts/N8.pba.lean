/-! READ: the law -/
set_option maxRecDepth 100000
/-- a question that both have read -/
def QOk (T : List Int) (N0 : Int) (σ : AS) (τ : TT) (S : PS) (ps : List Part) (ops : List Op) (M : Nat) (cs : List Cnd) (its : List Trm) (os : List Odr) : Prop :=
  (PsAt σ (S.2 0) (S.2 1) ps ∧ ps ≠ [] ∧ ps.length ≤ 12 ∧ pH (ps.getD 0 p0) = 0 ∧ WFp (fun k => τ 1036 k = 2) 0 ps M) ∧ (OpT τ ops ∧ OpsOf ps ops ∧ ops.length ≤ 44) ∧ (M ≤ 8 ∧ ∀ i : Nat, i < M → (τ 1036 i = 1 ∨ τ 1036 i = 2) ∧ ld σ (N0 + 4) i = (if τ 1036 i = 2 then 1 else 0)) ∧
  (CsAt N0 σ (S.2 2) cs ∧ CsT τ cs ∧ cs.length ≤ 8 ∧ ∀ c, c ∈ cs → CdV M c) ∧ (IsAt σ (S.2 3) its ∧ IsT τ its ∧ its.length ≤ 8 ∧ its ≠ [] ∧ ∀ t, t ∈ its → t.1 < M) ∧ (OsAt σ (S.2 4) os ∧ OsT τ os ∧ os.length ≤ 8 ∧ ∀ o, o ∈ os → OrV M its o) ∧
  limR (ld σ N0 8) (τ 1022 40) ∧ ld σ N0 7 = τ 1022 39 ∧ (τ 1022 39 = 0 ∨ τ 1022 39 = 1)
def RdP (T : List Int) (N0 U0 : Int) (y : Int × AS) (w : Int × TT) : Prop :=
  (w.1 = 1 ∧ y.1 = N0 ∧ ld y.2 1007 3 = 0 ∧ ∃ q S ps ops M cs its os, ShP T N0 U0 y.2 0 20 q S ∧ QOk T N0 y.2 w.2 S ps ops M cs its os) ∨ RdL T N0 U0 20 y w
section RL
variable {σ σ0 σ1 σ2 σ3 σ' : AS} {τ τ0 τ' : TT} {n M : Nat} {N0 U0 z z' k q q0 q' p v l r C l1 l2 l4 l5 e var x a b c s0 hc : Int} {T : List Int} {S S' : PS} {ps : List Part} {ops : List Op} {cs : List Cnd} {its : List Trm} {os : List Odr} {t : Trm}
theorem rdRest_fail (hn : 1000000 ≤ n) (hb : BtOk T) (h : FlR T N0 U0 z k S σ τ) (hz : z ≤ 4) : Wp (rdRest n σ) fun y => y.1 = 0 ∧ (∃ q S, ShP T N0 U0 y.2 (z + 1) k q S) ∧ CF1 y.2 (τ 1022 17) (τ 1022 18) ∧ EfY N0 σ y.2 := by
  obtain ⟨q, h1, h2⟩ := id h
  obtain ⟨g1, g2, g3, g4, g5, g6, g7⟩ := h1.nN
  have e2 := h1.2.2.2.2.2.2.2.2.1
  have hN := h1.2.2.2.2.2.2.1
  have dm : ld σ N0 2 = N0 + 3 := by rw [hN.2.1 2 (by decide) (by decide)]; omega
  have esz : f_J33_size (N0 + 3) σ = some (ld σ (N0 + 3) 2, σ) := by
    unfold f_J33_size
    rw [gd_pos e2.1]
  unfold rdRest
  refine wp_gd h.g ?_
  rw [g3]
  refine wp_gd g4 ?_
  rw [dm]
  exact wp_gd e2.1 (wp_c1e esz (wp_gd h.g (wp_c1e (h.takes hn hb (r := 39) (C := 10) (by decide) (by unfold spC; omega)) (wp_pos rfl (r80_fail hn hb h hz)))))
/-- the twin behind the patterns -/
noncomputable def twBeh (n : Nat) (v75 : Int) (τ76 : TT) : Option (Int × TT) :=
    if v75 = 0 then (
      some (0, τ76))
    else (
      t1 (g_X7_conditionTexts n 1022 τ76) fun v80 τ81 =>
      if v80 = 0 then (
        some (0, τ81))
      else (
        twRet n τ81))
/-- the outcome behind the patterns -/
def RBeh (T : List Int) (N0 U0 : Int) (σ : AS) (τ : TT) (y : Int × AS) (w : Int × TT) : Prop := EfY N0 σ y.2 ∧ RdA τ w.2 ∧ RdP T N0 U0 y w
theorem rdl_of {k' : Int} {y : Int × AS} {w : Int × TT} (hy : y.1 = 0 ∧ (∃ q S, ShP T N0 U0 y.2 z k q S) ∧ CF1 y.2 (w.2 1022 17) (w.2 1022 18)) (hw : w.1 = 0) (hz : z ≤ 5) (hk : k ≤ k') : RdL T N0 U0 k' y w := by
  obtain ⟨y1, ⟨q, S, y2⟩, y3⟩ := hy
  exact ⟨hw, y1, ⟨q, S, (y2.monoz hz).mono hk⟩, y3.1, y3.2.1, y3.2.2⟩
theorem lk_behind (hn : 1000000 ≤ n) (hb : BtOk T) (hne : ps ≠ []) (h : ShP T N0 U0 σ 0 8 q S) (hO : OPE T N0 σ τ q S ps ops [] 0 tl0) (h34 : τ 1022 34 = 0 ∧ τ 1022 36 = 0 ∧ τ 1022 38 = 0) (hl8 : ld σ N0 8 = 2147483647) (hl40 : τ 1022 40 = 100000) : Wp (rdRest n σ) fun y => Wp (twBeh n 1 τ) fun w => RBeh T N0 U0 σ τ y w := by
  obtain ⟨⟨⟨hB, hKR⟩, hP, hl, h30, hS⟩, hT, hOps, hE, he, hlen, hW, hH⟩ := id hO
  have e2 := h.2.2.2.2.2.2.2.2.1
  have le8 : S.1.1.length ≤ 8 := e2.2.2.2.2.1
  have hOW : OKW T σ τ q S S.1.1.length := ⟨hB, Nat.le_refl _, fun i hi => ⟨fun w => by have := ((hKR i (by omega)).1 hi).1; omega, fun w => by omega⟩⟩
  have hOC : OKC T N0 σ τ q S S.1.1.length [] := ⟨hOW, ⟨by rw [hS.1]; rfl, fun i hi => absurd hi (by simp)⟩, ⟨by rw [h34.1]; rfl, fun i hi => absurd hi (by simp)⟩, by simp, fun _ c hc => absurd hc (by simp)⟩
  have hN := h.2.2.2.2.2.1
  unfold twBeh
  rw [if_neg (show ¬ (1 : Int) = 0 by decide)]
  refine lk_where hn hb h hOC rfl (fun σ1 τ1 h1 => ?_) fun σ1 τ1 h1 => ?_
  · obtain ⟨q1, S1, cs1, b1, b2, b3, b4, b5, b6, b7, b8⟩ := h1
    rw [if_neg (show ¬ (1 : Int) = 0 by decide)]
    have c8 : ∀ j, (j = 36 ∨ j = 38 ∨ j = 40) → τ1 1022 j = τ 1022 j := fun j hj => b8 _ _ (by omega) (by omega) (by omega)
    refine wp_mono (lk_ret hn hb b2 b4 ⟨by rw [b3 3 (by decide)]; exact hS.2.1, by rw [b3 4 (by decide)]; exact hS.2.2⟩ ⟨(c8 36 (by omega)).trans h34.2.1, (c8 38 (by omega)).trans h34.2.2⟩ (by rw [b7.2.2.1]; exact hl8) ((c8 40 (by omega)).trans hl40)) fun y hy => wp_mono hy fun w hw => ?_
    obtain ⟨r1, r2, r3⟩ := hw
    have EY : EfY N0 σ y.2 := b7.y.trans r1
    refine ⟨EY, b8.rd.ra.trans r2.ra, ?_⟩
    rcases r3 with ⟨y1, y2, q2, S2, its, os, y3, y4, y5, y6, y7, y8, y9, y10, y11, y12⟩ | ⟨y1, y2, ⟨q2, S2, y3⟩, y4⟩
    · have k36 : ∀ i : Nat, i < S.1.1.length → w.2 1036 i = τ 1036 i := fun i hi => by rw [y8 i (by omega), b6 i hi]
      obtain ⟨⟨⟨z1, z2, z3, z4, z5⟩, z6, z7, z8, z9⟩, z10, z11, z12, z13⟩ := id y5
      have h5 : ld σ 1007 5 = 0 := EY.2.2 y9
      obtain ⟨m, m0, m1, m2⟩ := hW h5
      have mm := wfe_tl0 m2
      have w37 : ∀ j, w.2 1037 j = τ 1037 j := fun j => (r2 _ _ (by omega) (by omega)).trans (b8 _ _ (by omega) (by omega) (by omega))
      have w32 : w.2 1022 32 = τ 1022 32 := (r2 _ _ (by omega) (by omega)).trans (b8 _ _ (by omega) (by omega) (by omega))
      rw [List.append_nil] at hT hlen
      refine Or.inl ⟨y1, y2, z1.1.1, q2, S2, ps, ops, S.1.1.length, cs1, its, os, y3.mono (by decide), ⟨?_, hne, hl.1, hH.2 hne, ?_⟩, ⟨hT.congr w32 w37, hOps, by omega⟩, ⟨le8, fun i hi => ?_⟩, ⟨z2, z3, z4, z5 y9⟩, ⟨z6, z7, z8, y6, z9 y9⟩, ⟨z10, z11, z12, z13 y9⟩, y10, y11, y12⟩
      · rw [y4 0 (by decide) (by decide), y4 1 (by decide) (by decide), b3 0 (by decide), b3 1 (by decide)]
        exact hP.pf EY.1
      · rw [mm]
        refine (m1.congr fun j j0 j1 => ?_).2
        have : w.2 1036 j = τ 1036 j := by
          have := k36 j.toNat (by omega)
          rw [show ((j.toNat : Nat) : Int) = j by omega] at this
          exact this
        show τ 1036 j = 2 ↔ w.2 1036 j = 2
        rw [this]
      · rw [k36 i hi, EY.2.1]
        exact (hKR i (by omega)).1 hi
    · exact Or.inr ⟨y1, y2, ⟨q2, S2, y3.mono (by decide)⟩, y4⟩
  · obtain ⟨⟨S1, f1⟩, b2, b3⟩ := h1
    rw [if_pos (show (0 : Int) = 0 from rfl)]
    refine wp_mono (r80_fail hn hb f1 (by decide)) fun y hy => wp_ok ⟨b2.y.trans hy.2.2.2, b3.rd.ra, Or.inr (rdl_of ⟨hy.1, hy.2.1, hy.2.2.1⟩ rfl (by decide) (by decide))⟩
end RL
