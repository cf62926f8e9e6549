/-! THE GRAPH: nodes enter and leave -/
set_option maxRecDepth 100000
theorem NumAt.pcongr {σ : AS} {Ow : F1} {o t1 t2 : Int} {P P' : Int → Prop} (h : NumAt σ Ow o t1 t2 P) (e : ∀ x, P' x ↔ P x) : NumAt σ Ow o t1 t2 P' := by
  obtain ⟨h1, h2, h3, h4, h5, h6, h7, L, h8, h9, h10⟩ := h
  exact ⟨h1, h2, h3, h4, h5, h6, h7, L, h8, h9, fun x => (h10 x).trans (e x).symm⟩
theorem ThOk.pcongr {σ : AS} {Ow f : F1} {p mc : Int} {Po Pi Po' Pi' : Int → Prop} (h : ThOk σ Ow p f Po Pi mc) (e : kd σ p = 4 → ∀ x, (Po' x ↔ Po x) ∧ (Pi' x ↔ Pi x)) : ThOk σ Ow p f Po' Pi' mc := by
  obtain ⟨h1, h2, h3, h4, h5, h6, h7, h8, h9⟩ := h
  exact ⟨h1, h2, h3, h4, h5, h6, h7, h8, h9.imp id fun q => ⟨q.1, q.2.1.pcongr fun x => (e q.1 x).1, q.2.2.pcongr fun x => (e q.1 x).2⟩⟩
/-- the graph's own cells -/
def S3 : Int → Prop := fun r => r = 1001 ∨ r = 1002 ∨ r = 1003
section GN
variable {σ σ' : AS} {Ow Ow' : F1} {S : Int → Prop} {p r n : Int} {TH : Int → Prop} {fm : Int → F1} {no ed no' ed' ty fr too : F1} {mc cN cE cP cN' cE' cP' : Int}
theorem GI.set (h : GI σ Ow TH fm no ed ty fr too mc cN cE cP) (hF : Fr S3 σ σ') (h1 : ld σ' 1001 0 = 1002 ∧ ld σ' 1001 1 = 1003 ∧ ld σ' 1001 2 = cN' ∧ ld σ' 1001 3 = cE' ∧ ld σ' 1001 4 = cP') (hno : ∀ i, 0 ≤ i → i < 400 → ld σ' 1002 i = no' i) (hed : ∀ i, 0 ≤ i → i < 1000 → ld σ' 1003 i = ed' i) (c7 : ∀ i, no' i ≠ 0 → 0 ≤ i ∧ i < 400 ∧ TH (no' i) ∧ kd σ (no' i) = 4) (c8 : ∀ i, ed' i ≠ 0 → 0 ≤ i ∧ i < 1000 ∧ TH (ed' i) ∧ kd σ (ed' i) = 5 ∧ no' (fr (ed' i)) ≠ 0 ∧ no' (too (ed' i)) ≠ 0) (c9 : ∀ i j, no' i ≠ 0 → no' i = no' j → i = j) (c10 : ∀ i j, ed' i ≠ 0 → ed' i = ed' j → i = j) (hP : ∀ p, TH p → kd σ p = 4 → ∀ e, ((ed' e ≠ 0 ∧ no' (fr (ed' e)) = p) ↔ (ed e ≠ 0 ∧ no (fr (ed e)) = p)) ∧ ((ed' e ≠ 0 ∧ no' (too (ed' e)) = p) ↔ (ed e ≠ 0 ∧ no (too (ed e)) = p))) : GI σ' Ow TH fm no' ed' ty fr too mc cN' cE' cP' := by
  obtain ⟨a1, a2, a3, a4, a5, a6, a7, a8, a9, a10, a11, a12⟩ := h
  have n1 := hF.1
  have lt : ∀ q, TH q → q < nx σ := fun q hq => (a12 q hq).2.1
  have ns : ∀ r, S3 r → r < 1054 := fun r z => by unfold S3 at z; omega
  have pe : ∀ q, TH q → ∀ j, ld σ' q j = ld σ q j := fun q hq => hF.ld (lt q hq) (fun z => by
    have b := (a12 q hq).1
    have := ns q z
    omega)
  refine ⟨by omega, a2.frame hF a1 (fun r z => by unfold S3 at z; omega), ⟨by rw [hF.kd (by omega)]; exact a3.1, h1.1, h1.2.1, by rw [hF.kd (by omega)]; exact a3.2.2.2.1, by rw [hF.ln (by omega)]; exact a3.2.2.2.2.1, by rw [hF.kd (by omega)]; exact a3.2.2.2.2.2.1, by rw [hF.ln (by omega)]; exact a3.2.2.2.2.2.2⟩, h1.2.2, hno, hed, fun i x => ?_, fun i x => ?_, c9, c10, fun q hq => ?_, fun q hq => ?_⟩
  · obtain ⟨b1, b2, b3, b4⟩ := c7 i x
    exact ⟨b1, b2, b3, by rw [hF.kd (lt _ b3)]; exact b4⟩
  · obtain ⟨b1, b2, b3, b4, b5, b6⟩ := c8 i x
    exact ⟨b1, b2, b3, by rw [hF.kd (lt _ b3)]; exact b4, b5, b6⟩
  · rw [pe q hq, pe q hq, pe q hq, hF.kd (lt q hq)]
    exact a11 q hq
  · refine ((a12 q hq).frame hF (Ow' := Ow) (fun _ _ => rfl) (fun r x y z => by have := ns r y; omega) (Int.le_refl _)).pcongr fun k4 e => hP q hq ?_ e
    rw [hF.kd (lt q hq)] at k4
    exact k4
theorem GI.size (h : GI σ Ow TH fm no ed ty fr too mc cN cE cP) (hp : TH p) : kd σ (ld σ p 0) = 26 ∧ f_J8_size (ld σ p 0) σ = some (((sm (has (fm p)) 32 : Nat) : Int), σ) ∧ sm (has (fm p)) 32 ≤ 32 := by
  have m := (h.2.2.2.2.2.2.2.2.2.2.2 p hp).2.2.2.2.2.2.1
  exact ⟨m.1, mapSize_eq m, sm_le (fun x => by unfold has; by_cases c : fm p x = 0 <;> simp [c])⟩
theorem leave_wp (h : GI σ Ow TH fm no ed ty fr too mc cN cE cP) (hn : no n ≠ 0) (hfree : ∀ e, ed e ≠ 0 → fr (ed e) ≠ n ∧ too (ed e) ≠ n) (b1 : 0 ≤ cN ∧ cN ≤ 100000) (b2 : 0 ≤ cP ∧ cP ≤ 100000) : Wp (f_X2_leave 1001 n σ) fun σ' => GI σ' Ow TH fm (ud no n 0) ed ty fr too mc (cN - 1) cE (cP - sm (has (fm (no n))) 32) ∧ Fr S3 σ σ' ∧ nx σ' = nx σ ∧ us σ' = us σ := by
  have h' := h
  obtain ⟨a1, a2, ⟨s1, s2, s3, s4, s5, s6, s7⟩, ⟨t1, t2, t3⟩, a5, a6, a7, a8, a9, a10, a11, a12⟩ := h'
  obtain ⟨n1, n2, n3, n4⟩ := a7 n hn
  obtain ⟨z1, z2, z3⟩ := h.size n3
  unfold f_X2_leave
  refine wp_gd s1 ?_
  refine wp_gd s1 ?_
  rw [s2]
  refine wp_gd ⟨s4, n1, by rw [s5]; exact n2⟩ ?_
  rw [a5 n n1 n2]
  refine wp_gd n4 ?_
  refine wp_gd z1 ?_
  refine wp_c1e z2 ?_
  rw [t3]
  refine wp_gI (by omega) ?_
  refine wp_gd s1 ?_
  refine wp_nm0 ?_
  refine wp_gd s1 ?_
  have e0 : ∀ v, ld (wr σ 1001 4 v) 1001 0 = 1002 := fun v => by rw [ld_wr, if_neg (fun z => by omega)]; exact s2
  rw [e0]
  refine wp_gd ⟨s4, n1, by show n < ln σ 1002; rw [s5]; exact n2⟩ ?_
  refine wp_nm0 ?_
  refine wp_gd s1 ?_
  have e2 : ∀ v, ld (wr (wr σ 1001 4 v) 1002 n 0) 1001 2 = cN := fun v => by rw [ld_wr, if_neg (fun z => by omega), ld_wr, if_neg (fun z => by omega)]; exact t1
  rw [e2]
  refine wp_gI (by omega) ?_
  refine wp_gd s1 ?_
  refine wp_nm0 ?_
  have hF : Fr S3 σ (wr (wr (wr σ 1001 4 (cP - ((sm (has (fm (no n))) 32 : Nat) : Int))) 1002 n 0) 1001 2 (cN - 1)) := ((Fr.wr (Or.inl rfl)).trans (Fr.wr (Or.inr (Or.inl rfl)))).trans (Fr.wr (Or.inl rfl))
  have nfr : ∀ e, ed e ≠ 0 → ud no n 0 (fr (ed e)) = no (fr (ed e)) ∧ ud no n 0 (too (ed e)) = no (too (ed e)) := fun e he => ⟨ud_ne (hfree e he).1, ud_ne (hfree e he).2⟩
  refine wp_ok ⟨h.set hF ⟨?_, ?_, ?_, ?_, ?_⟩ (fun i x y => ?_) (fun i x y => ?_) (fun i x => ?_) (fun i x => ?_) (fun i j x y => ?_) a10 (fun q _ _ e => ?_), hF, rfl, rfl⟩
  · simp only [ld_wr, Int.reduceEq, and_false, false_and, if_false]; exact s2
  · simp only [ld_wr, Int.reduceEq, and_false, false_and, if_false]; exact s3
  · simp only [ld_wr, Int.reduceEq, true_and, and_self, if_true]
  · simp only [ld_wr, Int.reduceEq, and_false, false_and, if_false]; exact t2
  · simp only [ld_wr, Int.reduceEq, and_false, false_and, if_false, true_and, if_true]
  · simp only [ld_wr, Int.reduceEq, false_and, true_and, if_false]
    rw [ud_at]
    by_cases c : i = n
    · rw [if_pos c, if_pos c]
    · rw [if_neg c, if_neg c]; exact a5 i x y
  · simp only [ld_wr, Int.reduceEq, false_and, if_false]
    exact a6 i x y
  · rw [ud_at] at x ⊢
    by_cases c : i = n
    · rw [if_pos c] at x; exact absurd rfl x
    · rw [if_neg c] at x ⊢; exact a7 i x
  · rw [(nfr i x).1, (nfr i x).2]; exact a8 i x
  · rw [ud_at] at x
    by_cases c : i = n
    · rw [if_pos c] at x; exact absurd rfl x
    · rw [if_neg c] at x
      rw [ud_at, ud_at, if_neg c] at y
      by_cases d : j = n
      · rw [if_pos d] at y; exact absurd y x
      · rw [if_neg d] at y; exact a9 i j x y
  · by_cases c : ed e = 0
    · exact ⟨⟨fun z => absurd c z.1, fun z => absurd c z.1⟩, ⟨fun z => absurd c z.1, fun z => absurd c z.1⟩⟩
    · rw [(nfr e c).1, (nfr e c).2]
      exact ⟨Iff.rfl, Iff.rfl⟩
theorem enter_wp (h : GI σ Ow TH fm no ed ty fr too mc cN cE cP) (hn : 0 ≤ n ∧ n < 400) (h0 : no n = 0) (hp : TH p) (k4 : kd σ p = 4) (hnew : ∀ i, no i ≠ p) (b1 : 0 ≤ cN ∧ cN ≤ 100000) (b2 : 0 ≤ cP ∧ cP ≤ 100000) : Wp (f_X2_enter 1001 n p σ) fun σ' => GI σ' Ow TH fm (ud no n p) ed ty fr too mc (cN + 1) cE (cP + sm (has (fm p)) 32) ∧ Fr S3 σ σ' ∧ nx σ' = nx σ ∧ us σ' = us σ := by
  have h' := h
  obtain ⟨a1, a2, ⟨s1, s2, s3, s4, s5, s6, s7⟩, ⟨t1, t2, t3⟩, a5, a6, a7, a8, a9, a10, a11, a12⟩ := h'
  obtain ⟨z1, z2, z3⟩ := h.size hp
  have p1 := (a12 p hp).1
  unfold f_X2_enter
  refine wp_gd s1 ?_
  rw [s2]
  refine wp_gd ⟨s4, hn.1, by rw [s5]; exact hn.2⟩ ?_
  refine wp_gd (Or.inr k4) ?_
  refine wp_nm0 ?_
  refine wp_gd s1 ?_
  have e2 : ld (wr σ 1002 n p) 1001 2 = cN := by rw [ld_wr, if_neg (fun z => by omega)]; exact t1
  rw [e2]
  refine wp_gI (by omega) ?_
  refine wp_gd s1 ?_
  refine wp_nm0 ?_
  refine wp_gd s1 ?_
  refine wp_gd k4 ?_
  have C : ∀ q, 1054 ≤ q → ∀ j, ld (wr (wr σ 1002 n p) 1001 2 (cN + 1)) q j = ld σ q j := fun q hq j => by rw [ld_wr, if_neg (fun z => by omega), ld_wr, if_neg (fun z => by omega)]
  rw [C p p1]
  refine wp_gd z1 ?_
  have zs : f_J8_size (ld σ p 0) (wr (wr σ 1002 n p) 1001 2 (cN + 1)) = some (((sm (has (fm p)) 32 : Nat) : Int), wr (wr σ 1002 n p) 1001 2 (cN + 1)) := by
    have m := (a12 p hp).2.2.2.2.2.2.1
    unfold f_J8_size
    rw [gd_pos (show kd (wr (wr σ 1002 n p) 1001 2 (cN + 1)) (ld σ p 0) = 26 from z1), C _ (a12 p hp).2.2.2.1, m.2.2.2.1]
  refine wp_c1e zs ?_
  have e4 : ld (wr (wr σ 1002 n p) 1001 2 (cN + 1)) 1001 4 = cP := by rw [ld_wr, if_neg (fun z => by omega), ld_wr, if_neg (fun z => by omega)]; exact t3
  rw [e4]
  refine wp_gI (by omega) ?_
  refine wp_gd s1 ?_
  refine wp_nm0 ?_
  have hF : Fr S3 σ (wr (wr (wr σ 1002 n p) 1001 2 (cN + 1)) 1001 4 (cP + ((sm (has (fm p)) 32 : Nat) : Int))) := ((Fr.wr (Or.inr (Or.inl rfl))).trans (Fr.wr (Or.inl rfl))).trans (Fr.wr (Or.inl rfl))
  have nfr : ∀ e, ed e ≠ 0 → ud no n p (fr (ed e)) = no (fr (ed e)) ∧ ud no n p (too (ed e)) = no (too (ed e)) := fun e he => by
    have b := a8 e he
    exact ⟨ud_ne (fun z => b.2.2.2.2.1 (by rw [z]; exact h0)), ud_ne (fun z => b.2.2.2.2.2 (by rw [z]; exact h0))⟩
  refine wp_ok ⟨h.set hF ⟨?_, ?_, ?_, ?_, ?_⟩ (fun i x y => ?_) (fun i x y => ?_) (fun i x => ?_) (fun i x => ?_) (fun i j x y => ?_) a10 (fun q _ _ e => ?_), hF, rfl, rfl⟩
  · simp only [ld_wr, Int.reduceEq, and_false, false_and, if_false]; exact s2
  · simp only [ld_wr, Int.reduceEq, and_false, false_and, if_false]; exact s3
  · simp only [ld_wr, Int.reduceEq, and_false, true_and, and_self, if_true, if_false]
  · simp only [ld_wr, Int.reduceEq, and_false, false_and, if_false]; exact t2
  · simp only [ld_wr, Int.reduceEq, and_false, false_and, if_false, true_and, and_self, if_true]
  · simp only [ld_wr, Int.reduceEq, false_and, true_and, if_false]
    rw [ud_at]
    by_cases c : i = n
    · rw [if_pos c, if_pos c]
    · rw [if_neg c, if_neg c]; exact a5 i x y
  · simp only [ld_wr, Int.reduceEq, false_and, if_false]
    exact a6 i x y
  · rw [ud_at] at x ⊢
    by_cases c : i = n
    · rw [if_pos c, c]; exact ⟨hn.1, hn.2, hp, k4⟩
    · rw [if_neg c] at x ⊢; exact a7 i x
  · rw [(nfr i x).1, (nfr i x).2]; exact a8 i x
  · rw [ud_at] at x y
    rw [ud_at] at y
    by_cases c : i = n
    · rw [if_pos c] at y
      by_cases d : j = n
      · rw [c, d]
      · rw [if_neg d] at y; exact absurd y.symm (hnew j)
    · rw [if_neg c] at x y
      by_cases d : j = n
      · rw [if_pos d] at y; exact absurd y (hnew i)
      · rw [if_neg d] at y; exact a9 i j x y
  · by_cases c : ed e = 0
    · exact ⟨⟨fun z => absurd c z.1, fun z => absurd c z.1⟩, ⟨fun z => absurd c z.1, fun z => absurd c z.1⟩⟩
    · rw [(nfr e c).1, (nfr e c).2]
      exact ⟨Iff.rfl, Iff.rfl⟩
end GN
