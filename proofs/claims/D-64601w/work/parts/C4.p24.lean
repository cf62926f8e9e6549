/-! THE GRAPH: edges enter and leave -/
set_option maxRecDepth 100000
def AllTh (σ : AS) (Ow : F1) (TH : Int → Prop) (fm : Int → F1) (Po Pi : Int → Int → Prop) (mc : Int) : Prop := ∀ p, TH p → ThOk σ Ow p (fm p) (Po p) (Pi p) mc
/-- cells of numbers -/
def SN (Ow : F1) : Int → Prop := fun r => 1054 ≤ r ∧ 8 ≤ Ow r ∧ (Ow r % 8 = 2 ∨ Ow r % 8 = 3 ∨ Ow r % 8 = 5 ∨ Ow r % 8 = 6)
section GE
variable {σ σ' : AS} {Ow Ow' : F1} {S : Int → Prop} {p q r n e M : Int} {TH : Int → Prop} {fm : Int → F1} {no ed ed' ty fr too : F1} {mc cN cE cP cE' cP' : Int} {Po Pi : Int → Int → Prop}
theorem AllTh.out {P' : Int → Prop} {c p0 : Int} (h : AllTh σ Ow TH fm Po Pi mc) (hp : TH p0) (hc : NumC σ Ow (ld σ p0 2) (8 * p0 + 5) (8 * p0 + 2) P' c σ') : ∃ Ow' : F1, AllTh σ' Ow' TH fm (fun p => if p = p0 then P' else Po p) Pi mc ∧ Fr (SN Ow) σ σ' ∧ (∀ r, r < nx σ → Ow' r = Ow r) ∧ (∀ r, nx σ ≤ r → r < nx σ' → 8 ≤ Ow' r ∧ (Ow' r % 8 = 2 ∨ Ow' r % 8 = 3)) ∧ nx σ' ≤ nx σ + 1 ∧ us σ' ≤ us σ + c := by
  obtain ⟨Ow', c1, c2, c3, c4, c5, c6⟩ := hc
  have p1 := (h p0 hp).1
  refine ⟨Ow', fun p hq => ?_, c2.sub (fun r _ z => ⟨z.1, by omega⟩), c3, fun r a b => by rw [c4 r a b]; omega, c5, c6⟩
  by_cases e : p = p0
  · subst e
    dsimp only
    rw [if_pos rfl]
    obtain ⟨h1, h2, h3, h4, h5, h6, h7, h8, h9⟩ := h p hq
    have n1 := c2.1
    have ep : ∀ j, ld σ' p j = ld σ p j := c2.ld h2 (fun z => by omega)
    have et : ∀ j, ld σ' (ld σ p 0) j = ld σ (ld σ p 0) j := c2.ld h5 (fun z => by omega)
    refine ⟨h1, by omega, by rw [c3 p h2]; exact h3, by rw [ep]; exact h4, by rw [ep]; omega, by rw [ep, c3 _ h5]; exact h6, ?_, fun i hi => (h8 i hi).frame c2 c3, ?_⟩
    · rw [ep]
      refine h7.frame (Int.le_refl _) n1 ⟨c2.kd h5, et⟩ fun q hq hlt => ⟨⟨hq.1, by rw [c3 q hlt]; exact hq.2⟩, c2.kd hlt, c2.ld hlt (fun z => by omega)⟩
    · rw [c2.kd h2]
      refine h9.imp id (fun q => ⟨q.1, ?_, ?_⟩)
      · rw [ep]; exact c1
      · rw [ep]; exact q.2.2.frame c2 c3 (fun r _ z => ⟨by omega, by omega⟩)
  · dsimp only
    rw [if_neg e]
    exact (h p hq).frame c2 c3 (fun r a b => by have := (h p hq).1; omega) (Int.le_refl _)
theorem AllTh.in {P' : Int → Prop} {c p0 : Int} (h : AllTh σ Ow TH fm Po Pi mc) (hp : TH p0) (hc : NumC σ Ow (ld σ p0 3) (8 * p0 + 6) (8 * p0 + 3) P' c σ') : ∃ Ow' : F1, AllTh σ' Ow' TH fm Po (fun p => if p = p0 then P' else Pi p) mc ∧ Fr (SN Ow) σ σ' ∧ (∀ r, r < nx σ → Ow' r = Ow r) ∧ (∀ r, nx σ ≤ r → r < nx σ' → 8 ≤ Ow' r ∧ (Ow' r % 8 = 2 ∨ Ow' r % 8 = 3)) ∧ nx σ' ≤ nx σ + 1 ∧ us σ' ≤ us σ + c := by
  obtain ⟨Ow', c1, c2, c3, c4, c5, c6⟩ := hc
  have p1 := (h p0 hp).1
  refine ⟨Ow', fun p hq => ?_, c2.sub (fun r _ z => ⟨z.1, by omega⟩), c3, fun r a b => by rw [c4 r a b]; omega, c5, c6⟩
  by_cases e : p = p0
  · subst e
    dsimp only
    rw [if_pos rfl]
    obtain ⟨h1, h2, h3, h4, h5, h6, h7, h8, h9⟩ := h p hq
    have n1 := c2.1
    have ep : ∀ j, ld σ' p j = ld σ p j := c2.ld h2 (fun z => by omega)
    have et : ∀ j, ld σ' (ld σ p 0) j = ld σ (ld σ p 0) j := c2.ld h5 (fun z => by omega)
    refine ⟨h1, by omega, by rw [c3 p h2]; exact h3, by rw [ep]; exact h4, by rw [ep]; omega, by rw [ep, c3 _ h5]; exact h6, ?_, fun i hi => (h8 i hi).frame c2 c3, ?_⟩
    · rw [ep]
      refine h7.frame (Int.le_refl _) n1 ⟨c2.kd h5, et⟩ fun q hq hlt => ⟨⟨hq.1, by rw [c3 q hlt]; exact hq.2⟩, c2.kd hlt, c2.ld hlt (fun z => by omega)⟩
    · rw [c2.kd h2]
      refine h9.imp id (fun q => ⟨q.1, ?_, ?_⟩)
      · rw [ep]; exact q.2.1.frame c2 c3 (fun r _ z => ⟨by omega, by omega⟩)
      · rw [ep]; exact c1
  · dsimp only
    rw [if_neg e]
    exact (h p hq).frame c2 c3 (fun r a b => by have := (h p hq).1; omega) (Int.le_refl _)
theorem Fr.tr2 {S S' : Int → Prop} {σ σ1 σ2 : AS} (h : Fr S σ σ1) (h1 : Fr S' σ1 σ2) (k : ∀ r, r < nx σ → S' r → S r) : Fr S σ σ2 := by
  refine ⟨Int.le_trans h.1 h1.1, Int.le_trans h.2.1 h1.2.1, fun r hr => ?_, fun r hr hs j => ?_⟩
  · obtain ⟨a1, a2⟩ := h.2.2.1 r hr
    obtain ⟨b1, b2⟩ := h1.2.2.1 r (Int.lt_of_lt_of_le hr h.1)
    exact ⟨b1.trans a1, b2.trans a2⟩
  · exact (h1.2.2.2 r (Int.lt_of_lt_of_le hr h.1) (fun z => hs (k r hr z)) j).trans (h.2.2.2 r hr hs j)
theorem GI.edge (h : GI σ Ow TH fm no ed ty fr too mc cN cE cP) (hA : AllTh σ' Ow' TH fm Po Pi mc) (hF : Fr (fun r => r = 1001 ∨ r = 1003 ∨ SN Ow r) σ σ') (h1 : ld σ' 1001 0 = 1002 ∧ ld σ' 1001 1 = 1003 ∧ ld σ' 1001 2 = cN ∧ ld σ' 1001 3 = cE' ∧ ld σ' 1001 4 = cP') (hed : ∀ i, 0 ≤ i → i < 1000 → ld σ' 1003 i = ed' i) (c8 : ∀ i, ed' i ≠ 0 → 0 ≤ i ∧ i < 1000 ∧ TH (ed' i) ∧ kd σ (ed' i) = 5 ∧ no (fr (ed' i)) ≠ 0 ∧ no (too (ed' i)) ≠ 0) (c10 : ∀ i j, ed' i ≠ 0 → ed' i = ed' j → i = j) (hP : ∀ p, TH p → kd σ p = 4 → ∀ e, ((ed' e ≠ 0 ∧ no (fr (ed' e)) = p) ↔ Po p e) ∧ ((ed' e ≠ 0 ∧ no (too (ed' e)) = p) ↔ Pi p e)) : GI σ' Ow' TH fm no ed' ty fr too mc cN cE' cP' := by
  obtain ⟨a1, a2, a3, a4, a5, a6, a7, a8, a9, a10, a11, a12⟩ := h
  have n1 := hF.1
  have lt : ∀ q, TH q → q < nx σ := fun q hq => (a12 q hq).2.1
  have pe : ∀ q, TH q → ∀ j, ld σ' q j = ld σ q j := fun q hq => hF.ld (lt q hq) (fun z => by
    have b := (a12 q hq).1
    have b2 := (a12 q hq).2.2.1
    have z' : q = 1001 ∨ q = 1003 ∨ SN Ow q := z
    unfold SN at z'
    omega)
  refine ⟨by omega, a2.frame hF a1 (fun r z => by
    have z' : r = 1001 ∨ r = 1003 ∨ SN Ow r := z
    unfold SN at z'
    omega), ⟨by rw [hF.kd (by omega)]; exact a3.1, h1.1, h1.2.1, by rw [hF.kd (by omega)]; exact a3.2.2.2.1, by rw [hF.ln (by omega)]; exact a3.2.2.2.2.1, by rw [hF.kd (by omega)]; exact a3.2.2.2.2.2.1, by rw [hF.ln (by omega)]; exact a3.2.2.2.2.2.2⟩, h1.2.2, fun i x y => ?_, hed, fun i x => ?_, fun i x => ?_, a9, c10, fun q hq => ?_, fun q hq => ?_⟩
  · rw [hF.ld (by omega) (fun z => by
      have z' : (1002 : Int) = 1001 ∨ (1002 : Int) = 1003 ∨ SN Ow 1002 := z
      unfold SN at z'
      omega)]
    exact a5 i x y
  · obtain ⟨b1, b2, b3, b4⟩ := a7 i x
    exact ⟨b1, b2, b3, by rw [hF.kd (lt _ b3)]; exact b4⟩
  · obtain ⟨b1, b2, b3, b4, b5, b6⟩ := c8 i x
    exact ⟨b1, b2, b3, by rw [hF.kd (lt _ b3)]; exact b4, b5, b6⟩
  · rw [pe q hq, pe q hq, pe q hq, hF.kd (lt q hq)]
    exact a11 q hq
  · refine (hA q hq).pcongr fun k4 e => hP q hq ?_ e
    rw [hF.kd (lt q hq)] at k4
    exact k4
set_option maxHeartbeats 8000000 in
theorem enter2_wp {n : Nat} (hn : 1000000 ≤ n) (h : GI σ Ow TH fm no ed ty fr too mc cN cE cP) (he : 0 ≤ e ∧ e < 1000) (h0 : ed e = 0) (hq : TH q) (k5 : kd σ q = 5) (hnew : ∀ i, ed i ≠ q) (hf : no (fr q) ≠ 0) (ht : no (too q) ≠ 0) (hM : ∀ i, ed i ≠ 0 → i < M) (hM0 : 0 ≤ M ∧ M ≤ 1000) (b1 : 0 ≤ cE ∧ cE ≤ 100000) (b2 : 0 ≤ cP ∧ cP ≤ 100000) : Wp (f_X2_enter_2 n 1001 e q σ) fun σ' => ∃ Ow' : F1, GI σ' Ow' TH fm no (ud ed e q) ty fr too mc cN (cE + 1) (cP + sm (has (fm q)) 32) ∧ Fr (fun r => r = 1001 ∨ r = 1003 ∨ SN Ow r) σ σ' ∧ (∀ r, r < nx σ → Ow' r = Ow r) ∧ (∀ r, nx σ ≤ r → r < nx σ' → 8 ≤ Ow' r) ∧ nx σ' ≤ nx σ + 2 ∧ us σ' ≤ us σ + 4 * M := by
  have h' := h
  obtain ⟨a1, a2, ⟨s1, s2, s3, s4, s5, s6, s7⟩, ⟨t1, t2, t3⟩, a5, a6, a7, a8, a9, a10, a11, a12⟩ := h'
  obtain ⟨z1, z2, z3⟩ := h.size hq
  obtain ⟨st1, st2⟩ := a11 q hq
  obtain ⟨st3, st4⟩ := st2 k5
  have q1 := (a12 q hq).1
  have q2 := (a12 q hq).2.1
  obtain ⟨f1, f2, f3, f4⟩ := a7 _ hf
  obtain ⟨g1, g2, g3, g4⟩ := a7 _ ht
  unfold f_X2_enter_2
  refine wp_gd s1 ?_
  rw [s3]
  refine wp_gd ⟨s6, he.1, by rw [s7]; exact he.2⟩ ?_
  refine wp_gd (Or.inr k5) ?_
  refine wp_nm0 ?_
  refine wp_gd s1 ?_
  have e2 : ld (wr σ 1003 e q) 1001 3 = cE := by rw [ld_wr, if_neg (fun z => by omega)]; exact t2
  rw [e2]
  refine wp_gI (by omega) ?_
  refine wp_gd s1 ?_
  refine wp_nm0 ?_
  have F1 : Fr (fun r => r = 1001 ∨ r = 1003 ∨ SN Ow r) σ (wr (wr σ 1003 e q) 1001 3 (cE + 1)) := (Fr.wr (Or.inr (Or.inl rfl))).trans (Fr.wr (Or.inl rfl))
  have F1' : Fr (fun r => r = 1001 ∨ r = 1003) σ (wr (wr σ 1003 e q) 1001 3 (cE + 1)) := (Fr.wr (Or.inr rfl)).trans (Fr.wr (Or.inl rfl))
  have C1 : ∀ r, r ≠ 1001 → r ≠ 1003 → ∀ j, ld (wr (wr σ 1003 e q) 1001 3 (cE + 1)) r j = ld σ r j := fun r x y j => by rw [ld_wr, if_neg (fun z => x z.1), ld_wr, if_neg (fun z => y z.1)]
  have X1 : ∀ j, j ≠ 3 → ld (wr (wr σ 1003 e q) 1001 3 (cE + 1)) 1001 j = ld σ 1001 j := fun j x => by rw [ld_wr, if_neg (fun z => x z.2), ld_wr, if_neg (fun z => by omega)]
  have X3 : ld (wr (wr σ 1003 e q) 1001 3 (cE + 1)) 1001 3 = cE + 1 := by rw [ld_wr, if_pos ⟨rfl, rfl⟩]
  have Y1 : ∀ i, 0 ≤ i → i < 1000 → ld (wr (wr σ 1003 e q) 1001 3 (cE + 1)) 1003 i = ud ed e q i := fun i x y => by
    rw [ld_wr, if_neg (fun z => by omega), ld_wr, ud_at]
    by_cases c : i = e
    · rw [if_pos ⟨rfl, c⟩, if_pos c]
    · rw [if_neg (fun z => c z.2), if_neg c]; exact a6 i x y
  have kS : ∀ r, kd (wr (wr σ 1003 e q) 1001 3 (cE + 1)) r = kd σ r := fun r => rfl
  have lS : ∀ r, ln (wr (wr σ 1003 e q) 1001 3 (cE + 1)) r = ln σ r := fun r => rfl
  have nS : nx (wr (wr σ 1003 e q) 1001 3 (cE + 1)) = nx σ := rfl
  have uS : us (wr (wr σ 1003 e q) 1001 3 (cE + 1)) = us σ := rfl
  generalize wr (wr σ 1003 e q) 1001 3 (cE + 1) = σ1 at *
  have A1 : AllTh σ1 Ow TH fm (fun p x => ed x ≠ 0 ∧ no (fr (ed x)) = p) (fun p x => ed x ≠ 0 ∧ no (too (ed x)) = p) mc := fun p hp => (a12 p hp).frame F1' (fun _ _ => rfl) (fun r x y => by have y' : r = 1001 ∨ r = 1003 := y; omega) (Int.le_refl _)
  refine wp_gd (by rw [kS]; exact s1) ?_
  refine wp_gd (by rw [kS]; exact k5) ?_
  rw [X1 0 (by decide), s2, C1 q (by omega) (by omega), st3]
  refine wp_gd ⟨by rw [kS]; exact s4, f1, by rw [lS, s5]; exact f2⟩ ?_
  have rN : ∀ i, 0 ≤ i → i < 400 → ld σ1 1002 i = no i := fun i x y => by rw [C1 1002 (by decide) (by decide)]; exact a5 i x y
  rw [rN _ f1 f2]
  refine wp_gd (by rw [kS]; exact f4) ?_
  have NA1 := ((A1 _ f3).2.2.2.2.2.2.2.2.resolve_left (fun z => by rw [kS] at z; omega)).2.1
  refine wp_gd (by obtain ⟨_, _, _, _, _, _, _, L, l1, _⟩ := NA1; exact l1.1) ?_
  refine wp_c0 ?_
  refine wp_mono (NA1.add (e := e) (M := M) hn (by omega) (fun x hx => ⟨(a8 x hx.1).1, hM x hx.1⟩) hM0 (fun z => z.1 h0)) fun σ2 hc => ?_
  obtain ⟨Ow2, A2, F2, O2, W2, n2, u2⟩ := A1.out f3 hc
  have m2 := F2.1
  have fx2 : ∀ r, 1000 ≤ r → r < 1054 → ∀ j, ld σ2 r j = ld σ1 r j := fun r x y => F2.ld (by omega) (fun z => by unfold SN at z; omega)
  have k2 : ∀ r, r < nx σ → kd σ2 r = kd σ r ∧ ln σ2 r = ln σ r := fun r x => ⟨(F2.kd (by omega)).trans (kS r), (F2.ln (by omega)).trans (lS r)⟩
  have thS : ∀ r, TH r → 1054 ≤ r ∧ r < nx σ ∧ ¬ SN Ow r := fun r hr => by
    have w0 := a12 r hr
    have w1 := w0.2.2.1
    exact ⟨w0.1, w0.2.1, fun z => by unfold SN at z; omega⟩
  have th2 : ∀ r, TH r → ∀ j, ld σ2 r j = ld σ r j := fun r hr j => by
    have w := thS r hr
    rw [F2.ld (by omega) w.2.2, C1 r (by omega) (by omega)]
  refine wp_gd (by rw [(k2 _ (by omega)).1]; exact s1) ?_
  refine wp_gd (by rw [(k2 _ q2).1]; exact k5) ?_
  rw [fx2 1001 (by decide) (by decide), X1 0 (by decide), s2, th2 q hq, st4]
  refine wp_gd ⟨by rw [(k2 _ (by omega)).1]; exact s4, g1, by rw [(k2 _ (by omega)).2, s5]; exact g2⟩ ?_
  rw [fx2 1002 (by decide) (by decide), rN _ g1 g2]
  refine wp_gd (by rw [(k2 _ (thS _ g3).2.1).1]; exact g4) ?_
  have NA2 := ((A2 _ g3).2.2.2.2.2.2.2.2.resolve_left (fun z => by rw [(k2 _ (thS _ g3).2.1).1] at z; omega)).2.2
  refine wp_gd (by obtain ⟨_, _, _, _, _, _, _, L, l1, _⟩ := NA2; exact l1.1) ?_
  refine wp_c0 ?_
  refine wp_mono (NA2.add (e := e) (M := M) hn (by omega) (fun x hx => ⟨(a8 x hx.1).1, hM x hx.1⟩) hM0 (fun z => z.1 h0)) fun σ3 hc3 => ?_
  obtain ⟨Ow3, A3, F3, O3, W3, n3, u3⟩ := A2.in g3 hc3
  have m3 := F3.1
  have SNm : ∀ r, r < nx σ → SN Ow2 r → SN Ow r := fun r x z => by
    unfold SN at *
    rw [O2 r (by omega)] at z
    exact z
  have fx3 : ∀ r, 1000 ≤ r → r < 1054 → ∀ j, ld σ3 r j = ld σ1 r j := fun r x y j => (F3.ld (by omega) (fun z => by unfold SN at z; omega) j).trans (fx2 r x y j)
  have k3 : ∀ r, r < nx σ → kd σ3 r = kd σ r := fun r x => (F3.kd (by omega)).trans (k2 r x).1
  have th3 : ∀ r, TH r → ∀ j, ld σ3 r j = ld σ r j := fun r hr j => by
    have w := thS r hr
    rw [F3.ld (by omega) (fun z => w.2.2 (SNm r w.2.1 z)), th2 r hr]
  refine wp_gd (by rw [k3 _ (by omega)]; exact s1) ?_
  refine wp_gd (by rw [k3 _ q2]; exact k5) ?_
  have mm := (A3 q hq).2.2.2.2.2.2.1
  have kt : kd σ3 (ld σ3 q 0) = 26 := mm.1
  refine wp_gd kt ?_
  refine wp_c1e (mapSize_eq mm) ?_
  have v4 : ld σ3 1001 4 = cP := by rw [fx3 1001 (by decide) (by decide), X1 4 (by decide)]; exact t3
  rw [v4]
  refine wp_gI (by omega) ?_
  refine wp_gd (by rw [k3 _ (by omega)]; exact s1) ?_
  refine wp_nm0 ?_
  have Ff : Fr (fun r => r = 1001 ∨ r = 1003 ∨ SN Ow r) σ (wr σ3 1001 4 (cP + ((sm (has (fm q)) 32 : Nat) : Int))) := by
    have F12 := F1.tr2 F2 (fun r _ z => Or.inr (Or.inr z))
    have F13 := F12.tr2 F3 (fun r x z => Or.inr (Or.inr (SNm r x z)))
    exact F13.trans (Fr.wr (Or.inl rfl))
  have Af : AllTh (wr σ3 1001 4 (cP + ((sm (has (fm q)) 32 : Nat) : Int))) Ow3 TH fm _ _ mc := fun p hp => (A3 p hp).frame (Fr.wr (S := fun r => r = 1001) rfl) (fun _ _ => rfl) (fun r x y => by have y' : r = 1001 := y; omega) (Int.le_refl _)
  refine wp_ok ⟨Ow3, GI.edge h Af Ff ⟨?_, ?_, ?_, ?_, ?_⟩ (fun i x y => ?_) (fun i x => ?_) (fun i j x y => ?_) (fun p hp k4 x => ?_), Ff, fun r x => by rw [O3 r (by omega), O2 r (by omega)], fun r x y => ?_, by show nx σ3 ≤ _; omega, by show us σ3 ≤ _; omega⟩
  · rw [ld_wr, if_neg (fun z => by omega), fx3 1001 (by decide) (by decide), X1 0 (by decide)]; exact s2
  · rw [ld_wr, if_neg (fun z => by omega), fx3 1001 (by decide) (by decide), X1 1 (by decide)]; exact s3
  · rw [ld_wr, if_neg (fun z => by omega), fx3 1001 (by decide) (by decide), X1 2 (by decide)]; exact t1
  · rw [ld_wr, if_neg (fun z => by omega), fx3 1001 (by decide) (by decide)]; exact X3
  · rw [ld_wr, if_pos ⟨rfl, rfl⟩]
  · rw [ld_wr, if_neg (fun z => by omega), fx3 1003 (by decide) (by decide)]; exact Y1 i x y
  · rw [ud_at] at x ⊢
    by_cases c : i = e
    · rw [if_pos c, c]; exact ⟨he.1, he.2, hq, k5, hf, ht⟩
    · rw [if_neg c] at x ⊢; exact a8 i x
  · rw [ud_at] at x y
    rw [ud_at] at y
    by_cases c : i = e
    · rw [if_pos c] at y
      by_cases d : j = e
      · rw [c, d]
      · rw [if_neg d] at y; exact absurd y.symm (hnew j)
    · rw [if_neg c] at x y
      by_cases d : j = e
      · rw [if_pos d] at y; exact absurd y (hnew i)
      · rw [if_neg d] at y; exact a10 i j x y
  · have q0 : q ≠ 0 := by omega
    rw [ud_at]
    by_cases c : x = e
    · rw [if_pos c, c]
      refine ⟨?_, ?_⟩
      · by_cases d : p = no (fr q)
        · rw [if_pos d, d]; exact ⟨fun _ => Or.inr rfl, fun _ => ⟨q0, rfl⟩⟩
        · rw [if_neg d]; exact ⟨fun z => absurd z.2.symm d, fun z => absurd h0 z.1⟩
      · by_cases d : p = no (too q)
        · rw [if_pos d, d]; exact ⟨fun _ => Or.inr rfl, fun _ => ⟨q0, rfl⟩⟩
        · rw [if_neg d]; exact ⟨fun z => absurd z.2.symm d, fun z => absurd h0 z.1⟩
    · rw [if_neg c]
      refine ⟨?_, ?_⟩
      · by_cases d : p = no (fr q)
        · rw [if_pos d, d]; exact ⟨fun z => Or.inl z, fun z => z.resolve_right c⟩
        · rw [if_neg d]
      · by_cases d : p = no (too q)
        · rw [if_pos d, d]; exact ⟨fun z => Or.inl z, fun z => z.resolve_right c⟩
        · rw [if_neg d]
  · by_cases c : r < nx σ2
    · rw [O3 r c]; exact (W2 r (by omega) c).1
    · exact (W3 r (by omega) y).1
set_option maxHeartbeats 8000000 in
theorem cut_wp {n : Nat} (hn : 1000000 ≤ n) (h : GI σ Ow TH fm no ed ty fr too mc cN cE cP) (hqe : ed e = q) (hq0 : q ≠ 0) (b1 : 0 ≤ cE ∧ cE ≤ 100000) (b2 : 0 ≤ cP ∧ cP ≤ 100000) : Wp (f_X2_cut n 1001 e σ) fun σ' => ∃ Ow' : F1, GI σ' Ow' TH fm no (ud ed e 0) ty fr too mc cN (cE - 1) (cP - sm (has (fm q)) 32) ∧ Fr (fun r => r = 1001 ∨ r = 1003 ∨ SN Ow r) σ σ' ∧ (∀ r, r < nx σ → Ow' r = Ow r) ∧ (∀ r, nx σ ≤ r → r < nx σ' → 8 ≤ Ow' r) ∧ nx σ' ≤ nx σ + 2 ∧ us σ' ≤ us σ := by
  have h' := h
  obtain ⟨a1, a2, ⟨s1, s2, s3, s4, s5, s6, s7⟩, ⟨t1, t2, t3⟩, a5, a6, a7, a8, a9, a10, a11, a12⟩ := h'
  have a8e := a8 e (by rw [hqe]; exact hq0)
  rw [hqe] at a8e
  obtain ⟨he1, he2, hq, k5, hf, ht⟩ := a8e
  have he : 0 ≤ e ∧ e < 1000 := ⟨he1, he2⟩
  have eq3 : ld σ 1003 e = q := (a6 e he1 he2).trans hqe
  obtain ⟨z1, z2, z3⟩ := h.size hq
  obtain ⟨st1, st2⟩ := a11 q hq
  obtain ⟨st3, st4⟩ := st2 k5
  have q1 := (a12 q hq).1
  have q2 := (a12 q hq).2.1
  obtain ⟨f1, f2, f3, f4⟩ := a7 _ hf
  obtain ⟨g1, g2, g3, g4⟩ := a7 _ ht
  unfold f_X2_cut
  refine wp_gd s1 ?_
  rw [s3]
  refine wp_gd ⟨s6, he.1, by rw [s7]; exact he.2⟩ ?_
  refine wp_nm0 ?_
  rw [eq3]
  refine wp_gd s1 ?_
  refine wp_gd ⟨s6, he.1, by rw [s7]; exact he.2⟩ ?_
  refine wp_nm0 ?_
  refine wp_gd s1 ?_
  have e2 : ld (wr σ 1003 e 0) 1001 3 = cE := by rw [ld_wr, if_neg (fun z => by omega)]; exact t2
  rw [e2]
  refine wp_gI (by omega) ?_
  refine wp_gd s1 ?_
  refine wp_nm0 ?_
  have F1 : Fr (fun r => r = 1001 ∨ r = 1003 ∨ SN Ow r) σ (wr (wr σ 1003 e 0) 1001 3 (cE - 1)) := (Fr.wr (Or.inr (Or.inl rfl))).trans (Fr.wr (Or.inl rfl))
  have F1' : Fr (fun r => r = 1001 ∨ r = 1003) σ (wr (wr σ 1003 e 0) 1001 3 (cE - 1)) := (Fr.wr (Or.inr rfl)).trans (Fr.wr (Or.inl rfl))
  have C1 : ∀ r, r ≠ 1001 → r ≠ 1003 → ∀ j, ld (wr (wr σ 1003 e 0) 1001 3 (cE - 1)) r j = ld σ r j := fun r x y j => by rw [ld_wr, if_neg (fun z => x z.1), ld_wr, if_neg (fun z => y z.1)]
  have X1 : ∀ j, j ≠ 3 → ld (wr (wr σ 1003 e 0) 1001 3 (cE - 1)) 1001 j = ld σ 1001 j := fun j x => by rw [ld_wr, if_neg (fun z => x z.2), ld_wr, if_neg (fun z => by omega)]
  have X3 : ld (wr (wr σ 1003 e 0) 1001 3 (cE - 1)) 1001 3 = cE - 1 := by rw [ld_wr, if_pos ⟨rfl, rfl⟩]
  have Y1 : ∀ i, 0 ≤ i → i < 1000 → ld (wr (wr σ 1003 e 0) 1001 3 (cE - 1)) 1003 i = ud ed e 0 i := fun i x y => by
    rw [ld_wr, if_neg (fun z => by omega), ld_wr, ud_at]
    by_cases c : i = e
    · rw [if_pos ⟨rfl, c⟩, if_pos c]
    · rw [if_neg (fun z => c z.2), if_neg c]; exact a6 i x y
  have kS : ∀ r, kd (wr (wr σ 1003 e 0) 1001 3 (cE - 1)) r = kd σ r := fun r => rfl
  have lS : ∀ r, ln (wr (wr σ 1003 e 0) 1001 3 (cE - 1)) r = ln σ r := fun r => rfl
  have nS : nx (wr (wr σ 1003 e 0) 1001 3 (cE - 1)) = nx σ := rfl
  have uS : us (wr (wr σ 1003 e 0) 1001 3 (cE - 1)) = us σ := rfl
  generalize wr (wr σ 1003 e 0) 1001 3 (cE - 1) = σ1 at *
  have A1 : AllTh σ1 Ow TH fm (fun p x => ed x ≠ 0 ∧ no (fr (ed x)) = p) (fun p x => ed x ≠ 0 ∧ no (too (ed x)) = p) mc := fun p hp => (a12 p hp).frame F1' (fun _ _ => rfl) (fun r x y => by have y' : r = 1001 ∨ r = 1003 := y; omega) (Int.le_refl _)
  refine wp_gd (by rw [kS]; exact s1) ?_
  refine wp_gd (by rw [kS]; exact k5) ?_
  rw [X1 0 (by decide), s2, C1 q (by omega) (by omega), st3]
  refine wp_gd ⟨by rw [kS]; exact s4, f1, by rw [lS, s5]; exact f2⟩ ?_
  have rN : ∀ i, 0 ≤ i → i < 400 → ld σ1 1002 i = no i := fun i x y => by rw [C1 1002 (by decide) (by decide)]; exact a5 i x y
  rw [rN _ f1 f2]
  refine wp_gd (by rw [kS]; exact f4) ?_
  have NA1 := ((A1 _ f3).2.2.2.2.2.2.2.2.resolve_left (fun z => by rw [kS] at z; omega)).2.1
  refine wp_gd (by obtain ⟨_, _, _, _, _, _, _, L, l1, _⟩ := NA1; exact l1.1) ?_
  refine wp_c0 ?_
  refine wp_mono (NA1.del (e := e) hn ⟨by rw [hqe]; exact hq0, by rw [hqe]⟩) fun σ2 hc => ?_
  obtain ⟨Ow2, A2, F2, O2, W2, n2, u2⟩ := A1.out f3 hc
  have m2 := F2.1
  have fx2 : ∀ r, 1000 ≤ r → r < 1054 → ∀ j, ld σ2 r j = ld σ1 r j := fun r x y => F2.ld (by omega) (fun z => by unfold SN at z; omega)
  have k2 : ∀ r, r < nx σ → kd σ2 r = kd σ r ∧ ln σ2 r = ln σ r := fun r x => ⟨(F2.kd (by omega)).trans (kS r), (F2.ln (by omega)).trans (lS r)⟩
  have thS : ∀ r, TH r → 1054 ≤ r ∧ r < nx σ ∧ ¬ SN Ow r := fun r hr => by
    have w0 := a12 r hr
    have w1 := w0.2.2.1
    exact ⟨w0.1, w0.2.1, fun z => by unfold SN at z; omega⟩
  have th2 : ∀ r, TH r → ∀ j, ld σ2 r j = ld σ r j := fun r hr j => by
    have w := thS r hr
    rw [F2.ld (by omega) w.2.2, C1 r (by omega) (by omega)]
  refine wp_gd (by rw [(k2 _ (by omega)).1]; exact s1) ?_
  refine wp_gd (by rw [(k2 _ q2).1]; exact k5) ?_
  rw [fx2 1001 (by decide) (by decide), X1 0 (by decide), s2, th2 q hq, st4]
  refine wp_gd ⟨by rw [(k2 _ (by omega)).1]; exact s4, g1, by rw [(k2 _ (by omega)).2, s5]; exact g2⟩ ?_
  rw [fx2 1002 (by decide) (by decide), rN _ g1 g2]
  refine wp_gd (by rw [(k2 _ (thS _ g3).2.1).1]; exact g4) ?_
  have NA2 := ((A2 _ g3).2.2.2.2.2.2.2.2.resolve_left (fun z => by rw [(k2 _ (thS _ g3).2.1).1] at z; omega)).2.2
  refine wp_gd (by obtain ⟨_, _, _, _, _, _, _, L, l1, _⟩ := NA2; exact l1.1) ?_
  refine wp_c0 ?_
  refine wp_mono (NA2.del (e := e) hn ⟨by rw [hqe]; exact hq0, by rw [hqe]⟩) fun σ3 hc3 => ?_
  obtain ⟨Ow3, A3, F3, O3, W3, n3, u3⟩ := A2.in g3 hc3
  have m3 := F3.1
  have SNm : ∀ r, r < nx σ → SN Ow2 r → SN Ow r := fun r x z => by
    unfold SN at *
    rw [O2 r (by omega)] at z
    exact z
  have fx3 : ∀ r, 1000 ≤ r → r < 1054 → ∀ j, ld σ3 r j = ld σ1 r j := fun r x y j => (F3.ld (by omega) (fun z => by unfold SN at z; omega) j).trans (fx2 r x y j)
  have k3 : ∀ r, r < nx σ → kd σ3 r = kd σ r := fun r x => (F3.kd (by omega)).trans (k2 r x).1
  have th3 : ∀ r, TH r → ∀ j, ld σ3 r j = ld σ r j := fun r hr j => by
    have w := thS r hr
    rw [F3.ld (by omega) (fun z => w.2.2 (SNm r w.2.1 z)), th2 r hr]
  refine wp_gd (by rw [k3 _ (by omega)]; exact s1) ?_
  refine wp_gd (by rw [k3 _ q2]; exact k5) ?_
  have mm := (A3 q hq).2.2.2.2.2.2.1
  have kt : kd σ3 (ld σ3 q 0) = 26 := mm.1
  refine wp_gd kt ?_
  refine wp_c1e (mapSize_eq mm) ?_
  have v4 : ld σ3 1001 4 = cP := by rw [fx3 1001 (by decide) (by decide), X1 4 (by decide)]; exact t3
  rw [v4]
  refine wp_gI (by omega) ?_
  refine wp_gd (by rw [k3 _ (by omega)]; exact s1) ?_
  refine wp_nm0 ?_
  have Ff : Fr (fun r => r = 1001 ∨ r = 1003 ∨ SN Ow r) σ (wr σ3 1001 4 (cP - ((sm (has (fm q)) 32 : Nat) : Int))) := by
    have F12 := F1.tr2 F2 (fun r _ z => Or.inr (Or.inr z))
    have F13 := F12.tr2 F3 (fun r x z => Or.inr (Or.inr (SNm r x z)))
    exact F13.trans (Fr.wr (Or.inl rfl))
  have Af : AllTh (wr σ3 1001 4 (cP - ((sm (has (fm q)) 32 : Nat) : Int))) Ow3 TH fm _ _ mc := fun p hp => (A3 p hp).frame (Fr.wr (S := fun r => r = 1001) rfl) (fun _ _ => rfl) (fun r x y => by have y' : r = 1001 := y; omega) (Int.le_refl _)
  refine wp_ok ⟨Ow3, GI.edge h Af Ff ⟨?_, ?_, ?_, ?_, ?_⟩ (fun i x y => ?_) (fun i x => ?_) (fun i j x y => ?_) (fun p hp k4 x => ?_), Ff, fun r x => by rw [O3 r (by omega), O2 r (by omega)], fun r x y => ?_, by show nx σ3 ≤ _; omega, by show us σ3 ≤ _; omega⟩
  · rw [ld_wr, if_neg (fun z => by omega), fx3 1001 (by decide) (by decide), X1 0 (by decide)]; exact s2
  · rw [ld_wr, if_neg (fun z => by omega), fx3 1001 (by decide) (by decide), X1 1 (by decide)]; exact s3
  · rw [ld_wr, if_neg (fun z => by omega), fx3 1001 (by decide) (by decide), X1 2 (by decide)]; exact t1
  · rw [ld_wr, if_neg (fun z => by omega), fx3 1001 (by decide) (by decide)]; exact X3
  · rw [ld_wr, if_pos ⟨rfl, rfl⟩]
  · rw [ld_wr, if_neg (fun z => by omega), fx3 1003 (by decide) (by decide)]; exact Y1 i x y
  · rw [ud_at] at x ⊢
    by_cases c : i = e
    · rw [if_pos c] at x; exact absurd rfl x
    · rw [if_neg c] at x ⊢; exact a8 i x
  · rw [ud_at] at x
    by_cases c : i = e
    · rw [if_pos c] at x; exact absurd rfl x
    · rw [if_neg c] at x
      rw [ud_at, ud_at, if_neg c] at y
      by_cases d : j = e
      · rw [if_pos d] at y; exact absurd y x
      · rw [if_neg d] at y; exact a10 i j x y
  · rw [ud_at]
    by_cases c : x = e
    · rw [if_pos c, c]
      refine ⟨?_, ?_⟩
      · by_cases d : p = no (fr q)
        · rw [if_pos d]; exact ⟨fun z => absurd rfl z.1, fun z => absurd rfl z.2⟩
        · rw [if_neg d]; exact ⟨fun z => absurd rfl z.1, fun z => absurd (z.2.symm.trans (by rw [hqe])) d⟩
      · by_cases d : p = no (too q)
        · rw [if_pos d]; exact ⟨fun z => absurd rfl z.1, fun z => absurd rfl z.2⟩
        · rw [if_neg d]; exact ⟨fun z => absurd rfl z.1, fun z => absurd (z.2.symm.trans (by rw [hqe])) d⟩
    · rw [if_neg c]
      refine ⟨?_, ?_⟩
      · by_cases d : p = no (fr q)
        · rw [if_pos d, d]; exact ⟨fun z => ⟨z, c⟩, fun z => z.1⟩
        · rw [if_neg d]
      · by_cases d : p = no (too q)
        · rw [if_pos d, d]; exact ⟨fun z => ⟨z, c⟩, fun z => z.1⟩
        · rw [if_neg d]
  · by_cases c : r < nx σ2
    · rw [O3 r c]; exact (W2 r (by omega) c).1
    · exact (W3 r (by omega) y).1
end GE
