/-! THE COMPONENT's STATE behind each change -/
set_option maxRecDepth 100000
def FG : Int → Prop := fun r => (1001 ≤ r ∧ r ≤ 1005) ∨ 1054 ≤ r
section CIt
variable {σ y : AS} {Ow Ow' : F1} {v p r key : Int} {L : List Int} {TH TH' : Int → Prop} {fm : Int → F1} {no ed ty fr too ty' fr' too' : F1} {mc mc' c1 c2 c3 : Int} {X : Int → Prop} {S S' : Sn} {l : List Ch} {c : Ch}
theorem CI.step (h : CI σ Ow TH ty fr too mc L S l) (hF : Fr X σ y) (hO : ∀ r, r < nx σ → Ow' r = Ow r) (hX : ∀ r, X r → 1001 ≤ r ∧ (1054 ≤ r → 2 ≤ Ow r)) (hG : GI y Ow' TH' S'.2.2 S'.1 S'.2.1 ty' fr' too' mc' (cN S') (cE S') (cP S')) (hs : StkOk y Ow' (r :: L)) (hk : Kp σ Ow TH ty fr too y Ow' TH' ty' fr' too') (hr : RecC y Ow' TH' fr' too' r S') (hu : SnEq TH S (und y r S')) (hl : LK y ty' fr' too' S' (actG (run l) c)) (hc : okC (run l) c) (hm : 0 ≤ mc') : CI y Ow' TH' ty' fr' too' mc' (r :: L) S' (l ++ [c]) := by
  obtain ⟨h1, h2, h3, h4, h5, h6⟩ := h
  refine ⟨hG, hs, ⟨by rw [run_snoc]; exact hl, l, c, rfl, hr, ?_⟩, okL_snoc h4 hc, fun q a b => by rw [hO q (by have := h1.1; omega)]; exact h5 q a b, hm⟩
  obtain ⟨no, ed, fm⟩ := S
  refine h3.keep hk (fun q hq => ?_) h1.sn hu
  have z := h2.2.2.2.2.2.2.2.2.2 q hq
  refine ⟨hF.kd z.2.1, hF.ld z.2.1 fun w => ?_⟩
  have := hX q w
  have := z.2.2.1
  have := z.1
  omega
theorem und6 (k : kd σ r = 6) : und σ r S = (ud S.1 (ld σ r 0) 0, S.2) := by
  unfold und
  rw [if_pos k]
theorem und7 (k : kd σ r = 7) : und σ r S = (S.1, ud S.2.1 (ld σ r 0) 0, S.2.2) := by
  unfold und
  rw [if_neg (by omega), if_pos k]
theorem und8 (k : kd σ r = 8) : und σ r S = (ud S.1 (ld σ r 0) (ld σ r 1), S.2) := by
  unfold und
  rw [if_neg (by omega), if_neg (by omega), if_pos k]
theorem und9 (k : kd σ r = 9) : und σ r S = (S.1, ud S.2.1 (ld σ r 0) (ld σ r 1), S.2.2) := by
  unfold und
  rw [if_neg (by omega), if_neg (by omega), if_neg (by omega), if_pos k]
theorem und10 (k : kd σ r = 10) : und σ r S = (S.1, S.2.1, fun q => if q = ld σ r 0 then ud (S.2.2 q) (ld σ r 1) (ld σ r 2) else S.2.2 q) := by
  unfold und
  rw [if_neg (by omega), if_neg (by omega), if_neg (by omega), if_neg (by omega)]
theorem ud_back {f : F1} {a w : Int} (h : f v = a) : ud (ud f v w) v a = f := by rw [ud_upd, ← h, ud_self]
/-- what a call that changed the graph leaves -/
def CStep (σ : AS) (mc : Int) (L : List Int) (l : List Ch) (c : Ch) (y : AS) : Prop := ∃ Ow' TH' ty' fr' too' mc' r S', CI y Ow' TH' ty' fr' too' mc' (r :: L) S' (l ++ [c]) ∧ mc' ≤ mc + 1 ∧ Fr FG σ y ∧ nx y ≤ nx σ + 20 ∧ us y ≤ us σ + 1000
set_option maxHeartbeats 1000000 in
theorem CI.node {n : Nat} {lab : Int} (hn : 1000000 ≤ n) (h : CI σ Ow TH ty fr too mc L S l) (hl : l.length ≤ 63) (hb : 0 ≤ lab ∧ lab < 32) : Wp (f_X1_node n 1000 lab σ) fun y => y.1 = .inr ((ff (gl (run l)) 400 0 : Nat) : Int) ∧ CStep σ mc L l (0, lab, 0, 0, 0) y.2 := by
  have low := h.low (by omega)
  obtain ⟨l1, l2, l3, l4, l5, l6, hLK, hG, hB⟩ := low
  have h' := h
  obtain ⟨h1, h2, h3, h4, h5, h6⟩ := h'
  obtain ⟨no, ed, fm⟩ := S
  change GI σ Ow TH fm no ed ty fr too mc _ _ _ at h1
  have n64 : no 64 = 0 := Classical.not_not.mp fun z => by have := l5 64 z; omega
  have hx := h1.1
  refine wp_mono (X1_node_ok (K := 64) hn h1 h2 hb ⟨by decide, by decide, n64⟩ ⟨by omega, by omega⟩ ⟨by omega, by omega⟩ h6 (by omega)) fun y hq => ?_
  obtain ⟨v, Ow', p, r, e1, v1, v2, v3, v4, ep, pT, G2, S2, k2, r0, F2, O2, n2, u2⟩ := hq
  have hfr : ∀ q, (S3 q ∨ SD Ow q) → 1001 ≤ q ∧ (q ≤ 1005 ∨ (1054 ≤ q ∧ 2 ≤ Ow q)) := fun q z => by
    rcases z with (z | z | z) | (z | z)
    · omega
    · omega
    · omega
    · omega
    · refine ⟨by omega, ?_⟩
      by_cases c5 : q ≤ 1005
      · exact Or.inl c5
      · by_cases c6 : 1054 ≤ q
        · exact Or.inr ⟨c6, by omega⟩
        · have := h5 q (by omega) (by omega); omega
  have pn : ∀ i, no i ≠ p := fun i z => by
    have := h1.th (h1.2.2.2.2.2.2.1 i (by omega)).2.2.1
    omega
  have pe : ∀ i, ed i ≠ p := fun i z => by
    have := h1.th (h1.2.2.2.2.2.2.2.1 i (by omega)).2.2.1
    omega
  have hk0 := h1.kp F2 O2 (fun q z => by have := hfr q z; omega)
  have hK : Kp σ Ow TH ty fr too y.2 Ow' (fun q => TH q ∨ q = p) (ud ty p lab) fr too := ⟨hk0.1, fun q hq => ⟨Or.inl hq, (hk0.2 q hq).2.1, ud_ne (fun z => pT (z ▸ hq)), rfl, rfl⟩⟩
  have eff := ff_at (n := 400) hLK.1 ⟨v1, by omega⟩ v3 v4
  have hp0 : p ≠ 0 := by omega
  have LK2 := (hLK.keep hk0 h1.sn (S' := (no, ed, fm)) ⟨rfl, rfl, fun _ _ => rfl⟩)
  refine ⟨by rw [e1, ← eff], Ow', (fun q => TH q ∨ q = p), ud ty p lab, fr, too, mc, r, (ud no v p, ed, fun q => if q = p then fun _ => 0 else fm q), ?_, by omega, F2.sub (fun q _ z => by have := hfr q z; unfold FG; omega), by omega, by omega⟩
  have eN : ((cN (ud no v p, ed, fun q => if q = p then fun _ => 0 else fm q) : Nat) : Int) = cN (no, ed, fm) + 1 := by
    have := sm_udI (f := no) (v := v) (w := p) (n := 400) ⟨v1, by omega⟩
    rw [if_pos v3, if_neg hp0] at this
    unfold cN
    show ((sm (has (ud no v p)) 400 : Nat) : Int) = _
    rw [show sm (has (ud no v p)) 400 = sm (has no) 400 + 1 by omega]
    rfl
  have eP : cP (ud no v p, ed, fun q => if q = p then fun _ => 0 else fm q) = cP (no, ed, fm) := by
    have a := cP_node (no := no) (ed := ed) (fm := fun q => if q = p then fun _ => 0 else fm q) (v := v) (p := p) ⟨v1, by omega⟩
    rw [v3, cP_new pn pe] at a
    have z1 : szT (fun q => if q = p then (fun _ => 0 : F1) else fm q) p = 0 := by
      show (if p = 0 then 0 else sm (has (if p = p then (fun _ => 0 : F1) else fm p)) 32) = 0
      rw [if_neg hp0, if_pos rfl, sm_none]
    have z0 : szT (fun q => if q = p then (fun _ => 0 : F1) else fm q) 0 = 0 := if_pos rfl
    omega
  refine h.step F2 O2 (fun q z => by have := hfr q z; omega) ?_ S2 hK (Or.inl ⟨k2, ?_, fun e he => ?_⟩) ?_ ?_ ?_ h6
  · rw [eN, eP]
    exact G2
  · show ud no v p (ld y.2 r 0) ≠ 0
    rw [r0, ud_eq]; exact hp0
  · have b := h1.2.2.2.2.2.2.2.1 e he
    rw [r0]
    exact ⟨fun z => b.2.2.2.2.1 (by rw [z]; exact v3), fun z => b.2.2.2.2.2 (by rw [z]; exact v3)⟩
  · rw [und6 k2, r0]
    exact ⟨ud_back v3, rfl, fun q hq => if_neg (fun z : q = p => pT (z ▸ hq))⟩
  · exact LK2.node hG ⟨v1, by omega⟩ v3 v4 hp0 pn pe hb
  · exact Or.inl ⟨rfl, hb, by have := hB.1; have := (bndG_ff (k := 400) hB.1 (by omega)).1; omega⟩
set_option maxHeartbeats 1000000 in
theorem CI.edge {n : Nat} {lab a b : Int} (hn : 1000000 ≤ n) (h : CI σ Ow TH ty fr too mc L S l) (hl : l.length ≤ 63) (ha : nodeAt (run l) a) (hb : nodeAt (run l) b) (hlab : 0 ≤ lab ∧ lab < 32) : Wp (f_X1_edge n 1000 a b lab σ) fun y => y.1 = .inr ((ff (gt (run l)) 1000 0 : Nat) : Int) ∧ CStep σ mc L l (1, a, b, lab, 0) y.2 := by
  have low := h.low (by omega)
  obtain ⟨l1, l2, l3, l4, l5, l6, hLK, hG, hB⟩ := low
  have h' := h
  obtain ⟨h1, h2, h3, h4, h5, h6⟩ := h'
  obtain ⟨no, ed, fm⟩ := S
  change GI σ Ow TH fm no ed ty fr too mc _ _ _ at h1
  have n64 : ed 64 = 0 := Classical.not_not.mp fun z => by have := l6 64 z; omega
  have hx := h1.1
  have na : no a ≠ 0 := (hLK.1 a).mpr ha.2.2
  have nb : no b ≠ 0 := (hLK.1 b).mpr hb.2.2
  refine wp_mono (X1_edge_ok (K := 64) (M := 64) hn h1 h2 na nb hlab ⟨by decide, by decide, n64⟩ ⟨by omega, by omega⟩ ⟨by omega, by omega⟩ h6 (fun i hi => (l6 i hi).2) ⟨by decide, by decide⟩ (by omega)) fun y hq => ?_
  obtain ⟨v, Ow', p, r, e1, v1, v2, v3, v4, ep, pT, G2, S2, k2, r0, F2, O2, n2, u2⟩ := hq
  have hfr : ∀ q, (S3 q ∨ SN Ow q ∨ SD Ow q) → 1001 ≤ q ∧ (q ≤ 1005 ∨ (1054 ≤ q ∧ 2 ≤ Ow q)) := fun q z => by
    rcases z with (z | z | z) | z | (z | z)
    · omega
    · omega
    · omega
    · unfold SN at z; omega
    · omega
    · refine ⟨by omega, ?_⟩
      by_cases c5 : q ≤ 1005
      · exact Or.inl c5
      · by_cases c6 : 1054 ≤ q
        · exact Or.inr ⟨c6, by omega⟩
        · have := h5 q (by omega) (by omega); omega
  have pn : ∀ i, no i ≠ p := fun i z => by
    have := h1.th (h1.2.2.2.2.2.2.1 i (by omega)).2.2.1
    omega
  have pe : ∀ i, ed i ≠ p := fun i z => by
    have := h1.th (h1.2.2.2.2.2.2.2.1 i (by omega)).2.2.1
    omega
  have hk0 := h1.kp F2 O2 (fun q z => by have := hfr q z; omega)
  have hK : Kp σ Ow TH ty fr too y.2 Ow' (fun q => TH q ∨ q = p) (ud ty p lab) (ud fr p a) (ud too p b) := ⟨hk0.1, fun q hq => ⟨Or.inl hq, (hk0.2 q hq).2.1, ud_ne (fun z => pT (z ▸ hq)), ud_ne (fun z => pT (z ▸ hq)), ud_ne (fun z => pT (z ▸ hq))⟩⟩
  have eff := ff_at (n := 1000) hLK.2.1 ⟨v1, by omega⟩ v3 v4
  have hp0 : p ≠ 0 := by omega
  have LK1 := (hLK.keep hk0 h1.sn (S' := (no, ed, fm)) ⟨rfl, rfl, fun _ _ => rfl⟩)
  refine ⟨by rw [e1, ← eff], Ow', (fun q => TH q ∨ q = p), ud ty p lab, ud fr p a, ud too p b, mc, r, (no, ud ed v p, fun q => if q = p then fun _ => 0 else fm q), ?_, by omega, F2.sub (fun q _ z => by have := hfr q z; unfold FG; omega), by omega, by omega⟩
  have eN : ((cE (no, ud ed v p, fun q => if q = p then fun _ => 0 else fm q) : Nat) : Int) = cE (no, ed, fm) + 1 := by
    have := sm_udI (f := ed) (v := v) (w := p) (n := 1000) ⟨v1, by omega⟩
    rw [if_pos v3, if_neg hp0] at this
    unfold cE
    show ((sm (has (ud ed v p)) 1000 : Nat) : Int) = _
    rw [show sm (has (ud ed v p)) 1000 = sm (has ed) 1000 + 1 by omega]
    rfl
  have eP : cP (no, ud ed v p, fun q => if q = p then fun _ => 0 else fm q) = cP (no, ed, fm) := by
    have a := cP_edge (no := no) (ed := ed) (fm := fun q => if q = p then fun _ => 0 else fm q) (v := v) (p := p) ⟨v1, by omega⟩
    rw [v3, cP_new pn pe] at a
    have z1 : szT (fun q => if q = p then (fun _ => 0 : F1) else fm q) p = 0 := by
      show (if p = 0 then 0 else sm (has (if p = p then (fun _ => 0 : F1) else fm p)) 32) = 0
      rw [if_neg hp0, if_pos rfl, sm_none]
    have z0 : szT (fun q => if q = p then (fun _ => 0 : F1) else fm q) 0 = 0 := if_pos rfl
    omega
  refine h.step F2 O2 (fun q z => by have := hfr q z; omega) ?_ S2 hK (Or.inr (Or.inl ⟨k2, ?_⟩)) ?_ ?_ ?_ h6
  · rw [eN, eP]
    exact G2
  · show ud ed v p (ld y.2 r 0) ≠ 0
    rw [r0, ud_eq]; exact hp0
  · rw [und7 k2, r0]
    exact ⟨rfl, ud_back v3, fun q hq => if_neg (fun z : q = p => pT (z ▸ hq))⟩
  · exact LK1.edge hG ⟨v1, by omega⟩ v3 v4 hp0 pn pe hlab
  · exact Or.inr (Or.inl ⟨rfl, ha, hb, hlab, by have := (bndG_ff (k := 1000) hB.2.1 (by omega)).1; omega⟩)
set_option maxHeartbeats 1000000 in
theorem CI.dropN {n : Nat} (hn : 1000000 ≤ n) (h : CI σ Ow TH ty fr too mc L S l) (hl : l.length ≤ 63) (hv : nodeAt (run l) v) (hfree : ∀ e, gt (run l) e ≠ -1 → gf (run l) e ≠ v ∧ go (run l) e ≠ v) : Wp (f_X1_dropNode n 1000 v σ) fun y => y.1 = .inr () ∧ CStep σ mc L l (2, v, 0, 0, 0) y.2 := by
  have low := h.low (by omega)
  obtain ⟨l1, l2, l3, l4, l5, l6, hLK, hG, hB⟩ := low
  have h' := h
  obtain ⟨h1, h2, h3, h4, h5, h6⟩ := h'
  obtain ⟨no, ed, fm⟩ := S
  change GI σ Ow TH fm no ed ty fr too mc _ _ _ at h1
  have hx := h1.1
  have nv : no v ≠ 0 := (hLK.1 v).mpr hv.2.2
  have free : ∀ e, ed e ≠ 0 → fr (ed e) ≠ v ∧ too (ed e) ≠ v := fun e he => by
    have b := (hLK.2.2.2 e he).1
    have f := hfree e ((hLK.2.1 e).mp he)
    change ty (ed e) = _ ∧ fr (ed e) = _ ∧ too (ed e) = _ at b
    rw [b.2.1, b.2.2]
    exact f
  refine wp_mono (X1_dropNode_ok hn h1 h2 nv free ⟨by omega, by omega⟩ ⟨by omega, by omega⟩ (by omega)) fun y hq => ?_
  obtain ⟨Ow', r, e1, G2, S2, k2, r0, r1, F2, O2, n2, u2⟩ := hq
  have hfr : ∀ q, (S3 q ∨ SD Ow q) → 1001 ≤ q ∧ (q ≤ 1005 ∨ (1054 ≤ q ∧ 2 ≤ Ow q)) := fun q z => by
    rcases z with (z | z | z) | (z | z)
    · omega
    · omega
    · omega
    · omega
    · refine ⟨by omega, ?_⟩
      by_cases c5 : q ≤ 1005
      · exact Or.inl c5
      · by_cases c6 : 1054 ≤ q
        · exact Or.inr ⟨c6, by omega⟩
        · have := h5 q (by omega) (by omega); omega
  have hk0 := h1.kp F2 O2 (fun q z => by have := hfr q z; omega)
  have LK1 := (hLK.keep hk0 h1.sn (S' := (no, ed, fm)) ⟨rfl, rfl, fun _ _ => rfl⟩)
  obtain ⟨q1, q2, q3, q4⟩ := h1.2.2.2.2.2.2.1 v nv
  have a9 := h1.2.2.2.2.2.2.2.2.1
  refine ⟨e1, Ow', TH, ty, fr, too, mc, r, (ud no v 0, ed, fm), ?_, by omega, F2.sub (fun q _ z => by have := hfr q z; unfold FG; omega), by omega, by omega⟩
  have eN : ((cN (ud no v 0, ed, fm) : Nat) : Int) = cN (no, ed, fm) - 1 := by
    have := sm_udI (f := no) (v := v) (w := 0) (n := 400) ⟨q1, q2⟩
    rw [if_neg nv, if_pos rfl] at this
    unfold cN
    show ((sm (has (ud no v 0)) 400 : Nat) : Int) = ((sm (has no) 400 : Nat) : Int) - 1
    omega
  have eP : ((cP (ud no v 0, ed, fm) : Nat) : Int) = cP (no, ed, fm) - sm (has (fm (no v))) 32 := by
    have a := cP_node (no := no) (ed := ed) (fm := fm) (v := v) (p := 0) ⟨q1, q2⟩
    have z1 : szT fm (no v) = sm (has (fm (no v))) 32 := if_neg nv
    have z0 : szT fm 0 = 0 := if_pos rfl
    omega
  refine h.step F2 O2 (fun q z => by have := hfr q z; omega) ?_ S2 hk0 (Or.inr (Or.inr (Or.inl ⟨k2, ?_, ?_, ?_, ?_, ?_⟩))) ?_ ?_ ?_ h6
  · rw [eN, eP]
    exact G2
  · rw [r0]; exact ⟨q1, q2⟩
  · rw [r0]; exact ud_eq
  · rw [r1]; exact q3
  · rw [r1, F2.kd (h1.th q3).2]; exact q4
  · intro i
    rw [r1]
    show ud no v 0 i ≠ no v
    rw [ud_at]
    by_cases c : i = v
    · rw [if_pos c]; exact fun z => nv z.symm
    · rw [if_neg c]; exact fun z => c (a9 v i nv z.symm).symm
  · rw [und8 k2, r0, r1]
    exact ⟨ud_back rfl, rfl, fun q hq => rfl⟩
  · exact LK1.dropN
  · exact Or.inr (Or.inr (Or.inl ⟨rfl, hv, hfree⟩))
set_option maxHeartbeats 1000000 in
theorem CI.dropE {n : Nat} (hn : 1000000 ≤ n) (h : CI σ Ow TH ty fr too mc L S l) (hl : l.length ≤ 63) (hv : edgeAt (run l) v) : Wp (f_X1_dropEdge n 1000 v σ) fun y => y.1 = .inr () ∧ CStep σ mc L l (3, v, 0, 0, 0) y.2 := by
  have low := h.low (by omega)
  obtain ⟨l1, l2, l3, l4, l5, l6, hLK, hG, hB⟩ := low
  have h' := h
  obtain ⟨h1, h2, h3, h4, h5, h6⟩ := h'
  obtain ⟨no, ed, fm⟩ := S
  change GI σ Ow TH fm no ed ty fr too mc _ _ _ at h1
  have hx := h1.1
  have nv : ed v ≠ 0 := (hLK.2.1 v).mpr hv.2.2
  refine wp_mono (X1_dropEdge_ok hn h1 h2 nv ⟨by omega, by omega⟩ ⟨by omega, by omega⟩ (by omega)) fun y hq => ?_
  obtain ⟨Ow', r, e1, G2, S2, k2, r0, r1, F2, O2, n2, u2⟩ := hq
  have hfr : ∀ q, (S3 q ∨ SN Ow q ∨ SD Ow q) → 1001 ≤ q ∧ (q ≤ 1005 ∨ (1054 ≤ q ∧ 2 ≤ Ow q)) := fun q z => by
    rcases z with (z | z | z) | z | (z | z)
    · omega
    · omega
    · omega
    · unfold SN at z; omega
    · omega
    · refine ⟨by omega, ?_⟩
      by_cases c5 : q ≤ 1005
      · exact Or.inl c5
      · by_cases c6 : 1054 ≤ q
        · exact Or.inr ⟨c6, by omega⟩
        · have := h5 q (by omega) (by omega); omega
  have hk0 := h1.kp F2 O2 (fun q z => by have := hfr q z; omega)
  have LK1 := (hLK.keep hk0 h1.sn (S' := (no, ed, fm)) ⟨rfl, rfl, fun _ _ => rfl⟩)
  obtain ⟨q1, q2, q3, q4, q5, q6⟩ := h1.2.2.2.2.2.2.2.1 v nv
  have a9 := h1.2.2.2.2.2.2.2.2.2.1
  refine ⟨e1, Ow', TH, ty, fr, too, mc, r, (no, ud ed v 0, fm), ?_, by omega, F2.sub (fun q _ z => by have := hfr q z; unfold FG; omega), by omega, by omega⟩
  have eN : ((cE (no, ud ed v 0, fm) : Nat) : Int) = cE (no, ed, fm) - 1 := by
    have := sm_udI (f := ed) (v := v) (w := 0) (n := 1000) ⟨q1, q2⟩
    rw [if_neg nv, if_pos rfl] at this
    unfold cE
    show ((sm (has (ud ed v 0)) 1000 : Nat) : Int) = ((sm (has ed) 1000 : Nat) : Int) - 1
    omega
  have eP : ((cP (no, ud ed v 0, fm) : Nat) : Int) = cP (no, ed, fm) - sm (has (fm (ed v))) 32 := by
    have a := cP_edge (no := no) (ed := ed) (fm := fm) (v := v) (p := 0) ⟨q1, q2⟩
    have z1 : szT fm (ed v) = sm (has (fm (ed v))) 32 := if_neg nv
    have z0 : szT fm 0 = 0 := if_pos rfl
    omega
  refine h.step F2 O2 (fun q z => by have := hfr q z; omega) ?_ S2 hk0 (Or.inr (Or.inr (Or.inr (Or.inl ⟨k2, ?_, ?_, ?_, ?_, ?_, ?_, ?_⟩)))) ?_ ?_ ?_ h6
  · rw [eN, eP]
    exact G2
  · rw [r0]; exact ⟨q1, q2⟩
  · rw [r0]; exact ud_eq
  · rw [r1]; exact q3
  · rw [r1, F2.kd (h1.th q3).2]; exact q4
  · intro i
    rw [r1]
    show ud ed v 0 i ≠ ed v
    rw [ud_at]
    by_cases c : i = v
    · rw [if_pos c]; exact fun z => nv z.symm
    · rw [if_neg c]; exact fun z => c (a9 v i nv z.symm).symm
  · rw [r1]; exact q5
  · rw [r1]; exact q6
  · rw [und9 k2, r0, r1]
    exact ⟨rfl, ud_back rfl, fun q hq => rfl⟩
  · exact LK1.dropE
  · exact Or.inr (Or.inr (Or.inr (Or.inl ⟨rfl, hv⟩)))
/-- the thing of a number -/
theorem thing_lk (hG : GI σ Ow TH fm no ed ty fr too mc c1 c2 c3) (h : LK σ ty fr too (no, ed, fm) (run l)) {a b : Int} (ha : a = 0 ∨ a = 1) (ht : thingAt (run l) a b) : (if a = 0 then no b else ed b) ≠ 0 ∧ ((∃ i, no i = (if a = 0 then no b else ed b)) ∨ ∃ i, ed i = (if a = 0 then no b else ed b)) ∧ (∀ i, no i ≠ 0 → (no i = (if a = 0 then no b else ed b) ↔ a = 0 ∧ i = b)) ∧ (∀ i, ed i ≠ 0 → (ed i = (if a = 0 then no b else ed b) ↔ a = 1 ∧ i = b)) ∧ ∀ k, pv σ (fm (if a = 0 then no b else ed b) k) = lk a b k (gp (run l)) := by
  have a7 := hG.2.2.2.2.2.2.1
  have a8 := hG.2.2.2.2.2.2.2.1
  have a9 := hG.2.2.2.2.2.2.2.2.1
  have a10 := hG.2.2.2.2.2.2.2.2.2.1
  have ap : ∀ i j, no i ≠ 0 → ed j ≠ 0 → no i ≠ ed j := fun i j e1 e2 z => by
    have h1 := (a7 i e1).2.2.2
    have h2 := (a8 j e2).2.2.2.1
    rw [z] at h1
    omega
  rcases ha with e | e
  · rw [if_pos e]
    have hn : no b ≠ 0 := by
      rcases ht with q | q
      · exact (h.1 b).mpr q.2.2.2
      · omega
    refine ⟨hn, Or.inl ⟨b, rfl⟩, fun i hi => ⟨fun z => ⟨e, a9 i b hi z⟩, fun z => by rw [z.2]⟩, fun i hi => ⟨fun z => absurd z.symm (ap b i hn hi), fun z => by omega⟩, ?_⟩
    rw [e]
    exact (h.2.2.1 b hn).2
  · rw [if_neg (by omega)]
    have hn : ed b ≠ 0 := by
      rcases ht with q | q
      · omega
      · exact (h.2.1 b).mpr q.2.2.2
    refine ⟨hn, Or.inr ⟨b, rfl⟩, fun i hi => ⟨fun z => absurd z (ap i b hi hn), fun z => by omega⟩, fun i hi => ⟨fun z => ⟨e, a10 i b hi z⟩, fun z => by rw [z.2]⟩, ?_⟩
    rw [e]
    exact (h.2.2.2 b hn).2
theorem CI.prop {w : Int} {a b : Int} (h : CI σ Ow TH ty fr too mc L (no, ed, fm) l) (hl : l.length ≤ 63) (ha : a = 0 ∨ a = 1) (ht : thingAt (run l) a b) (hk : 0 ≤ key ∧ key < 32) (hq : Put10 σ Ow TH fm no ed ty fr too mc (cN (no, ed, fm)) (cE (no, ed, fm)) (cP (no, ed, fm)) L (if a = 0 then no b else ed b) key w y) (hc : okC (run l) c) (hL : LK y ty fr too (no, ed, fm) (run l) → (∀ i, no i ≠ 0 → (no i = (if a = 0 then no b else ed b) ↔ a = 0 ∧ i = b)) → (∀ i, ed i ≠ 0 → (ed i = (if a = 0 then no b else ed b) ↔ a = 1 ∧ i = b)) → LK y ty fr too (no, ed, fun q => if q = (if a = 0 then no b else ed b) then ud (fm (if a = 0 then no b else ed b)) key w else fm q) (actG (run l) c)) : CStep σ mc L l c y := by
  have low := h.low (by omega)
  obtain ⟨l1, l2, l3, l4, l5, l6, hLK, hG, hB⟩ := low
  have h' := h
  obtain ⟨h1, h2, h3, h4, h5, h6⟩ := h'
  change GI σ Ow TH fm no ed ty fr too mc _ _ _ at h1
  obtain ⟨p0, pp, pn, pe, -⟩ := thing_lk h1 hLK ha ht
  have hth : TH (if a = 0 then no b else ed b) := (thing_at h1 rfl p0).1
  have p1 := h1.one p0 pp
  generalize (if a = 0 then no b else ed b) = p at *
  obtain ⟨Ow', r, G2, S2, k2, r0, r1, r2, w2, F2, O2, n2, u2⟩ := hq
  have hk0 := h1.kp F2 O2 (fun q z => by omega)
  have LK1 := (hLK.keep hk0 h1.sn (S' := (no, ed, fm)) ⟨rfl, rfl, fun _ _ => rfl⟩)
  refine ⟨Ow', TH, ty, fr, too, mc + 1, r, (no, ed, fun q => if q = p then ud (fm p) key w else fm q), ?_, by omega, F2.sub (fun q _ z => by unfold FG; omega), by omega, by omega⟩
  have eP : ((cP (no, ed, fun q => if q = p then ud (fm p) key w else fm q) : Nat) : Int) = cP (no, ed, fm) + (if w = 0 then 0 else 1) - (if fm p key = 0 then 0 else 1) := by
    have := cP_prop (fm := fm) (w := w) hk p0 p1
    by_cases e1 : w = 0
    · by_cases e2 : fm p key = 0
      · rw [if_pos e1, if_pos e2] at this ⊢; omega
      · rw [if_pos e1, if_neg e2] at this ⊢; omega
    · by_cases e2 : fm p key = 0
      · rw [if_neg e1, if_pos e2] at this ⊢; omega
      · rw [if_neg e1, if_neg e2] at this ⊢; omega
  have eo : ∀ k, fm p k ≠ 0 → Box y Ow' (fm p k) := fun k hk => (hk0.1 _ (h1.sn.2.2 p hth k hk)).1
  refine h.step F2 O2 (fun q z => by omega) ?_ S2 hk0 (Or.inr (Or.inr (Or.inr (Or.inr ⟨k2, ?_, ?_, ?_, ?_⟩)))) ?_ (hL LK1 pn pe) hc (by omega)
  · rw [eP]
    exact G2
  · rw [r0]; exact hth
  · rw [r1]; exact hk
  · rw [r2]
    by_cases e : fm p key = 0
    · exact Or.inl e
    · exact Or.inr (eo key e)
  · rw [r0]; exact pp
  · rw [und10 k2, r0, r1, r2]
    refine ⟨rfl, rfl, fun q hq => ?_⟩
    show (if q = p then ud (if q = p then ud (fm p) key w else fm q) key (fm p key) else (if q = p then ud (fm p) key w else fm q)) = fm q
    by_cases e : q = p
    · rw [if_pos e, if_pos e, e, ud_back rfl]
    · rw [if_neg e, if_neg e]
set_option maxHeartbeats 1000000 in
theorem CI.put {n : Nat} {a b d : Int} (hn : 1000000 ≤ n) (h : CI σ Ow TH ty fr too mc L S l) (hl : l.length ≤ 63) (hmc : mc ≤ 100000) (ha : a = 0 ∨ a = 1) (ht : thingAt (run l) a b) (hk : 0 ≤ key ∧ key < 32) (hd : -2147483648 ≤ d ∧ d ≤ 2147483647) : Wp (f_X1_put n 1000 a b key d σ) fun y => y.1 = .inr (if lk a b key (gp (run l)) = none then 0 else 1) ∧ CStep σ mc L l (4, a, b, key, d) y.2 := by
  have low := h.low (by omega)
  obtain ⟨l1, l2, l3, l4, l5, l6, hLK, hG, hB⟩ := low
  have h' := h
  obtain ⟨h1, h2, h3, h4, h5, h6⟩ := h'
  obtain ⟨no, ed, fm⟩ := S
  change GI σ Ow TH fm no ed ty fr too mc _ _ _ at h1
  obtain ⟨p0, pp, pn, pe, ev⟩ := thing_lk h1 hLK ha ht
  refine wp_mono (X1_put_ok (w := d) hn h1 h2 h5 rfl p0 hk hmc ⟨by omega, by omega⟩ (by omega)) fun y hq => ?_
  obtain ⟨e1, u, u0, ud0, hq⟩ := hq
  refine ⟨?_, h.prop hl ha ht hk hq (Or.inr (Or.inr (Or.inr (Or.inr (Or.inl ⟨rfl, ht, hk, hd⟩))))) fun q1 q2 q3 => q1.put q2 q3 u0 ud0⟩
  rw [e1, ← ev key]
  unfold pv
  by_cases c : fm (if a = 0 then no b else ed b) key = 0
  · rw [if_pos c, if_pos c, if_pos rfl]
  · rw [if_neg c, if_neg c, if_neg (fun z => by cases z)]
set_option maxHeartbeats 1000000 in
theorem CI.rem {n : Nat} {a b : Int} (hn : 1000000 ≤ n) (h : CI σ Ow TH ty fr too mc L S l) (hl : l.length ≤ 63) (hmc : mc ≤ 100000) (ha : a = 0 ∨ a = 1) (ht : thingAt (run l) a b) (hk : 0 ≤ key ∧ key < 32) : Wp (f_X1_remove n 1000 a b key σ) fun y => if lk a b key (gp (run l)) = none then y = (.inr 0, σ) else y.1 = .inr 1 ∧ CStep σ mc L l (5, a, b, key, 0) y.2 := by
  have low := h.low (by omega)
  obtain ⟨l1, l2, l3, l4, l5, l6, hLK, hG, hB⟩ := low
  have h' := h
  obtain ⟨h1, h2, h3, h4, h5, h6⟩ := h'
  obtain ⟨no, ed, fm⟩ := S
  change GI σ Ow TH fm no ed ty fr too mc _ _ _ at h1
  obtain ⟨p0, pp, pn, pe, ev⟩ := thing_lk h1 hLK ha ht
  refine wp_mono (X1_remove_ok hn h1 h2 h5 rfl p0 hk hmc ⟨by omega, by omega⟩ (by omega)) fun y hq => ?_
  have e := ev key
  unfold pv at e
  by_cases c : fm (if a = 0 then no b else ed b) key = 0
  · rw [if_pos c] at hq e
    rw [if_pos e.symm]
    exact hq
  · rw [if_neg c] at hq e
    have e' : lk a b key (gp (run l)) ≠ none := by rw [← e]; exact fun z => by cases z
    rw [if_neg e']
    exact ⟨hq.1, h.prop hl ha ht hk hq.2 (Or.inr (Or.inr (Or.inr (Or.inr (Or.inr ⟨rfl, ht, hk, e'⟩))))) fun q1 q2 q3 => q1.rem hG q2 q3⟩
end CIt
