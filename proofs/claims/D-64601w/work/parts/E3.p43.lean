/-! THE COMPONENT's STATE: graph, stack, history; counts -/
set_option maxRecDepth 100000
section CNT
variable {no ed : F1} {fm : Int → F1} {v p key w : Int}
theorem has_le {f : F1} (x : Int) : has f x ≤ 1 := by
  unfold has
  by_cases c : f x = 0
  · rw [if_pos c]; exact Nat.zero_le 1
  · rw [if_neg c]; exact Nat.le_refl 1
theorem sm_udI {f : F1} {n : Nat} (h : 0 ≤ v ∧ v < n) : sm (has (ud f v w)) n + (if f v = 0 then 0 else 1) = sm (has f) n + (if w = 0 then 0 else 1) := by
  have := sm_ud (f := f) (v := w) (n := n) (a := v.toNat) (by omega)
  rw [show ((v.toNat : Nat) : Int) = v by omega] at this
  exact this
theorem cP_node (h : 0 ≤ v ∧ v < 400) : cP (ud no v p, ed, fm) + szT fm (no v) = cP (no, ed, fm) + szT fm p := by
  unfold cP
  have := sm_one (f := fun i => szT fm (no i)) (g := fun i => szT fm (ud no v p i)) (a := v) (n := 400) (fun i hi => by show szT fm (ud no v p i) = _; rw [ud_ne hi]) h
  rw [ud_eq] at this
  show sm (fun i => szT fm (ud no v p i)) 400 + sm (fun i => szT fm (ed i)) 1000 + szT fm (no v) = sm (fun i => szT fm (no i)) 400 + sm (fun i => szT fm (ed i)) 1000 + szT fm p
  omega
theorem cP_edge (h : 0 ≤ v ∧ v < 1000) : cP (no, ud ed v p, fm) + szT fm (ed v) = cP (no, ed, fm) + szT fm p := by
  unfold cP
  have := sm_one (f := fun i => szT fm (ed i)) (g := fun i => szT fm (ud ed v p i)) (a := v) (n := 1000) (fun i hi => by show szT fm (ud ed v p i) = _; rw [ud_ne hi]) h
  rw [ud_eq] at this
  show sm (fun i => szT fm (no i)) 400 + sm (fun i => szT fm (ud ed v p i)) 1000 + szT fm (ed v) = sm (fun i => szT fm (no i)) 400 + sm (fun i => szT fm (ed i)) 1000 + szT fm p
  omega
theorem cP_new (hn : ∀ i, no i ≠ p) (he : ∀ i, ed i ≠ p) {g : F1} : cP (no, ed, fun q => if q = p then g else fm q) = cP (no, ed, fm) := by
  have key : ∀ q, q ≠ p → szT (fun q => if q = p then g else fm q) q = szT fm q := fun q hq => by
    show (if q = 0 then 0 else sm (has (if q = p then g else fm q)) 32) = szT fm q
    rw [if_neg hq]
    rfl
  unfold cP
  show sm (fun i => szT (fun q => if q = p then g else fm q) (no i)) 400 + sm (fun i => szT (fun q => if q = p then g else fm q) (ed i)) 1000 = _
  rw [sm_congr (fun i => key (no i) (hn i)), sm_congr (fun i => key (ed i) (he i))]
theorem szT_p (hk : 0 ≤ key ∧ key < 32) (h0 : p ≠ 0) : szT (fun q => if q = p then ud (fm p) key w else fm q) p + (if fm p key = 0 then 0 else 1) = szT fm p + (if w = 0 then 0 else 1) := by
  show (if p = 0 then 0 else sm (has (if p = p then ud (fm p) key w else fm p)) 32) + _ = (if p = 0 then 0 else sm (has (fm p)) 32) + _
  rw [if_neg h0, if_neg h0, if_pos rfl]
  exact sm_udI hk
theorem cP_sz {fm' : Int → F1} {a b : Nat} (ho : ∀ q, q ≠ p → szT fm' q = szT fm q) (hz : szT fm' p + a = szT fm p + b) (h : (∃ v, (0 ≤ v ∧ v < 400) ∧ no v = p ∧ (∀ i, i ≠ v → no i ≠ p) ∧ ∀ i, ed i ≠ p) ∨ ∃ v, (0 ≤ v ∧ v < 1000) ∧ ed v = p ∧ (∀ i, i ≠ v → ed i ≠ p) ∧ ∀ i, no i ≠ p) : cP (no, ed, fm') + a = cP (no, ed, fm) + b := by
  unfold cP
  show sm (fun i => szT fm' (no i)) 400 + sm (fun i => szT fm' (ed i)) 1000 + _ = sm (fun i => szT fm (no i)) 400 + sm (fun i => szT fm (ed i)) 1000 + _
  rcases h with ⟨v, a1, a2, a3, a4⟩ | ⟨v, a1, a2, a3, a4⟩
  · have := sm_one (f := fun i => szT fm (no i)) (g := fun i => szT fm' (no i)) (a := v) (n := 400) (fun i hi => ho (no i) (a3 i hi)) a1
    rw [a2] at this
    rw [sm_congr (fun i => ho (ed i) (a4 i))]
    omega
  · have := sm_one (f := fun i => szT fm (ed i)) (g := fun i => szT fm' (ed i)) (a := v) (n := 1000) (fun i hi => ho (ed i) (a3 i hi)) a1
    rw [a2] at this
    rw [sm_congr (fun i => ho (no i) (a4 i))]
    omega
theorem cP_prop (hk : 0 ≤ key ∧ key < 32) (h0 : p ≠ 0) (h : (∃ v, (0 ≤ v ∧ v < 400) ∧ no v = p ∧ (∀ i, i ≠ v → no i ≠ p) ∧ ∀ i, ed i ≠ p) ∨ ∃ v, (0 ≤ v ∧ v < 1000) ∧ ed v = p ∧ (∀ i, i ≠ v → ed i ≠ p) ∧ ∀ i, no i ≠ p) : cP (no, ed, fun q => if q = p then ud (fm p) key w else fm q) + (if fm p key = 0 then 0 else 1) = cP (no, ed, fm) + (if w = 0 then 0 else 1) := by
  refine cP_sz (fun q hq => ?_) (szT_p hk h0) h
  show (if q = 0 then 0 else sm (has (if q = p then ud (fm p) key w else fm q)) 32) = szT fm q
  rw [if_neg hq]
  rfl
theorem sm_low {f : Int → Nat} {m : Nat} (h1 : ∀ i, f i ≤ 1) (h2 : ∀ i : Int, (m : Int) ≤ i → f i = 0) : ∀ {n : Nat}, sm f n ≤ m
  | 0 => Nat.zero_le _
  | n + 1 => by
    have ih := sm_low h1 h2 (n := n)
    have l := sm_le h1 (n := n)
    unfold sm
    by_cases c : m ≤ n
    · rw [h2 n (by omega)]; omega
    · have := h1 n
      omega
end CNT
def OwZ (Ow : F1) : Prop := ∀ r, r < 1054 → r ≠ 1005 → Ow r = 0
/-- the component: L its stack, S its graph, l the changes -/
def CI (σ : AS) (Ow : F1) (TH : Int → Prop) (ty fr too : F1) (mc : Int) (L : List Int) (S : Sn) (l : List Ch) : Prop :=
  GI σ Ow TH S.2.2 S.1 S.2.1 ty fr too mc (cN S) (cE S) (cP S) ∧ StkOk σ Ow L ∧ Hist σ Ow TH ty fr too L S l ∧ okL l ∧ OwZ Ow ∧ 0 ≤ mc
section CIs
variable {σ σ' : AS} {Ow Ow' : F1} {v p r key : Int} {L : List Int} {TH : Int → Prop} {fm : Int → F1} {no ed ty fr too : F1} {mc c1 c2 c3 : Int} {X : Int → Prop} {S : Sn} {l : List Ch}
theorem GI.sn (h : GI σ Ow TH fm no ed ty fr too mc c1 c2 c3) : SnOk σ Ow TH (no, ed, fm) := ⟨fun i hi => (h.2.2.2.2.2.2.1 i hi).2.2.1, fun i hi => (h.2.2.2.2.2.2.2.1 i hi).2.2.1, fun q hq k hk => (h.2.2.2.2.2.2.2.2.2.2.2 q hq).2.2.2.2.2.2.2.1 k hk⟩
theorem GI.th (h : GI σ Ow TH fm no ed ty fr too mc c1 c2 c3) (hp : TH p) : 1054 ≤ p ∧ p < nx σ := ⟨(h.2.2.2.2.2.2.2.2.2.2.2 p hp).1, (h.2.2.2.2.2.2.2.2.2.2.2 p hp).2.1⟩
theorem GI.kp (h : GI σ Ow TH fm no ed ty fr too mc c1 c2 c3) (hF : Fr X σ σ') (hO : ∀ r, r < nx σ → Ow' r = Ow r) (hX : ∀ r, X r → 1001 ≤ r ∧ (1054 ≤ r → 2 ≤ Ow r)) : Kp σ Ow TH ty fr too σ' Ow' TH ty fr too := by
  refine ⟨fun q hq => ⟨hq.frame hF hO, ?_⟩, fun q hq => ⟨hq, hF.kd (h.th hq).2, rfl, rfl, rfl⟩⟩
  rw [hF.ld hq.2.1 (fun z => ?_)]
  have := hX q z
  have := hq.2.2.1
  have := hq.2.2.2.2
  omega
theorem Hist.frame (h : Hist σ Ow TH ty fr too L (no, ed, fm) l) (hG : GI σ Ow TH fm no ed ty fr too mc c1 c2 c3) (hL : ∀ r ∈ L, Rec σ Ow r) (hF : Fr X σ σ') (hO : ∀ r, r < nx σ → Ow' r = Ow r) (hX : ∀ r, X r → 1001 ≤ r ∧ (1054 ≤ r → 2 ≤ Ow r)) : Hist σ' Ow' TH ty fr too L (no, ed, fm) l := by
  refine h.keep (hG.kp hF hO hX) (fun r hr => ?_) hG.sn ⟨rfl, rfl, fun _ _ => rfl⟩
  have q := hL r hr
  refine ⟨hF.kd q.2.1, hF.ld q.2.1 fun z => ?_⟩
  have := hX r z
  have := q.2.2.1
  have := q.1
  omega
theorem GI.one (h : GI σ Ow TH fm no ed ty fr too mc c1 c2 c3) (h0 : p ≠ 0) (hp : (∃ i, no i = p) ∨ ∃ i, ed i = p) : (∃ v, (0 ≤ v ∧ v < 400) ∧ no v = p ∧ (∀ i, i ≠ v → no i ≠ p) ∧ ∀ i, ed i ≠ p) ∨ ∃ v, (0 ≤ v ∧ v < 1000) ∧ ed v = p ∧ (∀ i, i ≠ v → ed i ≠ p) ∧ ∀ i, no i ≠ p := by
  have a7 := h.2.2.2.2.2.2.1
  have a8 := h.2.2.2.2.2.2.2.1
  have a9 := h.2.2.2.2.2.2.2.2.1
  have a10 := h.2.2.2.2.2.2.2.2.2.1
  have ap : ∀ i j, no i = p → ed j = p → False := fun i j e1 e2 => by
    have := (a7 i (by omega)).2.2.2
    have := (a8 j (by omega)).2.2.2.1
    rw [e1] at *
    rw [e2] at *
    omega
  rcases hp with ⟨i, e⟩ | ⟨i, e⟩
  · have := a7 i (by omega)
    exact Or.inl ⟨i, ⟨this.1, this.2.1⟩, e, fun j hj q => hj (a9 j i (by omega) (q.trans e.symm)), fun j q => ap i j e q⟩
  · have := a8 i (by omega)
    exact Or.inr ⟨i, ⟨this.1, this.2.1⟩, e, fun j hj q => hj (a10 j i (by omega) (q.trans e.symm)), fun j q => ap j i q e⟩
/-- few changes: few things -/
theorem CI.low (h : CI σ Ow TH ty fr too mc L S l) (hl : l.length ≤ 64) : cN S ≤ 64 ∧ cE S ≤ 64 ∧ cP S ≤ 64 ∧ L.length ≤ l.length ∧ (∀ i, S.1 i ≠ 0 → 0 ≤ i ∧ i < 64) ∧ (∀ i, S.2.1 i ≠ 0 → 0 ≤ i ∧ i < 64) ∧ LK σ ty fr too S (run l) ∧ okG (run l) ∧ bndG (run l) l.length := by
  obtain ⟨h1, h2, h3, h4, h5⟩ := h
  have hk := h3.lk
  have hG := okL_run h4
  have hb := bnd_run (l := l) (by omega)
  obtain ⟨a1, a2, a3⟩ := hk.counts hG
  have f1 : ∀ (f : F1) (i : Int), (if f i = -1 then 0 else 1 : Nat) ≤ 1 := fun f i => by
    by_cases c : f i = -1
    · rw [if_pos c]; exact Nat.zero_le 1
    · rw [if_neg c]; exact Nat.le_refl 1
  have n1 : sm (fun i => if gl (run l) i = -1 then 0 else 1) 400 ≤ l.length := sm_low (f1 _) fun i hi => if_pos (hb.1 i hi)
  have n2 : sm (fun i => if gt (run l) i = -1 then 0 else 1) 1000 ≤ l.length := sm_low (f1 _) fun i hi => if_pos (hb.2.1 i hi)
  have n3 := hb.2.2
  refine ⟨by omega, by omega, by omega, h3.len, fun i hi => ?_, fun i hi => ?_, hk, hG, hb⟩
  · have b := (h1.2.2.2.2.2.2.1 i hi).1
    by_cases c : i < l.length
    · omega
    · exact absurd (hb.1 i (by omega)) ((hk.1 i).mp hi)
  · have b := (h1.2.2.2.2.2.2.2.1 i hi).1
    by_cases c : i < l.length
    · omega
    · exact absurd (hb.2.1 i (by omega)) ((hk.2.1 i).mp hi)
end CIs
