/-! THE CALLS OF THE LAW on the component: what they answer, told by the plain graph -/
set_option maxRecDepth 100000
/-- the component: k changes aren't kept, l are all; m bounds the maps' counts of changes -/
def CX (σ : AS) (k : Nat) (l : List Ch) (m : Int) : Prop := ∃ Ow TH ty fr too mc L S, CI σ Ow TH ty fr too mc L S l ∧ L.length = k ∧ mc ≤ m
def FX : Int → Prop := fun r => FG r ∨ r = 1053
def Bd (σ y : AS) : Prop := Fr FX σ y ∧ nx y ≤ nx σ + 300 ∧ us y ≤ us σ + 21000
def Out (σ : AS) : Prop := kd σ 1053 = 101 ∧ ln σ 1053 = 1
section WCY
variable {α β : Type} {m : Option ((Nat ⊕ α) × AS)} {kx : Nat → AS → Option β} {k : α → AS → Option β} {Q : β → Prop}
theorem wp_cy_inr (h : Wp m fun p => ∃ a, p.1 = .inr a ∧ Wp (k a p.2) Q) : Wp (cy m kx k) Q := by
  obtain ⟨⟨e, s⟩, e1, a, e2, q⟩ := h
  change e = .inr a at e2
  rw [e1, e2]
  exact q
theorem wp_cy_inl {E : Nat} {s : AS} (e : m = some (.inl E, s)) (h : Wp (kx E s) Q) : Wp (cy m kx k) Q := by
  rw [e]
  exact h
end WCY
/-! what each call answers: code, value, change -/
def dgO (G : Gr) (v : Int) : Nat := sm (fun e => if gt G e ≠ -1 ∧ gf G e = v then 1 else 0) 1000
def dgI (G : Gr) (v : Int) : Nat := sm (fun e => if gt G e ≠ -1 ∧ go G e = v then 1 else 0) 1000
abbrev An : Type := Int × Int × List Ch
def isN (G : Gr) (v : Int) : Bool := decide (0 ≤ v ∧ v < 400 ∧ gl G v ≠ -1)
def isE (G : Gr) (v : Int) : Bool := decide (0 ≤ v ∧ v < 1000 ∧ gt G v ≠ -1)
def isS (x : Int) : Bool := decide (0 ≤ x ∧ x < 32)
def isTh (G : Gr) (s b : Int) : Bool := if s = 0 then isN G b else isE G b
def sNode (G : Gr) (a : Int) : An := if isS a = true then (0, ((ff (gl G) 400 0 : Nat) : Int), [(0, a, 0, 0, 0)]) else (1, 0, [])
def sEdge (G : Gr) (a b t : Int) : An := if isN G a = true ∧ isN G b = true then (if isS t = true then (0, ((ff (gt G) 1000 0 : Nat) : Int), [(1, a, b, t, 0)]) else (2, 0, [])) else (1, 0, [])
def sDropN (G : Gr) (v : Int) : An := if isN G v = true then (if dgO G v + dgI G v = 0 then (0, 0, [(2, v, 0, 0, 0)]) else (2, 0, [])) else (1, 0, [])
def sDropE (G : Gr) (v : Int) : An := if isE G v = true then (0, 0, [(3, v, 0, 0, 0)]) else (1, 0, [])
def sPut (G : Gr) (s b k d : Int) : An := if isTh G s b = true then (if isS k = true then (0, if lk s b k (gp G) = none then 0 else 1, [(4, s, b, k, d)]) else (2, 0, [])) else (1, 0, [])
def sRem (G : Gr) (s b k : Int) : An := if isTh G s b = true then (if isS k = true then (if lk s b k (gp G) = none then (0, 0, []) else (0, 1, [(5, s, b, k, 0)])) else (2, 0, [])) else (1, 0, [])
def sHas (G : Gr) (s b k : Int) : An := if isTh G s b = true then (if isS k = true then (0, if lk s b k (gp G) = none then 0 else 1, []) else (2, 0, [])) else (1, 0, [])
def sGet (G : Gr) (s b k : Int) : An := if isTh G s b = true then (if isS k = true then (0, (lk s b k (gp G)).getD 0, []) else (2, 0, [])) else (1, 0, [])
def sOfN (G : Gr) (v w : Int) : An := if isN G v = true then (if w = 0 then (0, gl G v, []) else if w = 1 then (0, (dgO G v : Nat), []) else if w = 2 then (0, (dgI G v : Nat), []) else if w = 3 then (0, (ctT 0 v (gp G) : Nat), []) else (2, 0, [])) else (1, 0, [])
def sOfE (G : Gr) (v w : Int) : An := if isE G v = true then (if w = 0 then (0, gt G v, []) else if w = 1 then (0, gf G v, []) else if w = 2 then (0, go G v, []) else if w = 3 then (0, (ctT 1 v (gp G) : Nat), []) else (2, 0, [])) else (1, 0, [])
def sEAt (G : Gr) (v t k : Int) : An := if isN G v = true then (if 0 ≤ k ∧ k < (if t = 0 then outL G v else inL G v).length then (0, (if t = 0 then outL G v else inL G v).getD k.toNat 0, []) else (1, 0, [])) else (1, 0, [])
theorem isN_iff {G : Gr} {v : Int} : isN G v = true ↔ nodeAt G v := by
  unfold isN
  rw [decide_eq_true_iff]
  exact Iff.rfl
theorem isE_iff {G : Gr} {v : Int} : isE G v = true ↔ edgeAt G v := by
  unfold isE
  rw [decide_eq_true_iff]
  exact Iff.rfl
theorem isS_iff {x : Int} : isS x = true ↔ 0 ≤ x ∧ x < 32 := by
  unfold isS
  rw [decide_eq_true_iff]
theorem isTh_iff {G : Gr} {s b : Int} (hs : s = 0 ∨ s = 1) : isTh G s b = true ↔ thingAt G s b := by
  unfold isTh thingAt
  rcases hs with e | e
  · rw [if_pos e, isN_iff]
    exact ⟨fun h => Or.inl ⟨e, h⟩, fun h => h.elim (fun q => q.2) (fun q => by omega)⟩
  · rw [if_neg (by omega), isE_iff]
    exact ⟨fun h => Or.inr ⟨e, h⟩, fun h => h.elim (fun q => by omega) (fun q => q.2)⟩
/-- .. of a call that gives nothing -/
def AnsV (σ : AS) (k : Nat) (l : List Ch) (m : Int) (a : An) (y : Int × AS) : Prop := y.1 = a.1 ∧ CX y.2 (k + a.2.2.length) (l ++ a.2.2) (m + 1) ∧ Bd σ y.2
/-- the law's call answers so -/
def Ans (σ : AS) (k : Nat) (l : List Ch) (m : Int) (a : An) (y : Int × AS) : Prop := y.1 = a.1 ∧ (a.1 = 0 → ld y.2 1053 0 = a.2.1) ∧ CX y.2 (k + a.2.2.length) (l ++ a.2.2) (m + 1) ∧ Bd σ y.2
section CXS
variable {σ σ' y : AS} {X : Int → Prop} {k : Nat} {l : List Ch} {m : Int}
theorem CX.other (h : CX σ k l m) (hF : Fr X σ σ') (hX : ∀ r, X r → r = 1000 ∨ (1006 ≤ r ∧ r ≤ 1053)) (h0 : ld σ' 1000 0 = ld σ 1000 0 ∧ ld σ' 1000 1 = ld σ 1000 1) : CX σ' k l m := by
  obtain ⟨Ow, TH, ty, fr, too, mc, L, S, ⟨h1, h2, h3, h4, h5, h6⟩, e, hm⟩ := h
  have hx := h1.1
  refine ⟨Ow, TH, ty, fr, too, mc, L, S, ⟨?_, ?_, ?_, h4, h5, h6⟩, e, hm⟩
  · have s3 := h1.2.2.1
    have s4 := h1.2.2.2.1
    have e : ∀ j, ld σ' 1001 j = ld σ 1001 j := hF.ld (by omega) (fun z => by have := hX _ z; omega)
    exact h1.frame hF (fun _ _ => rfl) (fun r z => by have := hX r z; omega) ⟨by rw [e]; exact s3.2.1, by rw [e]; exact s3.2.2.1, by rw [e]; exact s4.1, by rw [e]; exact s4.2.1, by rw [e]; exact s4.2.2⟩ (fun r a z => by have := hX r z; omega) (Int.le_refl _)
  · obtain ⟨g1, g2, g3, g4, g5, g6, g7, g8, g9, g10⟩ := h2
    have n1 := hF.1
    have x4 : ∀ j, ld σ' 1004 j = ld σ 1004 j := hF.ld (by omega) (fun z => by have := hX _ z; omega)
    have xe : ∀ j, ld σ' (ld σ 1004 0) j = ld σ (ld σ 1004 0) j := hF.ld g6 (fun z => by have := hX _ z; omega)
    exact ⟨by rw [hF.kd (by omega)]; exact g1, by rw [h0.1]; exact g2, by rw [h0.2]; exact g3, g4.frame (hF.kd (by omega)) (hF.kd g6) (hF.ln g6) x4 xe, by rw [x4]; exact g5, by rw [x4]; omega, by rw [x4]; exact g7, by rw [x4]; exact g8, by rw [x4, hF.ln g6]; exact g9, fun r hr => (g10 r hr).frame hF (fun _ _ => rfl)⟩
  · obtain ⟨no, ed, fm⟩ := S
    refine h3.keep (Ow' := Ow) (TH' := TH) (ty' := ty) (fr' := fr) (too' := too) ⟨fun q hq => ⟨hq.frame hF (fun _ _ => rfl), ?_⟩, fun q hq => ⟨hq, hF.kd (h1.th hq).2, rfl, rfl, rfl⟩⟩ (fun r hr => ?_) h1.sn ⟨rfl, rfl, fun _ _ => rfl⟩
    · rw [hF.ld hq.2.1 (fun z => ?_)]
      have := hX q z
      have := hq.2.2.2.2
      omega
    · have z := h2.2.2.2.2.2.2.2.2.2 r hr
      exact ⟨hF.kd z.2.1, hF.ld z.2.1 fun w => by have := hX r w; have := z.1; omega⟩
theorem CX.al (h : CX σ k l m) {c : Nat} {s : Int} (hs : 0 ≤ s) : CX (al σ c 0 s) k l m := by
  have hx : 1054 ≤ nx σ := by
    obtain ⟨Ow, TH, ty, fr, too, mc, L, S, h1, -⟩ := h
    exact h1.1.1
  refine h.other (X := fun _ => False) (Fr.al hs) (fun r z => z.elim) ⟨?_, ?_⟩ <;> rw [ld_al, if_neg (by omega)]
theorem CX.nx (h : CX σ k l m) : 1054 ≤ nx σ := by
  obtain ⟨Ow, TH, ty, fr, too, mc, L, S, h1, -⟩ := h
  exact h1.1.1
theorem CX.k0 (h : CX σ k l m) : kd σ 1000 = 1 := by
  obtain ⟨Ow, TH, ty, fr, too, mc, L, S, h1, -⟩ := h
  exact h1.2.1.1
theorem CX.mono {m' : Int} (h : CX σ k l m) (hm : m ≤ m') : CX σ k l m' := by
  obtain ⟨Ow, TH, ty, fr, too, mc, L, S, h1, h2, h3⟩ := h
  exact ⟨Ow, TH, ty, fr, too, mc, L, S, h1, h2, by omega⟩
end CXS
section CXT
variable {σ σ' y : AS} {k : Nat} {l : List Ch} {m : Int}
theorem CStep.cx {mc : Int} {L : List Int} {c : Ch} (h : CStep σ mc L l c y) (hL : L.length = k) (hm : mc ≤ m) : CX y (k + 1) (l ++ [c]) (m + 1) ∧ Fr FG σ y ∧ nx y ≤ nx σ + 20 ∧ us y ≤ us σ + 1000 := by
  obtain ⟨Ow', TH', ty', fr', too', mc', r, S', h1, h2, h3, h4, h5⟩ := h
  exact ⟨⟨Ow', TH', ty', fr', too', mc', r :: L, S', h1, by rw [List.length_cons, hL], by omega⟩, h3, h4, h5⟩
/-- it threw: nothing but two new cells -/
theorem ans_throw {c : Int} {e : Nat} (h : CX σ k l m) (hc : c ≠ 0) : Ans σ k l m (c, 0, []) (c, al (al σ e 0 6) 0 0 0) := by
  refine ⟨rfl, fun z => absurd z hc, ?_, ?_, ?_, ?_⟩
  · rw [List.append_nil]
    exact ((h.al (by decide)).al (by decide)).mono (by omega)
  · exact (Fr.al (by decide)).trans (Fr.al (by decide))
  · rw [nx_al, nx_al]; omega
  · rw [us_al, us_al]; omega
theorem ans_ok {v : Int} {cs : List Ch} (h : CX y (k + cs.length) (l ++ cs) (m + 1)) (hx : 1054 ≤ nx σ) (hF : Fr FG σ y) (hn : nx y ≤ nx σ + 299) (hu : us y ≤ us σ + 20900) : Ans σ k l m (0, v, cs) (0, wr y 1053 0 v) := by
  refine ⟨rfl, fun _ => by show ld (wr y 1053 0 v) 1053 0 = v; rw [ld_wr, if_pos ⟨rfl, rfl⟩], h.other (Fr.wr (S := fun r => r = 1053) rfl) (fun r z => by have z' : r = 1053 := z; omega) ⟨?_, ?_⟩, ?_, ?_, ?_⟩
  · rw [ld_wr, if_neg (fun z => by omega)]
  · rw [ld_wr, if_neg (fun z => by omega)]
  · exact (hF.sub fun r _ z => Or.inl z).trans (Fr.wr (Or.inr rfl))
  · show nx y ≤ _; omega
  · show us y ≤ _; omega
theorem out_at (ho : Out σ) (hx : 1054 ≤ nx σ) (hF : Fr FG σ y) : kd y 1053 = 101 ∧ (0 : Int) ≤ 0 ∧ 0 < ln y 1053 := ⟨by rw [hF.kd (by omega)]; exact ho.1, by decide, by rw [hF.ln (by omega), ho.2]; decide⟩
theorem isNumber_eq {a : Int} : f_X1_isNumber a σ = some (if isS a = true then 1 else 0, σ) := by
  unfold f_X1_isNumber isS
  by_cases c1 : a < 0
  · rw [if_pos c1, if_neg (by rw [decide_eq_true_iff]; omega)]
  · rw [if_neg c1]
    by_cases c2 : 32 ≤ a
    · rw [if_pos c2, if_neg (by rw [decide_eq_true_iff]; omega)]
    · rw [if_neg c2, if_pos (by rw [decide_eq_true_iff]; omega)]
theorem X0_node_law {n : Nat} {a : Int} (hn : 1000000 ≤ n) (h : CX σ k l m) (ho : Out σ) (hl : l.length ≤ 63) : Wp (f_X0_node n 1000 a 1053 σ) (Ans σ k l m (sNode (run l) a)) := by
  have hx := h.nx
  unfold f_X0_node sNode
  refine wp_gd h.k0 ?_
  by_cases c : isS a = true
  · rw [if_pos c]
    have h' := h
    obtain ⟨Ow, TH, ty, fr, too, mc, L, S, h1, h2, h3⟩ := h'
    refine wp_cy_inr (wp_mono (h1.node hn hl (isS_iff.mp c)) fun y hq => ⟨_, hq.1, ?_⟩)
    obtain ⟨h5, h6, h7, h8⟩ := hq.2.cx h2 h3
    refine wp_gd (out_at ho hx h6) ?_
    exact wp_nm0 (wp_ok (ans_ok h5 hx h6 (by omega) (by omega)))
  · rw [if_neg c]
    refine wp_cy_inl (E := 2) (s := al σ 0 0 6) ?_ ?_
    · unfold f_X1_node
      rw [isNumber_eq, if_neg c, c1_at]
      unfold f_X1_need
      rw [if_pos rfl]
      rfl
    · exact wp_pos rfl (wp_nm0 (wp_nm0 (wp_ok (ans_throw h (by decide)))))
end CXT
