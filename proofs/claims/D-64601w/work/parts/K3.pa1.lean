/-! A NODE, side by side -/
set_option maxRecDepth 100000
/-- the first part has no edge -/
def HdP (ps : List Part) (tl : Tl) : Prop := (ps = [] → tl.1 = 0) ∧ (ps ≠ [] → pH (ps.getD 0 p0) = 0)
theorem HdP.snoc {ps : List Part} {v l : Int} {tl tl' : Tl} (h : HdP ps tl) : HdP (ps ++ [(v, l, tl)]) tl' := by
  refine ⟨fun w => absurd w (by simp), fun _ => ?_⟩
  cases ps with
  | nil => exact h.1 rfl
  | cons p ps => exact h.2 (by simp)
/-- the pattern so far, an edge waiting -/
def OPE (T : List Int) (N0 : Int) (σ : AS) (τ : TT) (q : Int) (S : PS) (ps : List Part) (ops eo : List Op) (e : Int) (tl : Tl) : Prop :=
  OKP T N0 σ τ q S ps ops ∧ OpT τ (ops ++ eo) ∧ OpsOf ps ops ∧ PndE σ e tl eo ∧ elQ σ e ∧ ((ops ++ eo).length : Int) ≤ ps.length + 4 * τ 1022 30 ∧ (ld σ 1007 5 = 0 → ∃ m : Int, 0 ≤ m ∧ WFp (fun k => τ 1036 k = 2) 0 ps m ∧ WFE (fun k => τ 1036 k = 2) m tl S.1.1.length) ∧ HdP ps tl
/-- what the twin writes while it reads a pattern -/
def PtF (τ τ' : TT) : Prop := ∀ r j, ¬ (r = 1022 ∧ ((17 ≤ j ∧ j ≤ 22) ∨ (26 ≤ j ∧ j ≤ 30) ∨ j = 32 ∨ j = 41 ∨ j = 42)) → ¬ (1034 ≤ r ∧ r ≤ 1037) → τ' r j = τ r j
theorem PtF.rf {τ : TT} : PtF τ τ := fun _ _ _ _ => rfl
theorem PtF.trans {τ τ1 τ2 : TT} (h : PtF τ τ1) (h' : PtF τ1 τ2) : PtF τ τ2 := fun r j a b => (h' r j a b).trans (h r j a b)
theorem NoF.pt {τ τ' : TT} (h : NoF τ τ') : PtF τ τ' := fun r j a b => h r j (fun w => a ⟨w.1, by omega⟩) (fun w => b (by omega))
theorem FgF.pt {τ τ' : TT} (h : FgF τ τ') : PtF τ τ' := fun r j a _ => h r j fun w => a ⟨w.1, by omega⟩
theorem LxF.pt {τ τ' : TT} (h : LxF τ τ') : PtF τ τ' := h.fg.pt
theorem OpF.pt {τ τ' : TT} (h : OpF τ τ') : PtF τ τ' := fun r j a b => h r j (fun w => b (by omega)) (fun w => a ⟨w.1, by omega⟩)
/-- the outcome of a node -/
def NP (T : List Int) (N0 U0 z k : Int) (σ : AS) (τ : TT) (q : Int) (ps : List Part) (σ' : AS) (w : Int × TT) : Prop :=
  EfW N0 σ σ' ∧ PtF τ w.2 ∧ ((w.1 = 1 ∧ ∃ q' S' ps' ops', q ≤ q' ∧ ps'.length = ps.length + 1 ∧ ShP T N0 U0 σ' z (k - 1) q' S' ∧ OPE T N0 σ' w.2 q' S' ps' ops' [] 0 tl0) ∨ (w.1 = 0 ∧ Fl T N0 U0 (z + 1) k σ' w.2))
section NG
variable {σ σ0 σ' : AS} {τ τ0 : TT} {n : Nat} {N0 U0 z k q q0 q' c p v l r C lo hi l1 l2 s0 e : Int} {T : List Int} {S : PS} {ps : List Part} {ops eo : List Op} {tl : Tl}
theorem KR.congr {τ' : TT} {m : Nat} (h : KR N0 σ τ m) (h1 : ∀ j, ld σ' (N0 + 4) j = ld σ (N0 + 4) j) (h2 : ∀ j, τ' 1036 j = τ 1036 j) : KR N0 σ' τ' m := fun i hi => by
  rw [h1, h2]; exact h i hi
/-- ops told: what one more part makes of it -/
theorem ops_snoc (hOps : OpsOf ps ops) (hE : PndE σ e tl eo) {a : Int} (ha : a = if tl.1 = 0 then 0 else 2) : OpsOf (ps ++ [(v, l, tl)]) (ops ++ eo ++ [(a, v, l, 0, 0)]) := by
  have := hOps.snoc (hE.2 v l)
  rw [List.append_assoc, ha]
  exact this
theorem lk_137 (hn : 1000000 ≤ n) (hb : BtOk T) (h : ShP T N0 U0 σ z k q S) (hO : OKA T N0 σ τ q S) (hP : PsAt σ (S.2 0) (S.2 1) ps) (hl : ps.length ≤ 11 ∧ τ 1022 29 = ps.length + 1) (h30 : ld σ 1007 2 = τ 1022 30 ∧ 0 ≤ τ 1022 30 ∧ τ 1022 30 ≤ 8) (hS : S.2 2 = [] ∧ S.2 3 = [] ∧ S.2 4 = []) (hT : OpT τ (ops ++ eo)) (hOps : OpsOf ps ops) (hE : PndE σ e tl eo) (he : elQ σ e) (hlen : ((ops ++ eo).length : Int) ≤ ps.length + 4 * τ 1022 30) (hW : ld σ 1007 5 = 0 → WFp (fun k => τ 1036 k = 2) 0 (ps ++ [(v, l, tl)]) S.1.1.length) (hv : τ 1022 41 = v) (hs : τ 1022 42 = l) {a : Int} (ha : a = if tl.1 = 0 then 0 else 2) (hz : z = 0) (hH : HdP ps tl) (hE0 : EfW N0 σ0 σ) (hF0 : PtF τ0 τ) (hq : q0 ≤ q) :
    Wp (f_X3_node_137 n 1007 e v l σ) fun σ' => Wp (g_X7_nodeText_77 n 1022 1022 a τ) fun w => NP T N0 U0 z k σ0 τ0 q0 ps σ' w := by
  obtain ⟨τ1, e1, f1, f2⟩ := op_eq (a := a) (b := v) (c := l) (d := 0) (e := 0) hT (by omega)
  rw [node_137_eq]
  unfold g_X7_nodeText_77
  rw [hv, hs]
  have hO1 : OKB T σ τ1 q S := okb_op hO.1 f2
  refine wp_gd h.2.2.2.2.1.1 (wp_c0 (wp_mono (lk_need hn hb h hO1 (r := 21) (C := 31) (by decide) (by unfold spC; omega)) fun σ1 h1 => ?_))
  refine wp_swap (wp_t0e e1 (wp_t1 (wp_mono h1 fun w hw => ?_)))
  obtain ⟨w1, w2, w3⟩ := hw
  have hle : ps.length = (S.2 0).length ∧ ps.length = (S.2 1).length := ⟨hP.1.symm, hP.2.1.symm⟩
  rcases w3 with ⟨u1, u2, q', u3, u4, u5⟩ | ⟨u1, u2⟩
  · refine wp_gd (by omega) (wp_ok ?_)
    rw [u1]
    refine wp_mono (ndAdd_wp (z' := z) (l2 := v) (s0 := l) u4 (he.frame w1.1.1) (Int.le_refl _) (by omega) (by omega) (by omega)) fun σ2 h2 => ?_
    obtain ⟨r, g1, g2, g3, g4, g5, g6, g7⟩ := h2
    have hPF : PF N0 σ σ2 := w1.1.trans g2.1
    have e30 : w.2 1022 30 = τ 1022 30 := (w2 1022 30 (by omega)).trans (f2 _ _ (by decide) (by omega))
    have e29 : w.2 1022 29 = τ 1022 29 := (w2 1022 29 (by omega)).trans (f2 _ _ (by decide) (by omega))
    have e36 : ∀ j, w.2 1036 j = τ 1036 j := fun j => (w2 1036 j (by omega)).trans (f2 _ _ (by decide) (by omega))
    have e2 : ld σ2 1007 2 = ld σ 1007 2 := (g3 2).trans w1.2.2.2.1
    have e5 : ld σ2 1007 5 = ld σ 1007 5 := (g3 5).trans w1.2.2.2.2.1
    refine ⟨hE0.trans (w1.w.trans g2.w), hF0.trans (f2.pt.trans w2.pt), Or.inl ⟨rfl, q', _, ps ++ [(v, l, tl)], ops ++ eo ++ [(a, v, l, 0, 0)], by omega, by simp, g1.mono (by omega), ⟨⟨okb_same u5 g3 rfl, hO.2.congr (fun j => (g2.2.1 j).trans (w1.2.1 j)) e36⟩, ?_, ⟨by simp; omega, by rw [e29, hl.2]; simp⟩, ⟨by rw [e2, e30]; exact h30.1, by rw [e30]; exact h30.2⟩, by unfold updF; simpa using hS⟩, ?_, ops_snoc hOps hE ha, pnd0, Or.inl rfl, ?_, fun h5 => ?_, hH.snoc⟩⟩
    · have hA := (hP.pf hPF).snoc (r := r) (e := e) (p := (v, l, tl)) ⟨g4, g5, g6, g7⟩ ((hE.1 v l).pf hPF)
      unfold updF
      simpa using hA
    · rw [List.append_nil]
      exact f1.congr (w2 1022 32 (by omega)) fun j => w2 1037 j (by omega)
    · rw [e30]
      simp at hlen ⊢
      omega
    · refine ⟨S.1.1.length, by omega, ?_, Or.inl rfl, Or.inl ⟨Or.inl rfl, rfl⟩⟩
      have := hW (by rw [← e5]; exact h5)
      simp only [e36]
      exact this
  · refine wp_gd (by omega) (wp_ok ?_)
    obtain ⟨q1, s1, s2⟩ := u2
    have hsz := s1.2.2.2.2.2.2.2.2.2.1
    refine wp_mono (ndAdd_wp (z' := z + 1) (l2 := v) (s0 := l) s1 (he.frame w1.1.1) (by omega) (by omega) (by omega) (by omega)) fun σ2 h2 => ?_
    obtain ⟨r, g1, g2, g3, g4, g5, g6, g7⟩ := h2
    refine ⟨hE0.trans (w1.w.trans g2.w), hF0.trans (f2.pt.trans w2.pt), Or.inr ⟨u1, _, q1, g1.mono (by omega), ?_⟩⟩
    unfold CF
    rw [g3, g3]
    exact s2
end NG
