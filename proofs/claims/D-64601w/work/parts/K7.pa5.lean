/-! AN EDGE, side by side: the end -/
set_option maxRecDepth 100000
/-- within an edge -/
def EI (T : List Int) (N0 : Int) (σ : AS) (τ : TT) (q : Int) (S : PS) (ps : List Part) (ops : List Op) (var : Int) : Prop :=
  OKP T N0 σ τ q S ps ops ∧ OpT τ ops ∧ OpsOf ps ops ∧ (ops.length : Int) + 4 ≤ ps.length + 4 * τ 1022 30 ∧ (ld σ 1007 5 = 0 → ∃ m : Int, 0 ≤ m ∧ WFp (fun k => τ 1036 k = 2) 0 ps m ∧ ((var = -1 ∧ (S.1.1.length : Int) = m) ∨ (var = m ∧ τ 1036 m = 2 ∧ (S.1.1.length : Int) = m + 1))) ∧ ps ≠ [] ∧ pH (ps.getD 0 p0) = 0
def EP (T : List Int) (N0 U0 z k : Int) (σ : AS) (τ : TT) (q : Int) (ps : List Part) (ops : List Op) (y : Int × AS) (w : Int × TT) : Prop :=
  EfW N0 σ y.2 ∧ PtF τ w.2 ∧ elQ y.2 y.1 ∧ ((w.1 = 1 ∧ ∃ q' S' tl eo, q ≤ q' ∧ ShP T N0 U0 y.2 z (k + 1) q' S' ∧ OPE T N0 y.2 w.2 q' S' ps ops eo y.1 tl ∧ tl.1 ≠ 0) ∨ (w.1 = 0 ∧ Fl T N0 U0 z (k + 1) y.2 w.2))
section EG
variable {σ σ0 σ' : AS} {τ τ0 τ' : TT} {n : Nat} {N0 U0 z k q q0 q' c p v l r C l1 l2 l3 l4 l5 l6 s0 e var : Int} {T : List Int} {S : PS} {ps : List Part} {ops eo : List Op} {tl : Tl} {lo hi : Nat}
theorem EI.step (h : EI T N0 σ τ q S ps ops var) (hO : OKB T σ' τ' q' S) (hE : Eff N0 σ σ') (hF : FgF τ τ') : EI T N0 σ' τ' q' S ps ops var := by
  obtain ⟨⟨hOA, hP, hl, h30, hS⟩, hT, hOps, hlen, hW, hH⟩ := h
  have e29 : τ' 1022 29 = τ 1022 29 := hF _ _ (by omega)
  have e30 : τ' 1022 30 = τ 1022 30 := hF _ _ (by omega)
  have kk : ∀ j, τ' 1036 j = τ 1036 j := fun j => hF _ _ (by omega)
  refine ⟨⟨⟨hO, hOA.2.congr hE.2.1 kk⟩, hP.pf hE.1, ⟨hl.1, by rw [e29]; exact hl.2⟩, ⟨by rw [hE.2.2.2.1, e30]; exact h30.1, by rw [e30]; exact h30.2⟩, hS⟩, hT.congr (hF _ _ (by omega)) fun j => hF _ _ (by omega), hOps, by rw [e30]; exact hlen, fun h5 => ?_, hH⟩
  rw [hE.2.2.2.2.1] at h5
  simp only [kk]
  exact hW h5
theorem e219_sh (h : ShP T N0 U0 σ z k q S) : Wp (f_X3_edge_219 n l1 l2 l3 l4 l5 l6 σ) fun y => ShP T N0 U0 y.2 z (k + 1) q S ∧ Eff N0 σ y.2 ∧ (∀ j, ld y.2 1007 j = ld σ 1007 j) ∧ (0 < y.1 ∧ y.1 < nx y.2) ∧ kd y.2 y.1 = 14 ∧ (ld y.2 y.1 0 = l2 ∧ ld y.2 y.1 1 = l3 ∧ ld y.2 y.1 2 = (if l1 = 0 then (if l6 = 0 then 0 else 1) else -1) ∧ ld y.2 y.1 3 = l4 ∧ ld y.2 y.1 4 = l5) := by
  have h1 := h.2.2.2.2.2.1
  refine wp_mono (e219_wp (by omega)) fun y hy => ?_
  obtain ⟨y1, y2, y3, y4, y5, y6⟩ := hy
  obtain ⟨s1, s2, s3⟩ := sh_fresh (cc := 1) h y6 (by omega) (by omega)
  rw [y1]
  exact ⟨s1, s2, s3, ⟨by omega, by omega⟩, y2, y3⟩
theorem FlR.takes (hn : 1000000 ≤ n) (hb : BtOk T) (h : FlR T N0 U0 z k S σ τ) (hm : (r, sp C) ∈ cstr) (hC : spC C) : f_X3_takes n 1007 r σ = some (0, σ) := by
  obtain ⟨q, h1, h2⟩ := h
  exact takes_fail hn hb h1 hm hC h2
theorem FlR.g (h : FlR T N0 U0 z k S σ τ) : kd σ 1007 = 18 := by
  obtain ⟨q, h1, h2⟩ := h
  exact h1.2.2.2.2.1.1
theorem e219_fail (h : FlR T N0 U0 z k S σ τ) : Wp (f_X3_edge_219 n l1 l2 l3 l4 l5 l6 σ) fun y => FlR T N0 U0 z (k + 1) S y.2 τ ∧ Eff N0 σ y.2 ∧ elQ y.2 y.1 := by
  obtain ⟨q, h1, h2⟩ := h
  refine wp_mono (e219_sh h1) fun y hy => ?_
  obtain ⟨y1, y2, y3, y4, y5, y6⟩ := hy
  refine ⟨⟨q, y1, ?_⟩, y2, Or.inr ⟨by omega, by omega, y4.2⟩⟩
  unfold CF
  rw [y3, y3]
  exact h2
theorem e206_fail (hn : 1000000 ≤ n) (hb : BtOk T) (h : FlR T N0 U0 z k S σ τ) : Wp (f_X3_edge_206 n 1007 l1 l2 l3 l4 l5 s0 σ) fun y => FlR T N0 U0 z (k + 1) S y.2 τ ∧ Eff N0 σ y.2 ∧ elQ y.2 y.1 := by
  unfold f_X3_edge_206
  refine wp_ite (fun _ => wp_gd h.g (wp_c0 (wp_mono (h.need hn hb (r := 23) (C := 39) (by decide) (by unfold spC; omega)) fun σ1 h1 => ?_))) fun _ => e219_fail h
  exact wp_mono (e219_fail h1.1) fun y hy => ⟨hy.1, h1.2.trans hy.2.1, hy.2.2⟩
theorem e182_fail (hn : 1000000 ≤ n) (hb : BtOk T) (h : FlR T N0 U0 z k S σ τ) : Wp (f_X3_edge_182 n 1007 l1 l2 l3 l4 l5 σ) fun y => FlR T N0 U0 z (k + 1) S y.2 τ ∧ Eff N0 σ y.2 ∧ elQ y.2 y.1 := by
  unfold f_X3_edge_182 f_X3_edge_205
  refine wp_gd h.g (wp_c0 (wp_mono (h.need hn hb (r := 33) (C := 33) (by decide) (by unfold spC; omega)) fun σ1 h1 => ?_))
  have key : ∀ s, Wp (f_X3_edge_206 n 1007 l1 l2 l3 l4 l5 s σ1) fun y => FlR T N0 U0 z (k + 1) S y.2 τ ∧ Eff N0 σ y.2 ∧ elQ y.2 y.1 := fun s => wp_mono (e206_fail hn hb h1.1) fun y hy => ⟨hy.1, h1.2.trans hy.2.1, hy.2.2⟩
  refine wp_ite (fun _ => wp_gd h1.1.g (wp_c1e (h1.1.takes hn hb (r := 35) (C := 40) (by decide) (by unfold spC; omega)) (wp_pos rfl (key 0)))) fun _ => key 0
theorem e133_fail (hn : 1000000 ≤ n) (hb : BtOk T) (h : FlR T N0 U0 z k S σ τ) : Wp (f_X3_edge_133 n 1007 l1 l2 s0 σ) fun y => FlR T N0 U0 z (k + 1) S y.2 τ ∧ Eff N0 σ y.2 ∧ elQ y.2 y.1 := by
  unfold f_X3_edge_133
  refine wp_ite (fun _ => wp_gd h.g (wp_c1e (h.takes hn hb (r := 29) (C := 37) (by decide) (by unfold spC; omega)) (wp_pos rfl (e182_fail hn hb h)))) fun _ => e182_fail hn hb h
theorem e112_fail (hn : 1000000 ≤ n) (hb : BtOk T) (h : FlR T N0 U0 z k S σ τ) : Wp (f_X3_edge_112 n 1007 l1 l2 σ) fun y => FlR T N0 U0 z (k + 1) S y.2 τ ∧ Eff N0 σ y.2 ∧ elQ y.2 y.1 := by
  unfold f_X3_edge_112
  exact wp_gd h.g (wp_c1e (h.takes hn hb (r := 19) (C := 35) (by decide) (by unfold spC; omega)) (wp_pos rfl (e133_fail hn hb h)))
theorem e17_fail (hn : 1000000 ≤ n) (hb : BtOk T) (h : FlR T N0 U0 z k S σ τ) : Wp (f_X3_edge_17 n 1007 l1 σ) fun y => FlR T N0 U0 z (k + 1) S y.2 τ ∧ Eff N0 σ y.2 ∧ elQ y.2 y.1 := by
  unfold f_X3_edge_17
  obtain ⟨q, h1, h2⟩ := id h
  refine wp_gd h.g (wp_c0 (wp_mono (need_fail hn hb h1 (r := 27) (C := 32) (by decide) (by unfold spC; omega) h2) fun σ1 h3 => ?_))
  obtain ⟨g1, g2, g3⟩ := h3
  have f1 : FlR T N0 U0 z k S σ1 τ := ⟨q, g1, Or.inl g3⟩
  refine wp_gd f1.g (wp_neg (by rw [g3.1]; exact g3.2.1) ?_)
  exact wp_mono (e112_fail hn hb f1) fun y hy => ⟨hy.1, g2.trans hy.2.1, hy.2.2⟩
/-- the end of an edge: the component has stepped, the twin tells its ops and steps -/
theorem lk_edEnd (hn : 1000000 ≤ n) (hb : BtOk T) (h : ShP T N0 U0 σ z k q S) (hI : EI T N0 σ τ q S ps ops l2) (h' : ShP T N0 U0 σ' z k (nxq T q) S) (hE : Eff N0 σ σ') (h7 : ∀ j, ld σ' 1007 j = ld σ 1007 j)
    (h45 : (l4 = 0 ∧ l5 = 0 ∧ lo = 1 ∧ hi = 1) ∨ (l2 = -1 ∧ l4 = lo ∧ l5 = hi)) (hlh : 1 ≤ lo ∧ lo ≤ hi ∧ hi ≤ 4) (hE0 : EfW N0 σ0 σ) (hF0 : PtF τ0 τ) (hq : q0 ≤ q) :
    Wp (f_X3_edge_219 n l1 l2 l3 lo hi l6 σ') fun y => Wp (g_X7_edgeText_210 n 1022 l1 l2 l3 l4 l5 l6 τ) fun w => EP T N0 U0 z k σ0 τ0 q0 ps ops y w := by
  have hh : (l4 = 0 ∧ l5 = 0 ∧ lo = 1 ∧ hi = 1) ∨ (l2 = -1 ∧ l4 = lo ∧ l5 = hi ∧ 1 ≤ hi ∧ hi ≤ 4) := h45.imp id fun u => ⟨u.1, u.2.1, u.2.2, Nat.le_trans hlh.1 hlh.2.1, hlh.2.2⟩
  have hl1 : ∀ m : Int, 0 ≤ m → l2 = m → lo = 1 ∧ hi = 1 := fun m m0 w => by
    rcases h45 with u | u
    · exact ⟨u.2.2.1, u.2.2.2⟩
    · rw [w] at u; exact absurd u.1 (by clear hh hI; omega)
  obtain ⟨⟨hOA, hP, hl, h30, hS⟩, hT, hOps, hlen, hW, hH⟩ := id hI
  have hol : ops.length ≤ 50 := by clear hW; omega
  obtain ⟨τ1, eo, e1, f1, f2, f3, f4⟩ := tw_210 (l1 := l1) (l2 := l2) (l3 := l3) (l4 := l4) (l5 := l5) (l6 := l6) (lo := lo) (hi := hi) hn hT hol hh
  rw [e1]
  refine wp_mono (e219_sh h') fun y hy => ?_
  obtain ⟨y1, y2, y3, y4, y5, y6⟩ := hy
  unfold edLast
  refine wp_t1 (wp_mono (ok_next hn hb h (okb_op hOA.1 f2) h' h7) fun w hw => ?_)
  obtain ⟨w1, w2⟩ := hw
  refine wp_gd (by rcases w2 with u | u <;> omega) (wp_ok ⟨hE0.trans (hE.w.trans y2.w), hF0.trans (f2.pt.trans w1.pt), Or.inr ⟨by omega, by omega, y4.2⟩, ?_⟩)
  have hPF : PF N0 σ y.2 := hE.1.trans y2.1
  have c7 : ∀ j, ld y.2 1007 j = ld σ 1007 j := fun j => (y3 j).trans (h7 j)
  rcases w2 with ⟨u1, u2⟩ | ⟨u1, u2⟩
  · have e29 : w.2 1022 29 = τ 1022 29 := (w1 1022 29 (by omega)).trans (f2 _ _ (by decide) (by omega))
    have e30 : w.2 1022 30 = τ 1022 30 := (w1 1022 30 (by omega)).trans (f2 _ _ (by decide) (by omega))
    have kk : ∀ j, w.2 1036 j = τ 1036 j := fun j => (w1 1036 j (by omega)).trans (f2 _ _ (by decide) (by omega))
    have hqn := nxq_le h
    refine Or.inl ⟨u1, nxq T q, S, (1, l2, l3, (if l1 = 0 then (if l6 = 0 then 0 else 1) else -1), lo, hi), eo, by omega, y1, ⟨⟨⟨okb_same u2 y3 rfl, hOA.2.congr (fun j => (y2.2.1 j).trans (hE.2.1 j)) kk⟩, hP.pf hPF, ⟨hl.1, by rw [e29]; exact hl.2⟩, ⟨by rw [c7, e30]; exact h30.1, by rw [e30]; exact h30.2⟩, hS⟩, f1.congr (w1 1022 32 (by omega)) fun j => w1 1037 j (by omega), hOps, ⟨fun v l => Or.inr ⟨⟨by show (1 : Int) ≠ 0; decide, y4.1⟩, y5, y4.2, y6⟩, f4⟩, Or.inr ⟨by omega, by omega, y4.2⟩, by rw [e30]; simp; omega, fun h5 => ?_, fun w => absurd w hH.1, fun _ => hH.2⟩, by show (1 : Int) ≠ 0; decide⟩
    rw [c7] at h5
    obtain ⟨m, m0, m1, m2⟩ := hW h5
    simp only [kk]
    refine ⟨m, m0, m1, Or.inr hlh, ?_⟩
    rcases m2 with ⟨m2, m3⟩ | ⟨m2, m3, m4⟩
    · exact Or.inl ⟨Or.inr m2, m3⟩
    · refine Or.inr ⟨by show (1 : Int) ≠ 0; decide, m2, m3, m4, ?_, ?_⟩
      · exact (hl1 m m0 m2).1
      · exact (hl1 m m0 m2).2
  · obtain ⟨q1, s1, s2⟩ := u2
    have s3 : CF T q1 y.2 (w.2 1022 17) (w.2 1022 18) := by
      unfold CF
      rw [y3, y3]
      exact s2
    -- the token that the lexer has read is the same
    have hs1 := s1.2.2.1.2.1
    have hs2 := y1.2.2.1.2.1
    have : q1 = nxq T q := by rw [← hs1, ← h'.2.2.1.2.1]
    rw [this] at s3
    exact Or.inr ⟨u1, S, nxq T q, y1, s3⟩
end EG
