/-! PATTERNS, side by side -/
set_option maxRecDepth 100000
def EfV (N0 : Int) (σ σ' : AS) : Prop := PF N0 σ σ' ∧ (∀ j, ld σ' N0 j = ld σ N0 j) ∧ (ld σ' 1007 5 = 0 → ld σ 1007 5 = 0)
theorem EfV.rf {N0 : Int} {σ : AS} : EfV N0 σ σ := ⟨PF.rf, fun _ => rfl, fun w => w⟩
theorem EfV.trans {N0 : Int} {σ σ1 σ2 : AS} (h : EfV N0 σ σ1) (h' : EfV N0 σ1 σ2) : EfV N0 σ σ2 := ⟨h.1.trans h'.1, fun j => (h'.2.1 j).trans (h.2.1 j), fun w => h.2.2 (h'.2.2 w)⟩
theorem EfW.v {N0 : Int} {σ σ' : AS} (h : EfW N0 σ σ') : EfV N0 σ σ' := ⟨h.1, h.2.1, h.2.2.2⟩
theorem Eff.v {N0 : Int} {σ σ' : AS} (h : Eff N0 σ σ') : EfV N0 σ σ' := h.w.v
/-- the outcome of patterns -/
def PP (T : List Int) (N0 U0 k : Int) (σ : AS) (τ : TT) (q : Int) (ps : List Part) (σ' : AS) (w : Int × TT) : Prop :=
  EfV N0 σ σ' ∧ PtF τ w.2 ∧ ((w.1 = 1 ∧ ∃ q' S' ps' ops', q ≤ q' ∧ ps.length ≤ ps'.length ∧ ShP T N0 U0 σ' 0 k q' S' ∧ OPE T N0 σ' w.2 q' S' ps' ops' [] 0 tl0) ∨ (w.1 = 0 ∧ Fl T N0 U0 1 (k + 1) σ' w.2))
section PT
variable {σ σ0 σ' : AS} {τ τ0 τ' : TT} {n : Nat} {N0 U0 z z' k q q0 q' c p v l r C l1 l2 l3 l4 l5 l6 s0 e var x : Int} {T : List Int} {S : PS} {ps : List Part} {ops eo : List Op} {tl : Tl} {lo hi : Nat}
theorem sh_cnt (h : ShP T N0 U0 σ z k q S) (hz : z ≤ z') (hx : 0 ≤ x ∧ x ≤ 8 + z') : ShP T N0 U0 (wr σ 1007 2 x) z' k q S ∧ PF N0 σ (wr σ 1007 2 x) ∧ (∀ r j, r ≠ 1007 → ld (wr σ 1007 2 x) r j = ld σ r j) ∧ (∀ j, j ≠ 2 → ld (wr σ 1007 2 x) 1007 j = ld σ 1007 j) ∧ ld (wr σ 1007 2 x) 1007 2 = x := by
  obtain ⟨a1, a2, a3, a4, ⟨b1, b2, b3, b4, b5⟩, ⟨c1, c2⟩, ⟨d1, d2, d3, d4⟩, e1, e2, f, g1⟩ := id h
  have F : Fr (fun r => r = 1007) σ (wr σ 1007 2 x) := Fr.wr rfl
  have o : ∀ r j, r ≠ 1007 → ld (wr σ 1007 2 x) r j = ld σ r j := fun r j hr => by
    rw [ld_wr, if_neg (fun w => hr w.1)]
  have o7 : ∀ j, j ≠ 2 → ld (wr σ 1007 2 x) 1007 j = ld σ 1007 j := fun j hr => by
    rw [ld_wr, if_neg (fun w => hr w.2)]
  have e7 : ld (wr σ 1007 2 x) 1007 2 = x := by rw [ld_wr, if_pos ⟨rfl, rfl⟩]
  have hl : LxC (wr σ 1007 2 x) 1008 T q := a3.frame F (fun r hr w => by
    have w' : r = 1007 := w
    rw [w', b1]; decide)
  refine ⟨h.keep F (fun r _ w => Or.inl w) hl (fun w1 w2 w3 => by rw [o _ _ (by omega)]; exact a4 w1 w2 w3) ⟨by rw [o7 _ (by omega)]; exact b2, by rw [o7 _ (by omega)]; exact b3, by rw [e7]; exact hx.1, by rw [e7]; exact hx.2⟩ (fun i _ _ => o _ _ (by omega)) hz g1, PF.of F (fun r hr w => ?_), o, o7, e7⟩
  have w' : r = 1007 := w
  rw [w']
  exact ⟨Or.inr (Or.inl rfl), by rw [b1]; exact Or.inr (Or.inl rfl)⟩
theorem FlR.mono {k' : Int} (h : FlR T N0 U0 z k S σ τ) (hk : k ≤ k') : FlR T N0 U0 z k' S σ τ := by
  obtain ⟨q, h1, h2⟩ := h
  exact ⟨q, h1.mono hk, h2⟩
theorem ShP.monoz {z' : Int} (h : ShP T N0 U0 σ z k q S) (hk : z ≤ z') : ShP T N0 U0 σ z' k q S := by
  obtain ⟨a1, a2, a3, a4, ⟨b1, b2, b3, b4, b5⟩, a6, a7, a8, a9, a10, g1⟩ := h
  exact ⟨a1, a2, a3, a4, ⟨b1, b2, b3, b4, by omega⟩, a6, a7, a8, a9, by omega, g1⟩
theorem FlR.monoz (h : FlR T N0 U0 z k S σ τ) (hk : z ≤ z') : FlR T N0 U0 z' k S σ τ := by
  obtain ⟨q, h1, h2⟩ := h
  exact ⟨q, h1.monoz hk, h2⟩
theorem FlR.node (hn : 1000000 ≤ n) (hb : BtOk T) (h : FlR T N0 U0 z k S σ τ) (he : elQ σ l1) (hz : z ≤ 6) : Wp (f_X3_node n 1007 l1 σ) fun σ' => Fl T N0 U0 (z + 1) k σ' τ ∧ Eff N0 σ σ' := by
  obtain ⟨q, h1, h2⟩ := h
  refine wp_mono (node_fail hn hb h1 h2 he hz) fun σ1 h3 => ?_
  obtain ⟨⟨S', u1⟩, u2, u3⟩ := h3
  exact ⟨⟨S', q, u1, Or.inl u2⟩, u3⟩
theorem FlR.is (hn : 1000000 ≤ n) (hb : BtOk T) (h : FlR T N0 U0 z k S σ τ) (h0 : ld σ 1007 3 = 0) (hm : (r, sp C) ∈ cstr) (hC : spC C) : f_X4_is n 1008 r σ = some (0, σ) := by
  obtain ⟨q, h1, h2⟩ := h
  rw [sh_is hn hb h1 hm hC, if_neg]
  rw [(h2.code0 h0).1]
  exact fun w => spC_50 hC w.symm
/-- the loop of a pattern ends at once in the failed mode -/
theorem FlR.pat12 (hn : 1000000 ≤ n) (hb : BtOk T) (h : FlR T N0 U0 z k S σ τ) {Q : Nat} : f_X3_pattern_12 n (Q + 1) 1007 σ = some σ := by
  unfold f_X3_pattern_12
  rw [gd_pos h.g]
  by_cases c0 : ld σ 1007 3 = 0
  · obtain ⟨q, h1, h2⟩ := id h
    have h7 := h1.2.2.2.2.1
    have hl := h1.2.2.1
    rw [if_pos c0, gd_pos h.g, h7.2.1, gd_pos hl.1.1, h.is hn hb c0 (r := 23) (C := 39) (by decide) (by unfold spC; omega), c1_at, if_pos rfl, gd_pos h.g, h7.2.1, gd_pos hl.1.1, h.is hn hb c0 (r := 25) (C := 41) (by decide) (by unfold spC; omega), c1_at, if_pos rfl]
  · rw [if_neg c0]
theorem FlR.pattern (hn : 1000000 ≤ n) (hb : BtOk T) (h : FlR T N0 U0 z k S σ τ) (hz : z ≤ 6) : Wp (f_X3_pattern n 1007 σ) fun σ' => Fl T N0 U0 (z + 1) k σ' τ ∧ Eff N0 σ σ' := by
  obtain ⟨Q, hQ⟩ : ∃ Q, n = Q + 1 := ⟨n - 1, by omega⟩
  have hp : ∀ {σ1 : AS} {z1 : Int} {S1 : PS}, FlR T N0 U0 z1 k S1 σ1 τ → f_X3_pattern_12 n n 1007 σ1 = some σ1 := fun f1 => by
    have := f1.pat12 hn hb (Q := Q)
    rw [← hQ] at this
    exact this
  unfold f_X3_pattern
  refine wp_gd h.g (wp_ite (fun _ => wp_gd h.g (wp_c0 (wp_mono (h.node hn hb (Or.inl rfl) hz) fun σ1 h1 => ?_))) fun _ => ?_)
  · obtain ⟨S1, f1⟩ := h1.1
    exact wp_of_eq (hp f1) ⟨h1.1, h1.2⟩
  · exact wp_of_eq (hp h) ⟨⟨S, h.monoz (by omega)⟩, Eff.rf⟩
end PT
