/-! READ, side by side: the end -/
set_option maxRecDepth 100000
def EfY (N0 : Int) (σ σ' : AS) : Prop := PF N0 σ σ' ∧ (∀ j, ld σ' (N0 + 4) j = ld σ (N0 + 4) j) ∧ (ld σ' 1007 5 = 0 → ld σ 1007 5 = 0)
theorem EfY.rf {N0 : Int} {σ : AS} : EfY N0 σ σ := ⟨PF.rf, fun _ => rfl, fun w => w⟩
theorem EfY.trans {N0 : Int} {σ σ1 σ2 : AS} (h : EfY N0 σ σ1) (h' : EfY N0 σ1 σ2) : EfY N0 σ σ2 := ⟨h.1.trans h'.1, fun j => (h'.2.1 j).trans (h.2.1 j), fun w => h.2.2 (h'.2.2 w)⟩
theorem EfX.y {N0 : Int} {σ σ' : AS} (h : EfX N0 σ σ') : EfY N0 σ σ' := ⟨h.1, h.2.1, h.2.2.2⟩
theorem Eff.y {N0 : Int} {σ σ' : AS} (h : Eff N0 σ σ') : EfY N0 σ σ' := h.x.y
/-- what the twin writes behind the conditions -/
def RdF (τ τ' : TT) : Prop := ∀ r j, ¬ (r = 1022 ∧ ((17 ≤ j ∧ j ≤ 22) ∨ (26 ≤ j ∧ j ≤ 28) ∨ j = 34 ∨ j = 36 ∨ (38 ≤ j ∧ j ≤ 43))) → ¬ (1034 ≤ r ∧ r ≤ 1040 ∧ r ≠ 1037) → τ' r j = τ r j
theorem RdF.rf {τ : TT} : RdF τ τ := fun _ _ _ _ => rfl
theorem RdF.trans {τ τ1 τ2 : TT} (h : RdF τ τ1) (h' : RdF τ1 τ2) : RdF τ τ2 := fun r j x y => (h' r j x y).trans (h r j x y)
theorem OaF.rd {τ τ' : TT} (h : OaF τ τ') : RdF τ τ' := fun r j x y => h r j (fun w => x ⟨w.1, by omega⟩) (fun w => y (by omega)) (fun w => y (by omega))
theorem IaF.rd {τ τ' : TT} (h : IaF τ τ') : RdF τ τ' := fun r j x y => h r j (fun w => x ⟨w.1, by omega⟩) (fun w => y (by omega)) (fun w => y (by omega))
theorem CaF.rd {τ τ' : TT} (h : CaF τ τ') : RdF τ τ' := fun r j x y => h r j (fun w => x ⟨w.1, by omega⟩) (fun w => y (by omega)) (fun w => y (by omega))
/-- what the twin writes while it reads -/
def RdA (τ τ' : TT) : Prop := ∀ r j, ¬ (r = 1022 ∧ 17 ≤ j ∧ j ≤ 43) → ¬ (1034 ≤ r ∧ r ≤ 1040) → τ' r j = τ r j
theorem RdA.rf {τ : TT} : RdA τ τ := fun _ _ _ _ => rfl
theorem RdA.trans {τ τ1 τ2 : TT} (h : RdA τ τ1) (h' : RdA τ1 τ2) : RdA τ τ2 := fun r j x y => (h' r j x y).trans (h r j x y)
theorem PtF.ra {τ τ' : TT} (h : PtF τ τ') : RdA τ τ' := fun r j x y => h r j (fun w => x ⟨w.1, by omega⟩) (fun w => y (by omega))
theorem RdF.ra {τ τ' : TT} (h : RdF τ τ') : RdA τ τ' := fun r j x y => h r j (fun w => x ⟨w.1, by omega⟩) (fun w => y (by omega))
theorem NvF.rd {τ τ' : TT} (h : NvF τ τ') : RdF τ τ' := h.oa.rd
def limR (a b : Int) : Prop := (a = b ∧ 0 ≤ a ∧ a ≤ 2147483647) ∨ (a = 2147483647 ∧ b = 100000)
/-- the failed end -/
def RdL (T : List Int) (N0 U0 k : Int) (y : Int × AS) (w : Int × TT) : Prop := w.1 = 0 ∧ y.1 = 0 ∧ (∃ q S, ShP T N0 U0 y.2 5 k q S) ∧ ld y.2 1007 3 = w.2 1022 17 ∧ w.2 1022 17 ≠ 0 ∧ ld y.2 1007 4 = w.2 1022 18
section RE
variable {σ σ0 σ1 σ2 σ3 σ' : AS} {τ τ0 τ' : TT} {n M : Nat} {N0 U0 z z' k q q0 q' p v l r C l1 l2 l4 l5 e var x a b c s0 hc : Int} {T : List Int} {S S' : PS} {cs : List Cnd} {its : List Trm} {os : List Odr} {t : Trm}
theorem sh_q (h : ShP T N0 U0 σ z k q S) {j : Int} (hj : 7 ≤ j) : ShP T N0 U0 (wr σ N0 j v) z k q S ∧ EfY N0 σ (wr σ N0 j v) ∧ (∀ r i, ¬ (r = N0 ∧ i = j) → ld (wr σ N0 j v) r i = ld σ r i) ∧ ld (wr σ N0 j v) N0 j = v := by
  obtain ⟨a1, a2, a3, a4, ⟨b1, b2, b3, b4, b5⟩, ⟨c1, c2⟩, ⟨d1, d2, d3, d4⟩, e1, e2, f, g1⟩ := id h
  have F : Fr (fun r => r = N0) σ (wr σ N0 j v) := Fr.wr rfl
  have o : ∀ r i, ¬ (r = N0 ∧ i = j) → ld (wr σ N0 j v) r i = ld σ r i := fun r i hr => by rw [ld_wr, if_neg hr]
  have hl : LxC (wr σ N0 j v) 1008 T q := a3.frame F (fun r hr w => by
    have w' : r = N0 := w
    rw [w', d1]; decide)
  refine ⟨h.keep F (fun r _ w => Or.inr (Or.inr (Or.inl w))) hl (fun w1 w2 w3 => by rw [o _ _ (by omega)]; exact a4 w1 w2 w3) ⟨by rw [o _ _ (by omega)]; exact b2, by rw [o _ _ (by omega)]; exact b3, by rw [o _ _ (by omega)]; exact b4, by rw [o _ _ (by omega)]; exact b5⟩ (fun i _ _ => o _ _ (by omega)) (Int.le_refl _) g1, ⟨PF.of F (fun r hr w => ?_), fun j => o _ _ (by omega), fun u => by rw [← o 1007 5 (by omega)]; exact u⟩, o, by rw [ld_wr, if_pos ⟨rfl, rfl⟩]⟩
  have w' : r = N0 := w
  rw [w']
  exact ⟨Or.inl (Int.le_refl _), by rw [d1]; exact Or.inl rfl⟩
/-- the code may be written -/
theorem sh_code (h : ShP T N0 U0 σ z k q S) {j : Int} (hj : j = 3 ∨ j = 4) : ShP T N0 U0 (wr σ 1007 j v) z k q S ∧ EfY N0 σ (wr σ 1007 j v) ∧ (∀ r i, ¬ (r = 1007 ∧ i = j) → ld (wr σ 1007 j v) r i = ld σ r i) ∧ ld (wr σ 1007 j v) 1007 j = v := by
  obtain ⟨a1, a2, a3, a4, ⟨b1, b2, b3, b4, b5⟩, ⟨c1, c2⟩, ⟨d1, d2, d3, d4⟩, e1, e2, f, g1⟩ := id h
  have F : Fr (fun r => r = 1007) σ (wr σ 1007 j v) := Fr.wr rfl
  have o : ∀ r i, ¬ (r = 1007 ∧ i = j) → ld (wr σ 1007 j v) r i = ld σ r i := fun r i hr => by rw [ld_wr, if_neg hr]
  have hl : LxC (wr σ 1007 j v) 1008 T q := a3.frame F (fun r hr w => by
    have w' : r = 1007 := w
    rw [w', b1]; decide)
  refine ⟨h.keep F (fun r _ w => Or.inl w) hl (fun w1 w2 w3 => by rw [o _ _ (by omega)]; exact a4 w1 w2 w3) ⟨by rw [o _ _ (by omega)]; exact b2, by rw [o _ _ (by omega)]; exact b3, by rw [o _ _ (by omega)]; exact b4, by rw [o _ _ (by omega)]; exact b5⟩ (fun i _ _ => o _ _ (by omega)) (Int.le_refl _) g1, ⟨PF.of F (fun r hr w => ?_), fun j => o _ _ (by omega), fun u => by rw [← o 1007 5 (by omega)]; exact u⟩, o, by rw [ld_wr, if_pos ⟨rfl, rfl⟩]⟩
  have w' : r = 1007 := w
  rw [w']
  exact ⟨Or.inr (Or.inl rfl), by rw [b1]; exact Or.inr (Or.inl rfl)⟩
theorem r166_fail (h : ShP T N0 U0 σ z k q S) (hc : ld σ 1007 3 ≠ 0) : f_X3_read_166 n 1007 σ = some (0, σ) := by
  have h7 := h.2.2.2.2.1.1
  unfold f_X3_read_166 f_X3_read_196
  rw [gd_pos h7, if_neg hc, gd_pos h7, if_neg hc]
theorem r142_fail (h : FlR T N0 U0 z k S σ τ) : Wp (f_X3_read_142 n 1007 σ) fun y => y.1 = 0 ∧ (∃ q, ShP T N0 U0 y.2 z k q S) ∧ CF1 y.2 (τ 1022 17) (τ 1022 18) ∧ Eff N0 σ y.2 := by
  obtain ⟨q, h1, h2⟩ := id h
  obtain ⟨g1, g2, g3, g4, g5, g6, g7⟩ := h1.nN
  have hl := h1.2.2.1
  unfold f_X3_read_142
  refine wp_gd h.g (wp_ite (fun c0 => wp_gd h.g ?_) fun c0 => ?_)
  · rw [g6]
    refine wp_gd g7 (wp_gdc (cmp_kinds h1.1 hl (by decide)) (wp_neg ?_ (wp_gd h.g (wp_c0 (wp_mono (wrong_fail h1 h2) fun σ1 h3 => ?_)))))
    · rw [hl.2.2.2.1, (h2.code0 c0).1]; decide
    · exact wp_of_eq (r166_fail h3.1 (by rw [h3.2.2.1]; exact h3.2.2.2.1)) ⟨rfl, ⟨q, h3.1⟩, h3.2.2, h3.2.1⟩
  · refine wp_of_eq (r166_fail h1 c0) ⟨rfl, ⟨q, h1⟩, ?_, Eff.rf⟩
    rcases h2 with w | w
    · exact w
    · exact absurd w.1 c0
theorem r118_fail (hn : 1000000 ≤ n) (hb : BtOk T) (h : FlR T N0 U0 z k S σ τ) : Wp (f_X3_read_118 n 1007 σ) fun y => y.1 = 0 ∧ (∃ q, ShP T N0 U0 y.2 z k q S) ∧ CF1 y.2 (τ 1022 17) (τ 1022 18) ∧ Eff N0 σ y.2 := by
  unfold f_X3_read_118
  exact wp_gd h.g (wp_c1e (h.takes hn hb (r := 73) (C := 19) (by decide) (by unfold spC; omega)) (wp_pos rfl (r142_fail h)))
/-- read's end, the failed mode: what follows "return" -/
theorem r80_fail (hn : 1000000 ≤ n) (hb : BtOk T) (h : FlR T N0 U0 z k S σ τ) (hz : z ≤ 4) : Wp (f_X3_read_80 n 1007 x σ) fun y => y.1 = 0 ∧ (∃ q S, ShP T N0 U0 y.2 (z + 1) k q S) ∧ CF1 y.2 (τ 1022 17) (τ 1022 18) ∧ EfY N0 σ y.2 := by
  unfold f_X3_read_80
  refine wp_gd h.g (wp_c0 (wp_mono (h.need hn hb (r := 61) (C := 14) (by decide) (by unfold spC; omega)) fun σ1 h1 => ?_))
  obtain ⟨f1, E1⟩ := h1
  obtain ⟨g1, g2, g3, g4, g5, g6, g7⟩ := f1.nN
  refine wp_gd f1.g (wp_gd f1.g (wp_c1e (f1.takes hn hb (r := 63) (C := 20) (by decide) (by unfold spC; omega)) ?_))
  rw [g3]
  refine wp_gd g4 (wp_gd (by decide) (wp_nm0 ?_))
  obtain ⟨q1, s1, c1'⟩ := id f1
  obtain ⟨t1, t2, t3, t4⟩ := sh_q (v := 0) (j := 7) s1 (by decide)
  have f2 : FlR T N0 U0 z k S (wr σ1 N0 7 0) τ := by
    refine ⟨q1, t1, ?_⟩
    unfold CF
    rw [t3 _ _ (by omega), t3 _ _ (by omega)]
    exact c1'
  generalize wr σ1 N0 7 0 = σ2 at *
  obtain ⟨n1, hn1⟩ : ∃ n1, n = n1 + 2 := ⟨n - 2, by omega⟩
  refine wp_gd f2.g (wp_c0 ?_)
  unfold f_X3_items
  have key := items_fail (x := x) hn hb f2 (by omega) (Q := n1)
  rw [← hn1] at key
  refine wp_mono key fun σ3 h3 => ?_
  obtain ⟨⟨S3, f3⟩, E3⟩ := h3
  refine wp_gd f3.g (wp_c1e (f3.takes hn hb (r := 67) (C := 16) (by decide) (by unfold spC; omega)) (wp_pos rfl ?_))
  refine wp_mono (r118_fail hn hb f3) fun y hy => ?_
  obtain ⟨y1, ⟨q4, y2⟩, y3, y4⟩ := hy
  exact ⟨y1, ⟨q4, S3, y2⟩, y3, E1.y.trans (t2.trans (E3.y.trans y4.y))⟩
end RE
