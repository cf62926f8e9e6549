/-! ITEMS, side by side: all -/
set_option maxRecDepth 100000
def t0d : Trm := (0, 0, 0)
def IsAt (σ : AS) (L : List Int) (its : List Trm) : Prop := L.length = its.length ∧ ∀ i : Nat, i < its.length → TrAt σ (L.getD i 0) (its.getD i t0d)
def IsT (τ : TT) (its : List Trm) : Prop := τ 1022 36 = its.length ∧ ∀ i : Nat, i < its.length → ItT τ 1039 (4 * i) (its.getD i t0d)
def OKI (T : List Int) (N0 : Int) (σ : AS) (τ : TT) (q : Int) (S : PS) (M : Nat) (cs : List Cnd) (its : List Trm) : Prop := OKC T N0 σ τ q S M cs ∧ IsAt σ (S.2 3) its ∧ IsT τ its ∧ its.length ≤ 8 ∧ (ld σ 1007 5 = 0 → ∀ t, t ∈ its → t.1 < M)
/-- what the twin's items write -/
def IaF (τ τ' : TT) : Prop := ∀ r j, ¬ (r = 1022 ∧ ((17 ≤ j ∧ j ≤ 22) ∨ (26 ≤ j ∧ j ≤ 28) ∨ j = 36 ∨ (41 ≤ j ∧ j ≤ 43))) → ¬ (1034 ≤ r ∧ r ≤ 1036) → r ≠ 1039 → τ' r j = τ r j
theorem IaF.rf {τ : TT} : IaF τ τ := fun _ _ _ _ _ => rfl
theorem IaF.trans {τ τ1 τ2 : TT} (h : IaF τ τ1) (h' : IaF τ1 τ2) : IaF τ τ2 := fun r j x y z => (h' r j x y z).trans (h r j x y z)
theorem ItF.ia {τ τ' : TT} {b : Int} (h : ItF 1039 b τ τ') : IaF τ τ' := fun r j x y z => h r j (fun w => x ⟨w.1, by omega⟩) y fun w => z w.1
theorem NvF.ia {τ τ' : TT} (h : NvF τ τ') : IaF τ τ' := fun r j x y _ => h r j (fun w => x ⟨w.1, by omega⟩) y
theorem IsAt.pf {N0 : Int} {σ σ' : AS} {L : List Int} {its : List Trm} (h : IsAt σ L its) (hF : PF N0 σ σ') : IsAt σ' L its := ⟨h.1, fun i hi => (h.2 i hi).pf hF⟩
theorem IsAt.snoc {σ : AS} {L : List Int} {its : List Trm} {r : Int} {t : Trm} (h : IsAt σ L its) (h1 : TrAt σ r t) : IsAt σ (L ++ [r]) (its ++ [t]) := by
  obtain ⟨a1, a2⟩ := h
  refine ⟨by simp [a1], fun i hi => ?_⟩
  have hi' : i < its.length + 1 := by simpa using hi
  rw [getD_snocG (L := L) (by omega), getD_snocG hi', a1]
  by_cases c : i = its.length
  · rw [if_pos c, if_pos c]; exact h1
  · rw [if_neg c, if_neg c]; exact a2 i (by omega)
def ItsP (T : List Int) (N0 U0 z k : Int) (σ : AS) (τ : TT) (q : Int) (S : PS) (M : Nat) (cs : List Cnd) (σ' : AS) (τ' : TT) : Prop :=
  ∃ q' S' its', q ≤ q' ∧ ShP T N0 U0 σ' z k q' S' ∧ (∀ i, i ≠ 3 → S'.2 i = S.2 i) ∧ OKI T N0 σ' τ' q' S' M cs its' ∧ its' ≠ [] ∧ S.1.1.length ≤ S'.1.1.length ∧ (∀ i : Nat, i < S.1.1.length → τ' 1036 i = τ 1036 i) ∧ EfX N0 σ σ' ∧ IaF τ τ'
def ItsL (T : List Int) (N0 U0 k : Int) (σ : AS) (τ : TT) (σ' : AS) (τ' : TT) : Prop := Fl T N0 U0 1 (k + 1) σ' τ' ∧ EfX N0 σ σ' ∧ IaF τ τ'
section IJ
variable {σ σ0 σ1 σ2 σ3 σ' : AS} {τ τ0 τ' : TT} {n M : Nat} {N0 U0 z z' k q q0 q' p v l r C l1 l2 l4 l5 e var x a b c s0 : Int} {T : List Int} {S S' : PS} {cs : List Cnd} {its : List Trm}
theorem OKC.move (hO : OKC T N0 σ τ q S M cs) (hW : OKW T σ' τ' q' S' M) (hS : S'.2 2 = S.2 2) (hE : PF N0 σ σ') (h5 : ld σ' 1007 5 = 0 → ld σ 1007 5 = 0) (h34 : τ' 1022 34 = τ 1022 34) (h38 : ∀ j, τ' 1038 j = τ 1038 j) : OKC T N0 σ' τ' q' S' M cs := by
  obtain ⟨-, hA, hT, h8, hV⟩ := hO
  exact ⟨hW, by rw [hS]; exact hA.pf hE, ⟨by rw [h34]; exact hT.1, fun i hi => (hT.2 i hi).congr fun j _ _ => h38 j⟩, h8, fun u => hV (h5 u)⟩
theorem lref3 : N0 + 1 + 5 = lref N0 3 := by show N0 + 1 + 5 = N0 + 3 + ((3 : Nat) : Int); omega
theorem lref4 : N0 + 1 + 6 = lref N0 4 := by show N0 + 1 + 6 = N0 + 3 + ((4 : Nat) : Int); omega
theorem ShP.n5 (h : ShP T N0 U0 σ z k q S) : ld σ N0 5 = lref N0 3 ∧ ld σ N0 6 = lref N0 4 := by
  have hN := h.2.2.2.2.2.2.1
  exact ⟨by rw [hN.2.1 5 (by decide) (by decide)]; exact lref3, by rw [hN.2.1 6 (by decide) (by decide)]; exact lref4⟩
theorem items_0 {Q : Nat} : f_X3_items_2 n (Q + 1) 1007 x 0 σ = some σ := by
  unfold f_X3_items_2
  rw [if_pos rfl]
/-- an item (or none) is added, in the failed mode, and the loop ends -/
theorem items56_fail (hn : 1000000 ≤ n) (hb : BtOk T) (h : FlR T N0 U0 z k S σ τ) (he : elQ σ v) (hz : z ≤ 6) {Q : Nat} : Wp (f_X3_items_56 n (f_X3_items_2 n (Q + 1)) 1007 x (lref N0 3) v σ) fun σ' => Fl T N0 U0 (z + 1) (k - 3) σ' τ ∧ EfX N0 σ σ' := by
  obtain ⟨q, h1, h2⟩ := h
  have hsz := h1.2.2.2.2.2.2.2.2.2.1
  unfold f_X3_items_56
  refine wp_gd (lsok_kd h1.2.2.2.2.2.2.2.1 (by decide)) (wp_c1 (wp_mono (sh_add (i := 3) (z' := z + 1) h1 (by decide) he (by omega) (by omega) ?_) fun y hy => ?_))
  · unfold updF
    simp
    omega
  obtain ⟨g1, g2, g3⟩ := hy
  have f1 : FlR T N0 U0 (z + 1) (k - 3) (S.1, updF S.2 3 v) y.2 τ := by
    refine ⟨q, g1, ?_⟩
    unfold CF
    rw [g3, g3]
    exact h2
  refine wp_gd f1.g (wp_c1e (f1.takes hn hb (r := 37) (C := 34) (by decide) (by unfold spC; omega)) ?_)
  exact wp_of_eq items_0 ⟨⟨_, f1⟩, g2.x⟩
theorem items33_fail (hn : 1000000 ≤ n) (hb : BtOk T) (h : FlR T N0 U0 z k S σ τ) (hz : z ≤ 6) {Q : Nat} : Wp (f_X3_items_33 n (f_X3_items_2 n (Q + 1)) 1007 x σ) fun σ' => Fl T N0 U0 (z + 1) k σ' τ ∧ EfX N0 σ σ' := by
  obtain ⟨q, h1, h2⟩ := id h
  obtain ⟨g1, g2, g3, g4, g5, g6, g7⟩ := h1.nN
  have g8 := h1.n5.1
  unfold f_X3_items_33
  refine wp_gd h.g ?_
  rw [g3]
  refine wp_gd g4 (wp_gd h.g ?_)
  rw [g8]
  refine wp_ite (fun _ => wp_gd h.g (wp_c1 (wp_mono (item_fail hn hb h) fun y hy => ?_))) fun _ => ?_
  · refine wp_mono (items56_fail hn hb hy.1 hy.2.2 hz) fun σ' h' => ?_
    obtain ⟨⟨S', f⟩, E⟩ := h'
    exact ⟨⟨S', f.mono (by omega)⟩, hy.2.1.x.trans E⟩
  · refine wp_mono (items56_fail hn hb h (Or.inl rfl) hz) fun σ' h' => ?_
    obtain ⟨⟨S', f⟩, E⟩ := h'
    exact ⟨⟨S', f.mono (by omega)⟩, E⟩
theorem begins_eq (hn : 1000000 ≤ n) (hb : BtOk T) (h : ShP T N0 U0 σ z k q S) : f_X3_beginsItem n 1007 σ = some (if tkC T q = 1 ∨ tkC T q = 15 then 1 else 0, σ) := by
  obtain ⟨g1, g2, g3, g4, g5, g6, g7⟩ := h.nN
  have h7 := h.2.2.2.2.1.1
  have hl := h.2.2.1
  have hr := (sh_rng h).1
  unfold f_X3_beginsItem
  rw [gd_pos h7, g6, gd_pos g7, gdc_pos (cmp_kinds h.1 hl (by decide)), hl.2.2.2.1]
  by_cases c1 : tkC T q = 1
  · rw [if_pos ((kd_nam hr).mpr c1), if_pos (Or.inl c1)]
  rw [if_neg (fun u => c1 ((kd_nam hr).mp u)), gd_pos h7, gd_pos g7, sh_is hn hb h (r := 65) (C := 15) (by decide) (by unfold spC; omega), c1_at]
  by_cases c15 : tkC T q = 15
  · rw [if_pos c15, if_neg (show ¬ (1 : Int) = 0 by decide), if_pos (Or.inr c15)]
  · rw [if_neg c15, if_pos (show (0 : Int) = 0 from rfl), if_neg (fun u => u.elim c1 c15)]
/-- items in the failed mode -/
theorem items_fail (hn : 1000000 ≤ n) (hb : BtOk T) (h : FlR T N0 U0 z k S σ τ) (hz : z ≤ 6) {Q : Nat} : Wp (f_X3_items_2 n (Q + 2) 1007 x 1 σ) fun σ' => Fl T N0 U0 (z + 1) k σ' τ ∧ EfX N0 σ σ' := by
  obtain ⟨q, h1, h2⟩ := id h
  obtain ⟨g1, g2, g3, g4, g5, g6, g7⟩ := h1.nN
  have g8 := h1.n5.1
  have L1 := h1.2.2.2.2.2.2.2.1
  have k33 := items33_fail (x := x) hn hb h hz (Q := Q)
  unfold f_X3_items_2
  refine wp_neg (by decide) (wp_gd h.g ?_)
  rw [g3]
  refine wp_gd g4 ?_
  rw [g8]
  refine wp_gd (lsok_kd L1 (by decide)) (wp_c1e (L1.size (by decide)) (wp_ite (fun _ => wp_gd h.g (wp_c1e (begins_eq hn hb h1) ?_)) fun _ => k33))
  by_cases c0 : ld σ 1007 3 = 0
  · have e : (if tkC T q = 1 ∨ tkC T q = 15 then (1 : Int) else 0) = 0 := if_neg (by have := (h2.code0 c0).1; omega)
    rw [e]
    exact wp_pos rfl k33
  · refine wp_ite (fun _ => k33) fun _ => wp_gd h.g (wp_c0e (h.fail c0) k33)
end IJ
