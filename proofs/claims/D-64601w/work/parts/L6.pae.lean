/-! TERMS, side by side: a name and its key -/
set_option maxRecDepth 100000
/-- behind the patterns: M names were told there -/
def OKW (T : List Int) (σ : AS) (τ : TT) (q : Int) (S : PS) (M : Nat) : Prop := OKB T σ τ q S ∧ M ≤ S.1.1.length ∧ ∀ i : Nat, i < S.1.1.length → (τ 1036 i = 0 ↔ M ≤ i)
def EfX (N0 : Int) (σ σ' : AS) : Prop := PF N0 σ σ' ∧ (∀ j, ld σ' (N0 + 4) j = ld σ (N0 + 4) j) ∧ (∀ j, ld σ' N0 j = ld σ N0 j) ∧ (ld σ' 1007 5 = 0 → ld σ 1007 5 = 0)
theorem EfX.rf {N0 : Int} {σ : AS} : EfX N0 σ σ := ⟨PF.rf, fun _ => rfl, fun _ => rfl, fun w => w⟩
theorem EfX.trans {N0 : Int} {σ σ1 σ2 : AS} (h : EfX N0 σ σ1) (h' : EfX N0 σ1 σ2) : EfX N0 σ σ2 := ⟨h.1.trans h'.1, fun j => (h'.2.1 j).trans (h.2.1 j), fun j => (h'.2.2.1 j).trans (h.2.2.1 j), fun w => h.2.2.2 (h'.2.2.2 w)⟩
theorem Eff.x {N0 : Int} {σ σ' : AS} (h : Eff N0 σ σ') : EfX N0 σ σ' := ⟨h.1, h.2.1, h.2.2.1, fun w => by rw [← h.2.2.2.2.1]; exact w⟩
def NvF (τ τ' : TT) : Prop := ∀ r j, ¬ (r = 1022 ∧ ((17 ≤ j ∧ j ≤ 22) ∨ (26 ≤ j ∧ j ≤ 28) ∨ (41 ≤ j ∧ j ≤ 43))) → ¬ (1034 ≤ r ∧ r ≤ 1036) → τ' r j = τ r j
theorem NvF.rf {τ : TT} : NvF τ τ := fun _ _ _ _ => rfl
theorem NvF.trans {τ τ1 τ2 : TT} (h : NvF τ τ1) (h' : NvF τ1 τ2) : NvF τ τ2 := fun r j a b => (h' r j a b).trans (h r j a b)
theorem KyF.nv {τ τ' : TT} (h : KyF τ τ') : NvF τ τ' := fun r j a _ => h r j fun w => a ⟨w.1, by omega⟩
theorem FgF.nv {τ τ' : TT} (h : FgF τ τ') : NvF τ τ' := h.ky.nv
theorem LxF.nv {τ τ' : TT} (h : LxF τ τ') : NvF τ τ' := h.fg.nv
/-- the outcome of a key, names may have grown -/
def KyQ (T : List Int) (N0 U0 z k : Int) (σ : AS) (τ : TT) (q : Int) (S : PS) (a v : Int) (y : Int × AS) (w : Int × TT) : Prop :=
  Eff N0 σ y.2 ∧ KyF τ w.2 ∧ elQ y.2 y.1 ∧ ((w.1 = 1 ∧ ∃ q' kk, q ≤ q' ∧ ShP T N0 U0 y.2 z (k + 1) q' S ∧ OKB T y.2 w.2 q' S ∧ TrAt y.2 y.1 (v, kk, 0) ∧ w.2 1022 43 = kk ∧ -1 ≤ kk ∧ kk ≤ 31 ∧ (a ≠ 0 → 0 ≤ kk)) ∨ (w.1 = 0 ∧ Fl T N0 U0 z (k + 1) y.2 w.2))
/-- the outcome of a name and its key -/
def VlP (T : List Int) (N0 U0 z k : Int) (σ : AS) (τ : TT) (q : Int) (S : PS) (M : Nat) (a : Int) (y : Int × AS) (w : Int × TT) : Prop :=
  EfX N0 σ y.2 ∧ NvF τ w.2 ∧ elQ y.2 y.1 ∧ ((w.1 = 1 ∧ ∃ q' S' t, q ≤ q' ∧ ShP T N0 U0 y.2 z (k + 1) q' S' ∧ S'.2 = S.2 ∧ OKW T y.2 w.2 q' S' M ∧ S.1.1.length ≤ S'.1.1.length ∧ (∀ i : Nat, i < S.1.1.length → w.2 1036 i = τ 1036 i) ∧ TrAt y.2 y.1 t ∧ w.2 1022 41 = t.1 ∧ w.2 1022 43 = t.2.1 ∧ t.2.2 = 0 ∧ 0 ≤ t.1 ∧ t.1 < S'.1.1.length ∧ -1 ≤ t.2.1 ∧ t.2.1 ≤ 31 ∧ (a ≠ 0 → 0 ≤ t.2.1) ∧ (ld y.2 1007 5 = 0 → t.1 < M)) ∨ (w.1 = 0 ∧ Fl T N0 U0 z (k + 1) y.2 w.2))
section TV
variable {σ σ0 σ' : AS} {τ τ0 τ' : TT} {n M : Nat} {N0 U0 z z' k q q0 q' c p v l r C l1 l2 l4 l5 e var x a b : Int} {T : List Int} {S : PS}
theorem FlR.name (h : FlR T N0 U0 z k S σ τ) : Wp (f_X3_name n 1007 σ) fun y => FlR T N0 U0 z k S y.2 τ ∧ Eff N0 σ y.2 ∧ ld y.2 1007 3 ≠ 0 := by
  obtain ⟨q, h1, h2⟩ := h
  exact wp_mono (name_fail h1 h2) fun y hy => ⟨⟨q, hy.2.1, Or.inl hy.2.2.2⟩, hy.2.2.1, by rw [hy.2.2.2.1]; exact hy.2.2.2.2.1⟩
/-- a value in the failed mode -/
theorem value_fail (hn : 1000000 ≤ n) (hb : BtOk T) (h : FlR T N0 U0 z k S σ τ) {m : Int} : Wp (f_X3_value n 1007 m a σ) fun y => FlR T N0 U0 z (k + 1) S y.2 τ ∧ Eff N0 σ y.2 ∧ elQ y.2 y.1 := by
  obtain ⟨q, h1, h2⟩ := id h
  have h7 := h1.2.2.2.2.1
  unfold f_X3_value
  refine wp_gd h.g ?_
  rw [h7.2.1]
  refine wp_gd h1.2.2.1.1.1 (wp_nm0 (wp_gd h.g (wp_c1 (wp_mono h.name fun y hy => wp_gd hy.1.g (wp_neg hy.2.2 ?_)))))
  exact wp_mono (v33_fail hn hb hy.1) fun y' hy' => ⟨hy'.1, hy.2.1.trans hy'.2.1, hy'.2.2⟩
/-- behind the name on both sides -/
theorem lk_v33 (hn : 1000000 ≤ n) (hb : BtOk T) (h : ShP T N0 U0 σ z k (nxq T q) S) (h0 : ld σ 1007 3 = 0) (hT : TpT τ T) (h21 : τ 1022 21 = tkE T q) (hq : 0 ≤ q ∧ q ≤ T.length) (hL : Lt σ τ q) (hN : NmT τ T (S.1.1.map S.1.2)) (hqn : q ≤ nxq T q) : Wp (f_X3_value_33 n 1007 a v σ) fun y => Wp (g_X7_nameOrKey_41 n 1022 a τ) fun w => KyQ T N0 U0 z k σ τ q S a v y w := by
  rw [nameOrKey_41_eq]
  refine wp_swap (wp_t1 (wp_mono (tw_next2 (q := q) hn hb (τ := sa τ 1022 43 (-1)) ?_ ?_ hq) fun w hw => ?_))
  · exact ⟨by rw [sa_at, if_neg (by omega)]; exact hT.1, fun i hi => by rw [sa_at, if_neg (by omega)]; exact hT.2 i hi⟩
  · rw [sa_at, if_neg (by omega)]; exact h21
  obtain ⟨w1, w2⟩ := hw
  have ew : ∀ r j, ¬ (r = 1022 ∧ ((17 ≤ j ∧ j ≤ 22) ∨ j = 43)) → w.2 r j = τ r j := fun r j hh => by
    rw [w1 r j (fun u => hh ⟨u.1, Or.inl u.2⟩), sa_at, if_neg (fun u => hh ⟨u.1, Or.inr u.2⟩)]
  have F1 : KyF τ w.2 := fun r j hh => ew r j (fun u => hh ⟨u.1, by omega⟩)
  have e43 : w.2 1022 43 = -1 := by rw [w1 1022 43 (by omega), sa_at, if_pos ⟨rfl, rfl⟩]
  rcases join_next h h0 w2 ⟨by rw [ew _ _ (by omega)]; exact hT.1, fun i hi => by rw [ew _ _ (by omega)]; exact hT.2 i hi⟩ ((hL.congr rfl rfl (ew _ _ (by omega)) (ew _ _ (by omega))).le hqn) (hN.congr (ew _ _ (by omega)) fun i => ⟨ew _ _ (by omega), ew _ _ (by omega)⟩) with ⟨u1, u2⟩ | ⟨u1, u2⟩
  · refine wp_neg (by omega) (wp_swap ?_)
    refine wp_mono (lk_key hn hb h u2 e43) fun y hy => wp_mono hy fun w' hw' => ?_
    obtain ⟨g1, g2, g3, g4⟩ := hw'
    refine ⟨g1, F1.trans g2, g3, ?_⟩
    rcases g4 with ⟨x1, q1, kk, x2, x3⟩ | ⟨x1, x2⟩
    · exact Or.inl ⟨x1, q1, kk, by omega, x3⟩
    · exact Or.inr ⟨x1, S, x2⟩
  · refine wp_pos u1 (wp_ok ?_)
    obtain ⟨S1, u2⟩ := u2
    have : Wp (f_X3_value_33 n 1007 a v σ) fun y => KyQ T N0 U0 z k σ τ q S a v y (0, w.2) := wp_mono (v33_fail hn hb u2) fun y hy => ⟨hy.2.1, F1, hy.2.2, Or.inr ⟨rfl, S1, hy.1⟩⟩
    exact this
end TV
