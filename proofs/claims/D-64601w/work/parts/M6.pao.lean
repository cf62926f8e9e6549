/-! ITEMS, side by side: one -/
set_option maxRecDepth 100000
def ItT (τ : TT) (a b : Int) (t : Trm) : Prop := t.2.2 = 0 ∧ τ a (b + 1) = (if t.1 = -2 then -1 else t.1) ∧ τ a (b + 2) = t.2.1 ∧ ((t.1 = -2 ∧ t.2.1 = -1 ∧ τ a b = 0) ∨ (0 ≤ t.1 ∧ ((t.2.1 = -1 ∧ τ a b = 1) ∨ (0 ≤ t.2.1 ∧ t.2.1 ≤ 31 ∧ τ a b = 2))))
theorem ItT.congr {τ τ' : TT} {a b : Int} {t : Trm} (h : ItT τ a b t) (h1 : ∀ j, b ≤ j → j ≤ b + 2 → τ' a j = τ a j) : ItT τ' a b t := by
  unfold ItT at *
  rw [h1 b (by omega) (by omega), h1 (b + 1) (by omega) (by omega), h1 (b + 2) (by omega) (by omega)]
  exact h
/-- what the twin's item at b writes -/
def ItF (a b : Int) (τ τ' : TT) : Prop := ∀ r j, ¬ (r = 1022 ∧ ((17 ≤ j ∧ j ≤ 22) ∨ (26 ≤ j ∧ j ≤ 28) ∨ (41 ≤ j ∧ j ≤ 43))) → ¬ (1034 ≤ r ∧ r ≤ 1036) → ¬ (r = a ∧ b ≤ j ∧ j ≤ b + 3) → τ' r j = τ r j
theorem NvF.it {τ τ' : TT} {a b : Int} (h : NvF τ τ') : ItF a b τ τ' := fun r j h1 h2 _ => h r j h1 h2
theorem ItF.trans {τ τ1 τ2 : TT} {a b : Int} (h : ItF a b τ τ1) (h' : ItF a b τ1 τ2) : ItF a b τ τ2 := fun r j x y z => (h' r j x y z).trans (h r j x y z)
theorem itF_sa {τ : TT} {a b j v : Int} (h : b ≤ j ∧ j ≤ b + 3) : ItF a b τ (sa τ a j v) := fun r i _ _ z => by
  rw [sa_at, if_neg (fun u => z ⟨u.1, by omega⟩)]
/-- the outcome of an item -/
def ItP (T : List Int) (N0 U0 z k : Int) (σ : AS) (τ : TT) (q : Int) (S : PS) (M : Nat) (a b : Int) (y : Int × AS) (w : Int × TT) : Prop :=
  EfX N0 σ y.2 ∧ ItF a b τ w.2 ∧ elQ y.2 y.1 ∧ ((w.1 = 1 ∧ ∃ q' S' t, q ≤ q' ∧ ShP T N0 U0 y.2 z (k + 1) q' S' ∧ S'.2 = S.2 ∧ OKW T y.2 w.2 q' S' M ∧ S.1.1.length ≤ S'.1.1.length ∧ (∀ i : Nat, i < S.1.1.length → w.2 1036 i = τ 1036 i) ∧ TrAt y.2 y.1 t ∧ ItT w.2 a b t ∧ w.2 a (b + 3) = 0 ∧ t.1 < S'.1.1.length ∧ (ld y.2 1007 5 = 0 → t.1 < M) ∧ (t.1 = -2 ↔ tkC T q = 15)) ∨ (w.1 = 0 ∧ Fl T N0 U0 z (k + 1) y.2 w.2))
section II
variable {σ σ0 σ1 σ2 σ3 σ' : AS} {τ τ0 τ' : TT} {n M : Nat} {N0 U0 z z' k q q0 q' p v l r C l1 l2 l4 l5 e var x a b c s0 : Int} {T : List Int} {S : PS} {cs : List Cnd}
theorem item_fail (hn : 1000000 ≤ n) (hb : BtOk T) (h : FlR T N0 U0 z k S σ τ) {m : Int} : Wp (f_X3_item n 1007 m σ) fun y => FlR T N0 U0 z (k + 1) S y.2 τ ∧ Eff N0 σ y.2 ∧ elQ y.2 y.1 := by
  unfold f_X3_item
  exact wp_gd h.g (wp_c1e (h.takes hn hb (r := 65) (C := 15) (by decide) (by unfold spC; omega)) (wp_pos rfl (wp_gd h.g (wp_c1 (wp_mono (value_fail hn hb h) fun y hy => wp_ok hy)))))
theorem item_not (hn : 1000000 ≤ n) (hb : BtOk T) (h : ShP T N0 U0 σ z k q S) (hO : OKB T σ τ q S) (c1 : tkC T q ≠ 1) (c15 : tkC T q ≠ 15) {m : Int} : Wp (f_X3_item n 1007 m σ) fun y => FlR T N0 U0 z (k + 1) S y.2 (sa (sa τ 1022 17 2) 1022 18 q) ∧ Eff N0 σ y.2 ∧ elQ y.2 y.1 := by
  have h7 := h.2.2.2.2.1.1
  unfold f_X3_item
  exact wp_gd h7 (wp_c1e (takes_no hn hb h (r := 65) (C := 15) (by decide) (by unfold spC; omega) fun _ => c15) (wp_pos rfl (wp_gd h7 (wp_c1 (wp_mono (value_not hn hb h hO c1) fun y hy => wp_ok hy)))))
theorem lk_item (hn : 1000000 ≤ n) (hb : BtOk T) (h : ShP T N0 U0 σ z k q S) (hO : OKW T σ τ q S M) {i : Nat} (hi : i < 8) (ha : a = 1039 ∨ a = 1040) : Wp (f_X3_item n 1007 M σ) fun y => Wp (g_X7_item n 1022 a i τ) fun w => ItP T N0 U0 z k σ τ q S M a (4 * i) y w := by
  have h7 := h.2.2.2.2.1.1
  have o1 := hO.1.1
  have o2 := hO.1.2.1
  have e19 : τ 1022 19 = tkC T q := o2.2.1
  have ht : tn a = 32 := by rcases ha with w | w <;> (rw [w]; decide)
  have hqq := nxq_le h
  -- the twin behind its first look
  have e22 : g_X7_item_22 n 1022 a i τ = (if tkC T q = 15 then t1 (g_X7_next n 1022 (sa (sa (sa (sa τ a (4 * (i : Int)) 0) a (4 * (i : Int) + 1) (-1)) a (4 * (i : Int) + 2) (-1)) a (4 * (i : Int) + 3) 0)) (fun v43 τ44 => gd (0 ≤ v43 ∧ v43 ≤ 1) <| some (v43, τ44)) else t1 (g_X7_nameOrKey n 1022 0 (sa (sa (sa (sa τ a (4 * (i : Int)) 0) a (4 * (i : Int) + 1) (-1)) a (4 * (i : Int) + 2) (-1)) a (4 * (i : Int) + 3) 0)) (fun v36 τ37 => if v36 = 0 then some (0, τ37) else if (τ37 1022 43) = (-1) then g_X7_item_103 n 1022 a (4 * (i : Int)) a (4 * (i : Int)) 1 τ37 else g_X7_item_103 n 1022 a (4 * (i : Int)) a (4 * (i : Int)) 2 τ37)) := by
    unfold g_X7_item_22
    rw [if_neg (show ¬ (i : Int) = 8 by omega), gI_pos (by omega), nm_eq, ht, gd_pos (by omega), nm_eq, gI_pos (by omega), gd_pos (by omega), nm_eq, gI_pos (by omega), gd_pos (by omega), nm_eq, gI_pos (by omega), gd_pos (by omega), nm_eq]
    have : sa (sa (sa (sa τ a (4 * (i : Int)) 0) a (4 * (i : Int) + 1) (-1)) a (4 * (i : Int) + 2) (-1)) a (4 * (i : Int) + 3) 0 1022 19 = tkC T q := by
      rw [sa_at, if_neg (by omega), sa_at, if_neg (by omega), sa_at, if_neg (by omega), sa_at, if_neg (by omega)]; exact e19
    rw [this]
  have ea : ∀ r j, r ≠ a → sa (sa (sa (sa τ a (4 * (i : Int)) 0) a (4 * (i : Int) + 1) (-1)) a (4 * (i : Int) + 2) (-1)) a (4 * (i : Int) + 3) 0 r j = τ r j := fun r j hh => by
    rw [sa_at, if_neg (fun u => hh u.1), sa_at, if_neg (fun u => hh u.1), sa_at, if_neg (fun u => hh u.1), sa_at, if_neg (fun u => hh u.1)]
  have ec0 : sa (sa (sa (sa τ a (4 * (i : Int)) 0) a (4 * (i : Int) + 1) (-1)) a (4 * (i : Int) + 2) (-1)) a (4 * (i : Int) + 3) 0 a (4 * (i : Int)) = 0 := by rw [sa_at, if_neg (by omega), sa_at, if_neg (by omega), sa_at, if_neg (by omega), sa_at, if_pos ⟨rfl, rfl⟩]
  have ec1 : sa (sa (sa (sa τ a (4 * (i : Int)) 0) a (4 * (i : Int) + 1) (-1)) a (4 * (i : Int) + 2) (-1)) a (4 * (i : Int) + 3) 0 a (4 * (i : Int) + 1) = -1 := by rw [sa_at, if_neg (by omega), sa_at, if_neg (by omega), sa_at, if_pos ⟨rfl, rfl⟩]
  have ec2 : sa (sa (sa (sa τ a (4 * (i : Int)) 0) a (4 * (i : Int) + 1) (-1)) a (4 * (i : Int) + 2) (-1)) a (4 * (i : Int) + 3) 0 a (4 * (i : Int) + 2) = -1 := by rw [sa_at, if_neg (by omega), sa_at, if_pos ⟨rfl, rfl⟩]
  have ec3 : sa (sa (sa (sa τ a (4 * (i : Int)) 0) a (4 * (i : Int) + 1) (-1)) a (4 * (i : Int) + 2) (-1)) a (4 * (i : Int) + 3) 0 a (4 * (i : Int) + 3) = 0 := by rw [sa_at, if_pos ⟨rfl, rfl⟩]
  have F4 : ItF a (4 * i) τ (sa (sa (sa (sa τ a (4 * (i : Int)) 0) a (4 * (i : Int) + 1) (-1)) a (4 * (i : Int) + 2) (-1)) a (4 * (i : Int) + 3) 0) := (itF_sa (by omega)).trans ((itF_sa (by omega)).trans ((itF_sa (by omega)).trans (itF_sa (by omega))))
  generalize sa (sa (sa (sa τ a (4 * (i : Int)) 0) a (4 * (i : Int) + 1) (-1)) a (4 * (i : Int) + 2) (-1)) a (4 * (i : Int) + 3) 0 = τ4 at *
  have hO4 : OKW T σ τ4 q S M := hO.fr (fun j _ => ea _ _ (by omega)) fun r j g1 g2 => ea _ _ (by omega)
  unfold g_X7_item
  rw [e19]
  by_cases c15 : tkC T q = 15
  · rw [if_pos c15, e22, if_pos c15]
    unfold f_X3_item
    refine wp_gd h7 (wp_c1 (wp_mono (takes_yes hn hb h (r := 65) (C := 15) (by decide) (by unfold spC; omega) o1 c15) fun y hy => ?_))
    obtain ⟨y1, y2, y3, y4⟩ := hy
    have hn0 := y2.2.2.2.2.2.1
    obtain ⟨σ1, e1, k1, ⟨f0, f1, f2⟩, n1, u1, F1⟩ := new_term (σ := y.2) (a := -2) (b := -1) (c := 0) (by omega)
    refine wp_neg (by omega) (wp_nm0 (wp_nm0 (wp_gd (by omega) (wp_c0e e1 (wp_ok ?_)))))
    obtain ⟨s1, s2, s3⟩ := sh_fresh (cc := 1) y2 F1 (by omega) (by omega)
    have tr : TrAt σ1 (nx y.2) (-2, -1, 0) := ⟨k1, ⟨by omega, by omega⟩, f0, f1, f2⟩
    refine wp_t1 (wp_mono (ok_next hn hb h hO4.1 y2 y4) fun w hw => ?_)
    obtain ⟨w1, w2⟩ := hw
    refine wp_gd (by rcases w2 with u | u <;> omega) (wp_ok ⟨(y3.trans s2).x, F4.trans w1.nv.it, tr.el, ?_⟩)
    have wa : ∀ j, w.2 a j = τ4 a j := fun j => w1 _ _ (by omega)
    rcases w2 with ⟨v1, v2⟩ | ⟨v1, v2⟩
    · refine Or.inl ⟨v1, nxq T q, S, (-2, -1, 0), hqq, s1, rfl, ⟨okb_same v2 s3 rfl, hO.2.1, fun i hi => by rw [w1 _ _ (by omega)]; exact hO4.2.2 i hi⟩, Nat.le_refl _, fun i _ => by rw [w1 _ _ (by omega), ea _ _ (by omega)], tr, ⟨rfl, by rw [wa]; exact ec1, by rw [wa]; exact ec2, Or.inl ⟨rfl, rfl, by rw [wa]; exact ec0⟩⟩, by rw [wa]; exact ec3, by show (-2 : Int) < _; omega, fun _ => by show (-2 : Int) < _; omega, ⟨fun _ => c15, fun _ => rfl⟩⟩
    · obtain ⟨q8, x1, x2⟩ := v2
      refine Or.inr ⟨v1, S, nxq T q, s1, ?_⟩
      have : q8 = nxq T q := by rw [← x1.2.2.1.2.1, ← y2.2.2.1.2.1]
      rw [this] at x2
      unfold CF
      rw [s3, s3]
      exact x2
  · rw [if_neg c15]
    by_cases c1 : tkC T q = 1
    · rw [if_pos c1, e22, if_neg c15]
      unfold f_X3_item
      refine wp_gd h7 (wp_c1e (takes_no hn hb h (r := 65) (C := 15) (by decide) (by unfold spC; omega) fun _ => c15) (wp_pos rfl (wp_gd h7 ?_)))
      refine wp_join (lk_value (a := 0) hn hb h hO4 c1) fun y w hw => wp_ok ?_
      obtain ⟨w1, w2, w3, w4⟩ := hw
      rcases w4 with ⟨x1, q1, S1, t, x2, x3, x4, x5, x6, x7, x8, x9, x10, x11, x12, x13, x14, x15, x16, x17⟩ | ⟨x1, x2⟩
      · refine wp_neg (by omega) ?_
        have fin : ∀ s2 : Int, s2 = (if t.2.1 = -1 then 1 else 2) → Wp (g_X7_item_103 n 1022 a (4 * (i : Int)) a (4 * (i : Int)) s2 w.2) fun w' => ItP T N0 U0 z k σ τ q S M a (4 * i) (y.1, y.2) w' := fun s2 hs2 => by
          unfold g_X7_item_103
          rw [ht]
          refine wp_gd (by omega) (wp_nm0 ?_)
          rw [gI_pos (by omega)]
          refine wp_gd (by omega) (wp_nm0 ?_)
          rw [gI_pos (by omega)]
          refine wp_gd (by omega) (wp_nm0 (wp_ok ?_))
          have e1 : sa w.2 a (4 * (i : Int)) s2 1022 41 = w.2 1022 41 := by rw [sa_at, if_neg (by omega)]
          have e2 : sa (sa w.2 a (4 * (i : Int)) s2) a (4 * (i : Int) + 1) (sa w.2 a (4 * (i : Int)) s2 1022 41) 1022 43 = w.2 1022 43 := by rw [sa_at, if_neg (by omega), sa_at, if_neg (by omega)]
          rw [e2, e1]
          have eb : ∀ r j, r ≠ a → sa (sa (sa w.2 a (4 * (i : Int)) s2) a (4 * (i : Int) + 1) (w.2 1022 41)) a (4 * (i : Int) + 2) (w.2 1022 43) r j = w.2 r j := fun r j hh => by rw [sa_at, if_neg (fun u => hh u.1), sa_at, if_neg (fun u => hh u.1), sa_at, if_neg (fun u => hh u.1)]
          refine ⟨w1, F4.trans (w2.it.trans ((itF_sa (by omega)).trans ((itF_sa (by omega)).trans (itF_sa (by omega))))), w3, Or.inl ⟨rfl, q1, S1, t, x2, x3, x4, x5.fr (fun j _ => eb 1022 j (by omega)) (fun r j g1 g2 => eb _ _ (by omega)), x6, fun j hj => (eb 1036 j (by omega)).trans ((x7 j hj).trans (ea _ _ (by omega))), x8, ⟨x11, ?_, ?_, Or.inr ⟨x12, ?_⟩⟩, ?_, x13, x17, ⟨fun u => by omega, fun u => absurd u c15⟩⟩⟩
          · rw [if_neg (by omega)]
            dsimp only
            rw [sa_at, if_neg (by omega), sa_at, if_pos ⟨rfl, rfl⟩]; exact x9
          · dsimp only; rw [sa_at, if_pos ⟨rfl, rfl⟩]; exact x10
          · dsimp only; rw [sa_at, if_neg (by omega), sa_at, if_neg (by omega), sa_at, if_pos ⟨rfl, rfl⟩, hs2]
            by_cases ct : t.2.1 = -1
            · rw [if_pos ct]; exact Or.inl ⟨ct, rfl⟩
            · rw [if_neg ct]; exact Or.inr ⟨by omega, x15, rfl⟩
          · dsimp only; rw [sa_at, if_neg (by omega), sa_at, if_neg (by omega), sa_at, if_neg (by omega), w2 _ _ (by omega) (by omega)]; exact ec3
        refine wp_ite (fun c => fin 1 (by rw [if_pos (by omega)])) fun c => fin 2 (by rw [if_neg (by omega)])
      · exact wp_pos x1 (wp_ok ⟨w1, F4.trans w2.it, w3, Or.inr ⟨rfl, x2⟩⟩)
    · rw [if_neg c1, ok_cannot hO.1, t1_at]
      refine wp_mono (item_not hn hb h hO.1 c1 c15) fun y hy => wp_gd (by decide) (wp_ok ⟨hy.2.1.x, fgF_flw.nv.it, hy.2.2, Or.inr ⟨rfl, S, hy.1⟩⟩)
end II
