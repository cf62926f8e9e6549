/-! THE TWIN'S MATCHER: its state, its small steps -/
set_option maxRecDepth 100000
/-- the twin before op a, in state s -/
def TL (τ : TT) (ops : List Op) (G : Gr) (a : Nat) (s : TS) : Prop :=
  OpT τ ops ∧ TG τ G ∧ (0 < a → τ 1043 a = s.1) ∧ (∀ v : Int, 0 ≤ v → v < 8 → (τ 1046 v = -1 ∨ (a : Int) ≤ τ 1046 v) → s.2.1 v = -1) ∧ (∀ v : Int, 0 ≤ v → v < 8 → ¬ (τ 1046 v = -1 ∨ (a : Int) ≤ τ 1046 v) → s.2.1 v = τ 1045 v ∧ τ 1045 v ≠ -1) ∧ (∀ e : Int, 0 ≤ e → (e ∈ s.2.2.1 ↔ ∃ j : Nat, j < a ∧ τ 1042 j = e)) ∧ (s.2.2.2 = true ↔ (0 < a ∧ (ops.getD (a - 1) op0).1 = 3 ∧ τ 1044 ((a : Int) - 1) ≠ 0)) ∧ ∀ v : Int, 0 ≤ v → v < 8 → -1 ≤ τ 1046 v
/-- what the search behind op a may write -/
def SeF (a : Int) (τ τ' : TT) : Prop := ∀ r j, ¬ (r = 1022 ∧ 53 ≤ j ∧ j ≤ 55) → ¬ ((r = 1041 ∨ r = 1042 ∨ r = 1044) ∧ a ≤ j) → ¬ (r = 1043 ∧ a < j) → ¬ ((r = 1045 ∨ r = 1046) ∧ (τ 1046 j = -1 ∨ a ≤ τ 1046 j)) → ¬ (1047 ≤ r ∧ r ≤ 1049) → τ' r j = τ r j
section PA
variable {τ τ0 τ' : TT} {ops : List Op} {G : Gr} {a n : Nat} {s : TS} {o : Op} {v x e c : Int}
theorem bind_eq (h : τ 1046 v = -1 ∨ (a : Int) ≤ τ 1046 v) (hv : v ≠ -1 → 0 ≤ v ∧ v < 8) : g_X7_bind 1022 a v x τ = some (1, if v = -1 then τ else sa (sa τ 1045 v x) 1046 v a) := by
  unfold g_X7_bind g_X7_bind_43
  by_cases c1 : v = -1
  · rw [if_pos c1, if_pos c1]
  · obtain ⟨v0, v8⟩ := hv c1
    rw [if_neg c1, if_neg c1, gd_pos ⟨v0, v8⟩]
    rcases h with h | h
    · rw [if_pos h, gd_pos ⟨v0, v8⟩, nm_eq, gd_pos ⟨v0, v8⟩, nm_eq]
    · by_cases h1 : τ 1046 v = -1
      · rw [if_pos h1, gd_pos ⟨v0, v8⟩, nm_eq, gd_pos ⟨v0, v8⟩, nm_eq]
      · rw [if_neg h1, gd_pos ⟨v0, v8⟩, if_pos h, gd_pos ⟨v0, v8⟩, nm_eq, gd_pos ⟨v0, v8⟩, nm_eq]
theorem bind_old (h : ¬ (τ 1046 v = -1 ∨ (a : Int) ≤ τ 1046 v)) (hv : 0 ≤ v ∧ v < 8) : g_X7_bind 1022 a v x τ = some (if τ 1045 v = x then 1 else 0, τ) := by
  unfold g_X7_bind
  rw [if_neg (by omega), gd_pos hv, if_neg (fun w => h (Or.inl w)), gd_pos hv, if_neg (fun w => h (Or.inr w)), gd_pos hv]
  by_cases c : τ 1045 v = x
  · rw [if_pos c, if_pos c]
  · rw [if_neg c, if_neg c]
theorem isFree_loop {n b : Nat} (hb : b ≤ 60) : ∀ {d q j : Nat}, j + d = b → d < q → ((∃ i : Nat, j ≤ i ∧ i < b ∧ τ 1042 i = e) → g_X7_isFree_2 n q 1022 b e j τ = some (0, τ)) ∧ (¬ (∃ i : Nat, j ≤ i ∧ i < b ∧ τ 1042 i = e) → g_X7_isFree_2 n q 1022 b e j τ = some (1, τ))
  | 0, q + 1, j, hd, _ => by
    refine ⟨fun ⟨i, a1, a2, _⟩ => by omega, fun _ => ?_⟩
    unfold g_X7_isFree_2
    rw [if_pos (by omega)]
  | d + 1, q + 1, j, hd, hq => by
    have ih := isFree_loop (n := n) (b := b) hb (d := d) (q := q) (j := j + 1) (by omega) (by omega)
    have ej : (j : Int) + 1 = ((j + 1 : Nat) : Int) := by omega
    have e2 : g_X7_isFree_2 n (q + 1) 1022 b e j τ = if τ 1042 j = e then some (0, τ) else g_X7_isFree_2 n q 1022 b e ((j + 1 : Nat) : Int) τ := by
      conv => lhs; unfold g_X7_isFree_2
      rw [if_neg (by omega), gd_pos ⟨by omega, by omega⟩, gI_pos (by omega), nm_eq, ej]
    rw [e2]
    by_cases c : τ 1042 j = e
    · rw [if_pos c]
      exact ⟨fun _ => rfl, fun w => absurd ⟨j, Nat.le_refl _, by omega, c⟩ w⟩
    · rw [if_neg c]
      refine ⟨fun ⟨i, i1, i2, i3⟩ => ih.1 ⟨i, ?_, i2, i3⟩, fun w => ih.2 fun ⟨i, i1, i2, i3⟩ => w ⟨i, by omega, i2, i3⟩⟩
      by_cases hij : i = j
      · rw [hij] at i3; exact absurd i3 c
      · omega
theorem isFree_eq (hn : 1000000 ≤ n) (ha : a ≤ 60) : ((∃ i : Nat, i < a ∧ τ 1042 i = e) → g_X7_isFree n 1022 a e τ = some (0, τ)) ∧ (¬ (∃ i : Nat, i < a ∧ τ 1042 i = e) → g_X7_isFree n 1022 a e τ = some (1, τ)) := by
  have t := isFree_loop (n := n) (τ := τ) (e := e) ha (d := a) (q := n) (j := 0) (by omega) (by omega)
  rw [show ((0 : Nat) : Int) = 0 from rfl] at t
  unfold g_X7_isFree
  exact ⟨fun ⟨i, i1, i2⟩ => t.1 ⟨i, by omega, i1, i2⟩, fun w => t.2 fun ⟨i, _, i1, i2⟩ => w ⟨i, i1, i2⟩⟩
/-- an edge can be gone: beside goneT -/
theorem isGone_eq (hn : 1000000 ≤ n) (ha : a < 50) (hops : a < ops.length) (ho : ops.getD a op0 = o) (hO : OpT τ ops) (hG : TG τ G) (hU : ∀ e : Int, 0 ≤ e → (e ∈ s.2.2.1 ↔ ∃ j : Nat, j < a ∧ τ 1042 j = e)) (hc : τ 1043 a = s.1) (he : 0 ≤ e ∧ e < 1000) {b : Bool} : g_X7_isGone n 1022 a e (if b = true then 1 else 0) τ = some (if goneT G o s.1 s.2.2.1 e b = true then 1 else 0, if goneT G o s.1 s.2.2.1 e b = true then sa (sa τ 1042 a e) 1043 (a + 1) (if b = true then gf G e else go G e) else τ) := by
  obtain ⟨o1, o2⟩ := hO
  obtain ⟨p1, p2, p3, p4, p5⟩ := o2 a hops
  rw [ho] at p1 p2 p3 p4 p5
  obtain ⟨t1', t2, t3, -⟩ := hG
  have no : ¬ goneT G o s.1 s.2.2.1 e b = true → (some ((0 : Int), τ) : Option (Int × TT)) = some (if goneT G o s.1 s.2.2.1 e b = true then 1 else 0, if goneT G o s.1 s.2.2.1 e b = true then sa (sa τ 1042 a e) 1043 (a + 1) (if b = true then gf G e else go G e) else τ) := fun h => by rw [if_neg h, if_neg h]
  unfold g_X7_isGone
  rw [gI_pos (by omega), gI_pos (by omega), gd_pos ⟨by omega, by omega⟩, p3, nm_eq, gI_pos (by omega), gI_pos (by omega), gd_pos ⟨by omega, by omega⟩, p4, nm_eq, gd_pos he, t2 e he.1 he.2]
  by_cases cg : gt G e = -1
  · rw [if_pos cg]
    refine no fun w => ?_
    unfold goneT at w
    rw [decide_eq_true_eq] at w
    exact w.1 cg
  obtain ⟨f1, f2⟩ := t3 e he.1 he.2 cg
  rw [if_neg cg]
  -- behind the type
  have rest : (o.2.2.1 = -1 ∨ gt G e = o.2.2.1) → g_X7_isGone_51 n 1022 a e (if b = true then 1 else 0) o.2.2.2.1 τ = some (if goneT G o s.1 s.2.2.1 e b = true then 1 else 0, if goneT G o s.1 s.2.2.1 e b = true then sa (sa τ 1042 a e) 1043 (a + 1) (if b = true then gf G e else go G e) else τ) := fun hty => by
    unfold g_X7_isGone_51
    by_cases cu : ∃ i : Nat, i < a ∧ τ 1042 i = e
    · rw [(isFree_eq hn (by omega)).1 cu, t1_at, if_pos (show (0 : Int) = 0 from rfl)]
      refine no fun w => ?_
      unfold goneT at w
      rw [decide_eq_true_eq] at w
      exact w.2.2.1 ((hU e he.1).mpr cu)
    rw [(isFree_eq hn (by omega)).2 cu, t1_at, if_neg (show ¬ (1 : Int) = 0 by decide)]
    have hnu : ¬ e ∈ s.2.2.1 := fun w => cu ((hU e he.1).mp w)
    -- the last look: does it begin here
    have l103 : (b = true → ¬ (o.2.2.2.1 = 0 ∨ (o.2.2.2.1 = 2 ∧ gf G e = go G e))) → (b = false → o.2.2.2.1 ≠ 1) → g_X7_isGone_103 n 1022 a e (if b = true then 1 else 0) τ = some (if goneT G o s.1 s.2.2.1 e b = true then 1 else 0, if goneT G o s.1 s.2.2.1 e b = true then sa (sa τ 1042 a e) 1043 (a + 1) (if b = true then gf G e else go G e) else τ) := fun h1 h2 => by
      have key : goneT G o s.1 s.2.2.1 e b = decide ((if b = true then go G e else gf G e) = s.1) := by
        unfold goneT
        rw [decide_eq_decide]
        exact ⟨fun w => w.2.2.2.2.2, fun w => ⟨cg, hty, hnu, h1, h2, w⟩⟩
      unfold g_X7_isGone_103 g_X7_isGone_122
      cases b with
      | false =>
        rw [if_pos (show (if false = true then (1 : Int) else 0) = 0 from rfl), gd_pos he, f1, gd_pos ⟨by omega, by omega⟩, hc]
        by_cases ce : gf G e = s.1
        · have kt : goneT G o s.1 s.2.2.1 e false = true := by rw [key]; exact decide_eq_true ce
          rw [if_pos ce, gd_pos ⟨by omega, by omega⟩, nm_eq, gI_pos (by omega), if_pos (show (if false = true then (1 : Int) else 0) = 0 from rfl), gd_pos he, gd_pos ⟨by omega, by omega⟩, nm_eq, sa_at, if_neg (by omega), f2, if_pos kt, if_pos kt]
          rfl
        · have kf : ¬ goneT G o s.1 s.2.2.1 e false = true := by rw [key]; exact fun w => ce (of_decide_eq_true w)
          rw [if_neg ce, if_neg kf, if_neg kf]
      | true =>
        rw [if_neg (show ¬ (if true = true then (1 : Int) else 0) = 0 by decide), gd_pos he, f2, gd_pos ⟨by omega, by omega⟩, hc]
        by_cases ce : go G e = s.1
        · have kt : goneT G o s.1 s.2.2.1 e true = true := by rw [key]; exact decide_eq_true ce
          rw [if_pos ce, gd_pos ⟨by omega, by omega⟩, nm_eq, gI_pos (by omega), if_neg (show ¬ (if true = true then (1 : Int) else 0) = 0 by decide), gd_pos he, gd_pos ⟨by omega, by omega⟩, nm_eq, sa_at, if_neg (by omega), f1, if_pos kt, if_pos kt]
          rfl
        · have kf : ¬ goneT G o s.1 s.2.2.1 e true = true := by rw [key]; exact fun w => ce (of_decide_eq_true w)
          rw [if_neg ce, if_neg kf, if_neg kf]
    cases b with
    | false =>
      rw [if_pos (show (if false = true then (1 : Int) else 0) = 0 from rfl)]
      by_cases cw : o.2.2.2.1 = 1
      · rw [if_pos cw]
        refine no fun w => ?_
        unfold goneT at w
        rw [decide_eq_true_eq] at w
        exact w.2.2.2.2.1 rfl cw
      · rw [if_neg cw]
        exact l103 (fun w => absurd w (by decide)) fun _ => cw
    | true =>
      rw [if_neg (show ¬ (if true = true then (1 : Int) else 0) = 0 by decide)]
      by_cases cw : o.2.2.2.1 = 0
      · rw [if_pos cw]
        refine no fun w => ?_
        unfold goneT at w
        rw [decide_eq_true_eq] at w
        exact w.2.2.2.1 rfl (Or.inl cw)
      rw [if_neg cw]
      by_cases cw2 : o.2.2.2.1 = 2
      · rw [if_pos cw2, gd_pos he, gd_pos he, f1, f2]
        by_cases ce : gf G e = go G e
        · rw [if_pos ce]
          refine no fun w => ?_
          unfold goneT at w
          rw [decide_eq_true_eq] at w
          exact w.2.2.2.1 rfl (Or.inr ⟨cw2, ce⟩)
        · rw [if_neg ce]
          exact l103 (fun _ w => w.elim cw fun u => ce u.2) fun w => absurd w (by decide)
      · rw [if_neg cw2]
        exact l103 (fun _ w => w.elim cw fun u => cw2 u.1) fun w => absurd w (by decide)
  by_cases ct : o.2.2.1 = -1
  · rw [if_pos ct]
    exact rest (Or.inl ct)
  · rw [if_neg ct, gd_pos he]
    by_cases ce : gt G e = o.2.2.1
    · rw [if_pos ce]
      exact rest (Or.inr ce)
    · rw [if_neg ce]
      refine no fun w => ?_
      unfold goneT at w
      rw [decide_eq_true_eq] at w
      exact w.2.1.elim ct ce
end PA
