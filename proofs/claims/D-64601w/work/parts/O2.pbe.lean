/-! THE MATCHER: its state, its frame; values -/
set_option maxRecDepth 100000
/-- the kinds of what matcher and rows have -/
def MKd (σ : AS) : Prop := (kd σ 1009 = 20 ∧ kd σ 1010 = 101 ∧ kd σ 1011 = 101 ∧ kd σ 1012 = 100 ∧ kd σ 1013 = 100 ∧ kd σ 1014 = 21 ∧ kd σ 1015 = 100 ∧ kd σ 1016 = 100 ∧ kd σ 1017 = 103) ∧ (ln σ 1010 = 80000 ∧ ln σ 1011 = 80000 ∧ ln σ 1012 = 10000 ∧ ln σ 1013 = 10000 ∧ ln σ 1015 = 12 ∧ ln σ 1016 = 8 ∧ ln σ 1017 = 1000)
def MFd (σ : AS) (N0 : Int) : Prop := (ld σ 1014 0 = 1001 ∧ ld σ 1014 1 = 1009 ∧ ld σ 1014 2 = N0 ∧ ld σ 1014 3 = 1015 ∧ ld σ 1014 4 = 1016 ∧ ld σ 1014 5 = 1017) ∧ (ld σ 1009 0 = 1010 ∧ ld σ 1009 1 = 1011 ∧ ld σ 1009 2 = 1012 ∧ ld σ 1009 3 = 1013 ∧ ld σ 1009 5 = N0)
/-- the question on the heap -/
def QAt (σ : AS) (N0 : Int) (S : PS) (K : Int → Bool) (ps : List Part) (cs : List Cnd) (its : List Trm) (os : List Odr) (M : Nat) : Prop :=
  (1054 ≤ N0 ∧ N0 + 8 ≤ nx σ ∧ kd σ N0 = 12 ∧ (∀ i, 0 ≤ i → i < 7 → ld σ N0 i = N0 + 1 + i) ∧ kd σ (N0 + 4) = 103 ∧ ln σ (N0 + 4) = 8 ∧ LsOk σ N0 S.2) ∧ PsAt σ (S.2 0) (S.2 1) ps ∧ CsAt N0 σ (S.2 2) cs ∧ IsAt σ (S.2 3) its ∧ OsAt σ (S.2 4) os ∧ (M ≤ 8 ∧ ∀ i : Nat, i < M → ld σ (N0 + 4) i = if K i = true then 1 else 0)
/-- the matcher's frame -/
def MFr (N0 : Int) (σ σ' : AS) : Prop := Fr (fun r => (1009 ≤ r ∧ r ≤ 1017) ∨ (N0 ≤ r ∧ kd σ r = 24)) σ σ' ∧ nx σ' = nx σ ∧ us σ' = us σ ∧ (∀ s l, StrH σ s l → s + 1 < nx σ → StrH σ' s l) ∧ (∀ j, j < 6 → ld σ' 1014 j = ld σ 1014 j) ∧ ∀ j, j ≠ 4 → j ≠ 6 → ld σ' 1009 j = ld σ 1009 j
theorem MFr.rf {N0 : Int} {σ : AS} : MFr N0 σ σ := ⟨Fr.rf, rfl, rfl, fun _ _ h _ => h, fun _ _ => rfl, fun _ _ _ => rfl⟩
theorem MFr.trans {N0 : Int} {σ σ1 σ2 : AS} (h : MFr N0 σ σ1) (h' : MFr N0 σ1 σ2) : MFr N0 σ σ2 := by
  have hn := h.2.1
  refine ⟨h.1.tr2 h'.1 fun r hr w => ?_, h'.2.1.trans h.2.1, h'.2.2.1.trans h.2.2.1, fun s l a b => h'.2.2.2.1 s l (h.2.2.2.1 s l a b) (by omega), fun j hj => (h'.2.2.2.2.1 j hj).trans (h.2.2.2.2.1 j hj), fun j hj h6 => (h'.2.2.2.2.2 j hj h6).trans (h.2.2.2.2.2 j hj h6)⟩
  have w' : (1009 ≤ r ∧ r ≤ 1017) ∨ (N0 ≤ r ∧ kd σ1 r = 24) := w
  rw [h.1.kd hr] at w'
  exact w'
/-- a number of the matcher or of the rows is written -/
theorem MFr.wr' {N0 : Int} {σ : AS} {r j v : Int} (hk : MKd σ) (hN : 1054 ≤ N0) (hr : 1009 ≤ r ∧ r ≤ 1017) (h1 : r = 1014 → 6 ≤ j) (h2 : r = 1009 → j = 4 ∨ j = 6) : MFr N0 σ (wr σ r j v) := by
  have F : Fr (fun x => x = r) σ (wr σ r j v) := Fr.wr rfl
  obtain ⟨⟨k1, k2, k3, k4, k5, k6, k7, k8, k9⟩, -⟩ := hk
  have hkr : kd σ r ≠ 24 ∧ kd σ r ≠ 102 := by
    obtain e | e | e | e | e | e | e | e | e : r = 1009 ∨ r = 1010 ∨ r = 1011 ∨ r = 1012 ∨ r = 1013 ∨ r = 1014 ∨ r = 1015 ∨ r = 1016 ∨ r = 1017 := by omega
    all_goals (rw [e]; omega)
  refine ⟨F.sub fun x _ w => ?_, rfl, rfl, fun s l a b => a.frame F b (fun w => ?_) (fun w => ?_), fun i hi => ?_, fun i hi h6 => ?_⟩
  · have w' : x = r := w
    exact Or.inl (by omega)
  · have w' : s = r := w
    have := a.2.1.1
    rw [w'] at this; exact hkr.1 this
  · have w' : s + 1 = r := w
    have := a.2.1.2
    rw [w'] at this; exact hkr.2 this
  · rw [ld_wr, if_neg (fun u => by have := h1 u.1.symm; omega)]
  · rw [ld_wr, if_neg (fun u => by have := h2 u.1.symm; omega)]
section MM
variable {σ σ0 σ1 σ2 σ3 σ' : AS} {n M k : Nat} {l : List Ch} {m N0 r a : Int} {S : PS} {ps : List Part} {cs : List Cnd} {its : List Trm} {os : List Odr} {t : Trm} {K : Int → Bool} {env : Int → Int} {G : Gr}
theorem MFr.old (h : MFr N0 σ σ') (hk : MKd σ) {r : Int} (hr : r < nx σ) (hkr : kd σ r ≠ 20 ∧ kd σ r ≠ 21 ∧ kd σ r ≠ 24 ∧ kd σ r ≠ 100 ∧ kd σ r ≠ 101 ∧ kd σ r ≠ 103) : kd σ' r = kd σ r ∧ ln σ' r = ln σ r ∧ r < nx σ' ∧ ∀ j, ld σ' r j = ld σ r j := by
  have hn := h.2.1
  obtain ⟨⟨k1, k2, k3, k4, k5, k6, k7, k8, k9⟩, -⟩ := hk
  refine ⟨h.1.kd hr, h.1.ln hr, by omega, h.1.ld hr (fun w => ?_)⟩
  have w' : (1009 ≤ r ∧ r ≤ 1017) ∨ (N0 ≤ r ∧ kd σ r = 24) := w
  rcases w' with w' | w'
  · obtain e | e | e | e | e | e | e | e | e : r = 1009 ∨ r = 1010 ∨ r = 1011 ∨ r = 1012 ∨ r = 1013 ∨ r = 1014 ∨ r = 1015 ∨ r = 1016 ∨ r = 1017 := by omega
    all_goals (rw [e] at hkr; omega)
  · exact hkr.2.2.1 w'.2
theorem MKd.fr (h : MKd σ) (hn : 1054 ≤ nx σ) (hF : MFr N0 σ σ') : MKd σ' := by
  obtain ⟨⟨k1, k2, k3, k4, k5, k6, k7, k8, k9⟩, l1, l2, l3, l4, l5, l6, l7⟩ := h
  have kk : ∀ r, r < 1054 → kd σ' r = kd σ r := fun r hr => hF.1.kd (by omega)
  have ll : ∀ r, r < 1054 → ln σ' r = ln σ r := fun r hr => hF.1.ln (by omega)
  unfold MKd
  rw [kk _ (by decide), kk _ (by decide), kk _ (by decide), kk _ (by decide), kk _ (by decide), kk _ (by decide), kk _ (by decide), kk _ (by decide), kk _ (by decide), ll _ (by decide), ll _ (by decide), ll _ (by decide), ll _ (by decide), ll _ (by decide), ll _ (by decide), ll _ (by decide)]
  exact ⟨⟨k1, k2, k3, k4, k5, k6, k7, k8, k9⟩, l1, l2, l3, l4, l5, l6, l7⟩
theorem MFd.fr (h : MFd σ N0) (hF : MFr N0 σ σ') : MFd σ' N0 := by
  obtain ⟨⟨a1, a2, a3, a4, a5, a6⟩, b1, b2, b3, b4, b5⟩ := h
  obtain ⟨-, -, -, -, f1, f2⟩ := hF
  exact ⟨⟨(f1 _ (by decide)).trans a1, (f1 _ (by decide)).trans a2, (f1 _ (by decide)).trans a3, (f1 _ (by decide)).trans a4, (f1 _ (by decide)).trans a5, (f1 _ (by decide)).trans a6⟩, (f2 _ (by decide) (by decide)).trans b1, (f2 _ (by decide) (by decide)).trans b2, (f2 _ (by decide) (by decide)).trans b3, (f2 _ (by decide) (by decide)).trans b4, (f2 _ (by decide) (by decide)).trans b5⟩
theorem TrAt.mf (h : TrAt σ r t) (hk : MKd σ) (hF : MFr N0 σ σ') : TrAt σ' r t := by
  obtain ⟨h1, h2, h3, h4, h5⟩ := h
  obtain ⟨k1, -, k2, k3⟩ := hF.old hk h2.2 (by omega)
  exact ⟨k1.trans h1, ⟨h2.1, k2⟩, (k3 0).trans h3, (k3 1).trans h4, (k3 2).trans h5⟩
theorem QAt.fr (h : QAt σ N0 S K ps cs its os M) (hk : MKd σ) (hF : MFr N0 σ σ') : QAt σ' N0 S K ps cs its os M := by
  obtain ⟨⟨a1, a2, a3, a4, a5, a6, a7⟩, b, c, d, e, f1, f2⟩ := h
  have hn := hF.2.1
  have o : ∀ r, N0 ≤ r → r < nx σ → kd σ r ≠ 24 → ∀ j, ld σ' r j = ld σ r j := fun r h0 hr h24 => hF.1.ld hr (fun w => by
    have w' : (1009 ≤ r ∧ r ≤ 1017) ∨ (N0 ≤ r ∧ kd σ r = 24) := w
    rcases w' with w' | w'
    · omega
    · exact h24 w'.2)
  refine ⟨⟨a1, by omega, by rw [hF.1.kd (by omega)]; exact a3, fun i i0 i7 => by rw [o _ (by omega) (by omega) (by rw [a3]; decide)]; exact a4 i i0 i7, by rw [hF.1.kd (by omega)]; exact a5, by rw [hF.1.ln (by omega)]; exact a6, a7.frame hF.1 (fun r hr w => ?_)⟩, ⟨b.1, b.2.1, fun i hi => ?_⟩, ⟨c.1, fun i hi => ?_⟩, ⟨d.1, fun i hi => (d.2 i hi).mf hk hF⟩, ⟨e.1, fun i hi => ?_⟩, f1, fun i hi => by rw [o _ (by omega) (by omega) (by rw [a5]; decide)]; exact f2 i hi⟩
  · have w' : (1009 ≤ r ∧ r ≤ 1017) ∨ (N0 ≤ r ∧ kd σ r = 24) := w
    obtain ⟨⟨k1, k2, k3, k4, k5, k6, k7, k8, k9⟩, -⟩ := hk
    rcases w' with w' | w'
    · obtain e | e | e | e | e | e | e | e | e : r = 1009 ∨ r = 1010 ∨ r = 1011 ∨ r = 1012 ∨ r = 1013 ∨ r = 1014 ∨ r = 1015 ∨ r = 1016 ∨ r = 1017 := by omega
      all_goals (rw [e]; omega)
    · rw [w'.2]; decide
  · obtain ⟨⟨n1, n2, n3, n4⟩, n5⟩ := b.2.2 i hi
    obtain ⟨x1, -, x2, x3⟩ := hF.old hk n2 (by omega)
    refine ⟨⟨x1.trans n1, x2, (x3 0).trans n3, (x3 1).trans n4⟩, ?_⟩
    rcases n5 with n5 | ⟨m0, m1, m2, m3, m4, m5, m6, m7⟩
    · exact Or.inl n5
    · obtain ⟨y1, -, y2, y3⟩ := hF.old hk m2 (by omega)
      exact Or.inr ⟨m0, y1.trans m1, y2, (y3 0).trans m3, (y3 1).trans m4, (y3 2).trans m5, (y3 3).trans m6, (y3 4).trans m7⟩
  · obtain ⟨h1, h2, h3, h4, h5⟩ := c.2 i hi
    obtain ⟨k1, -, k2, k3⟩ := hF.old hk h2 (by omega)
    refine ⟨k1.trans h1, k2, by rw [k3]; exact h3.mf hk hF, by rw [k3]; exact ⟨hF.2.2.2.1 _ _ h4.1 h4.2.1, by omega, h4.2.2⟩, ?_⟩
    rw [k3]
    rcases h5 with h5 | ⟨h5, h6, h7⟩
    · exact Or.inl h5
    · exact Or.inr ⟨h5, h6.mf hk hF, h7⟩
  · obtain ⟨h1, h2, h3, h4, h5⟩ := e.2 i hi
    obtain ⟨k1, -, k2, k3⟩ := hF.old hk h2 (by omega)
    exact ⟨k1.trans h1, k2, by rw [k3]; exact h3.mf hk hF, (k3 1).trans h4, h5⟩
/-- all that stays while the matcher goes; base: ask's beginning -/
def MQs (σ0 σ : AS) (k : Nat) (l : List Ch) (m : Int) (S : PS) (K : Int → Bool) (ps : List Part) (cs : List Cnd) (its : List Trm) (os : List Odr) (M : Nat) : Prop :=
  (CX σ0 k l m ∧ l.length ≤ 64 ∧ 1054 ≤ nx σ0) ∧ Fr (fun r => 1006 ≤ r ∧ r ≤ 1053) σ0 σ ∧ KS σ ∧ MKd σ ∧ MFd σ (nx σ0) ∧ QAt σ (nx σ0) S K ps cs its os M
theorem MQs.fr (h : MQs σ0 σ k l m S K ps cs its os M) (hF : MFr (nx σ0) σ σ') : MQs σ0 σ' k l m S K ps cs its os M := by
  obtain ⟨a1, a2, a3, a4, a5, a6⟩ := h
  have hn0 := a2.1
  refine ⟨a1, a2.tr2 hF.1 fun r hr w => ?_, a3.frame hF.1 (fun r hr w => ?_), a4.fr (by omega) hF, a5.fr hF, a6.fr a4 hF⟩
  · have w' : (1009 ≤ r ∧ r ≤ 1017) ∨ (nx σ0 ≤ r ∧ kd σ r = 24) := w
    show 1006 ≤ r ∧ r ≤ 1053
    omega
  · have w' : (1009 ≤ r ∧ r ≤ 1017) ∨ (nx σ0 ≤ r ∧ kd σ r = 24) := w
    omega
theorem MQs.cx (h : MQs σ0 σ k l m S K ps cs its os M) : CX σ k l m := by
  obtain ⟨⟨a1, -, a0⟩, a2, -⟩ := h
  exact a1.other a2 (fun r w => Or.inr w) ⟨a2.ld (by omega) (fun w => by have w' : (1006 : Int) ≤ 1000 ∧ (1000 : Int) ≤ 1053 := w; omega) 0, a2.ld (by omega) (fun w => by have w' : (1006 : Int) ≤ 1000 ∧ (1000 : Int) ≤ 1053 := w; omega) 1⟩
theorem MQs.gv (h : MQs σ0 σ k l m S K ps cs its os M) : GV σ (run l) := h.cx.gv h.1.2.1
/-- the names' values -/
def EvA (σ : AS) (G : Gr) (K : Int → Bool) (env : Int → Int) (M : Nat) : Prop := (∀ i : Int, 0 ≤ i → i < 8 → ld σ 1016 i = env i) ∧ ∀ i : Int, 0 ≤ i → i < M → env i ≠ -1 → (K i = true → edgeAt G (env i)) ∧ (K i ≠ true → nodeAt G (env i))
def TrOk (t : Trm) (M : Nat) : Prop := t.1 = -1 ∨ (0 ≤ t.1 ∧ t.1 < M ∧ (t.2.1 = -1 ∨ (0 ≤ t.2.1 ∧ t.2.1 ≤ 31)))
/-- a term's value -/
theorem mvalue_eq (hn : 1000000 ≤ n) (h : MQs σ0 σ k l m S K ps cs its os M) (hE : EvA σ (run l) K env M) (ht : TrAt σ r t) (hok : TrOk t M) (hb : bdT env t = true) : f_X6_value n 1014 r σ = some (nval (tval (run l) K env t), σ) := by
  have hcx := h.cx
  have hg := h.gv
  obtain ⟨⟨-, hl, h0⟩, -, -, a4, a5, ⟨⟨q1, q2, q3, q4, q5, q6, q7⟩, -, -, -, -, qM, qK⟩⟩ := h
  obtain ⟨t1, t2, t3, t4, t5⟩ := ht
  obtain ⟨⟨k1, k2, k3, k4, k5, k6, k7, k8, k9⟩, l1, l2, l3, l4, l5, l6, l7⟩ := a4
  obtain ⟨⟨f1, f2, f3, f4, f5, f6⟩, -⟩ := a5
  have eV : f_X22_variable r σ = some (t.1, σ) := by unfold f_X22_variable; rw [gd_pos t1, t3]
  have eN : f_X22_number r σ = some (t.2.2, σ) := by unfold f_X22_number; rw [gd_pos t1, t5]
  have eK : f_X22_key r σ = some (t.2.1, σ) := by unfold f_X22_key; rw [gd_pos t1, t4]
  unfold f_X6_value tval
  rw [gd_pos t1, eV, c1_at]
  by_cases c1 : t.1 = -1
  · rw [if_pos c1, if_pos c1, gd_pos t1, eN, c1_at]; rfl
  rcases hok with hok | ⟨o1, o2, o3⟩
  · exact absurd hok c1
  unfold bdT at hb
  rw [decide_eq_false c1, Bool.false_or, decide_eq_true_eq] at hb
  obtain ⟨hE1, hE2⟩ := hE
  have ev := hE1 t.1 o1 (by omega)
  obtain ⟨hK1, hK2⟩ := hE2 t.1 o1 o2 hb
  have e3 : ld σ (nx σ0) 3 = nx σ0 + 4 := by rw [q4 3 (by decide) (by decide)]; omega
  rw [if_neg c1, if_neg c1, gd_pos k6, gd_pos t1, eV, c1_at, f5, gd_pos ⟨k8, o1, by omega⟩, nm_eq, ev, gd_pos t1, eK, c1_at]
  by_cases c2 : t.2.1 = -1
  · rw [if_pos c2, if_pos c2]; rfl
  have o4 : 0 ≤ t.2.1 ∧ t.2.1 < 32 := by omega
  have fl := qK t.1.toNat (by omega)
  rw [show ((t.1.toNat : Nat) : Int) = t.1 by omega] at fl
  obtain ⟨⟨v1, v2, v3, v4, v5, v6, v7, v8, v9⟩, v10, v11, -, -⟩ := hg
  rw [if_neg c2, if_neg c2, gd_pos k6, f3, gd_pos q3, gd_pos t1, eV, c1_at, e3, gd_pos ⟨q5, o1, by omega⟩, fl]
  by_cases cK : K t.1 = true
  · have hed := hK1 cK
    have val := val_wp (s := 1) (b := env t.1) (key := t.2.1) hn hcx hl (Or.inr ⟨rfl, hed⟩) o4
    rw [if_neg (by decide : ¬ (1 : Int) = 0)] at val
    have hx := v11 _ hed
    rw [if_pos cK, if_neg (by decide : ¬ (1 : Int) = 0), gd_pos k6, f1, gd_pos v3, v5, gd_pos ⟨v8, hed.1, by rw [v9]; exact hed.2.1⟩]
    unfold f_X6_value_71
    rw [gd_pos t1, eK, c1_at, if_neg (by rw [hx.1]; decide), gd_pos hx.1, val, c1_at]
  · have hnd := hK2 cK
    have val := val_wp (s := 0) (b := env t.1) (key := t.2.1) hn hcx hl (Or.inl ⟨rfl, hnd⟩) o4
    rw [if_pos rfl] at val
    have hx := v10 _ hnd
    rw [if_neg cK, if_pos rfl, gd_pos k6, f1, gd_pos v3, v4, gd_pos ⟨v6, hnd.1, by rw [v7]; exact hnd.2.1⟩]
    unfold f_X6_value_71
    rw [gd_pos t1, eK, c1_at, if_pos hx.1, val, c1_at]
end MM
