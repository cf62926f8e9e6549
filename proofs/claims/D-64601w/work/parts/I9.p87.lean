/-! THE PARSER'S PRIMITIVES: next, takes, need, wrong, fail -/
set_option maxRecDepth 100000
def szS (S : PS) : Int := S.1.1.length + (S.2 0).length + (S.2 1).length + (S.2 2).length + (S.2 3).length + (S.2 4).length
/-- the parser's shape -/
def ShP (T : List Int) (N0 U0 : Int) (σ : AS) (z k q : Int) (S : PS) : Prop :=
  KS σ ∧ IntC σ ∧ LxC σ 1008 T q ∧ (tkC T q ≠ 0 → tkC T q ≠ 2 → tkC T q ≠ 50 → N0 ≤ ld σ 1008 5) ∧
  (kd σ 1007 = 18 ∧ ld σ 1007 0 = 1008 ∧ ld σ 1007 1 = N0 ∧ 0 ≤ ld σ 1007 2 ∧ ld σ 1007 2 ≤ 8 + z) ∧
  (1054 ≤ N0 ∧ N0 + 8 ≤ nx σ) ∧
  (kd σ N0 = 12 ∧ (∀ i, 0 ≤ i → i < 7 → ld σ N0 i = N0 + 1 + i) ∧ kd σ (N0 + 4) = 103 ∧ ln σ (N0 + 4) = 8) ∧
  LsOk σ N0 S.2 ∧ MpOk σ (N0 + 3) S.1.1 S.1.2 ∧
  ((S.2 0).length ≤ 12 + z ∧ (S.2 1).length ≤ 12 + z ∧ (S.2 2).length ≤ 8 + z ∧ (S.2 3).length ≤ 8 + z ∧ (S.2 4).length ≤ 8 + z) ∧
  (nx σ ≤ N0 + 5 * tkE T q + 6 * szS S + k ∧ us σ ≤ U0 + 60 * tkE T q + 60 * szS S + 10 * k)
def wkd (k : Nat) : Prop := k = 12 ∨ k = 18 ∨ k = 19 ∨ k = 31 ∨ k = 32 ∨ k = 33 ∨ k = 103 ∨ k = 105 ∨ k = 108
/-- what a step of the parser writes at most -/
def PF (N0 : Int) (σ σ' : AS) : Prop := Fr (fun r => N0 ≤ r ∨ r = 1007 ∨ r = 1008) σ σ' ∧ (∀ r, r < nx σ → ¬ wkd (kd σ r) → ∀ j, ld σ' r j = ld σ r j ∨ (kd σ r = 24 ∧ (j = 2 ∨ j = 3))) ∧ ∀ s l, StrH σ s l → s + 1 < nx σ → StrH σ' s l
theorem PF.rf {N0 : Int} {σ : AS} : PF N0 σ σ := ⟨Fr.rf, fun _ _ _ _ => Or.inl rfl, fun _ _ a _ => a⟩
theorem PF.trans {N0 : Int} {σ σ1 σ2 : AS} (h : PF N0 σ σ1) (h' : PF N0 σ1 σ2) : PF N0 σ σ2 := by
  have hn := h.1.1
  refine ⟨h.1.trans h'.1, fun r hr hw j => ?_, fun s l a b => h'.2.2 s l (h.2.2 s l a b) (by omega)⟩
  have k1 := h.1.kd hr
  rcases h'.2.1 r (by omega) (by rw [k1]; exact hw) j with a | a
  · rcases h.2.1 r hr hw j with b | b
    · exact Or.inl (a.trans b)
    · exact Or.inr b
  · rw [k1] at a; exact Or.inr a
theorem PF.of {N0 : Int} {σ σ' : AS} {X : Int → Prop} (hF : Fr X σ σ') (h1 : ∀ r, r < nx σ → X r → (N0 ≤ r ∨ r = 1007 ∨ r = 1008) ∧ wkd (kd σ r)) : PF N0 σ σ' :=
  ⟨hF.sub fun r hr w => (h1 r hr w).1, fun r hr hw j => Or.inl (hF.ld hr (fun w => hw (h1 r hr w).2) j), fun s l a b => a.frame hF b (fun w => by have g := (h1 s (by omega) w).2; rw [a.2.1.1] at g; unfold wkd at g; omega) (fun w => by have g := (h1 (s + 1) b w).2; rw [a.2.1.2] at g; unfold wkd at g; omega)⟩
def Eff (N0 : Int) (σ σ' : AS) : Prop := PF N0 σ σ' ∧ (∀ j, ld σ' (N0 + 4) j = ld σ (N0 + 4) j) ∧ (∀ j, ld σ' N0 j = ld σ N0 j) ∧ ld σ' 1007 2 = ld σ 1007 2 ∧ ld σ' 1007 5 = ld σ 1007 5 ∧ ld σ' 1007 6 = ld σ 1007 6
theorem Eff.rf {N0 : Int} {σ : AS} : Eff N0 σ σ := ⟨PF.rf, fun _ => rfl, fun _ => rfl, rfl, rfl, rfl⟩
theorem Eff.trans {N0 : Int} {σ σ1 σ2 : AS} (h : Eff N0 σ σ1) (h' : Eff N0 σ1 σ2) : Eff N0 σ σ2 :=
  ⟨h.1.trans h'.1, fun j => (h'.2.1 j).trans (h.2.1 j), fun j => (h'.2.2.1 j).trans (h.2.2.1 j), h'.2.2.2.1.trans h.2.2.2.1, h'.2.2.2.2.1.trans h.2.2.2.2.1, h'.2.2.2.2.2.trans h.2.2.2.2.2⟩
/-- the component has failed as the twin did -/
def CF (T : List Int) (q : Int) (σ : AS) (c p : Int) : Prop := (ld σ 1007 3 = c ∧ c ≠ 0 ∧ ld σ 1007 4 = p) ∨ (ld σ 1007 3 = 0 ∧ tkC T q = 50 ∧ c = 1 ∧ q = p)
def CF1 (σ : AS) (c p : Int) : Prop := ld σ 1007 3 = c ∧ c ≠ 0 ∧ ld σ 1007 4 = p
def nxq (T : List Int) (q : Int) : Int := tkB T (tkE T q)
section PR
variable {σ σ0 σ' : AS} {n : Nat} {N0 U0 z k q q' c p v r C : Int} {T : List Int} {S : PS} {X : Int → Prop}
theorem ShP.keep {k' z' : Int} (h : ShP T N0 U0 σ z k q S) (hF : Fr X σ σ') (hX : ∀ r, r < nx σ → X r → (r = 1007 ∨ r = 1008 ∨ r = N0 ∨ r = N0 + 4)) (hl : LxC σ' 1008 T q') (hl2 : tkC T q' ≠ 0 → tkC T q' ≠ 2 → tkC T q' ≠ 50 → N0 ≤ ld σ' 1008 5) (hp : ld σ' 1007 0 = 1008 ∧ ld σ' 1007 1 = N0 ∧ 0 ≤ ld σ' 1007 2 ∧ ld σ' 1007 2 ≤ 8 + z') (hq : ∀ i, 0 ≤ i → i < 7 → ld σ' N0 i = ld σ N0 i) (hz : z ≤ z') (hb : nx σ' ≤ N0 + 5 * tkE T q' + 6 * szS S + k' ∧ us σ' ≤ U0 + 60 * tkE T q' + 60 * szS S + 10 * k') : ShP T N0 U0 σ' z' k' q' S := by
  obtain ⟨a1, a2, a3, a4, ⟨b1, b2, b3, b4, b5⟩, ⟨c1, c2⟩, ⟨d1, d2, d3, d4⟩, e1, e2, ⟨f1, f2, f3, f4, f5⟩, g1⟩ := h
  have kx : ∀ r, r < nx σ → X r → kd σ r = 18 ∨ kd σ r = 19 ∨ kd σ r = 12 ∨ kd σ r = 103 := fun r hr w => by
    rcases hX r hr w with u | u | u | u
    · rw [u]; exact Or.inl b1
    · rw [u]; exact Or.inr (Or.inl a3.1.1)
    · rw [u]; exact Or.inr (Or.inr (Or.inl d1))
    · rw [u]; exact Or.inr (Or.inr (Or.inr d3))
  have hF' : Fr (fun r => r = 1007 ∨ r = 1008 ∨ r = N0 ∨ r = N0 + 4) σ σ' := hF.sub hX
  have hn := hF.1
  refine ⟨a1.frame hF' (fun r hr w => ?_), a2.frame hF' (by omega) (fun r w => ?_), hl, hl2, ⟨by rw [hF.kd (by omega)]; exact b1, hp.1, hp.2.1, hp.2.2.1, hp.2.2.2⟩, ⟨c1, by omega⟩, ⟨by rw [hF.kd (by omega)]; exact d1, fun i h1 h2 => (hq i h1 h2).trans (d2 i h1 h2), by rw [hF.kd (by omega)]; exact d3, by rw [hF.ln (by omega)]; exact d4⟩, e1.frame hF (fun r hr w => ?_), e2.frame hF (fun r hr w => ?_), by omega, hb⟩
  · have w' : r = 1007 ∨ r = 1008 ∨ r = N0 ∨ r = N0 + 4 := w
    omega
  · have w' : r = 1007 ∨ r = 1008 ∨ r = N0 ∨ r = N0 + 4 := w
    omega
  · have := kx r hr w; omega
  · have := kx r hr w; omega
theorem sh_rng (h : ShP T N0 U0 σ z k q S) : 0 ≤ q ∧ q ≤ T.length ∧ q ≤ tkE T q ∧ tkE T q ≤ T.length := by
  have hl := h.2.2.1.2.2.2.2.2.2
  have := tkE_le (T := T) hl.2
  omega
/-- the lexer's step within the parser -/
theorem sh_next (hn : 1000000 ≤ n) (hb : BtOk T) (h : ShP T N0 U0 σ z k q S) : Wp (f_X4_next n 1008 σ) fun σ' => ShP T N0 U0 σ' z k (nxq T q) S ∧ Eff N0 σ σ' ∧ ∀ j, ld σ' 1007 j = ld σ 1007 j := by
  obtain ⟨a1, a2, a3, a4, ⟨b1, b2, b3, b4, b5⟩, ⟨c1, c2⟩, ⟨d1, d2, d3, d4⟩, e1, e2, f, g1⟩ := id h
  have hr := sh_rng h
  refine wp_mono (c_next hn hb a1 (by decide) a3.1 a3.2.2.1 ⟨by omega, hr.2.2.2⟩) fun σ' hN => ?_
  obtain ⟨n1, n2, n3, n4, n5⟩ := hN
  have hB := tkB_le (T := T) hr.2.2.2
  have hE := tkE_le (T := T) hB.2
  have e7 : ∀ j, ld σ' 1007 j = ld σ 1007 j := n2.ld (by omega) (fun w => by omega)
  have eN : ∀ j, ld σ' N0 j = ld σ N0 j := n2.ld (by omega) (fun w => by omega)
  have eB : ∀ j, ld σ' (N0 + 4) j = ld σ (N0 + 4) j := n2.ld (by omega) (fun w => by omega)
  refine ⟨h.keep n2 (fun r _ w => Or.inr (Or.inl w)) n1 (fun w1 w2 w3 => ?_) ⟨by rw [e7]; exact b2, by rw [e7]; exact b3, by rw [e7]; exact b4, by rw [e7]; exact b5⟩ (fun i _ _ => eN i) (Int.le_refl _) ⟨?_, ?_⟩, ⟨PF.of n2 (fun r hr w => ?_), eB, eN, e7 2, e7 5, e7 6⟩, e7⟩
  · have := n5 w1 w2 w3; omega
  · show _ ≤ N0 + 5 * tkE T (tkB T (tkE T q)) + _ + _; omega
  · show _ ≤ U0 + 60 * tkE T (tkB T (tkE T q)) + _ + _; omega
  · have w' : r = 1008 := w
    rw [w']
    exact ⟨Or.inr (Or.inr rfl), Or.inr (Or.inr (Or.inl a3.1.1))⟩
theorem sh_is (hn : 1000000 ≤ n) (hb : BtOk T) (h : ShP T N0 U0 σ z k q S) (hm : (r, sp C) ∈ cstr) (hC : spC C) : f_X4_is n 1008 r σ = some (if tkC T q = C then 1 else 0, σ) := is_eq hn hb h.1 h.2.2.1 hm hC
theorem spC_50 (hC : spC C) : C ≠ 50 := by unfold spC at hC; omega
theorem CF.code0 (h : CF T q σ c p) (h0 : ld σ 1007 3 = 0) : tkC T q = 50 ∧ c = 1 ∧ q = p := by
  rcases h with ⟨h1, h2, h3⟩ | ⟨h1, h2⟩
  · omega
  · exact h2
theorem takes_no (hn : 1000000 ≤ n) (hb : BtOk T) (h : ShP T N0 U0 σ z k q S) (hm : (r, sp C) ∈ cstr) (hC : spC C) (hne : ld σ 1007 3 = 0 → tkC T q ≠ C) : f_X3_takes n 1007 r σ = some (0, σ) := by
  have h7 := h.2.2.2.2.1
  unfold f_X3_takes f_X3_takes_22 f_X3_takes_23
  rw [gd_pos h7.1]
  by_cases c : ld σ 1007 3 = 0
  · rw [if_pos c, gd_pos h7.1, h7.2.1, gd_pos h.2.2.1.1.1, sh_is hn hb h hm hC, c1_at, if_neg (hne c), if_pos rfl, if_pos rfl, gd_pos (by decide)]
  · rw [if_neg c, if_pos rfl, gd_pos (by decide)]
theorem takes_fail (hn : 1000000 ≤ n) (hb : BtOk T) (h : ShP T N0 U0 σ z k q S) (hm : (r, sp C) ∈ cstr) (hC : spC C) (hf : CF T q σ c p) : f_X3_takes n 1007 r σ = some (0, σ) :=
  takes_no hn hb h hm hC fun w e => spC_50 hC (by rw [← e]; exact (hf.code0 w).1)
theorem takes_yes (hn : 1000000 ≤ n) (hb : BtOk T) (h : ShP T N0 U0 σ z k q S) (hm : (r, sp C) ∈ cstr) (hC : spC C) (h0 : ld σ 1007 3 = 0) (he : tkC T q = C) : Wp (f_X3_takes n 1007 r σ) fun y => y.1 = 1 ∧ ShP T N0 U0 y.2 z k (nxq T q) S ∧ Eff N0 σ y.2 ∧ ∀ j, ld y.2 1007 j = ld σ 1007 j := by
  have h7 := h.2.2.2.2.1
  unfold f_X3_takes f_X3_takes_23
  refine wp_gd h7.1 (wp_pos h0 (wp_gd h7.1 ?_))
  rw [h7.2.1]
  refine wp_gd h.2.2.1.1.1 (wp_c1e (sh_is hn hb h hm hC) ?_)
  rw [if_pos he]
  refine wp_neg (by decide) (wp_neg (by decide) (wp_gd h7.1 ?_))
  rw [h7.2.1]
  exact wp_gd h.2.2.1.1.1 (wp_c0 (wp_mono (sh_next hn hb h) fun σ' h' => wp_gd (by decide) (wp_ok ⟨rfl, h'⟩)))
/-- fail, when no fault stands -/
theorem fail_set (h : ShP T N0 U0 σ z k q S) (h0 : ld σ 1007 3 = 0) (hc : c ≠ 0) : Wp (f_X3_fail 1007 c σ) fun σ' => ShP T N0 U0 σ' z k q S ∧ Eff N0 σ σ' ∧ CF1 σ' c q := by
  obtain ⟨a1, a2, a3, a4, ⟨b1, b2, b3, b4, b5⟩, ⟨c1, c2⟩, ⟨d1, d2, d3, d4⟩, e1, e2, f, g1⟩ := id h
  unfold f_X3_fail
  refine wp_gd b1 (wp_pos h0 (wp_gd b1 (wp_nm0 (wp_gd b1 ?_))))
  have e0 : ld (wr σ 1007 3 c) 1007 0 = 1008 := by rw [ld_wr, if_neg (by omega)]; exact b2
  rw [e0]
  refine wp_gd a3.1.1 (wp_gd b1 (wp_nm0 (wp_ok ?_)))
  have e2' : ld (wr σ 1007 3 c) 1008 2 = q := by rw [ld_wr, if_neg (by omega)]; exact a3.2.1
  rw [e2']
  have F : Fr (fun r => r = 1007) σ (wr (wr σ 1007 3 c) 1007 4 q) := by
    have g1 : Fr (fun r => r = 1007) σ (wr σ 1007 3 c) := Fr.wr rfl
    exact g1.trans (Fr.wr rfl)
  have o : ∀ j, j ≠ 3 → j ≠ 4 → ld (wr (wr σ 1007 3 c) 1007 4 q) 1007 j = ld σ 1007 j := fun j j3 j4 => by
    rw [ld_wr, if_neg (fun w => j4 w.2), ld_wr, if_neg (fun w => j3 w.2)]
  have o2 : ∀ r j, r ≠ 1007 → ld (wr (wr σ 1007 3 c) 1007 4 q) r j = ld σ r j := fun r j hr => by
    rw [ld_wr, if_neg (fun w => hr w.1), ld_wr, if_neg (fun w => hr w.1)]
  have hl : LxC (wr (wr σ 1007 3 c) 1007 4 q) 1008 T q := a3.frame F (fun r hr w => by
    have w' : r = 1007 := w
    rw [w', b1]; decide)
  refine ⟨h.keep F (fun r _ w => Or.inl w) hl (fun w1 w2 w3 => by rw [o2 _ _ (by decide)]; exact a4 w1 w2 w3) ⟨by rw [o 0 (by decide) (by decide)]; exact b2, by rw [o 1 (by decide) (by decide)]; exact b3, by rw [o 2 (by decide) (by decide)]; exact b4, by rw [o 2 (by decide) (by decide)]; exact b5⟩ (fun i _ _ => o2 _ _ (by omega)) (Int.le_refl _) g1, ⟨PF.of F (fun r hr w => ?_), fun j => o2 _ _ (by omega), fun j => o2 _ _ (by omega), o 2 (by decide) (by decide), o 5 (by decide) (by decide), o 6 (by decide) (by decide)⟩, ?_, hc, ?_⟩
  · have w' : r = 1007 := w
    rw [w']
    exact ⟨Or.inr (Or.inl rfl), by rw [b1]; exact Or.inr (Or.inl rfl)⟩
  · rw [ld_wr, if_neg (by omega), ld_wr, if_pos ⟨rfl, rfl⟩]
  · rw [ld_wr, if_pos ⟨rfl, rfl⟩]
theorem fail_no (h : ShP T N0 U0 σ z k q S) (h0 : ld σ 1007 3 ≠ 0) : f_X3_fail 1007 c σ = some σ := by
  unfold f_X3_fail
  rw [gd_pos h.2.2.2.2.1.1, if_neg h0]
/-- wrong: a bad token is fault 1, any other 2 -/
theorem wrong_set (h : ShP T N0 U0 σ z k q S) (h0 : ld σ 1007 3 = 0) : Wp (f_X3_wrong 1007 σ) fun σ' => ShP T N0 U0 σ' z k q S ∧ Eff N0 σ σ' ∧ CF1 σ' (if tkC T q = 50 then 1 else 2) q := by
  have h7 := h.2.2.2.2.1
  have hl := h.2.2.1
  have hk := cmp_kinds h.1 hl (k := 123) (by decide)
  unfold f_X3_wrong f_X3_wrong_19
  refine wp_gd h7.1 ?_
  rw [h7.2.1]
  refine wp_gd hl.1.1 (wp_gdc hk ?_)
  rw [hl.2.2.2.1]
  by_cases c : tkC T q = 50
  · rw [if_pos c, c]
    exact wp_pos rfl (wp_gd h7.1 (wp_c0 (wp_mono (fail_set h h0 (by decide)) fun σ' h' => wp_ok h')))
  · rw [if_neg c]
    refine wp_neg (fun w => ?_) (wp_gd h7.1 (wp_c0 (wp_mono (fail_set h h0 (by decide)) fun σ' h' => wp_ok h')))
    rcases tkC_rng (T := T) hl.2.2.2.2.2.2.1 with e | e | e | e | e
    · rw [e] at w; exact absurd w (by decide)
    · rw [e] at w; exact absurd w (by decide)
    · rw [e] at w; exact absurd w (by decide)
    · exact c e
    · have := (kdOf_sp e).1; omega
theorem wrong_no (h : ShP T N0 U0 σ z k q S) (h0 : ld σ 1007 3 ≠ 0) : f_X3_wrong 1007 σ = some σ := by
  have h7 := h.2.2.2.2.1
  have hl := h.2.2.1
  have hk := cmp_kinds h.1 hl (k := 123) (by decide)
  unfold f_X3_wrong f_X3_wrong_19
  rw [gd_pos h7.1, h7.2.1, gd_pos hl.1.1, gdc_pos hk]
  split
  · rw [gd_pos h7.1, fail_no h h0, c0_at]
  · rw [gd_pos h7.1, fail_no h h0, c0_at]
theorem wrong_fail (h : ShP T N0 U0 σ z k q S) (hf : CF T q σ c p) : Wp (f_X3_wrong 1007 σ) fun σ' => ShP T N0 U0 σ' z k q S ∧ Eff N0 σ σ' ∧ CF1 σ' c p := by
  by_cases h0 : ld σ 1007 3 = 0
  · obtain ⟨h1, h2, h3⟩ := hf.code0 h0
    refine wp_mono (wrong_set h h0) fun σ' h' => ⟨h'.1, h'.2.1, ?_⟩
    have := h'.2.2
    rw [if_pos h1] at this
    rw [h2, ← h3]; exact this
  · refine wp_of_eq (wrong_no h h0) ⟨h, Eff.rf, ?_⟩
    rcases hf with w | w
    · exact w
    · exact absurd w.1 h0
theorem need_yes (hn : 1000000 ≤ n) (hb : BtOk T) (h : ShP T N0 U0 σ z k q S) (hm : (r, sp C) ∈ cstr) (hC : spC C) (h0 : ld σ 1007 3 = 0) (he : tkC T q = C) : Wp (f_X3_need n 1007 r σ) fun σ' => ShP T N0 U0 σ' z k (nxq T q) S ∧ Eff N0 σ σ' ∧ ∀ j, ld σ' 1007 j = ld σ 1007 j := by
  have h7 := h.2.2.2.2.1
  unfold f_X3_need
  refine wp_gd h7.1 (wp_pos h0 (wp_gd h7.1 ?_))
  rw [h7.2.1]
  refine wp_gd h.2.2.1.1.1 (wp_c1e (sh_is hn hb h hm hC) ?_)
  rw [if_pos he]
  refine wp_neg (by decide) (wp_gd h7.1 ?_)
  rw [h7.2.1]
  exact wp_gd h.2.2.1.1.1 (wp_c0 (wp_mono (sh_next hn hb h) fun σ' h' => wp_ok h'))
theorem need_no (hn : 1000000 ≤ n) (hb : BtOk T) (h : ShP T N0 U0 σ z k q S) (hm : (r, sp C) ∈ cstr) (hC : spC C) (h0 : ld σ 1007 3 = 0) (he : tkC T q ≠ C) : Wp (f_X3_need n 1007 r σ) fun σ' => ShP T N0 U0 σ' z k q S ∧ Eff N0 σ σ' ∧ CF1 σ' (if tkC T q = 50 then 1 else 2) q := by
  have h7 := h.2.2.2.2.1
  unfold f_X3_need f_X3_need_28
  refine wp_gd h7.1 (wp_pos h0 (wp_gd h7.1 ?_))
  rw [h7.2.1]
  refine wp_gd h.2.2.1.1.1 (wp_c1e (sh_is hn hb h hm hC) ?_)
  rw [if_neg he]
  exact wp_pos rfl (wp_gd h7.1 (wp_c0 (wp_mono (wrong_set h h0) fun σ' h' => wp_ok h')))
theorem need_fail (hn : 1000000 ≤ n) (hb : BtOk T) (h : ShP T N0 U0 σ z k q S) (hm : (r, sp C) ∈ cstr) (hC : spC C) (hf : CF T q σ c p) : Wp (f_X3_need n 1007 r σ) fun σ' => ShP T N0 U0 σ' z k q S ∧ Eff N0 σ σ' ∧ CF1 σ' c p := by
  have h7 := h.2.2.2.2.1
  by_cases h0 : ld σ 1007 3 = 0
  · obtain ⟨h1, h2, h3⟩ := hf.code0 h0
    refine wp_mono (need_no hn hb h hm hC h0 (fun e => spC_50 hC (by rw [← e]; exact h1))) fun σ' h' => ⟨h'.1, h'.2.1, ?_⟩
    have := h'.2.2
    rw [if_pos h1] at this
    rw [h2, ← h3]; exact this
  · unfold f_X3_need f_X3_need_28
    refine wp_gd h7.1 (wp_neg h0 (wp_gd h7.1 (wp_c0 (wp_mono (wrong_fail h hf) fun σ' h' => wp_ok h'))))
end PR
