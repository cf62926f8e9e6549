/-! TERMS, side by side -/
set_option maxRecDepth 100000
def TrT (τ : TT) (a b : Int) (t : Trm) : Prop := (t.1 = -1 ∧ t.2.1 = -1 ∧ τ a b = 0 ∧ τ a (b + 1) = t.2.2 ∧ -2147483648 ≤ t.2.2 ∧ t.2.2 ≤ 2147483647) ∨ (0 ≤ t.1 ∧ t.2.2 = 0 ∧ τ a (b + 1) = t.1 ∧ τ a (b + 2) = t.2.1 ∧ ((t.2.1 = -1 ∧ τ a b = 1) ∨ (0 ≤ t.2.1 ∧ t.2.1 ≤ 31 ∧ τ a b = 2)))
theorem TrT.congr {τ τ' : TT} {a b : Int} {t : Trm} (h : TrT τ a b t) (h1 : ∀ j, b ≤ j → j ≤ b + 2 → τ' a j = τ a j) : TrT τ' a b t := by
  unfold TrT at *
  rw [h1 b (by omega) (by omega), h1 (b + 1) (by omega) (by omega), h1 (b + 2) (by omega) (by omega)]
  exact h
/-- what the twin's term at b writes -/
def TmF (a b : Int) (τ τ' : TT) : Prop := ∀ r j, ¬ (r = 1022 ∧ ((17 ≤ j ∧ j ≤ 22) ∨ (26 ≤ j ∧ j ≤ 28) ∨ (41 ≤ j ∧ j ≤ 43))) → ¬ (1034 ≤ r ∧ r ≤ 1036) → ¬ (r = a ∧ b ≤ j ∧ j ≤ b + 2) → τ' r j = τ r j
theorem NvF.tm {τ τ' : TT} {a b : Int} (h : NvF τ τ') : TmF a b τ τ' := fun r j h1 h2 _ => h r j h1 h2
theorem TmF.trans {τ τ1 τ2 : TT} {a b : Int} (h : TmF a b τ τ1) (h' : TmF a b τ1 τ2) : TmF a b τ τ2 := fun r j x y z => (h' r j x y z).trans (h r j x y z)
theorem TmF.sa {τ : TT} {a b j v : Int} (h : b ≤ j ∧ j ≤ b + 2) : TmF a b τ (sa τ a j v) := fun r i _ _ z => by
  rw [sa_at, if_neg (fun u => z ⟨u.1, by omega⟩)]
/-- the outcome of a term -/
def TmP (T : List Int) (N0 U0 z k : Int) (σ : AS) (τ : TT) (q : Int) (S : PS) (M : Nat) (b : Int) (y : Int × AS) (w : Int × TT) : Prop :=
  EfX N0 σ y.2 ∧ TmF 1038 b τ w.2 ∧ elQ y.2 y.1 ∧ ((w.1 = 1 ∧ ∃ q' S' t, q ≤ q' ∧ ShP T N0 U0 y.2 z (k + 1) q' S' ∧ S'.2 = S.2 ∧ OKW T y.2 w.2 q' S' M ∧ S.1.1.length ≤ S'.1.1.length ∧ (∀ i : Nat, i < S.1.1.length → w.2 1036 i = τ 1036 i) ∧ TrAt y.2 y.1 t ∧ TrT w.2 1038 b t ∧ t.1 < S'.1.1.length ∧ (ld y.2 1007 5 = 0 → t.1 < M)) ∨ (w.1 = 0 ∧ Fl T N0 U0 z (k + 1) y.2 w.2))
theorem wcode_n2 {w : List Int} : wcode w ≠ 2 := by
  unfold wcode
  repeat' split
  all_goals decide
theorem sgn1_n2 {c : Int} : sgn1 c ≠ 2 := by
  unfold sgn1
  repeat' split
  all_goals decide
theorem sgn2_n2 {c d : Int} : sgn2 c d ≠ 2 := by
  unfold sgn2
  repeat' split
  all_goals decide
theorem tkC_2 {T : List Int} {q : Int} (h : tkC T q = 2) : -2147483648 ≤ nmA T q ∧ nmA T q ≤ 2147483647 := by
  unfold tkC at h
  by_cases c1 : (T.length : Int) ≤ q
  · rw [if_pos c1] at h; omega
  rw [if_neg c1] at h
  by_cases c2 : isSm (bt T q) = true
  · rw [if_pos c2] at h; exact absurd h wcode_n2
  rw [if_neg c2] at h
  by_cases c3 : nmB T q = true
  · rw [if_pos c3] at h
    by_cases c4 : -2147483648 ≤ nmA T q ∧ nmA T q ≤ 2147483647
    · exact c4
    · rw [if_neg c4] at h; omega
  · rw [if_neg c3] at h
    unfold sgn at h
    by_cases c4 : sgn2 (bt T q) (bt T (q + 1)) = 0
    · rw [if_pos c4] at h; exact absurd h sgn1_n2
    · rw [if_neg c4] at h; exact absurd h sgn2_n2
section TX
variable {σ σ0 σ1 σ2 σ3 σ' : AS} {τ τ0 τ' : TT} {n M : Nat} {N0 U0 z z' k q q0 q' c p v l r C l1 l2 l4 l5 e var x a b : Int} {T : List Int} {S : PS}
theorem OKB.fr (hO : OKB T σ τ q S) (h1 : ∀ j, (16 ≤ j ∧ j ≤ 22) ∨ (26 ≤ j ∧ j ≤ 28) → τ' 1022 j = τ 1022 j) (h2 : ∀ r j, 1033 ≤ r → r ≤ 1035 → τ' r j = τ r j) : OKB T σ τ' q S := by
  obtain ⟨o1, ⟨t1', t2, t3, t4, t5, t6⟩, o3, o4, o5⟩ := hO
  refine ⟨o1, ⟨by rw [h1 _ (by omega)]; exact t1', by rw [h1 _ (by omega)]; exact t2, by rw [h1 _ (by omega)]; exact t3, fun w => by rw [h1 _ (by omega)]; exact t4 w, t5, t6⟩, ⟨by rw [h1 _ (by omega)]; exact o3.1, fun i hi => by rw [h2 _ _ (by omega) (by omega)]; exact o3.2 i hi⟩, o4.congr rfl rfl (h1 _ (by omega)) (h1 _ (by omega)), o5.congr (h1 _ (by omega)) fun i => ⟨h2 _ _ (by omega) (by omega), h2 _ _ (by omega) (by omega)⟩⟩
theorem OKW.fr (hO : OKW T σ τ q S M) (h1 : ∀ j, (16 ≤ j ∧ j ≤ 22) ∨ (26 ≤ j ∧ j ≤ 28) → τ' 1022 j = τ 1022 j) (h2 : ∀ r j, 1033 ≤ r → r ≤ 1036 → τ' r j = τ r j) : OKW T σ τ' q S M :=
  ⟨hO.1.fr h1 fun r j g1 g2 => h2 r j g1 (by omega), hO.2.1, fun i hi => by rw [h2 _ _ (by omega) (by omega)]; exact hO.2.2 i hi⟩
theorem OKW.same (hO : OKW T σ τ q S M) (h7 : ∀ j, ld σ' 1007 j = ld σ 1007 j) {S' : PS} (hS : S'.1 = S.1) : OKW T σ' τ q S' M := ⟨okb_same hO.1 h7 hS, by rw [hS]; exact hO.2.1, by rw [hS]; exact hO.2.2⟩
/-- a part made before is filled -/
theorem sh_part (h : ShP T N0 U0 σ2 z k q S) (hp : N0 + 8 ≤ p ∧ p < nx σ2 ∧ 13 ≤ kd σ2 p ∧ kd σ2 p ≤ 17) (hF : Fr (fun r => r = p) σ2 σ3) (hn : nx σ3 = nx σ2) (hu : us σ3 = us σ2) : ShP T N0 U0 σ3 z k q S ∧ ∀ r j, r < nx σ2 → r ≠ p → ld σ3 r j = ld σ2 r j := by
  obtain ⟨a1, a2, a3, a4, ⟨b1, b2, b3, b4, b5⟩, ⟨c1, c2⟩, ⟨d1, d2, d3, d4⟩, e1, e2, f, g1, g2⟩ := id h
  have o : ∀ r j, r < nx σ2 → r ≠ p → ld σ3 r j = ld σ2 r j := fun r j hr hne => hF.ld hr (fun w => hne w) j
  have hq7 : ∀ r, r = p → 13 ≤ kd σ2 r ∧ kd σ2 r ≤ 17 := fun r w => by rw [w]; exact hp.2.2
  have o7 : ∀ j, ld σ3 1007 j = ld σ2 1007 j := fun j => o _ _ (by omega) (by omega)
  have o8 : ∀ j, ld σ3 1008 j = ld σ2 1008 j := fun j => o _ _ (by omega) (by omega)
  have oN : ∀ j, ld σ3 N0 j = ld σ2 N0 j := fun j => o _ _ (by omega) (by omega)
  refine ⟨⟨a1.frame hF (fun r hr w => by have w' : r = p := w; omega), a2.frame hF (by omega) (fun r w => by have w' : r = p := w; omega), a3.frame hF (fun r _ w => by have := hq7 r w; omega), fun w1 w2 w3 => by rw [o8]; exact a4 w1 w2 w3, ⟨by rw [hF.kd (by omega)]; exact b1, by rw [o7]; exact b2, by rw [o7]; exact b3, by rw [o7]; exact b4, by rw [o7]; exact b5⟩, ⟨c1, by omega⟩, ⟨by rw [hF.kd (by omega)]; exact d1, fun i h1 h2 => by rw [oN]; exact d2 i h1 h2, by rw [hF.kd (by omega)]; exact d3, by rw [hF.ln (by omega)]; exact d4⟩, e1.frame hF (fun r _ w => by have := hq7 r w; omega), e2.frame hF (fun r _ w => by have := hq7 r w; omega), f, by omega, by omega⟩, o⟩
theorem PF.part (h : PF N0 σ σ2) (hN : N0 ≤ nx σ) (hp : nx σ ≤ p) (hF : Fr (fun r => r = p) σ2 σ3) : PF N0 σ σ3 := by
  have hn := h.1.1
  refine ⟨h.1.trans (hF.sub fun r _ w => Or.inl (by have w' : r = p := w; omega)), fun r hr hw j => ?_, fun s l a b => (h.2.2 s l a b).frame hF (by omega) (fun w => by have w' : s = p := w; omega) (fun w => by have w' : s + 1 = p := w; omega)⟩
  rw [hF.ld (by omega) (fun w => by have w' : r = p := w; omega)]
  exact h.2.1 r hr hw j
/-- a fresh part, not filled -/
theorem sh_al {K m : Nat} (h : ShP T N0 U0 σ z k q S) (hm : m ≤ 10) : ShP T N0 U0 (al σ K 0 m) z (k + 1) q S ∧ Eff N0 σ (al σ K 0 m) ∧ (∀ j, ld (al σ K 0 m) 1007 j = ld σ 1007 j) ∧ kd (al σ K 0 m) (nx σ) = K ∧ nx (al σ K 0 m) = nx σ + 1 := by
  obtain ⟨s1, s2, s3⟩ := sh_fresh (cc := 1) h (Fr.al (by omega)) (show nx (al σ K 0 m) ≤ nx σ + 1 from Int.le_refl _) (show us (al σ K 0 m) ≤ us σ + 10 * 1 by show us σ + (m : Int) ≤ _; omega)
  exact ⟨s1, s2, s3, by rw [kd_al, if_pos rfl], rfl⟩
/-- a term's object is filled -/
theorem fill_term (hp : p ≠ 0) (hk : kd σ p = 16) : ∃ σ', f_X22_init p a b c σ = some σ' ∧ (ld σ' p 0 = a ∧ ld σ' p 1 = b ∧ ld σ' p 2 = c) ∧ nx σ' = nx σ ∧ us σ' = us σ ∧ Fr (fun r => r = p) σ σ' := by
  refine ⟨wr (wr (wr σ p 0 a) p 1 b) p 2 c, ?_, ⟨?_, ?_, ?_⟩, rfl, rfl, Fr.trans (Fr.wr rfl) (Fr.trans (Fr.wr rfl) (Fr.wr rfl))⟩
  · unfold f_X22_init f_J9_init
    rw [gd_pos hp, gd_pos hp, c0_at, gd_pos hk, nm_eq, gd_pos (show kd (wr σ p 0 a) p = 16 from hk), nm_eq, gd_pos (show kd (wr (wr σ p 0 a) p 1 b) p = 16 from hk), nm_eq]
  · simp [ld_wr]
  · simp [ld_wr]
  · simp [ld_wr]
theorem term_fail (hn : 1000000 ≤ n) (hb : BtOk T) (h : FlR T N0 U0 z k S σ τ) {m : Int} : Wp (f_X3_term n 1007 m σ) fun y => FlR T N0 U0 z (k + 1) S y.2 τ ∧ Eff N0 σ y.2 ∧ elQ y.2 y.1 := by
  have h40 : Wp (f_X3_term_40 n 1007 m σ) fun y => FlR T N0 U0 z (k + 1) S y.2 τ ∧ Eff N0 σ y.2 ∧ elQ y.2 y.1 := by
    unfold f_X3_term_40
    exact wp_gd h.g (wp_c1 (wp_mono (value_fail hn hb h) fun y hy => wp_ok hy))
  unfold f_X3_term
  refine wp_gd h.g (wp_ite (fun h0 => wp_gd h.g ?_) fun _ => h40)
  obtain ⟨q, h1, h2⟩ := id h
  have h7 := h1.2.2.2.2.1
  have hl := h1.2.2.1
  rw [h7.2.1]
  refine wp_gd hl.1.1 (wp_gdc (cmp_kinds h1.1 hl (by decide)) (wp_neg ?_ h40))
  rw [hl.2.2.2.1, (h2.code0 h0).1]; decide
end TX
