/-! CONDITIONS: the failed mode -/
set_option maxRecDepth 100000
def CdK (T : List Int) (N0 U0 z k : Int) (σ : AS) (τ : TT) (q : Int) (S : PS) (M : Nat) (cs : List Cnd) (σ' : AS) (τ' : TT) : Prop :=
  ∃ q' S' cs', q ≤ q' ∧ cs'.length = cs.length + 1 ∧ ShP T N0 U0 σ' z k q' S' ∧ (∀ i, i ≠ 2 → S'.2 i = S.2 i) ∧ OKC T N0 σ' τ' q' S' M cs' ∧ S.1.1.length ≤ S'.1.1.length ∧ (∀ i : Nat, i < S.1.1.length → τ' 1036 i = τ 1036 i) ∧ EfX N0 σ σ' ∧ CnF cs.length τ τ'
def CdL (T : List Int) (N0 U0 z k : Int) (σ : AS) (τ : TT) (cs : List Cnd) (σ' : AS) (τ' : TT) : Prop :=
  Fl T N0 U0 (z + 1) (k + 2) σ' τ' ∧ EfX N0 σ σ' ∧ CnF cs.length τ τ'
section MF
variable {σ σ0 σ1 σ2 σ3 σ' : AS} {τ τ0 τ' : TT} {n M : Nat} {N0 U0 z z' k q q0 q' p v l r C l1 l2 l4 l5 e var x a b c : Int} {T : List Int} {S : PS}
theorem lref2 : N0 + 1 + 4 = lref N0 2 := by show N0 + 1 + 4 = N0 + 3 + ((2 : Nat) : Int); omega
theorem FlR.wrong (h : FlR T N0 U0 z k S σ τ) : Wp (f_X3_wrong 1007 σ) fun σ' => FlR T N0 U0 z k S σ' τ ∧ Eff N0 σ σ' := by
  obtain ⟨q, h1, h2⟩ := h
  exact wp_mono (wrong_fail h1 h2) fun σ1 h3 => ⟨⟨q, h3.1, Or.inl h3.2.2⟩, h3.2.1⟩
theorem FlR.al {K m : Nat} (h : FlR T N0 U0 z k S σ τ) (hm : m ≤ 10) : FlR T N0 U0 z (k + 1) S (al σ K 0 m) τ ∧ Eff N0 σ (al σ K 0 m) ∧ kd (al σ K 0 m) (nx σ) = K ∧ nx (al σ K 0 m) = nx σ + 1 := by
  obtain ⟨q, h1, h2⟩ := h
  obtain ⟨s1, s2, s3, s4, s5⟩ := sh_al (K := K) h1 hm
  refine ⟨⟨q, s1, ?_⟩, s2, s4, s5⟩
  unfold CF
  rw [s3, s3]
  exact h2
theorem FlR.cond {K : AS → Option AS} {Q : AS → Prop} (h : FlR T N0 U0 z k S σ τ) (hE : EfX N0 σ0 σ) (h0 : N0 + 8 ≤ nx σ0) (hp : nx σ0 ≤ p ∧ p < nx σ ∧ kd σ p = 15) (hz : z ≤ 6)
    (hK : ∀ σ' S', FlR T N0 U0 (z + 1) (k - 3) S' σ' τ → EfX N0 σ0 σ' → Wp (K σ') Q) :
    Wp (c0 (f_X21_init p a b c σ) fun σ22 => gd (kd σ22 (lref N0 2) = 31) <| c1 (f_J32_add (lref N0 2) p σ22) fun _ σ26 => K σ26) Q := by
  obtain ⟨q, h1, h2⟩ := h
  have hsz := h1.2.2.2.2.2.2.2.2.2.1
  refine sh_cond (z' := z + 1) h1 hE h0 hp ⟨by omega, by omega⟩ (by omega) fun σ1 g1 g2 g3 _ _ _ => hK σ1 _ ⟨q, g1, ?_⟩ g2
  unfold CF
  rw [g3, g3]
  exact h2
theorem FlR.nN (h : FlR T N0 U0 z k S σ τ) : N0 + 8 ≤ nx σ ∧ 1054 ≤ N0 ∧ ld σ 1007 1 = N0 ∧ kd σ N0 = 12 ∧ ld σ N0 4 = lref N0 2 ∧ ld σ 1007 0 = 1008 ∧ kd σ 1008 = 19 := by
  obtain ⟨q, h1, h2⟩ := h
  have h7 := h1.2.2.2.2.1
  have hN := h1.2.2.2.2.2.2.1
  have hn := h1.2.2.2.2.2.1
  exact ⟨hn.2, hn.1, h7.2.2.1, hN.1, by rw [hN.2.1 4 (by decide) (by decide)]; exact lref2, h7.2.1, h1.2.2.1.1.1⟩
theorem ShP.nN (h : ShP T N0 U0 σ z k q S) : N0 + 8 ≤ nx σ ∧ 1054 ≤ N0 ∧ ld σ 1007 1 = N0 ∧ kd σ N0 = 12 ∧ ld σ N0 4 = lref N0 2 ∧ ld σ 1007 0 = 1008 ∧ kd σ 1008 = 19 := by
  have h7 := h.2.2.2.2.1
  have hN := h.2.2.2.2.2.2.1
  have hn := h.2.2.2.2.2.1
  exact ⟨hn.2, hn.1, h7.2.2.1, hN.1, by rw [hN.2.1 4 (by decide) (by decide)]; exact lref2, h7.2.1, h.2.2.1.1.1⟩
theorem c207_fail (hn : 1000000 ≤ n) (hb : BtOk T) (h : FlR T N0 U0 z k S σ τ) (hz : z ≤ 6) {K : Int → Int → AS → Option AS} {Q : AS → Prop} (hK : ∀ σ' S', FlR T N0 U0 (z + 1) (k - 1) S' σ' τ → EfX N0 σ σ' → Wp (K 1007 x σ') Q) : Wp (f_X3_conditions_207 n K 1007 x l4 l5 σ) Q := by
  obtain ⟨g1, g2, g3, g4, g5, -⟩ := h.nN
  unfold f_X3_conditions_207
  refine wp_gd h.g ?_
  rw [g3]
  refine wp_gd g4 (wp_nm0 (wp_nm0 ?_))
  rw [g5]
  obtain ⟨f1, E1, k1, n1⟩ := h.al (K := 15) (m := 3) (by decide)
  generalize al σ 15 0 3 = σ1 at *
  refine wp_gd f1.g (wp_c1 (wp_mono (term_fail hn hb f1) fun y hy => wp_gd (by omega) ?_))
  have hny := hy.2.1.1.1.1
  refine FlR.cond hy.1 (E1.trans hy.2.1).x g1 ⟨Int.le_refl _, by omega, by rw [hy.2.1.1.1.kd (by omega)]; exact k1⟩ hz fun σ' S' f2 E2 => hK σ' S' ?_ E2
  have : k + 1 + 1 - 3 = k - 1 := by omega
  rw [this] at f2
  exact f2
theorem c163_fail (hn : 1000000 ≤ n) (hb : BtOk T) (h : FlR T N0 U0 z k S σ τ) (hz : z ≤ 6) {K : Int → Int → AS → Option AS} {Q : AS → Prop} (hK : ∀ σ' S', FlR T N0 U0 (z + 1) k S' σ' τ → EfX N0 σ σ' → Wp (K 1007 x σ') Q) : Wp (f_X3_conditions_163 n K 1007 x σ) Q := by
  unfold f_X3_conditions_163
  refine wp_gd h.g (wp_c1 (wp_mono (term_fail hn hb h) fun y hy => ?_))
  obtain ⟨f1, E1, -⟩ := hy
  obtain ⟨g1, g2, g3, g4, g5, g6, g7⟩ := f1.nN
  have k203 : ∀ (l5 : Int), Wp (f_X3_conditions_203 n (f_X3_conditions_207 n K) 1007 x y.1 l5 y.2) Q := fun l5 => by
    unfold f_X3_conditions_203
    refine wp_gd f1.g (wp_c0 (wp_mono f1.wrong fun σ2 h2 => c207_fail hn hb h2.1 hz fun σ' S' f2 E2 => hK σ' S' ?_ (E1.x.trans (h2.2.x.trans E2))))
    have : k + 1 - 1 = k := by omega
    rw [this] at f2
    exact f2
  refine wp_gd f1.g ?_
  rw [g6]
  refine wp_gd g7 (wp_nm0 (wp_gd f1.g (wp_ite (fun c0 => wp_gd f1.g ?_) fun _ => k203 _)))
  have e : f_X3_isComparison n 1007 y.2 = some (0, y.2) := by
    unfold f_X3_isComparison
    rw [gd_pos f1.g, g6, gd_pos g7, f1.is hn hb c0 (r := 47) (C := 42) (by decide) (by unfold spC; omega), c1_at, if_pos rfl, gd_pos f1.g, g6, gd_pos g7, f1.is hn hb c0 (r := 49) (C := 43) (by decide) (by unfold spC; omega), c1_at, if_pos rfl, gd_pos f1.g, g6, gd_pos g7, f1.is hn hb c0 (r := 51) (C := 44) (by decide) (by unfold spC; omega), c1_at, if_pos rfl, gd_pos f1.g, g6, gd_pos g7, f1.is hn hb c0 (r := 53) (C := 45) (by decide) (by unfold spC; omega), c1_at, if_pos rfl, gd_pos f1.g, g6, gd_pos g7, f1.is hn hb c0 (r := 55) (C := 46) (by decide) (by unfold spC; omega), c1_at, if_pos rfl, gd_pos f1.g, g6, gd_pos g7, f1.is hn hb c0 (r := 57) (C := 47) (by decide) (by unfold spC; omega), c1_at, if_pos rfl]
  exact wp_c1e e (wp_pos rfl (k203 _))
end MF
