/-! ORDERS, side by side: behind an item -/
set_option maxRecDepth 100000
section OS
variable {σ σ0 σ1 σ2 σ3 σ' : AS} {τ τ0 τ' : TT} {n M : Nat} {N0 U0 z z' k q q0 q' p v l r C l1 l2 l4 l5 e var x a b c s0 hc : Int} {T : List Int} {S S' : PS} {cs : List Cnd} {its : List Trm} {os : List Odr} {t : Trm}
theorem OKO.move (hO : OKO T N0 σ τ q S M cs its os) (hW : OKW T σ' τ' q' S' M) (hS : S'.2 2 = S.2 2 ∧ S'.2 3 = S.2 3 ∧ S'.2 4 = S.2 4) (hE : PF N0 σ σ') (h5 : ld σ' 1007 5 = 0 → ld σ 1007 5 = 0) (h34 : τ' 1022 34 = τ 1022 34 ∧ τ' 1022 36 = τ 1022 36 ∧ τ' 1022 38 = τ 1022 38) (h38 : ∀ j, τ' 1038 j = τ 1038 j ∧ τ' 1039 j = τ 1039 j ∧ τ' 1040 j = τ 1040 j) : OKO T N0 σ' τ' q' S' M cs its os := by
  obtain ⟨hC, hA, hT, h8, hV⟩ := hO
  exact ⟨hC.move hW ⟨hS.1, hS.2.1⟩ hE h5 ⟨h34.1, h34.2.1⟩ fun j => ⟨(h38 j).1, (h38 j).2.1⟩, by rw [hS.2.2]; exact hA.pf hE, ⟨by rw [h34.2.2]; exact hT.1, fun i hi => (hT.2 i hi).congr fun j _ _ => (h38 j).2.2⟩, h8, fun u => hV (h5 u)⟩
/-- right behind an item of an order -/
def OQ (T : List Int) (N0 : Int) (σ : AS) (τ : TT) (q : Int) (S : PS) (M : Nat) (cs : List Cnd) (its : List Trm) (os : List Odr) (r : Int) (t : Trm) : Prop :=
  OKI T N0 σ τ q S M cs its ∧ OsAt σ (S.2 4) os ∧ (τ 1022 38 = os.length ∧ ∀ i : Nat, i < os.length → OrT τ i (os.getD i o0d)) ∧ os.length < 8 ∧ (ld σ 1007 5 = 0 → ∀ o, o ∈ os → OrV M its o) ∧ TrAt σ r t ∧ ItT τ 1040 (4 * os.length) t ∧ τ 1040 (4 * os.length + 3) = 0 ∧ (ld σ 1007 5 = 0 → ∀ d, OrV M its (t, d))
/-- behind "desc" or not: the order is added, a comma may follow -/
theorem lk_oEnd (hn : 1000000 ≤ n) (hb : BtOk T) {d : Int} (hd : d = 0 ∨ d = 1) (h : ShP T N0 U0 σ 0 k q S) (hI : OQ T N0 σ0 τ0 q0 S M cs its os r t) (hW : OKW T σ τ q S M) (hF : ∀ r j, ¬ (r = 1022 ∧ 17 ≤ j ∧ j ≤ 22) → ¬ (r = 1040 ∧ j = 4 * (os.length : Int) + 3) → τ r j = τ0 r j) (hdt : τ 1040 (4 * os.length + 3) = d)
    (hE : EfX N0 σ0 σ) (h0 : N0 + 8 ≤ nx σ0) (hp : nx σ0 ≤ p ∧ p < nx σ ∧ kd σ p = 17) {K : Int → Int → Int → Int → AS → Option AS} {Kt : Int → Int → TT → Option (Int × TT)} {R : AS → Int × TT → Prop}
    (hk1 : ∀ σ' τ' q', q ≤ q' → ShP T N0 U0 σ' 0 (k - 3) q' (S.1, updF S.2 4 p) → OKO T N0 σ' τ' q' (S.1, updF S.2 4 p) M cs its (os ++ [(t, d)]) → EfX N0 σ0 σ' → OaF τ0 τ' → (∀ i, τ' 1036 i = τ0 1036 i) → Wp (K 1007 x 1 hc σ') fun a => Wp (Kt 1022 1 τ') fun b => R a b)
    (hk0 : ∀ σ' τ' q', q ≤ q' → ShP T N0 U0 σ' 0 (k - 3) q' (S.1, updF S.2 4 p) → OKO T N0 σ' τ' q' (S.1, updF S.2 4 p) M cs its (os ++ [(t, d)]) → EfX N0 σ0 σ' → OaF τ0 τ' → (∀ i, τ' 1036 i = τ0 1036 i) → Wp (K 1007 x 0 hc σ') fun a => Wp (Kt 1022 0 τ') fun b => R a b)
    (hf : ∀ σ' τ' S', FlR T N0 U0 0 (k - 3) S' σ' τ' → EfX N0 σ0 σ' → OaF τ0 τ' → Wp (K 1007 x 1 hc σ') fun a => R a (0, τ')) :
    Wp (c0 (f_X23_init p r d σ) fun σ22 => gd (kd σ22 (lref N0 4) = 31) <| c1 (f_J32_add (lref N0 4) p σ22) fun _ σ26 => gd (kd σ26 1007 = 18) <| c1 (f_X3_takes n 1007 37 σ26) fun v20 σ21 => K 1007 x v20 hc σ21) fun a => Wp (g_X7_orderTexts_88 n Kt 1022 τ) fun b => R a b := by
  obtain ⟨i1, i2, i3, i4, i5, i6, i7, i8, i9⟩ := hI
  have hls : (S.2 4).length = os.length := i2.1
  refine sh_order (z' := 0) h hE h0 hp (by omega) (by omega) (by omega) fun σ1 s1 E1 J1 c1' c2' => ?_
  have e38 : τ 1022 38 = os.length := (hF _ _ (by omega) (by omega)).trans i3.1
  have ea : ∀ r j, ¬ (r = 1022 ∧ j = 38) → sa τ 1022 38 ((os.length : Int) + 1) r j = τ r j := fun r j hh => by rw [sa_at, if_neg hh]
  have ea38 : sa τ 1022 38 ((os.length : Int) + 1) 1022 38 = os.length + 1 := by rw [sa_at, if_pos ⟨rfl, rfl⟩]
  unfold g_X7_orderTexts_88
  rw [e38, gI_pos (by omega), nm_eq]
  generalize sa τ 1022 38 ((os.length : Int) + 1) = τ1 at *
  have F1 : ∀ r j, ¬ (r = 1022 ∧ ((17 ≤ j ∧ j ≤ 22) ∨ j = 38)) → ¬ (r = 1040 ∧ j = 4 * (os.length : Int) + 3) → τ1 r j = τ0 r j := fun r j hh h2 => (ea r j (fun u => hh ⟨u.1, Or.inr u.2⟩)).trans (hF r j (fun u => hh ⟨u.1, Or.inl u.2⟩) h2)
  have FA : OaF τ0 τ1 := fun r j hx _ hz => F1 r j (fun u => hx ⟨u.1, by omega⟩) (fun u => hz u.1)
  have hW1 : OKW T σ1 τ1 q (S.1, updF S.2 4 p) M := OKW.same (S := S) (OKW.fr hW (fun j _ => ea _ _ (by omega)) fun r j g1 g2 => ea _ _ (by omega)) J1 rfl
  have hS4 : ∀ i, i ≠ 4 → updF S.2 4 p i = S.2 i := fun i hi => by
    unfold updF
    rw [if_neg hi]
  have hO1 : OKO T N0 σ1 τ1 q (S.1, updF S.2 4 p) M cs its (os ++ [(t, d)]) := by
    refine ⟨i1.move hW1 ⟨hS4 2 (by decide), hS4 3 (by decide)⟩ E1.1 E1.2.2.2 ⟨F1 _ _ (by omega) (by omega), F1 _ _ (by omega) (by omega)⟩ fun j => ⟨F1 _ _ (by omega) (by omega), F1 _ _ (by omega) (by omega)⟩, ?_, ⟨by rw [ea38]; simp, fun i hi => ?_⟩, by simp; omega, fun u5 o ho => ?_⟩
    · show OsAt σ1 (updF S.2 4 p 4) _
      unfold updF
      rw [if_pos rfl]
      refine (i2.pf E1.1).snoc ?_
      obtain ⟨b1, b2, b3, b4⟩ := c1'
      exact ⟨b1, b2, by rw [b3]; exact i6.pf E1.1, b4, hd⟩
    · have hi' : i < os.length + 1 := by simpa using hi
      rw [getD_snocG hi']
      by_cases e : i = os.length
      · rw [if_pos e, e]
        exact ⟨i7.congr fun j j1 j2 => F1 _ _ (by omega) (by omega), by rw [ea _ _ (by omega)]; exact hdt⟩
      · rw [if_neg e]
        exact (i3.2 i (by omega)).congr fun j j1 j2 => F1 _ _ (by omega) (by omega)
    · rcases List.mem_append.mp ho with hc | hc
      · exact i5 (E1.2.2.2 u5) o hc
      · rw [List.mem_singleton.mp hc]
        exact i9 (E1.2.2.2 u5) d
  have h36 : ∀ i, τ1 1036 i = τ0 1036 i := fun i => F1 _ _ (by omega) (by omega)
  have hqq := nxq_le s1
  have e19 : τ1 1022 19 = tkC T q := hW1.1.2.1.2.1
  unfold g_X7_orderTexts_112 g_X7_orderTexts_126
  refine wp_gd s1.2.2.2.2.1.1 ?_
  by_cases c : tkC T q = 34
  · refine wp_c1 (wp_mono (takes_yes hn hb s1 (r := 37) (C := 34) (by decide) (by unfold spC; omega) hW1.1.1 c) fun y2 hy2 => ?_)
    obtain ⟨p1, p2, p3, p4⟩ := hy2
    rw [if_pos (show τ1 1022 19 = 34 by rw [e19]; exact c), if_neg (show ¬ (1 : Int) = 0 by decide), p1]
    refine wp_swap (wp_t1 (wp_mono (ok_next hn hb s1 hW1.1 p2 p4) fun w5 hw5 => ?_))
    obtain ⟨v1, v2⟩ := hw5
    have F5 : OaF τ0 w5.2 := FA.trans v1.nv.oa
    rcases v2 with ⟨u1, u2⟩ | ⟨u1, u2⟩
    · refine wp_neg (by omega) (wp_swap ?_)
      have hW5 : OKW T y2.2 w5.2 (nxq T q) (S.1, updF S.2 4 p) M := ⟨u2, hW1.2.1, fun i hi => by rw [v1 _ _ (by omega)]; exact hW1.2.2 i hi⟩
      exact hk1 y2.2 w5.2 (nxq T q) hqq p2 (hO1.move hW5 ⟨rfl, rfl, rfl⟩ p3.1 (fun u => by rw [← p4]; exact u) ⟨v1 _ _ (by omega), v1 _ _ (by omega), v1 _ _ (by omega)⟩ fun j => ⟨v1 _ _ (by omega), v1 _ _ (by omega), v1 _ _ (by omega)⟩) (E1.trans p3.x) F5 fun i => (v1 _ _ (by omega)).trans (h36 i)
    · refine wp_pos u1 (wp_ok ?_)
      exact hf y2.2 w5.2 _ u2 (E1.trans p3.x) F5
  · refine wp_c1e (takes_no hn hb s1 (r := 37) (C := 34) (by decide) (by unfold spC; omega) fun _ => c) ?_
    rw [if_neg (show ¬ τ1 1022 19 = 34 by rw [e19]; exact c), if_pos (show (0 : Int) = 0 from rfl)]
    exact hk0 σ1 τ1 q (Int.le_refl _) s1 hO1 E1 FA h36
/-- behind an item -/
theorem lk_o127 (hn : 1000000 ≤ n) (hb : BtOk T) (h : ShP T N0 U0 σ 0 k q S) (hI : OQ T N0 σ τ q S M cs its os r t) {K : Int → Int → Int → Int → AS → Option AS} {Kt : Int → Int → TT → Option (Int × TT)} {R : AS → Int × TT → Prop}
    (hk1 : ∀ σ' τ' q' S' os', q ≤ q' → os'.length = os.length + 1 → ShP T N0 U0 σ' 0 (k - 2) q' S' → S'.1 = S.1 → (∀ i, i ≠ 4 → S'.2 i = S.2 i) → OKO T N0 σ' τ' q' S' M cs its os' → EfX N0 σ σ' → OaF τ τ' → (∀ i, τ' 1036 i = τ 1036 i) → Wp (K 1007 x 1 hc σ') fun a => Wp (Kt 1022 1 τ') fun b => R a b)
    (hk0 : ∀ σ' τ' q' S' os', q ≤ q' → os'.length = os.length + 1 → ShP T N0 U0 σ' 0 (k - 2) q' S' → S'.1 = S.1 → (∀ i, i ≠ 4 → S'.2 i = S.2 i) → OKO T N0 σ' τ' q' S' M cs its os' → EfX N0 σ σ' → OaF τ τ' → (∀ i, τ' 1036 i = τ 1036 i) → Wp (K 1007 x 0 hc σ') fun a => Wp (Kt 1022 0 τ') fun b => R a b)
    (hf1 : ∀ σ' τ' S', FlR T N0 U0 0 (k - 2) S' σ' τ' → EfX N0 σ σ' → OaF τ τ' → Wp (K 1007 x 1 hc σ') fun a => R a (0, τ'))
    (hf0 : ∀ σ' τ' S', FlR T N0 U0 1 (k - 2) S' σ' τ' → EfX N0 σ σ' → OaF τ τ' → Wp (K 1007 x 0 hc σ') fun a => R a (0, τ')) :
    Wp (f_X3_orders_127 n K 1007 x hc r σ) fun a => Wp (g_X7_orderTexts_56 n Kt 1022 τ) fun b => R a b := by
  obtain ⟨i1, i2, i3, i4, i5, i6, i7, i8, i9⟩ := id hI
  obtain ⟨g1, g2, g3, g4, g5, -⟩ := h.nN
  have g8 := h.n5.2
  have hW := i1.1.1
  have e19 : τ 1022 19 = tkC T q := hW.1.2.1.2.1
  have hqq := nxq_le h
  have k2 : k + 1 - 3 = k - 2 := by omega
  have hS4 : ∀ i, i ≠ 4 → updF S.2 4 (nx σ) i = S.2 i := fun i hi => by
    unfold updF
    rw [if_neg hi]
  unfold f_X3_orders_127 g_X7_orderTexts_56
  refine wp_gd h.2.2.2.2.1.1 ?_
  rw [g3]
  refine wp_gd g4 (wp_nm0 (wp_nm0 ?_))
  rw [g8, e19]
  obtain ⟨s1, E1, J1, k1, n1⟩ := sh_al (K := 17) (m := 2) h (by decide)
  generalize al σ 17 0 2 = σ1 at *
  refine wp_gd s1.2.2.2.2.1.1 ?_
  by_cases c : tkC T q = 18
  · refine wp_c1 (wp_mono (takes_yes hn hb s1 (r := 71) (C := 18) (by decide) (by unfold spC; omega) ((J1 3).trans hW.1.1) c) fun y hy => ?_)
    obtain ⟨p1, p2, p3, p4⟩ := hy
    have hny := p3.1.1.1
    refine wp_gd (by omega) ?_
    rw [p1, if_pos c, i3.1, gI_pos (by omega), gI_pos (by omega), gd_pos (by omega), nm_eq]
    have ea : ∀ r j, ¬ (r = 1040 ∧ j = 4 * (os.length : Int) + 3) → sa τ 1040 (4 * (os.length : Int) + 3) 1 r j = τ r j := fun r j hh => by rw [sa_at, if_neg hh]
    have ea3 : sa τ 1040 (4 * (os.length : Int) + 3) 1 1040 (4 * (os.length : Int) + 3) = 1 := by rw [sa_at, if_pos ⟨rfl, rfl⟩]
    generalize sa τ 1040 (4 * (os.length : Int) + 3) 1 = τ1 at *
    have hW1 : OKW T σ τ1 q S M := hW.fr (fun j _ => ea _ _ (by omega)) fun r j _ _ => ea _ _ (by omega)
    have kp : kd y.2 (nx σ) = 17 := (p3.1.1.kd (by omega)).trans k1
    refine wp_swap (wp_t1 (wp_mono (ok_next hn hb (h.mono (k' := k + 1) (by omega)) hW1.1 p2 (fun j => (p4 j).trans (J1 j))) fun w hw => ?_))
    obtain ⟨w1, w2⟩ := hw
    have FA : OaF τ w.2 := OaF.trans (τ1 := τ1) (fun r j _ _ hz => ea r j (fun u => hz u.1)) w1.nv.oa
    rcases w2 with ⟨u1, u2⟩ | ⟨u1, u2⟩
    · refine wp_neg (by omega) (wp_swap ?_)
      have hW2 : OKW T y.2 w.2 (nxq T q) S M := ⟨u2, hW.2.1, fun i hi => by rw [w1 _ _ (by omega)]; exact hW1.2.2 i hi⟩
      refine lk_oEnd (d := 1) hn hb (Or.inr rfl) p2 hI hW2 (fun r j h1 h2 => (w1 r j (fun u => h1 ⟨u.1, by omega⟩)).trans (ea r j h2)) ((w1 _ _ (by omega)).trans ea3) (E1.x.trans p3.x) g1 ⟨Int.le_refl _, by omega, kp⟩ (fun σ' τ' q' a1 a2 a3 a4 a5 a6 => ?_) (fun σ' τ' q' a1 a2 a3 a4 a5 a6 => ?_) fun σ' τ' S' a1 a2 a3 => ?_
      · rw [k2] at a2
        exact hk1 σ' τ' q' _ _ (by omega) (by simp) a2 rfl hS4 a3 a4 a5 a6
      · rw [k2] at a2
        exact hk0 σ' τ' q' _ _ (by omega) (by simp) a2 rfl hS4 a3 a4 a5 a6
      · rw [k2] at a1
        exact hf1 σ' τ' S' a1 a2 a3
    · refine wp_pos u1 (wp_ok ?_)
      obtain ⟨q9, v1, v2⟩ := id u2
      have hls : (S.2 4).length = os.length := i2.1
      refine sh_order (z' := 1) v1 (E1.x.trans p3.x) g1 ⟨Int.le_refl _, by omega, kp⟩ (by decide) (by decide) (by omega) fun σ2 s2 E2 J2 _ _ => ?_
      have f2 : FlR T N0 U0 1 (k - 2) (S.1, updF S.2 4 (nx σ)) σ2 w.2 := by
        rw [k2] at s2
        refine ⟨q9, s2, ?_⟩
        unfold CF
        rw [J2, J2]
        exact v2
      refine wp_gd f2.g (wp_c1e (f2.takes hn hb (r := 37) (C := 34) (by decide) (by unfold spC; omega)) ?_)
      exact hf0 σ2 w.2 _ f2 E2 FA
  · refine wp_c1e (takes_no hn hb s1 (r := 71) (C := 18) (by decide) (by unfold spC; omega) fun _ => c) (wp_gd (by omega) ?_)
    rw [if_neg c]
    refine lk_oEnd (d := 0) hn hb (Or.inl rfl) s1 hI (hW.same J1 rfl) (fun r j h1 h2 => rfl) i8 E1.x g1 ⟨Int.le_refl _, by omega, k1⟩ (fun σ' τ' q' a1 a2 a3 a4 a5 a6 => ?_) (fun σ' τ' q' a1 a2 a3 a4 a5 a6 => ?_) fun σ' τ' S' a1 a2 a3 => ?_
    · rw [k2] at a2
      exact hk1 σ' τ' q' _ _ (by omega) (by simp) a2 rfl hS4 a3 a4 a5 a6
    · rw [k2] at a2
      exact hk0 σ' τ' q' _ _ (by omega) (by simp) a2 rfl hS4 a3 a4 a5 a6
    · rw [k2] at a1
      exact hf1 σ' τ' S' a1 a2 a3
end OS
