/-! TERMS, side by side: the key -/
set_option maxRecDepth 100000
abbrev Trm : Type := Int × Int × Int
def TrAt (σ : AS) (r : Int) (t : Trm) : Prop := kd σ r = 16 ∧ (0 < r ∧ r < nx σ) ∧ ld σ r 0 = t.1 ∧ ld σ r 1 = t.2.1 ∧ ld σ r 2 = t.2.2
theorem TrAt.pf {N0 : Int} {σ σ' : AS} {r : Int} {t : Trm} (h : TrAt σ r t) (hF : PF N0 σ σ') : TrAt σ' r t := by
  obtain ⟨h1, h2, h3, h4, h5⟩ := h
  obtain ⟨k1, k2, k3⟩ := hF.old h2.2 (by omega)
  exact ⟨k1.trans h1, ⟨h2.1, k2⟩, (k3 0).trans h3, (k3 1).trans h4, (k3 2).trans h5⟩
theorem TrAt.el {σ : AS} {r : Int} {t : Trm} (h : TrAt σ r t) : elQ σ r := by
  obtain ⟨h1, h2, -⟩ := h
  exact Or.inr ⟨by omega, by omega, h2.2⟩
/-- what the twin's key writes -/
def KyF (τ τ' : TT) : Prop := ∀ r j, ¬ (r = 1022 ∧ ((17 ≤ j ∧ j ≤ 22) ∨ j = 42 ∨ j = 43)) → τ' r j = τ r j
theorem KyF.rf {τ : TT} : KyF τ τ := fun _ _ _ => rfl
theorem KyF.trans {τ τ1 τ2 : TT} (h : KyF τ τ1) (h' : KyF τ1 τ2) : KyF τ τ2 := fun r j a => (h' r j a).trans (h r j a)
theorem FgF.ky {τ τ' : TT} (h : FgF τ τ') : KyF τ τ' := fun r j a => h r j fun w => a ⟨w.1, by omega⟩
theorem LxF.ky {τ τ' : TT} (h : LxF τ τ') : KyF τ τ' := h.fg.ky
section TK
variable {σ σ0 σ' : AS} {τ τ0 τ' : TT} {n : Nat} {N0 U0 z z' k q q0 q' c p v l r C l1 l2 l4 l5 e var x a b : Int} {T : List Int} {S : PS}
theorem new_term {a b c : Int} (h0 : 0 < nx σ) : ∃ σ', f_X22_init (nx σ) a b c (al σ 16 0 3) = some σ' ∧ kd σ' (nx σ) = 16 ∧ (ld σ' (nx σ) 0 = a ∧ ld σ' (nx σ) 1 = b ∧ ld σ' (nx σ) 2 = c) ∧ nx σ' = nx σ + 1 ∧ us σ' = us σ + 3 ∧ Fr (fun _ => False) σ σ' := by
  have k1 : kd (al σ 16 0 3) (nx σ) = 16 := by rw [kd_al, if_pos rfl]
  refine ⟨wr (wr (wr (al σ 16 0 3) (nx σ) 0 a) (nx σ) 1 b) (nx σ) 2 c, ?_, k1, ⟨?_, ?_, ?_⟩, rfl, rfl, ?_⟩
  · unfold f_X22_init f_J9_init
    rw [gd_pos (by omega), gd_pos (by omega), c0_at, gd_pos k1, nm_eq, gd_pos (show kd (wr (al σ 16 0 3) (nx σ) 0 a) (nx σ) = 16 from k1), nm_eq, gd_pos (show kd (wr (wr (al σ 16 0 3) (nx σ) 0 a) (nx σ) 1 b) (nx σ) = 16 from k1), nm_eq]
  · simp [ld_wr]
  · simp [ld_wr]
  · simp [ld_wr]
  · have g1 : Fr (fun _ => False) σ (al σ 16 0 3) := Fr.al (by decide)
    have g2 : Fr (fun r => r = nx σ) (al σ 16 0 3) (wr (wr (wr (al σ 16 0 3) (nx σ) 0 a) (nx σ) 1 b) (nx σ) 2 c) := Fr.trans (Fr.wr rfl) (Fr.trans (Fr.wr rfl) (Fr.wr rfl))
    exact g1.tr2 g2 fun r hr w => by
      have w' : r = nx σ := w
      omega
theorem v69_sh (h : ShP T N0 U0 σ z k q S) : Wp (f_X3_value_69 n l4 l5 σ) fun y => ShP T N0 U0 y.2 z (k + 1) q S ∧ Eff N0 σ y.2 ∧ (∀ j, ld y.2 1007 j = ld σ 1007 j) ∧ TrAt y.2 y.1 (l4, l5, 0) := by
  have h1 := h.2.2.2.2.2.1
  obtain ⟨σ1, e1, k1, ⟨f0, f1, f2⟩, n1, u1, F1⟩ := new_term (a := l4) (b := l5) (c := 0) (show 0 < nx σ by omega)
  unfold f_X3_value_69
  refine wp_nm0 (wp_nm0 (wp_gd (by omega) (wp_c0e e1 (wp_ok ?_))))
  obtain ⟨s1, s2, s3⟩ := sh_fresh (cc := 1) h F1 (by omega) (by omega)
  exact ⟨s1, s2, s3, k1, ⟨by show 0 < nx σ; omega, by show nx σ < nx σ1; omega⟩, f0, f1, f2⟩
theorem v69_fail (h : FlR T N0 U0 z k S σ τ) : Wp (f_X3_value_69 n l4 l5 σ) fun y => FlR T N0 U0 z (k + 1) S y.2 τ ∧ Eff N0 σ y.2 ∧ elQ y.2 y.1 := by
  obtain ⟨q, h1, h2⟩ := h
  refine wp_mono (v69_sh h1) fun y hy => ?_
  obtain ⟨y1, y2, y3, y4⟩ := hy
  refine ⟨⟨q, y1, ?_⟩, y2, y4.el⟩
  unfold CF
  rw [y3, y3]
  exact h2
theorem v59_fail (h : FlR T N0 U0 z k S σ τ) : Wp (f_X3_value_59 n (f_X3_value_69 n) 1007 l4 σ) fun y => FlR T N0 U0 z (k + 1) S y.2 τ ∧ Eff N0 σ y.2 ∧ elQ y.2 y.1 := by
  unfold f_X3_value_59
  refine wp_gd h.g (wp_c1 (wp_mono h.num fun y hy => ?_))
  exact wp_mono (v69_fail hy.1) fun y' hy' => ⟨hy'.1, hy.2.trans hy'.2.1, hy'.2.2⟩
theorem v46_fail (hn : 1000000 ≤ n) (hb : BtOk T) (h : FlR T N0 U0 z k S σ τ) : Wp (f_X3_value_46 n 1007 a l4 l5 σ) fun y => FlR T N0 U0 z (k + 1) S y.2 τ ∧ Eff N0 σ y.2 ∧ elQ y.2 y.1 := by
  unfold f_X3_value_46
  refine wp_ite (fun _ => wp_gd h.g (wp_c1e (h.takes hn hb (r := 45) (C := 36) (by decide) (by unfold spC; omega)) (wp_pos rfl (v69_fail h)))) fun _ => v59_fail h
theorem v33_fail (hn : 1000000 ≤ n) (hb : BtOk T) (h : FlR T N0 U0 z k S σ τ) : Wp (f_X3_value_33 n 1007 a l4 σ) fun y => FlR T N0 U0 z (k + 1) S y.2 τ ∧ Eff N0 σ y.2 ∧ elQ y.2 y.1 := by
  unfold f_X3_value_33
  refine wp_ite (fun _ => v46_fail hn hb h) fun _ => wp_gd h.g (wp_c0 (wp_mono (h.need hn hb (r := 45) (C := 36) (by decide) (by unfold spC; omega)) fun σ1 h1 => ?_))
  exact wp_mono (v46_fail hn hb h1.1) fun y' hy' => ⟨hy'.1, h1.2.trans hy'.2.1, hy'.2.2⟩
/-- the twin's key, behind the name's token -/
noncomputable def twKey (n : Nat) (l1 : Int) (τ6 : TT) : Option (Int × TT) :=
    if (τ6 1022 19) = 36 then (
      t1 (g_X7_next n 1022 τ6) fun v12 τ13 =>
      if v12 = 0 then (
        some (0, τ13))
      else (
        t1 (g_X7_isFigure n 1022 0 31 τ13) fun v17 τ18 =>
        if v17 = 0 then (
          some (0, τ18))
        else (
          nm (sa τ18 1022 43 (τ18 1022 42)) fun τ23 =>
          some (1, τ23))))
    else (
      if l1 = 0 then (
        some (1, τ6))
      else (
        t1 (g_X7_cannot 1022 τ6) fun v27 τ28 =>
        if v27 = 0 then (
          some (0, τ28))
        else (
          some (1, τ28))))
theorem nameOrKey_41_eq {n : Nat} {l1 : Int} {τ : TT} : g_X7_nameOrKey_41 n 1022 l1 τ = t1 (g_X7_next n 1022 (sa τ 1022 43 (-1))) fun v5 τ6 => if v5 = 0 then some (0, τ6) else twKey n l1 τ6 := rfl
/-- the outcome of a key -/
def KyP (T : List Int) (N0 U0 z k : Int) (σ : AS) (τ : TT) (q : Int) (S : PS) (a v : Int) (y : Int × AS) (w : Int × TT) : Prop :=
  Eff N0 σ y.2 ∧ KyF τ w.2 ∧ elQ y.2 y.1 ∧ ((w.1 = 1 ∧ ∃ q' kk, q ≤ q' ∧ ShP T N0 U0 y.2 z (k + 1) q' S ∧ OKB T y.2 w.2 q' S ∧ TrAt y.2 y.1 (v, kk, 0) ∧ w.2 1022 43 = kk ∧ -1 ≤ kk ∧ kk ≤ 31 ∧ (a ≠ 0 → 0 ≤ kk)) ∨ (w.1 = 0 ∧ FlR T N0 U0 z (k + 1) S y.2 w.2))
theorem lk_key59 (hn : 1000000 ≤ n) (hb : BtOk T) (h : ShP T N0 U0 σ z k q S) (h' : ShP T N0 U0 σ' z k (nxq T q) S) (hE : Eff N0 σ σ') (h7 : ∀ j, ld σ' 1007 j = ld σ 1007 j) (hO : OKB T σ τ q S) (hC : tkC T q = 36) : Wp (f_X3_value_59 n (f_X3_value_69 n) 1007 v σ') fun y => Wp (twKey n a τ) fun w => KyP T N0 U0 z k σ τ q S a v y w := by
  have o2 := hO.2.1
  have hqn := nxq_le h
  refine wp_swap ?_
  unfold twKey f_X3_value_59
  refine wp_pos (by rw [o2.2.1]; exact hC) (wp_t1 (wp_mono (ok_next hn hb h hO h' h7) fun w hw => ?_))
  obtain ⟨w1, w2⟩ := hw
  rcases w2 with ⟨u1, u2⟩ | ⟨u1, u2⟩
  · refine wp_neg (by omega) (wp_swap ?_)
    refine wp_gd h'.2.2.2.2.1.1 (wp_join (lk_number hn hb h' u2 (lo := 0) (hi := 31) (by decide) (by decide)) fun p p' hp => ?_)
    obtain ⟨p1, p2, p3⟩ := hp
    rcases p3 with ⟨a1, a2, a3, a4, q1, a5, a6, a7⟩ | ⟨a1, a2⟩
    · refine wp_swap (wp_neg (by omega) (wp_nm0 (wp_ok ?_)))
      refine wp_mono (v69_sh a6) fun y hy => ?_
      obtain ⟨y1, y2, y3, y4⟩ := hy
      refine ⟨hE.trans (p1.trans y2), fun r j hh => ?_, y4.el, Or.inl ⟨rfl, q1, p.1, by omega, y1, ?_, y4, ?_, by omega, a4, fun _ => a3⟩⟩
      · show sa p'.2 1022 43 (p'.2 1022 42) r j = τ r j
        rw [sa_at, if_neg (fun u => hh ⟨u.1, Or.inr (Or.inr u.2)⟩), p2.ky r j hh]
        exact w1.ky r j hh
      · exact okb_same (okb_sa a7 (Or.inr (Or.inr rfl))) y3 rfl
      · show sa p'.2 1022 43 (p'.2 1022 42) 1022 43 = p.1
        rw [sa_at, if_pos ⟨rfl, rfl⟩]; exact a2.symm
    · refine wp_swap (wp_pos a1 (wp_ok ?_))
      exact wp_mono (v69_fail a2) fun y hy => ⟨hE.trans (p1.trans hy.2.1), w1.ky.trans p2.ky, hy.2.2, Or.inr ⟨rfl, hy.1⟩⟩
  · refine wp_pos u1 (wp_ok ?_)
    have : Wp (f_X3_value_59 n (f_X3_value_69 n) 1007 v σ') fun y => KyP T N0 U0 z k σ τ q S a v y (0, w.2) := wp_mono (v59_fail u2) fun y hy => ⟨hE.trans hy.2.1, w1.ky, hy.2.2, Or.inr ⟨rfl, hy.1⟩⟩
    exact this
theorem lk_key (hn : 1000000 ≤ n) (hb : BtOk T) (h : ShP T N0 U0 σ z k q S) (hO : OKB T σ τ q S) (h43 : τ 1022 43 = -1) : Wp (f_X3_value_33 n 1007 a v σ) fun y => Wp (twKey n a τ) fun w => KyP T N0 U0 z k σ τ q S a v y w := by
  have o1 := hO.1
  have o2 := hO.2.1
  unfold f_X3_value_33
  refine wp_ite (fun a0 => ?_) fun a0 => ?_
  · unfold f_X3_value_46
    refine wp_pos a0 (wp_gd h.2.2.2.2.1.1 ?_)
    by_cases c : tkC T q = 36
    · refine wp_c1 (wp_mono (takes_yes hn hb h (r := 45) (C := 36) (by decide) (by unfold spC; omega) o1 c) fun y hy => ?_)
      obtain ⟨y1, y2, y3, y4⟩ := hy
      exact wp_neg (by omega) (lk_key59 hn hb h y2 y3 y4 hO c)
    · refine wp_c1e (takes_no hn hb h (r := 45) (C := 36) (by decide) (by unfold spC; omega) fun _ => c) (wp_pos rfl ?_)
      refine wp_mono (v69_sh h) fun y hy => ?_
      obtain ⟨y1, y2, y3, y4⟩ := hy
      unfold twKey
      refine wp_neg (by rw [o2.2.1]; exact c) (wp_pos a0 (wp_ok ⟨y2, KyF.rf, y4.el, Or.inl ⟨rfl, q, -1, Int.le_refl _, y1, okb_same hO y3 rfl, y4, h43, by decide, by decide, fun w => absurd a0 w⟩⟩))
  · refine wp_gd h.2.2.2.2.1.1 ?_
    have e46 : ∀ s, f_X3_value_46 n 1007 a v (-1) s = f_X3_value_59 n (f_X3_value_69 n) 1007 v s := fun s => by
      unfold f_X3_value_46
      rw [if_neg a0]
    by_cases c : tkC T q = 36
    · refine wp_c0 (wp_mono (need_yes hn hb h (r := 45) (C := 36) (by decide) (by unfold spC; omega) o1 c) fun σ1 h1 => ?_)
      rw [e46]
      exact lk_key59 hn hb h h1.1 h1.2.1 h1.2.2 hO c
    · refine wp_c0 (wp_mono (need_no hn hb h (r := 45) (C := 36) (by decide) (by unfold spC; omega) o1 c) fun σ1 h1 => ?_)
      obtain ⟨s1, E1, J1⟩ := h1
      rw [e46]
      refine wp_swap ?_
      unfold twKey
      refine wp_neg (by rw [o2.2.1]; exact c) (wp_neg a0 ?_)
      rw [ok_cannot hO, t1_at]
      refine wp_pos rfl (wp_ok ?_)
      exact wp_mono (v59_fail (flR_cannot hO s1 J1)) fun y hy => ⟨E1.trans hy.2.1, fgF_flw.ky, hy.2.2, Or.inr ⟨rfl, hy.1⟩⟩
end TK
