/-! NEW THINGS -/
set_option maxRecDepth 100000
section NT
variable {σ : AS} {Ow : F1} {p o v : Int}
theorem sm_none {n : Nat} : sm (has (fun _ => 0)) n = 0 := by
  induction n with
  | zero => rfl
  | succ n ih => unfold sm; rw [ih]; rfl
theorem mapOk_none {t : Int} {D : Int → Prop} (h1 : kd σ t = 26) (h2 : ∀ j, ld σ t j = 0) : MapOk σ t D (fun _ => 0) 0 :=
  ⟨h1, h2 2, by rw [h2 5]; omega, by rw [h2 4, sm_none]; rfl, fun i hi => absurd rfl hi, Or.inl ⟨h2 3, fun _ => rfl⟩⟩
theorem X8_wp (hp : p ≠ 0 ∧ p < nx σ) (hx : 1054 ≤ nx σ) (hk : kd σ p = 4 ∨ kd σ p = 5) : Wp (f_X8_init p σ) fun σ' => Fr (fun r => r = p) σ σ' ∧ nx σ' = nx σ + 1 ∧ us σ' = us σ + 9 ∧ ld σ' p 0 = nx σ ∧ (∀ j, j ≠ 0 → ld σ' p j = ld σ p j) ∧ kd σ' (nx σ) = 26 ∧ ∀ j, ld σ' (nx σ) j = 0 := by
  unfold f_X8_init f_J8_init f_J7_init
  refine wp_gd hp.1 ?_
  refine wp_nm (fun m em => ?_)
  refine wp_nm (fun σ1 e1 => ?_)
  have k1 : kd σ1 m = 26 := by rw [e1, em, kd_al, if_pos rfl]
  have z1 : ∀ j, ld σ1 m j = 0 := fun j => by rw [e1, em, ld_al, if_pos rfl]
  have a1 : ∀ r, r ≠ m → kd σ1 r = kd σ r ∧ ln σ1 r = ln σ r ∧ ∀ j, ld σ1 r j = ld σ r j := fun r hr => by rw [em] at hr; rw [e1]; exact ⟨by rw [kd_al, if_neg hr], by rw [ln_al, if_neg hr], fun j => by rw [ld_al, if_neg hr]⟩
  have n1 : nx σ1 = nx σ + 1 := by rw [e1]; rfl
  have u1 : us σ1 = us σ + 9 := by rw [e1]; rfl
  clear e1
  have m0 : m ≠ 0 := by omega
  refine wp_gd m0 ?_
  refine wp_c0e (s := wr (wr (wr σ1 m 4 0) m 5 0) m 2 0) ?_ ?_
  · rw [gd_pos m0]
    show c0 (gd (m ≠ 0) (some σ1)) _ = _
    rw [gd_pos m0]
    show gd (kd σ1 m = 26) _ = _
    rw [gd_pos k1]
    show gd (kd σ1 m = 26) _ = _
    rw [gd_pos k1]
    show gd (kd σ1 m = 26) _ = _
    rw [gd_pos k1]
    rfl
  have kk : ∀ r, kd (wr (wr (wr σ1 m 4 0) m 5 0) m 2 0) r = kd σ1 r := fun r => rfl
  have lk : ∀ r, ln (wr (wr (wr σ1 m 4 0) m 5 0) m 2 0) r = ln σ1 r := fun r => rfl
  have ll : ∀ r j, ld (wr (wr (wr σ1 m 4 0) m 5 0) m 2 0) r j = ld σ1 r j := fun r j => by
    have := z1 j
    grind [ld_wr]
  have nn : nx (wr (wr (wr σ1 m 4 0) m 5 0) m 2 0) = nx σ + 1 := n1
  have uu : us (wr (wr (wr σ1 m 4 0) m 5 0) m 2 0) = us σ + 9 := u1
  generalize wr (wr (wr σ1 m 4 0) m 5 0) m 2 0 = σ2 at *
  have pm : p ≠ m := by omega
  have kp : kd σ2 p = kd σ p := by rw [kk]; exact (a1 p pm).1
  have fin : Fr (fun r => r = p) σ (wr σ2 p 0 m) ∧ nx (wr σ2 p 0 m) = nx σ + 1 ∧ us (wr σ2 p 0 m) = us σ + 9 ∧ ld (wr σ2 p 0 m) p 0 = nx σ ∧ (∀ j, j ≠ 0 → ld (wr σ2 p 0 m) p j = ld σ p j) ∧ kd (wr σ2 p 0 m) (nx σ) = 26 ∧ ∀ j, ld (wr σ2 p 0 m) (nx σ) j = 0 := by
    refine ⟨⟨by show nx σ ≤ nx σ2; omega, by show us σ ≤ us σ2; omega, fun r hr => ?_, fun r hr hs j => ?_⟩, nn, uu, ?_, fun j hj => ?_, ?_, fun j => ?_⟩
    · have := a1 r (by omega)
      exact ⟨(kk r).trans this.1, (lk r).trans this.2.1⟩
    · rw [ld_wr, if_neg (fun z => hs z.1), ll]
      exact (a1 r (by omega)).2.2 j
    · rw [ld_wr, if_pos ⟨rfl, rfl⟩]; exact em
    · rw [ld_wr, if_neg (fun z => hj z.2), ll]; exact (a1 p pm).2.2 j
    · rw [← em]; exact (kk m).trans k1
    · rw [← em, ld_wr, if_neg (fun z => pm z.1.symm), ll]; exact z1 j
  refine wp_ite (fun c => ?_) (fun c => ?_)
  · refine wp_gd c ?_
    refine wp_nm0 ?_
    exact wp_ok fin
  · have c5 : kd σ2 p = 5 := by rw [kp] at c ⊢; exact hk.resolve_left c
    refine wp_gd c5 ?_
    refine wp_gd c5 ?_
    refine wp_nm0 ?_
    exact wp_ok fin
theorem X10_wp (ho : o ≠ 0 ∧ o < nx σ) (hk : kd σ o = 3) (h1 : ld σ o 1 = 0) : Wp (f_X10_init o σ) fun σ' => Fr (fun r => r = o) σ σ' ∧ nx σ' = nx σ + 1 ∧ us σ' = us σ + 4 ∧ ld σ' o 0 = nx σ ∧ NumOk σ' o [] ∧ ln σ' (nx σ) = 4 := by
  unfold f_X10_init
  refine wp_gd ho.1 ?_
  refine wp_nm0 ?_
  refine wp_nm (fun σ1 e1 => ?_)
  have k1 : kd σ1 (nx σ) = 100 := by rw [e1, kd_al, if_pos rfl]
  have l1 : ln σ1 (nx σ) = 4 := by rw [e1, ln_al, if_pos rfl]
  have a1 : ∀ r, r ≠ nx σ → kd σ1 r = kd σ r ∧ ln σ1 r = ln σ r ∧ ∀ j, ld σ1 r j = ld σ r j := fun r hr => by rw [e1]; exact ⟨by rw [kd_al, if_neg hr], by rw [ln_al, if_neg hr], fun j => by rw [ld_al, if_neg hr]⟩
  have n1 : nx σ1 = nx σ + 1 := by rw [e1]; rfl
  have u1 : us σ1 = us σ + 4 := by rw [e1]; rfl
  clear e1
  have oo := a1 o (by omega)
  refine wp_gd (oo.1.trans hk) ?_
  refine wp_nm0 ?_
  refine wp_ok ⟨⟨by show nx σ ≤ nx σ1; omega, by show us σ ≤ us σ1; omega, fun r hr => ?_, fun r hr hs j => ?_⟩, n1, u1, ?_, ⟨oo.1.trans hk, ?_, ?_, ?_, ?_, fun i hi => absurd hi (Nat.not_lt_zero i)⟩, l1⟩
  · have := a1 r (by omega)
    exact ⟨this.1, this.2.1⟩
  · rw [ld_wr, if_neg (fun z => hs z.1)]
    exact (a1 r (by omega)).2.2 j
  · rw [ld_wr, if_pos ⟨rfl, rfl⟩]
  · rw [ld_wr, if_pos ⟨rfl, rfl⟩]; exact k1
  · rw [ld_wr, if_neg (fun z => by omega), oo.2.2]; exact h1
  · rw [ld_wr, if_pos ⟨rfl, rfl⟩]; show (0 : Int) ≤ ln σ1 (nx σ); omega
  · rw [ld_wr, if_pos ⟨rfl, rfl⟩]; show (4 : Int) ≤ ln σ1 (nx σ); omega
/-- who owns what behind a new thing -/
def owN (Ow : F1) (p m : Int) : F1 := fun r => if r = p then 8 * p + 7 else if r = m then 8 * p + 4 else if r = m + 1 then 8 * p + 5 else if r = m + 2 then 8 * p + 2 else if r = m + 3 then 8 * p + 6 else if r = m + 4 then 8 * p + 3 else Ow r
theorem newEdge_wp {a1 a2 a3 : Int} (hp : 1054 ≤ p ∧ p < nx σ) (hk : kd σ p = 5) : Wp (f_X12_init p a1 a2 a3 σ) fun σ' => (∀ Po Pi, ThOk σ' (owN Ow p (nx σ)) p (fun _ => 0) Po Pi 0) ∧ kd σ' p = 5 ∧ ld σ' p 1 = a1 ∧ ld σ' p 2 = a2 ∧ ld σ' p 3 = a3 ∧ Fr (fun r => r = p) σ σ' ∧ nx σ' = nx σ + 1 ∧ us σ' = us σ + 9 := by
  unfold f_X12_init
  refine wp_gd (by omega) ?_
  refine wp_c0 ?_
  refine wp_mono (X8_wp ⟨by omega, hp.2⟩ (by omega) (Or.inr hk)) fun σ1 hq => ?_
  obtain ⟨g1, g2, g3, g4, g5, g6, g7⟩ := hq
  have k1 : kd σ1 p = 5 := by rw [g1.kd hp.2]; exact hk
  refine wp_gd k1 ?_
  refine wp_nm0 ?_
  refine wp_gd k1 ?_
  refine wp_nm0 ?_
  refine wp_gd k1 ?_
  refine wp_nm0 ?_
  have pm : p ≠ nx σ := by omega
  have L : ∀ j, ld (wr (wr (wr σ1 p 1 a1) p 2 a2) p 3 a3) (nx σ) j = 0 := fun j => by
    rw [ld_wr, if_neg (fun z => pm z.1.symm), ld_wr, if_neg (fun z => pm z.1.symm), ld_wr, if_neg (fun z => pm z.1.symm)]; exact g7 j
  have L0 : ld (wr (wr (wr σ1 p 1 a1) p 2 a2) p 3 a3) p 0 = nx σ := by
    rw [ld_wr, if_neg (fun z => by omega), ld_wr, if_neg (fun z => by omega), ld_wr, if_neg (fun z => by omega)]; exact g4
  refine wp_ok ⟨fun Po Pi => ⟨hp.1, by show p < nx σ1; omega, if_pos rfl, by rw [L0]; omega, by rw [L0]; show nx σ < nx σ1; omega, ?_, by rw [L0]; exact mapOk_none g6 L, fun i hi => absurd rfl hi, Or.inl k1⟩, k1, ?_, ?_, ?_, ((g1.trans (Fr.wr rfl)).trans (Fr.wr rfl)).trans (Fr.wr rfl), g2, g3⟩
  · rw [L0]; unfold owN; rw [if_neg (fun z => pm z.symm), if_pos rfl]
  · rw [ld_wr, if_neg (fun z => by omega), ld_wr, if_neg (fun z => by omega), ld_wr, if_pos ⟨rfl, rfl⟩]
  · rw [ld_wr, if_neg (fun z => by omega), ld_wr, if_pos ⟨rfl, rfl⟩]
  · rw [ld_wr, if_pos ⟨rfl, rfl⟩]
end NT
