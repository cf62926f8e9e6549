/-! LISTS: ArrayList -/
set_option maxRecDepth 100000
theorem elOk_prt {σ : AS} {r : Int} (h1 : 13 ≤ kd σ r) (h2 : kd σ r ≤ 17) : elOk σ (.object "java/lang/Object") r := by
  refine Or.inr ⟨kd σ r - 1, Or.inl (by omega), ?_⟩
  generalize kd σ r = k at *
  have : k = 13 ∨ k = 14 ∨ k = 15 ∨ k = 16 ∨ k = 17 := by omega
  rcases this with e | e | e | e | e <;> subst e
  · exact ⟨_, rfl, Or.inr (by decide +kernel)⟩
  · exact ⟨_, rfl, Or.inr (by decide +kernel)⟩
  · exact ⟨_, rfl, Or.inr (by decide +kernel)⟩
  · exact ⟨_, rfl, Or.inr (by decide +kernel)⟩
  · exact ⟨_, rfl, Or.inr (by decide +kernel)⟩
/-- a list --/
def elQ (σ : AS) (v : Int) : Prop := v = 0 ∨ (13 ≤ kd σ v ∧ kd σ v ≤ 17 ∧ v < nx σ)
theorem elQ.ok {σ : AS} {v : Int} (h : elQ σ v) : elOk σ (.object "java/lang/Object") v := by
  rcases h with h | h
  · exact Or.inl h
  · exact elOk_prt h.1 h.2.1
theorem elQ.frame {σ σ' : AS} {S : Int → Prop} {v : Int} (h : elQ σ v) (hF : Fr S σ σ') : elQ σ' v := by
  have hn := hF.1
  rcases h with h | ⟨h1, h2, h3⟩
  · exact Or.inl h
  · exact Or.inr ⟨by rw [hF.kd h3]; exact h1, by rw [hF.kd h3]; exact h2, by omega⟩
/-- list a holds L; its array is t -/
def AlOk (σ : AS) (a t : Int) (L : List Int) : Prop := kd σ a = 31 ∧ a < nx σ ∧ ld σ a 1 = t ∧ ld σ a 2 = L.length ∧ L.length ≤ 20 ∧ ld σ a 0 = L.length ∧ (kd σ 122 = 1105 ∧ ln σ 122 = 0 ∧ 122 < nx σ) ∧ ((t = 122 ∧ L = []) ∨ (kd σ t = 105 ∧ L.length ≤ ln σ t ∧ 1 ≤ ln σ t ∧ ln σ t ≤ 100 ∧ t < nx σ)) ∧ ∀ i : Nat, i < L.length → ld σ t i = L.getD i 0 ∧ elQ σ (L.getD i 0)
section AL
variable {σ σ0 : AS} {n : Nat} {a b t v : Int} {L : List Int}
theorem AlOk.frame {σ' : AS} {S : Int → Prop} (h : AlOk σ a t L) (hF : Fr S σ σ') (h1 : ¬ S a) (h2 : kd σ t = 105 → ¬ S t) : AlOk σ' a t L := by
  obtain ⟨a1, a2, a3, a4, a5, a6, ⟨b1, b2, b3⟩, a7, a8⟩ := h
  have hn := hF.1
  refine ⟨by rw [hF.kd a2]; exact a1, by omega, by rw [hF.ld a2 h1]; exact a3, by rw [hF.ld a2 h1]; exact a4, a5, by rw [hF.ld a2 h1]; exact a6, ⟨by rw [hF.kd b3]; exact b1, by rw [hF.ln b3]; exact b2, by omega⟩, ?_, fun i hi => ?_⟩
  · rcases a7 with z | ⟨z1, z2, z3, z4, z5⟩
    · exact Or.inl z
    · exact Or.inr ⟨by rw [hF.kd z5]; exact z1, by rw [hF.ln z5]; exact z2, by rw [hF.ln z5]; exact z3, by rw [hF.ln z5]; exact z4, by omega⟩
  · rcases a7 with z | ⟨z1, z2, z3, z4, z5⟩
    · rw [z.2] at hi; exact absurd hi (Nat.not_lt_zero _)
    · rw [hF.ld z5 (h2 z1)]
      exact ⟨(a8 i hi).1, (a8 i hi).2.frame hF⟩
theorem shr1 : ∀ j : Fin 101, ishrW ((j : Nat) : Int) 1 = ((j : Nat) : Int) / 2 := by decide +kernel
theorem shr1' {x : Int} (h : 0 ≤ x ∧ x ≤ 100) : ishrW x 1 = x / 2 := by
  have := shr1 ⟨x.toNat, by omega⟩
  rw [show (((⟨x.toNat, by omega⟩ : Fin 101) : Nat) : Int) = x by show (x.toNat : Int) = x; omega] at this
  exact this
theorem max_eq {x y : Int} : f_J12_max x y σ = some (max x y, σ) := by
  unfold f_J12_max
  by_cases h : x < y
  · rw [if_pos h, Int.max_eq_right (by omega)]
  · rw [if_neg h, Int.max_eq_left (by omega)]
/-- the last step: the cell and the size -/
theorem add_11 {t' : Int} (hk : kd σ a = 31) (ha : a < nx σ) (h1 : ld σ a 1 = t') (h0 : ld σ a 0 = L.length + 1) (hl : L.length < 20) (hc : kd σ 122 = 1105 ∧ ln σ 122 = 0 ∧ 122 < nx σ) (ht : kd σ t' = 105 ∧ L.length + 1 ≤ ln σ t' ∧ ln σ t' ≤ 100 ∧ t' < nx σ) (hL : ∀ i : Nat, i < L.length → ld σ t' i = L.getD i 0 ∧ elQ σ (L.getD i 0)) (hv : elQ σ v) : Wp (f_J32_add_2_11 a v t' L.length σ) fun σ' => AlOk σ' a t' (L ++ [v]) ∧ nx σ' = nx σ ∧ us σ' = us σ ∧ Fr (fun r => r = a ∨ r = t') σ σ' := by
  obtain ⟨t1, t2, t3, t4⟩ := ht
  have hne : a ≠ t' := fun z => by rw [z, t1] at hk; exact absurd hk (by decide)
  unfold f_J32_add_2_11
  refine wp_gd ⟨t1, by omega, by omega⟩ (wp_gdc hv.ok (wp_nm0 (wp_gI (by omega) (wp_gd hk (wp_nm0 (wp_ok ?_))))))
  have F : Fr (fun r => r = a ∨ r = t') σ (wr (wr σ t' L.length v) a 2 (L.length + 1)) := by
    have g1 : Fr (fun r => r = a ∨ r = t') σ (wr σ t' L.length v) := Fr.wr (Or.inr rfl)
    exact g1.trans (Fr.wr (Or.inl rfl))
  have el : ((L ++ [v]).length : Int) = L.length + 1 := by simp
  refine ⟨⟨hk, ha, ?_, ?_, by simp; omega, ?_, hc, Or.inr ⟨t1, ?_, ?_, t3, t4⟩, fun i hi => ?_⟩, rfl, rfl, F⟩
  · rw [ld_wr, if_neg (by omega), ld_wr, if_neg (fun z => hne z.1)]; exact h1
  · rw [ld_wr, if_pos ⟨rfl, rfl⟩, el]
  · rw [ld_wr, if_neg (by omega), ld_wr, if_neg (fun z => hne z.1), el]; exact h0
  · show ((L ++ [v]).length : Int) ≤ ln σ t'; omega
  · show 1 ≤ ln σ t'; omega
  · have hi' : i < L.length + 1 := by simpa using hi
    rw [getD_snoc hi', ld_wr, if_neg (fun z => hne z.1.symm), ld_wr]
    by_cases c : i = L.length
    · rw [if_pos c, if_pos ⟨rfl, by rw [c]⟩]; exact ⟨rfl, hv.frame F⟩
    · rw [if_neg c, if_neg (fun z => c (by omega))]
      exact ⟨(hL i (by omega)).1, (hL i (by omega)).2.frame F⟩
theorem list_add (h : AlOk σ a t L) (hl : L.length < 20) (hv : elQ σ v) : Wp (f_J32_add a v σ) fun y => ∃ t', AlOk y.2 a t' (L ++ [v]) ∧ (t' = t ∨ t' = nx σ) ∧ kd y.2 t' = 105 ∧ nx y.2 ≤ nx σ + 1 ∧ us y.2 ≤ us σ + 30 ∧ Fr (fun r => r = a ∨ (r = t ∧ kd σ t = 105)) σ y.2 := by
  obtain ⟨a1, a2, a3, a4, a5, a6, ⟨b1, b2, b3⟩, a7, a8⟩ := id h
  unfold f_J32_add
  refine wp_gd a1 ?_
  rw [a6]
  refine wp_gI (by omega) (wp_gd a1 (wp_nm0 ?_))
  have F0 : Fr (fun r => r = a) σ (wr σ a 0 (L.length + 1)) := Fr.wr rfl
  have e1 : ld (wr σ a 0 (L.length + 1)) a 1 = t := by rw [ld_wr, if_neg (by omega)]; exact a3
  have e2 : ld (wr σ a 0 (L.length + 1)) a 2 = L.length := by rw [ld_wr, if_neg (by omega)]; exact a4
  have e0 : ld (wr σ a 0 (L.length + 1)) a 0 = L.length + 1 := by rw [ld_wr, if_pos ⟨rfl, rfl⟩]
  have et : ∀ i, t ≠ a → ld (wr σ a 0 (L.length + 1)) t i = ld σ t i := fun i z => by rw [ld_wr, if_neg (fun w => z w.1)]
  refine wp_gd a1 (wp_gd a1 (wp_gd a1 (wp_c0 ?_)))
  rw [e1, e2]
  have hv1 : elQ (wr σ a 0 (L.length + 1)) v := hv.frame F0
  have hL1 : ∀ i : Nat, i < L.length → elQ (wr σ a 0 (L.length + 1)) (L.getD i 0) := fun i hi => (a8 i hi).2.frame F0
  have kk : ∀ r, kd (wr σ a 0 (L.length + 1)) r = kd σ r := fun r => rfl
  have ll : ∀ r, ln (wr σ a 0 (L.length + 1)) r = ln σ r := fun r => rfl
  have nn : nx (wr σ a 0 (L.length + 1)) = nx σ := rfl
  have uu : us (wr σ a 0 (L.length + 1)) = us σ := rfl
  generalize wr σ a 0 (L.length + 1) = σ1 at *
  have k1 : kd σ1 a = 31 := by rw [kk]; exact a1
  unfold f_J32_add_2
  rcases a7 with ⟨z1, z2⟩ | ⟨z1, z2, z3, z4, z5⟩
  · -- the empty array: ten cells
    subst z1 z2
    refine wp_gd (Or.inr (by rw [kk]; exact b1)) (wp_pos (by rw [ll, b2]; rfl) (wp_gd k1 (wp_c1 ?_)))
    unfold f_J32_grow f_J32_grow_2
    refine wp_gd k1 ?_
    rw [e2]
    refine wp_gI (by decide) (wp_gd k1 (wp_c1 (wp_gd k1 ?_)))
    rw [e1]
    refine wp_gd (Or.inr (by rw [kk]; exact b1)) (wp_nm0 (wp_neg (by rw [ll, b2]; decide) (wp_gd k1 (wp_gdc (Or.inr (Or.inr (Or.inl rfl))) (wp_pos rfl (wp_c1e max_eq ?_))))))
    have e10 : max (10 : Int) (((([] : List Int).length : Nat) : Int) + 1) = 10 := rfl
    rw [e10]
    refine wp_gd (by decide) (wp_nm0 (wp_nm0 (wp_gd ?_ (wp_nm0 (wp_ok (wp_ok ?_))))))
    · rw [kd_al, if_neg (by omega)]; exact k1
    show Wp (f_J32_add_2_11 a v (nx σ1) _ (wr (al σ1 105 10 10) a 1 (nx σ1))) _
    have G : Fr (fun r => r = a) σ1 (wr (al σ1 105 10 10) a 1 (nx σ1)) := by
      have g1 : Fr (fun r => r = a) σ1 (al σ1 105 10 10) := Fr.al (by decide)
      exact g1.trans (Fr.wr rfl)
    refine wp_mono (add_11 (L := []) (t' := nx σ1) ?_ ?_ ?_ ?_ (by decide) ⟨?_, ?_, ?_⟩ ⟨?_, ?_, ?_, ?_⟩ (fun i hi => absurd hi (Nat.not_lt_zero _)) (hv1.frame G)) fun s hs => wp_ok ?_
    · rw [kd_wr, kd_al, if_neg (by omega)]; exact k1
    · show a < nx σ1 + 1; omega
    · rw [ld_wr, if_pos ⟨rfl, rfl⟩]
    · rw [ld_wr, if_neg (by omega), ld_al, if_neg (by omega)]; exact e0
    · rw [kd_wr, kd_al, if_neg (by omega), kk]; exact b1
    · rw [ln_wr, ln_al, if_neg (by omega), ll]; exact b2
    · show 122 < nx σ1 + 1; omega
    · rw [kd_wr, kd_al, if_pos rfl]
    · rw [ln_wr, ln_al, if_pos rfl]; decide
    · rw [ln_wr, ln_al, if_pos rfl]; decide
    · show nx σ1 < nx σ1 + 1; omega
    · obtain ⟨s1, s2, s3, s4⟩ := hs
      have s2' : nx s = nx σ1 + 1 := s2
      have s3' : us s = us σ1 + 10 := s3
      refine ⟨nx σ1, s1, Or.inr nn, ?_, by show nx s ≤ _; omega, by show us s ≤ _; omega, ?_⟩
      · show kd s (nx σ1) = 105
        rw [s4.kd (by show nx σ1 < nx σ1 + 1; omega), kd_wr, kd_al, if_pos rfl]
      · refine ((F0.trans G).sub fun r _ z => Or.inl z).tr2 s4 fun r hr z => ?_
        have z' : r = a ∨ r = nx σ1 := z
        rcases z' with z' | z'
        · exact Or.inl z'
        · omega
  · have hta : t ≠ a := fun z => by rw [z, a1] at z1; exact absurd z1 (by decide)
    refine wp_gd (Or.inl (by rw [kk]; exact z1)) (wp_ite (fun c => ?_) fun c => ?_)
    · -- the array is full
      rw [ll] at c
      refine wp_gd k1 (wp_c1 ?_)
      unfold f_J32_grow f_J32_grow_2
      refine wp_gd k1 ?_
      rw [e2]
      refine wp_gI (by omega) (wp_gd k1 (wp_c1 (wp_gd k1 ?_)))
      rw [e1]
      refine wp_gd (Or.inl (by rw [kk]; exact z1)) (wp_nm0 ?_)
      rw [ll]
      refine wp_pos (by omega) ?_
      unfold f_J32_grow_2_20 f_J21_newLength
      refine wp_gI (by omega) (wp_c1 (wp_c1e max_eq ?_))
      rw [shr1' (by omega)]
      refine wp_gI (by omega) (wp_nm0 (wp_neg (by omega) (wp_neg (by omega) (wp_ok (wp_gd k1 ?_)))))
      show Wp (c1 (f_J11_copyOf (ld σ1 a 1) (ln σ t + max (L.length + 1 - ln σ t) (ln σ t / 2)) σ1) _) _
      have hm : ∃ m, ln σ t + max ((L.length : Int) + 1 - ln σ t) (ln σ t / 2) = m ∧ (L.length : Int) + 1 ≤ m ∧ m ≤ 30 := ⟨_, rfl, by omega, by omega⟩
      obtain ⟨m, hm1, hm2, hm3⟩ := hm
      rw [hm1, e1]
      refine wp_c1e (f_J11_copyOf_eq (by rw [kk]; exact z1) (by omega) (by rw [ll]; omega) (by rw [ll]; omega) (by omega) (fun i h1 h2 => ?_)) ?_
      · rw [ll] at h2
        have h8 := a8 i.toNat (by omega)
        rw [show ((i.toNat : Nat) : Int) = i by omega] at h8
        rw [et i hta, h8.1]
        refine ⟨(hL1 i.toNat (by omega)).ok, ?_⟩
        rcases h8.2 with w | w
        · rw [w]; omega
        · omega
      rw [ll]
      have kg : kd (cpy (al σ1 105 m m) t 0 (nx σ1) 0 (ln σ t)) a = 31 := by rw [kd_cpy, kd_al, if_neg (by omega)]; exact k1
      refine wp_gd kg (wp_nm0 (wp_ok (wp_ok ?_)))
      show Wp (f_J32_add_2_11 a v (nx σ1) _ (wr (cpy (al σ1 105 m m) t 0 (nx σ1) 0 (ln σ t)) a 1 (nx σ1))) _
      have G : Fr (fun r => r = a) σ1 (wr (cpy (al σ1 105 m m) t 0 (nx σ1) 0 (ln σ t)) a 1 (nx σ1)) := by
        have g1 : Fr (fun r => r = a) σ1 (al σ1 105 m m) := Fr.al (by omega)
        have g2 : Fr (fun r => r = nx σ1) (al σ1 105 m m) (cpy (al σ1 105 m m) t 0 (nx σ1) 0 (ln σ t)) := Fr.cpy rfl
        refine (g1.tr2 g2 fun r hr z => ?_).trans (Fr.wr rfl)
        have z' : r = nx σ1 := z
        omega
      refine wp_mono (add_11 (L := L) (t' := nx σ1) ?_ ?_ ?_ ?_ hl ⟨?_, ?_, ?_⟩ ⟨?_, ?_, ?_, ?_⟩ (fun i hi => ⟨?_, (hL1 i hi).frame G⟩) (hv1.frame G)) fun s hs => wp_ok ?_
      · exact kg
      · show a < nx σ1 + 1; omega
      · rw [ld_wr, if_pos ⟨rfl, rfl⟩]
      · rw [ld_wr, if_neg (by omega), ld_cpy, if_neg (by omega), ld_al, if_neg (by omega)]; exact e0
      · rw [kd_wr, kd_cpy, kd_al, if_neg (by omega), kk]; exact b1
      · rw [ln_wr, ln_cpy, ln_al, if_neg (by omega), ll]; exact b2
      · show 122 < nx σ1 + 1; omega
      · rw [kd_wr, kd_cpy, kd_al, if_pos rfl]
      · rw [ln_wr, ln_cpy, ln_al, if_pos rfl]; omega
      · rw [ln_wr, ln_cpy, ln_al, if_pos rfl]; omega
      · show nx σ1 < nx σ1 + 1; omega
      · rw [ld_wr, if_neg (by omega), ld_cpy, if_pos ⟨rfl, by omega, by omega⟩, ld_al, if_neg (by omega), show 0 + ((i : Int) - 0) = i by omega, et _ hta]
        exact (a8 i hi).1
      · obtain ⟨s1, s2, s3, s4⟩ := hs
        have s2' : nx s = nx σ1 + 1 := s2
        have s3' : us s = us σ1 + m := s3
        refine ⟨nx σ1, s1, Or.inr nn, ?_, by show nx s ≤ _; omega, by show us s ≤ _; omega, ?_⟩
        · show kd s (nx σ1) = 105
          rw [s4.kd (by show nx σ1 < nx σ1 + 1; omega), kd_wr, kd_cpy, kd_al, if_pos rfl]
        · refine ((F0.trans G).sub fun r _ z => Or.inl z).tr2 s4 fun r hr z => ?_
          have z' : r = a ∨ r = nx σ1 := z
          rcases z' with z' | z'
          · exact Or.inl z'
          · omega
    · rw [ll] at c
      refine wp_mono (add_11 (L := L) (t' := t) k1 (by omega) e1 e0 hl ⟨by rw [kk]; exact b1, by rw [ll]; exact b2, by omega⟩ ⟨by rw [kk]; exact z1, by rw [ll]; omega, by rw [ll]; exact z4, by omega⟩ (fun i hi => ⟨by rw [et _ hta]; exact (a8 i hi).1, hL1 i hi⟩) hv1) fun s hs => wp_ok ?_
      obtain ⟨s1, s2, s3, s4⟩ := hs
      refine ⟨t, s1, Or.inl rfl, ?_, by show nx s ≤ _; omega, by show us s ≤ _; omega, ?_⟩
      · show kd s t = 105
        rw [s4.kd (by omega), kk]; exact z1
      · refine (F0.sub fun r _ z => Or.inl z).trans (s4.sub fun r _ z => ?_)
        have z' : r = a ∨ r = t := z
        rcases z' with z' | z'
        · exact Or.inl z'
        · exact Or.inr ⟨z', z1⟩
/-- an element -/
theorem list_get (h : AlOk σ a t L) {i : Int} (hi : 0 ≤ i ∧ i < L.length) : f_J32_get a i σ = some (L.getD i.toNat 0, σ) := by
  obtain ⟨a1, a2, a3, a4, a5, a6, ⟨b1, b2, b3⟩, a7, a8⟩ := id h
  have h8 := a8 i.toNat (by omega)
  rw [show ((i.toNat : Nat) : Int) = i by omega] at h8
  unfold f_J32_get f_J18_checkIndex f_J24_checkIndex f_J32_elementData
  rcases a7 with ⟨z1, z2⟩ | ⟨z1, z2, z3, z4, z5⟩
  · rw [z2] at hi; exact absurd hi.2 (by show ¬ i < 0; omega)
  rw [gd_pos a1, a4, if_neg (by omega), if_pos hi.2, c1_at, c1_at, gd_pos a1, gd_pos a1, a3, gd_pos ⟨Or.inl z1, hi.1, by omega⟩, h8.1, c1_at]
end AL
