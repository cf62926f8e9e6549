/-! STRINGS: what a string holds, equals, the builder -/
set_option maxRecDepth 100000
def StrAt (σ : AS) (s : Int) (l : List Int) : Prop := (kd σ s = 24 ∨ kd σ s = 1024) ∧ ld σ s 1 = 0 ∧ (kd σ (ld σ s 0) = 102 ∨ kd σ (ld σ s 0) = 1102) ∧ ln σ (ld σ s 0) = l.length ∧ ∀ i : Nat, i < l.length → ld σ (ld σ s 0) i = l.getD i 0
theorem StrAt.inj {σ : AS} {s : Int} {l m : List Int} (h : StrAt σ s l) (h' : StrAt σ s m) : l = m := by
  have e : l.length = m.length := by have := h.2.2.2.1; have := h'.2.2.2.1; omega
  exact list_ext e fun i hi => (h.2.2.2.2 i hi).symm.trans (h'.2.2.2.2 i (by omega))
theorem StrAt.frame {S : Int → Prop} {σ σ' : AS} {s : Int} {l : List Int} (h : StrAt σ s l) (hF : Fr S σ σ') (h1 : s < nx σ) (h2 : ld σ s 0 < nx σ) (h3 : ¬ S s) (h4 : ¬ S (ld σ s 0)) : StrAt σ' s l := by
  obtain ⟨a1, a2, a3, a4, a5⟩ := h
  unfold StrAt
  rw [hF.kd h1, hF.ld h1 h3, hF.ld h1 h3, hF.kd h2, hF.ln h2]
  exact ⟨a1, a2, a3, a4, fun i hi => by rw [hF.ld h2 h4]; exact a5 i hi⟩
section STR
variable {σ σ0 : AS} {n : Nat} {a b c s q e : Int} {l m T : List Int}
theorem arr_eq_loop (hl : l.length ≤ 2000) (ka : kd σ a = 102 ∨ kd σ a = 1102) (la : ln σ a = l.length) (ca : ∀ i : Nat, i < l.length → ld σ a i = l.getD i 0) (kb : kd σ b = 102 ∨ kd σ b = 1102) (lb : ln σ b = m.length) (cb : ∀ i : Nat, i < m.length → ld σ b i = m.getD i 0) (hlm : l.length = m.length) : ∀ (k i f : Nat), k < f → i + k = l.length → (∀ j, j < i → l.getD j 0 = m.getD j 0) → f_J20_equals_9 n f a b i σ = some (if l = m then 1 else 0, σ)
  | k, i, 0, hf, _, _ => absurd hf (by omega)
  | 0, i, f + 1, hf, hk, hp => by
    unfold f_J20_equals_9
    rw [gd_pos ka, la, if_pos (by omega), if_pos (list_ext hlm fun j hj => hp j (by omega))]
  | k + 1, i, f + 1, hf, hk, hp => by
    unfold f_J20_equals_9
    rw [gd_pos ka, la, if_neg (by omega), gd_pos ⟨ka, by omega, by omega⟩, gd_pos ⟨kb, by omega, by rw [lb]; omega⟩, ca i (by omega), cb i (by omega)]
    by_cases c : l.getD i 0 = m.getD i 0
    · rw [if_pos c, gI_pos (by omega), nm_eq, show (i : Int) + 1 = ((i + 1 : Nat) : Int) by omega]
      exact arr_eq_loop hl ka la ca kb lb cb hlm k (i + 1) f (by omega) (by omega) fun j hj => by
        by_cases z : j = i
        · rw [z]; exact c
        · exact hp j (by omega)
    · rw [if_neg c, if_neg (fun z => c (by rw [z]))]
theorem str_equals_eq (hn : 1000000 ≤ n) (hl : l.length ≤ 2000) (ha : StrAt σ a l) (hb : StrAt σ b m) (hc : cmpOk σ a b) : f_J15_equals n a b σ = some (if l = m then 1 else 0, σ) := by
  unfold f_J15_equals
  rw [gdc_pos hc]
  by_cases c : a = b
  · subst c
    rw [if_pos rfl, if_pos (ha.inj hb)]
  · obtain ⟨a1, a2, a3, a4, a5⟩ := ha
    obtain ⟨b1, b2, b3, b4, b5⟩ := hb
    rw [if_neg c, gd_pos b1, if_neg (by decide), gd_pos (Or.inr b1), if_neg (by decide), gd_pos a1, gd_pos b1, a2, b2, if_pos rfl]
    unfold f_J15_equals_36 f_J20_equals
    rw [gd_pos a1, gd_pos b1, gd_pos a3, gd_pos b3, a4, b4]
    by_cases z : l.length = m.length
    · rw [if_pos (by omega)]
      have := arr_eq_loop (n := n) hl a3 a4 a5 b3 b4 b5 z l.length 0 n (by omega) (by omega) (fun j hj => absurd hj (by omega))
      rw [show ((0 : Nat) : Int) = 0 from rfl] at this
      rw [this, c1_at]
      by_cases y : l = m
      · rw [if_pos y, if_neg (by decide)]
      · rw [if_neg y, if_pos rfl]
    · rw [if_neg (by omega), c1_at, if_pos rfl, if_neg (fun y => z (by rw [y]))]
theorem ishr0 {x : Int} (h : -2147483648 ≤ x ∧ x ≤ 2147483647) : ishrW x 0 = x := by
  unfold ishrW
  have e : (Int32.ofInt 0 &&& 31) = 0 := rfl
  rw [e, Int32.shiftRight_zero, Int32.toInt_ofInt]
  apply Int.bmod_eq_of_le <;> simp <;> omega
theorem ishl0 {x : Int} (h : -2147483648 ≤ x ∧ x ≤ 2147483647) : ishlW x 0 = x := by
  unfold ishlW
  have e : (Int32.ofInt 0 &&& 31) = 0 := rfl
  rw [e, Int32.shiftLeft_zero, Int32.toInt_ofInt]
  apply Int.bmod_eq_of_le <;> simp <;> omega
theorem cw : ∀ j : Fin 256, i2cW ((j : Nat) - 128 : Int) = (if (j : Nat) < 128 then ((j : Nat) - 128 : Int) + 65536 else ((j : Nat) - 128 : Int)) := by decide +kernel
theorem cw_pos (h : 0 ≤ c ∧ c ≤ 127) : i2cW c = c := by
  have := cw ⟨(c + 128).toNat, by omega⟩
  rw [show (((⟨(c + 128).toNat, by omega⟩ : Fin 256) : Nat) : Int) - 128 = c by show ((c + 128).toNat : Int) - 128 = c; omega] at this
  rw [this, if_neg]
  show ¬ (c + 128).toNat < 128
  omega
theorem cw_neg (h : -128 ≤ c ∧ c < 0) : i2cW c = c + 65536 := by
  have := cw ⟨(c + 128).toNat, by omega⟩
  rw [show (((⟨(c + 128).toNat, by omega⟩ : Fin 256) : Nat) : Int) - 128 = c by show ((c + 128).toNat : Int) - 128 = c; omega] at this
  rw [this, if_pos]
  show (c + 128).toNat < 128
  omega
theorem bw : ∀ j : Fin 128, i2bW ((j : Nat) : Int) = ((j : Nat) : Int) := by decide +kernel
theorem bw_pos (h : 0 ≤ c ∧ c ≤ 127) : i2bW c = c := by
  have := bw ⟨c.toNat, by omega⟩
  rw [show (((⟨c.toNat, by omega⟩ : Fin 128) : Nat) : Int) = c by show (c.toNat : Int) = c; omega] at this
  exact this
/-- builder b, with the array a, holds l -/
def SbOk (σ : AS) (b a : Int) (l : List Int) : Prop := kd σ b = 30 ∧ kd σ a = 102 ∧ ld σ b 0 = a ∧ ld σ b 1 = 0 ∧ ld σ b 3 = l.length ∧ l.length ≤ ln σ a ∧ ln σ a ≤ 10000 ∧ (∀ i : Nat, i < l.length → ld σ a i = l.getD i 0) ∧ b < nx σ ∧ a < nx σ
theorem SbOk.ne (h : SbOk σ b a l) : b ≠ a := fun z => by
  have h1 := h.1
  rw [z, h.2.1] at h1
  exact absurd h1 (by decide)
/-- the builder's last bytes -/
theorem append_fits (h : SbOk σ b a l) (hl : (l.length : Int) < ln σ a) (hc : 0 ≤ c ∧ c ≤ 127) : ∀ K : Option (Int × AS), K = gd (kd σ b = 30) (gd (kd σ b = 30) (nm (ld σ b 3) fun v38 => gI (v38 + 1) (gd (kd σ b = 30) (nm (wr σ b 3 (v38 + 1)) fun σ42 => gd (kd σ42 (ld σ b 0) = 102 ∧ (0 : Int) ≤ v38 ∧ v38 < ln σ42 (ld σ b 0)) (gd (-128 ≤ (i2bW c) ∧ (i2bW c) ≤ 127) (nm (wr σ42 (ld σ b 0) v38 (i2bW c)) fun σ46 => some (b, σ46))))))) → K = some (b, wr (wr σ b 3 (l.length + 1)) a l.length c) ∧ SbOk (wr (wr σ b 3 (l.length + 1)) a l.length c) b a (l ++ [c]) := by
  intro K e
  have hne := h.ne
  obtain ⟨h1, h2, h3, h4, h5, h6, h7, h8, h9, h10⟩ := h
  constructor
  · rw [e, gd_pos h1, gd_pos h1, nm_eq, h5, gI_pos (by omega), gd_pos h1, nm_eq, h3, gd_pos ⟨h2, by omega, hl⟩, bw_pos hc, gd_pos (by omega), nm_eq]
  · refine ⟨h1, h2, ?_, ?_, ?_, ?_, h7, fun i hi => ?_, h9, h10⟩
    · rw [ld_wr, if_neg (fun z => hne z.1), ld_wr, if_neg (fun z => absurd z.2 (by decide))]; exact h3
    · rw [ld_wr, if_neg (fun z => hne z.1), ld_wr, if_neg (fun z => absurd z.2 (by decide))]; exact h4
    · rw [ld_wr, if_neg (fun z => hne z.1), ld_wr, if_pos ⟨rfl, rfl⟩]; simp
    · show ((l ++ [c]).length : Int) ≤ ln σ a
      simp; omega
    · have hi' : i < l.length + 1 := by simpa using hi
      rw [getD_snoc hi', ld_wr]
      by_cases z : i = l.length
      · rw [if_pos ⟨rfl, by rw [z]⟩, if_pos z]
      · rw [if_neg (fun y => z (by omega)), if_neg z, ld_wr, if_neg (fun y => hne y.1.symm)]
        exact h8 i (by omega)
theorem append_small (h : SbOk σ b a l) (hl : (l.length : Int) < ln σ a) (hc : 0 ≤ c ∧ c ≤ 127) : f_J30_append_3 n b c σ = some (b, wr (wr σ b 3 (l.length + 1)) a l.length c) ∧ SbOk (wr (wr σ b 3 (l.length + 1)) a l.length c) b a (l ++ [c]) := by
  have hK := append_fits h hl hc _ rfl
  obtain ⟨h1, h2, h3, h4, h5, h6, h7, h8, h9, h10⟩ := h
  refine ⟨?_, hK.2⟩
  unfold f_J30_append_3 f_J29_append_3 f_J29_ensureCapacityInternal
  rw [gd_pos h1, gd_pos h1, h5, gI_pos (by omega), gd_pos h1, gd_pos h1, h3, gd_pos (Or.inl h2), gd_pos h1, nm_eq, h4, ishr0 (by omega), gI_pos (by omega), if_pos (by omega), c0_at, gd_pos h1]
  unfold f_J29_isLatin1
  rw [if_neg (by decide), gd_pos h1, h4, if_pos rfl, c1_at, if_neg (by decide)]
  unfold f_J20_canEncode
  rw [if_neg (by omega), c1_at, if_neg (by decide)]
  rw [hK.1, c1_at]
theorem append_grow (h : SbOk σ b a l) (hl : (l.length : Int) = ln σ a) (h16 : 1 ≤ ln σ a ∧ ln σ a ≤ 4000) : ∃ σ', f_J29_ensureCapacityInternal b (l.length + 1) σ = some σ' ∧ SbOk σ' b (nx σ) l ∧ ln σ' (nx σ) = 2 * ln σ a + 2 ∧ Fr (fun r => r = b) σ σ' ∧ nx σ' = nx σ + 1 ∧ us σ' = us σ + (2 * ln σ a + 2) := by
  have hne := h.ne
  obtain ⟨h1, h2, h3, h4, h5, h6, h7, h8, h9, h10⟩ := h
  refine ⟨wr (cpy (al σ 102 (2 * ln σ a + 2) (2 * ln σ a + 2)) a 0 (nx σ) 0 (ln σ a)) b 0 (nx σ), ?_, ⟨?_, ?_, ?_, ?_, ?_, ?_, ?_, fun i hi => ?_, ?_, ?_⟩, ?_, ?_, rfl, rfl⟩
  · unfold f_J29_ensureCapacityInternal
    rw [gd_pos h1, h3, gd_pos (Or.inl h2), gd_pos h1, nm_eq, h4, ishr0 (by omega), gI_pos (by omega), if_neg (by omega), gd_pos h1, gd_pos h1]
    unfold f_J29_newCapacity
    rw [gd_pos h1, h3, gd_pos (Or.inl h2), nm_eq, gd_pos h1, nm_eq, h4, ishl0 (by omega), gI_pos (by omega), nm_eq, gd_pos h1, show ishlW 2 0 = 2 from rfl, gI_pos (by omega)]
    unfold f_J21_newLength f_J12_max
    rw [if_pos (by omega), c1_at, gI_pos (by omega), nm_eq, if_neg (by omega), if_neg (by omega), c1_at, if_neg (by omega), gd_pos h1, h4, ishr0 (by omega), c1_at, gd_pos h1, h4, ishl0 (by omega), show ln σ a + (ln σ a + 2) = 2 * ln σ a + 2 by omega]
    unfold f_J11_copyOf_3
    rw [gd_pos (Or.inl h2), if_neg (by omega), gd_pos (by omega), nm_eq, nm_eq]
    have e1 : kd (al σ 102 (2 * ln σ a + 2) (2 * ln σ a + 2)) a = 102 := by rw [kd_al, if_neg (by omega)]; exact h2
    have e2 : ln (al σ 102 (2 * ln σ a + 2) (2 * ln σ a + 2)) a = ln σ a := by rw [ln_al, if_neg (by omega)]
    rw [gd_pos (Or.inl e1), f_J12_min_eq, c1_at, e2, show min (ln σ a) (2 * ln σ a + 2) = ln σ a by omega, gd_pos ⟨Or.inl e1, by rw [kd_al, if_pos rfl], by omega, by omega, by omega, by omega, by rw [ln_al, if_pos rfl]; omega⟩, nm_eq, c1_at]
    rw [gd_pos (show kd (cpy (al σ 102 _ _) a 0 (nx σ) 0 (ln σ a)) b = 30 by rw [kd_cpy, kd_al, if_neg (by omega)]; exact h1), nm_eq]
  · rw [kd_wr, kd_cpy, kd_al, if_neg (by omega)]; exact h1
  · rw [kd_wr, kd_cpy, kd_al, if_pos rfl]
  · rw [ld_wr, if_pos ⟨rfl, rfl⟩]
  · rw [ld_wr, if_neg (by omega), ld_cpy, if_neg (by omega), ld_al, if_neg (by omega)]; exact h4
  · rw [ld_wr, if_neg (by omega), ld_cpy, if_neg (by omega), ld_al, if_neg (by omega)]; exact h5
  · rw [ln_wr, ln_cpy, ln_al, if_pos rfl]; omega
  · rw [ln_wr, ln_cpy, ln_al, if_pos rfl]; omega
  · rw [ld_wr, if_neg (by omega), ld_cpy, if_pos ⟨rfl, by omega, by omega⟩, ld_al, if_neg (by omega), show 0 + ((i : Int) - 0) = i by omega]
    exact h8 i hi
  · show b < nx σ + 1; omega
  · show nx σ < nx σ + 1; omega
  · rw [ln_wr, ln_cpy, ln_al, if_pos rfl]
  · refine (((Fr.al (by omega)).tr2 (S' := fun r => r = nx σ) (Fr.cpy rfl) fun r hr z => ?_).trans (Fr.wr rfl))
    have z' : r = nx σ := z
    omega
theorem append_wp (h : SbOk σ b a l) (h16 : 1 ≤ ln σ a ∧ ln σ a ≤ 4000) (hc : 0 ≤ c ∧ c ≤ 127) : Wp (f_J30_append_3 n b c σ) fun y => y.1 = b ∧ ∃ a', SbOk y.2 b a' (l ++ [c]) ∧ ((a' = a ∧ nx y.2 = nx σ ∧ us y.2 = us σ ∧ ln y.2 a' = ln σ a ∧ (l.length : Int) < ln σ a) ∨ (a' = nx σ ∧ nx y.2 = nx σ + 1 ∧ us y.2 = us σ + ln y.2 a' ∧ ln y.2 a' = 2 * ln σ a + 2 ∧ (l.length : Int) = ln σ a)) ∧ Fr (fun r => r = b ∨ r = a) σ y.2 := by
  by_cases c1 : (l.length : Int) < ln σ a
  · obtain ⟨e1, e2⟩ := append_small (n := n) h c1 hc
    exact wp_of_eq e1 ⟨rfl, a, e2, Or.inl ⟨rfl, rfl, rfl, rfl, c1⟩, (Fr.wr (Or.inl rfl)).trans (Fr.wr (Or.inr rfl))⟩
  · have hl : (l.length : Int) = ln σ a := by have := h.2.2.2.2.2.1; omega
    obtain ⟨σ', g1, g2, g3, g4, g5, g6⟩ := append_grow h hl h16
    have hl' : (l.length : Int) < ln σ' (nx σ) := by omega
    have hK := append_fits g2 hl' hc _ rfl
    have hb := h.2.2.2.2.2.2.2.2.1
    refine wp_of_eq (a := (b, wr (wr σ' b 3 (l.length + 1)) (nx σ) l.length c)) ?_ ⟨rfl, nx σ, hK.2, Or.inr ⟨rfl, g5, ?_, g3, hl⟩, ?_⟩
    · unfold f_J30_append_3 f_J29_append_3
      rw [gd_pos h.1, gd_pos h.1, h.2.2.2.2.1, gI_pos (by omega), gd_pos h.1, g1, c0_at, gd_pos g2.1]
      unfold f_J29_isLatin1
      rw [if_neg (by decide), gd_pos g2.1, g2.2.2.2.1, if_pos rfl, c1_at, if_neg (by decide)]
      unfold f_J20_canEncode
      rw [if_neg (by omega), c1_at, if_neg (by decide), hK.1, c1_at]
    · show us σ' = us σ + ln σ' (nx σ); omega
    · refine ((g4.sub fun r _ z => Or.inl z).tr2 (S' := fun r => r = b ∨ r = nx σ) ((Fr.wr (Or.inl rfl)).trans (Fr.wr (Or.inr rfl))) fun r hr z => ?_)
      have z' : r = b ∨ r = nx σ := z
      rcases z' with z' | z'
      · exact Or.inl z'
      · omega
/-- the string that the builder makes -/
theorem toString_wp (hx : 0 < nx σ) (h : SbOk σ b a l) : Wp (f_J30_toString b σ) fun y => y.1 = nx σ ∧ StrAt y.2 (nx σ) l ∧ (kd y.2 (nx σ) = 24 ∧ kd y.2 (nx σ + 1) = 102) ∧ ld y.2 (nx σ) 0 = nx σ + 1 ∧ ld y.2 (nx σ) 2 = 0 ∧ ld y.2 (nx σ) 3 = 0 ∧ nx y.2 = nx σ + 2 ∧ us y.2 = us σ + 4 + l.length ∧ Fr (fun _ => False) σ y.2 := by
  have hne := h.ne
  obtain ⟨h1, h2, h3, h4, h5, h6, h7, h8, h9, h10⟩ := h
  unfold f_J30_toString
  refine wp_nm0 (wp_nm0 (wp_gd (by omega) (wp_c0 ?_)))
  generalize hσ1 : al σ 24 0 4 = σ1
  have k1 : ∀ r, r < nx σ → kd σ1 r = kd σ r ∧ ln σ1 r = ln σ r ∧ ∀ j, ld σ1 r j = ld σ r j := fun r hr => by
    subst hσ1
    exact ⟨by rw [kd_al, if_neg (by omega)], by rw [ln_al, if_neg (by omega)], fun j => by rw [ld_al, if_neg (by omega)]⟩
  have ks : kd σ1 (nx σ) = 24 := by subst hσ1; rw [kd_al, if_pos rfl]
  have ls : ∀ j, ld σ1 (nx σ) j = 0 := fun j => by subst hσ1; rw [ld_al, if_pos rfl]
  have n1 : nx σ1 = nx σ + 1 := by subst hσ1; rfl
  have u1 : us σ1 = us σ + 4 := by subst hσ1; rfl
  have F1 : Fr (fun _ => False) σ σ1 := by subst hσ1; exact Fr.al (by decide)
  unfold f_J15_init f_J15_init_2
  have kb1 : kd σ1 b = 30 := by rw [(k1 b h9).1]; exact h1
  have ka1 : kd σ1 a = 102 := by rw [(k1 a h10).1]; exact h2
  have la1 : ln σ1 a = ln σ a := (k1 a h10).2.1
  refine wp_gd (by omega) (wp_c0 (wp_gd (by omega) (wp_gd kb1 ?_)))
  unfold f_J29_getValue f_J30_length f_J29_length f_J29_isLatin1
  refine wp_c1e (gd_pos kb1) (wp_gd kb1 (wp_c1e (a := ld σ1 b 3) (s := σ1) ?_ (wp_gd kb1 (wp_c1e (a := 1) (s := σ1) ?_ (wp_neg (by decide) (wp_gd ks (wp_nm0 ?_)))))))
  · rw [gd_pos kb1, gd_pos kb1, c1_at]
  · rw [if_neg (by decide), gd_pos kb1, (k1 b h9).2.2, h4, if_pos rfl]
  rw [(k1 b h9).2.2, (k1 b h9).2.2, h3, h5]
  generalize hσ2 : wr σ1 (nx σ) 1 0 = σ2
  have kd2 : ∀ r, kd σ2 r = kd σ1 r := fun r => by subst hσ2; rfl
  have ln2 : ∀ r, ln σ2 r = ln σ1 r := fun r => by subst hσ2; rfl
  have ls2 : ∀ j, ld σ2 (nx σ) j = 0 := fun j => by
    subst hσ2
    rw [ld_wr]
    split
    · rfl
    · exact ls j
  have la2 : ∀ j, ld σ2 a j = ld σ a j := fun j => by
    subst hσ2
    rw [ld_wr, if_neg (by omega)]; exact (k1 a h10).2.2 j
  have n2 : nx σ2 = nx σ + 1 := by subst hσ2; exact n1
  have u2 : us σ2 = us σ + 4 := by subst hσ2; exact u1
  have F2 : Fr (fun _ => False) σ σ2 := by
    subst hσ2
    refine F1.tr2 (S' := fun r => r = nx σ) (Fr.wr rfl) fun r hr z => ?_
    have z' : r = nx σ := z
    omega
  have fin : ∀ σ3 : AS, kd σ3 (nx σ + 1) = 102 → ln σ3 (nx σ + 1) = l.length → (∀ i : Nat, i < l.length → ld σ3 (nx σ + 1) i = l.getD i 0) → Fr (fun _ => False) σ2 σ3 → nx σ3 = nx σ + 2 → us σ3 = us σ + 4 + l.length → Wp (gd (kd σ3 (nx σ) = 24) (nm (wr σ3 (nx σ) 0 (nx σ + 1)) fun σ34 => some σ34)) fun s => Wp (some s) fun s => Wp (some (nx σ, s)) fun y => y.1 = nx σ ∧ StrAt y.2 (nx σ) l ∧ (kd y.2 (nx σ) = 24 ∧ kd y.2 (nx σ + 1) = 102) ∧ ld y.2 (nx σ) 0 = nx σ + 1 ∧ ld y.2 (nx σ) 2 = 0 ∧ ld y.2 (nx σ) 3 = 0 ∧ nx y.2 = nx σ + 2 ∧ us y.2 = us σ + 4 + l.length ∧ Fr (fun _ => False) σ y.2 := fun σ3 q1 q2 q3 q4 q5 q6 => by
    have ks3 : kd σ3 (nx σ) = 24 := by rw [q4.kd (by omega), kd2]; exact ks
    have ls3 : ∀ j, ld σ3 (nx σ) j = 0 := fun j => by rw [q4.ld (by omega) (fun z => z)]; exact ls2 j
    have e0 : ld (wr σ3 (nx σ) 0 (nx σ + 1)) (nx σ) 0 = nx σ + 1 := by rw [ld_wr, if_pos ⟨rfl, rfl⟩]
    refine wp_gd ks3 (wp_nm0 (wp_ok (wp_ok (wp_ok ⟨rfl, ⟨Or.inl ks3, ?_, ?_, ?_, fun i hi => ?_⟩, ⟨ks3, q1⟩, e0, ?_, ?_, q5, q6, ?_⟩))))
    · show ld (wr σ3 (nx σ) 0 (nx σ + 1)) (nx σ) 1 = 0
      rw [ld_wr, if_neg (by omega)]; exact ls3 1
    · show kd σ3 (ld (wr σ3 (nx σ) 0 (nx σ + 1)) (nx σ) 0) = 102 ∨ _
      rw [e0]; exact Or.inl q1
    · show ln σ3 (ld (wr σ3 (nx σ) 0 (nx σ + 1)) (nx σ) 0) = _
      rw [e0]; exact q2
    · show ld (wr σ3 (nx σ) 0 (nx σ + 1)) (ld (wr σ3 (nx σ) 0 (nx σ + 1)) (nx σ) 0) i = _
      rw [e0, ld_wr, if_neg (by omega)]; exact q3 i hi
    · show ld (wr σ3 (nx σ) 0 (nx σ + 1)) (nx σ) 2 = 0
      rw [ld_wr, if_neg (by omega)]; exact ls3 2
    · show ld (wr σ3 (nx σ) 0 (nx σ + 1)) (nx σ) 3 = 0
      rw [ld_wr, if_neg (by omega)]; exact ls3 3
    · refine (F2.trans q4).tr2 (S' := fun r => r = nx σ) (Fr.wr rfl) fun r hr z => ?_
      have z' : r = nx σ := z
      omega
  unfold f_J11_copyOfRange
  refine wp_c1 (wp_pos rfl (wp_gd (by rw [kd2]; exact Or.inl ka1) ?_))
  rw [ln2, la1]
  refine wp_ite (fun hcap => ?_) fun hcap => ?_
  · refine wp_gd ⟨by rw [kd2]; exact ka1, by omega⟩ (wp_nm0 (wp_nm0 ?_))
    rw [n2]
    have kc : kd (cln σ2 a) (nx σ + 1) = 102 := by
      show (if nx σ + 1 = nx σ2 then kd σ2 a % 1000 else kd σ2 (nx σ + 1)) = 102
      rw [if_pos n2.symm, kd2, ka1]
    refine wp_gd kc (wp_ok ?_)
    refine fin (cln σ2 a) kc ?_ (fun i hi => ?_) ⟨?_, ?_, fun r hr => ⟨?_, ?_⟩, fun r hr _ j => ?_⟩ ?_ ?_
    · show (if nx σ + 1 = nx σ2 then ln σ2 a else ln σ2 (nx σ + 1)) = _
      rw [if_pos n2.symm, ln2, la1]; omega
    · show (if nx σ + 1 = nx σ2 then σ2.2.2.1 a else σ2.2.2.1 (nx σ + 1)) i = _
      rw [if_pos n2.symm]
      exact (la2 i).trans (h8 i hi)
    · show nx σ2 ≤ nx σ2 + 1; omega
    · show us σ2 ≤ us σ2 + ln σ2 a; rw [ln2, la1]; omega
    · show (if r = nx σ2 then kd σ2 a % 1000 else kd σ2 r) = _
      rw [if_neg (by omega)]
    · show (if r = nx σ2 then ln σ2 a else ln σ2 r) = _
      rw [if_neg (by omega)]
    · show (if r = nx σ2 then σ2.2.2.1 a else σ2.2.2.1 r) j = σ2.2.2.1 r j
      rw [if_neg (by omega)]
    · show nx σ2 + 1 = _; omega
    · show us σ2 + ln σ2 a = _; rw [ln2, la1]; omega
  · unfold f_J11_copyOfRange_10 f_J11_copyOfRangeByte f_J11_checkLength
    have e1 : kd (al σ2 102 (l.length - 0) (l.length - 0)) a = 102 := by rw [kd_al, if_neg (by omega), kd2]; exact ka1
    have e2 : ln (al σ2 102 (l.length - 0) (l.length - 0)) a = ln σ a := by rw [ln_al, if_neg (by omega), ln2, la1]
    refine wp_c1 (wp_c0e (if_pos (by omega)) (wp_gI (by omega) (wp_nm0 (wp_gd (by omega) (wp_nm0 (wp_nm0 (wp_gd (Or.inl e1) ?_)))))))
    rw [e2]
    refine wp_gI (by omega) (wp_c1e f_J12_min_eq ?_)
    rw [show min (ln σ a - 0) ((l.length : Int) - 0) = l.length by omega]
    refine wp_gd ⟨Or.inl e1, by rw [kd_al, if_pos rfl], by omega, by omega, by omega, by omega, by rw [ln_al, if_pos rfl]; omega⟩ (wp_nm0 (wp_ok (wp_ok ?_)))
    show Wp (gd (kd _ (nx σ) = 24) (nm (wr _ (nx σ) 0 (nx σ2)) fun σ34 => some σ34)) _
    rw [n2]
    have e0 : nx σ + 1 = nx σ2 := n2.symm
    refine fin _ ?_ ?_ (fun i hi => ?_) ?_ ?_ ?_
    · rw [kd_cpy, kd_al, if_pos e0]
    · rw [ln_cpy, ln_al, if_pos e0]; omega
    · rw [ld_cpy, if_pos ⟨rfl, by omega, by omega⟩, ld_al, if_neg (by omega), show 0 + ((i : Int) - 0) = i by omega, la2]
      exact h8 i hi
    · refine (Fr.al (by omega)).tr2 (S' := fun r => r = nx σ + 1) (Fr.cpy rfl) fun r hr z => ?_
      have z' : r = nx σ + 1 := z
      omega
    · show nx σ2 + 1 = _; omega
    · show us σ2 + ((l.length : Int) - 0) = _; omega
end STR
