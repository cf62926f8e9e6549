/-! THE PIECE OF THE TEXT that a token is, as a string -/
set_option maxRecDepth 100000
theorem slc_snoc {T : List Int} {q : Int} {k : Nat} (h : 0 ≤ q) (h2 : q + k < T.length) : slc T q (q + k) ++ [bt T (q + k)] = slc T q (q + ((k + 1 : Nat) : Int)) := by
  have l1 : ((slc T q (q + k)).length : Int) = k := by rw [slc_len h (by omega) (by omega)]; omega
  have l2 : ((slc T q (q + ((k + 1 : Nat) : Int))).length : Int) = k + 1 := by rw [slc_len h (by omega) (by omega)]; omega
  refine list_ext (by rw [List.length_append, List.length_singleton]; omega) fun i hi => ?_
  rw [List.length_append, List.length_singleton] at hi
  rw [getD_snoc hi]
  by_cases c : i = (slc T q (q + k)).length
  · rw [if_pos c, slc_at h (by omega)]
    congr 1; omega
  · rw [if_neg c, slc_at h (by omega), slc_at h (by omega)]
/-- the text under the lexer x -/
def TxOk (σ : AS) (x : Int) (T : List Int) : Prop := kd σ x = 19 ∧ ld σ x 1 = T.length ∧ kd σ (ld σ x 0) = 102 ∧ (T.length : Int) ≤ ln σ (ld σ x 0) ∧ (∀ i : Int, 0 ≤ i → i < T.length → ld σ (ld σ x 0) i = bt T i) ∧ x < nx σ ∧ ld σ x 0 < nx σ ∧ 0 < nx σ ∧ ld σ x 0 ≠ x
theorem TxOk.keep {σ σ' : AS} {S : Int → Prop} {x : Int} {T : List Int} (h : TxOk σ x T) (hF : Fr S σ σ') (h1 : ∀ j, j < 2 → ld σ' x j = ld σ x j) (h2 : ¬ S (ld σ x 0)) : TxOk σ' x T := by
  obtain ⟨a1, a2, a3, a4, a5, a6, a7, a8, a9⟩ := h
  have e0 := h1 0 (by decide)
  have e1 := h1 1 (by decide)
  have hn := hF.1
  refine ⟨by rw [hF.kd a6]; exact a1, by rw [e1]; exact a2, by rw [e0, hF.kd a7]; exact a3, by rw [e0, hF.ln a7]; exact a4, fun i hi hi2 => ?_, by omega, by omega, by omega, by rw [e0]; exact a9⟩
  rw [e0, hF.ld a7 h2]; exact a5 i hi hi2
section PIECE
variable {σ σ0 : AS} {n : Nat} {x a b c s q e : Int} {l m T : List Int}
theorem TxOk.al (h : TxOk σ x T) {S : Int → Prop} (hF : Fr (fun _ => False) σ σ0) : TxOk σ0 x T := h.keep hF (fun j _ => hF.ld h.2.2.2.2.2.1 (fun z => z) j) (fun z => z)
theorem piece_loop (hb : BtOk T) (h0 : 0 ≤ q) (he : e ≤ T.length) (hc : ∀ i, q ≤ i → i < e → 0 ≤ bt T i) (hT : TxOk σ0 x T) (he3 : ld σ0 x 3 = e) : ∀ (m k f : Nat) (σ : AS) (a : Int), m < f → q + k + m = e → SbOk σ b a (slc T q (q + k)) → Fr (fun _ => False) σ0 σ → nx σ0 ≤ b → nx σ0 ≤ a → 1 ≤ ln σ a → (ln σ a ≤ 16 ∨ ln σ a ≤ 2 * k) → nx σ ≤ nx σ0 + 2 + k → us σ ≤ us σ0 + 4 + 2 * ln σ a → Wp (f_X4_piece_13 n f x b (q + k) σ) fun y => nx σ0 ≤ y.1 ∧ y.1 + 1 < nx y.2 ∧ StrAt y.2 y.1 (slc T q e) ∧ (kd y.2 y.1 = 24 ∧ kd y.2 (y.1 + 1) = 102) ∧ ld y.2 y.1 0 = y.1 + 1 ∧ ld y.2 y.1 2 = 0 ∧ ld y.2 y.1 3 = 0 ∧ nx y.2 ≤ nx σ0 + 4 + (e - q) ∧ us y.2 ≤ us σ0 + 40 + 5 * (e - q) ∧ Fr (fun _ => False) σ0 y.2
  | m, k, 0, σ, a, hf, _, _, _, _, _, _, _, _, _ => absurd hf (by omega)
  | 0, k, f + 1, σ, a, hf, hm, hS, hF, hb1, ha1, hl1, hl2, hn, hu => by
    have hx := hT.2.2.2.2.2.1
    have hp := hT.2.2.2.2.2.2.2.1
    have ee : q + (k : Int) = e := by omega
    have hlen : ((slc T q e).length : Int) = e - q := slc_len h0 (by omega) he
    unfold f_X4_piece_13
    have k1 : kd σ x = 19 := by rw [hF.kd hx]; exact hT.1
    refine wp_gd k1 ?_
    rw [hF.ld hx (fun z => z), he3]
    rw [ee] at hS ⊢
    refine wp_pos (by omega) (wp_gd hS.1 (wp_c1 (wp_mono (toString_wp (by have := hF.1; omega) hS) fun y hy => wp_ok ?_)))
    obtain ⟨y1, y2, y3, y4, y5, y6, y7, y8, y9⟩ := hy
    have := hF.1
    rw [← y1] at y2 y3 y4 y5 y6
    refine ⟨?_, ?_, y2, y3, ?_, y5, y6, ?_, ?_, hF.trans y9⟩
    · show nx σ0 ≤ y.1; omega
    · show y.1 + 1 < nx y.2; omega
    · show ld y.2 y.1 0 = y.1 + 1; omega
    · show nx y.2 ≤ _; omega
    · show us y.2 ≤ _; omega
  | m + 1, k, f + 1, σ, a, hf, hm, hS, hF, hb1, ha1, hl1, hl2, hn, hu => by
    have hx := hT.2.2.2.2.2.1
    have hr := hT.2.2.2.2.2.2.1
    have hp := hT.2.2.2.2.2.2.2.1
    have hbl := hb.1
    unfold f_X4_piece_13
    have k1 : kd σ x = 19 := by rw [hF.kd hx]; exact hT.1
    refine wp_gd k1 ?_
    rw [hF.ld hx (fun z => z), he3]
    refine wp_neg (by omega) (wp_gd k1 ?_)
    rw [hF.ld hx (fun z => z)]
    refine wp_gd ⟨Or.inl (by rw [hF.kd hr]; exact hT.2.2.1), by omega, by rw [hF.ln hr]; have := hT.2.2.2.1; omega⟩ (wp_gd hS.1 ?_)
    rw [hF.ld hr (fun z => z), hT.2.2.2.2.1 _ (by omega) (by omega)]
    have hcc := hc (q + k) (by omega) (by omega)
    have hcc2 := (hb.2 (q + k)).2
    rw [cw_pos ⟨hcc, hcc2⟩]
    refine wp_c1 (wp_mono (append_wp hS ⟨hl1, by omega⟩ ⟨hcc, hcc2⟩) fun y hy => ?_)
    obtain ⟨y1, a', y2, y3, y4⟩ := hy
    rw [slc_snoc h0 (by omega)] at y2
    have hlen : ((slc T q (q + k)).length : Int) = k := by rw [slc_len h0 (by omega) (by omega)]; omega
    refine wp_gI (by omega) (wp_nm0 ?_)
    rw [show q + (k : Int) + 1 = q + ((k + 1 : Nat) : Int) by omega]
    have F' : Fr (fun _ => False) σ0 y.2 := hF.tr2 y4 fun r hr z => by
      have z' : r = b ∨ r = a := z
      omega
    have hn1 := hF.1
    have hS6 := hS.2.2.2.2.2.1
    exact piece_loop hb h0 he hc hT he3 m (k + 1) f y.2 a' (by omega) (by omega) y2 F' hb1 (by omega) (by omega) (by omega) (by omega) (by omega)
/-- what every piece promises -/
def PcQ (σ : AS) (d : Int) (y : Int × AS) : Prop := nx σ ≤ y.1 ∧ y.1 + 1 < nx y.2 ∧ kd y.2 y.1 = 24 ∧ nx y.2 ≤ nx σ + 4 + d ∧ us y.2 ≤ us σ + 55 + 5 * d ∧ Fr (fun _ => False) σ y.2
/-- a string made by the lexer: its hash is not known yet -/
def StrN (σ : AS) (s : Int) (l : List Int) : Prop := StrAt σ s l ∧ (kd σ s = 24 ∧ kd σ (s + 1) = 102) ∧ ld σ s 0 = s + 1 ∧ ld σ s 2 = 0 ∧ ld σ s 3 = 0
theorem sb_init (hx : 0 < nx σ) : f_J30_init (nx σ) (al σ 30 0 4) = some (wr (wr (al (al σ 30 0 4) 102 16 16) (nx σ) 0 (nx σ + 1)) (nx σ) 1 0) := by
  unfold f_J30_init f_J29_init
  have e1 : kd (al (al σ 30 0 4) 102 16 16) (nx σ) = 30 := by rw [kd_al, if_neg (by rw [nx_al]; omega), kd_al, if_pos rfl]
  rw [gd_pos (by omega), gd_pos (by omega), if_neg (by decide), gd_pos (by omega), nm_eq, nm_eq, gd_pos e1, nm_eq, gd_pos (show kd (wr (al (al σ 30 0 4) 102 16 16) (nx σ) 0 (nx (al σ 30 0 4))) (nx σ) = 30 from e1), nm_eq, c0_at]
  rfl
theorem sb_new (hx : 0 < nx σ) : ∀ σ1, σ1 = wr (wr (al (al σ 30 0 4) 102 16 16) (nx σ) 0 (nx σ + 1)) (nx σ) 1 0 → SbOk σ1 (nx σ) (nx σ + 1) [] ∧ ln σ1 (nx σ + 1) = 16 ∧ ld σ1 (nx σ) 2 = 0 ∧ Fr (fun _ => False) σ σ1 ∧ nx σ1 = nx σ + 2 ∧ us σ1 = us σ + 20 := by
  intro σ1 e
  have n1 : nx (al σ 30 0 4) = nx σ + 1 := rfl
  have l1 : ln σ1 (nx σ + 1) = 16 := by rw [e]; rw [ln_wr, ln_wr, ln_al, if_pos n1.symm]
  refine ⟨⟨?_, ?_, ?_, ?_, ?_, ?_, ?_, fun i hi => absurd hi (by show ¬ i < 0; omega), ?_, ?_⟩, l1, ?_, ?_, ?_, ?_⟩
  · rw [e, kd_wr, kd_wr, kd_al, if_neg (by omega), kd_al, if_pos rfl]
  · rw [e, kd_wr, kd_wr, kd_al, if_pos n1.symm]
  · rw [e, ld_wr, if_neg (by omega), ld_wr, if_pos ⟨rfl, rfl⟩]
  · rw [e, ld_wr, if_pos ⟨rfl, rfl⟩]
  · rw [e, ld_wr, if_neg (by omega), ld_wr, if_neg (by omega), ld_al, if_neg (by omega), ld_al, if_pos rfl]; rfl
  · rw [l1]; decide
  · rw [l1]; decide
  · rw [e]; show nx σ < nx σ + 1 + 1; omega
  · rw [e]; show nx σ + 1 < nx σ + 1 + 1; omega
  · rw [e, ld_wr, if_neg (by omega), ld_wr, if_neg (by omega), ld_al, if_neg (by omega), ld_al, if_pos rfl]
  · rw [e]
    have g1 : Fr (fun _ => False) σ (al (al σ 30 0 4) 102 16 16) := (Fr.al (by decide)).trans (Fr.al (by decide))
    have g2 : Fr (fun r => r = nx σ) (al (al σ 30 0 4) 102 16 16) (wr (wr (al (al σ 30 0 4) 102 16 16) (nx σ) 0 (nx σ + 1)) (nx σ) 1 0) := Fr.trans (Fr.wr rfl) (Fr.wr rfl)
    refine g1.tr2 g2 fun r hr z => ?_
    have z' : r = nx σ := z
    omega
  · rw [e]; show nx σ + 1 + 1 = _; omega
  · rw [e]; show us σ + 4 + 16 = _; omega
theorem piece_wp (hn : 1000000 ≤ n) (hb : BtOk T) (h0 : 0 ≤ q ∧ q ≤ e) (he : e ≤ T.length) (hc : ∀ i, q ≤ i → i < e → 0 ≤ bt T i) (hT : TxOk σ x T) (h2 : ld σ x 2 = q) (h3 : ld σ x 3 = e) : Wp (f_X4_piece n x σ) fun y => PcQ σ (e - q) y ∧ StrN y.2 y.1 (slc T q e) := by
  have hx := hT.2.2.2.2.2.1
  have hp := hT.2.2.2.2.2.2.2.1
  have hbl := hb.1
  unfold f_X4_piece
  refine wp_nm0 (wp_nm0 (wp_gd (by omega) (wp_c0e (sb_init hp) ?_)))
  obtain ⟨s1, s2, s3, s4, s5, s6⟩ := sb_new hp _ rfl
  generalize wr (wr (al (al σ 30 0 4) 102 16 16) (nx σ) 0 (nx σ + 1)) (nx σ) 1 0 = σ1 at *
  have hs0 : slc T q (q + ((0 : Nat) : Int)) = [] := by
    unfold slc
    rw [show (q + ((0 : Nat) : Int) - q).toNat = 0 by omega]
    exact List.take_zero
  refine wp_gd (by rw [s4.kd hx]; exact hT.1) (wp_nm0 ?_)
  rw [s4.ld hx (fun z => z), h2]
  have := piece_loop (n := n) hb h0.1 he hc hT h3 (e - q).toNat 0 n σ1 (nx σ + 1) (by omega) (by omega) (by rw [hs0]; exact s1) s4 (Int.le_refl _) (by omega) (by omega) (by omega) (by omega) (by omega)
  rw [show q + ((0 : Nat) : Int) = q by omega] at this
  refine wp_mono this fun y hy => ?_
  obtain ⟨y1, y2, y3, y4, y5, y6, y7, y8, y9, y10⟩ := hy
  exact ⟨⟨y1, y2, y4.1, y8, by omega, y10⟩, y3, y4, y5, y6, y7⟩
/-- one byte that is not ASCII: the builder turns to two bytes a character -/
theorem append_neg (hn : 1 ≤ n) {B A ch : Int} (hx : 0 < nx σ) (hS : SbOk σ B A []) (hA : ln σ A = 16) (hB2 : ld σ B 2 = 0) (hch : 255 < ch) : Wp (f_J30_append_3 n B ch σ) fun y => kd y.2 B = 30 ∧ ld y.2 B 0 = nx σ ∧ ld y.2 B 1 = 1 ∧ ld y.2 B 2 = 0 ∧ ld y.2 B 3 = 1 ∧ kd y.2 (nx σ) = 102 ∧ ln y.2 (nx σ) = 32 ∧ Fr (fun r => r = B) σ y.2 ∧ nx y.2 = nx σ + 1 ∧ us y.2 = us σ + 32 := by
  obtain ⟨a1, a2, a3, a4, a5, a6, a7, a8, a9, a10⟩ := hS
  have a5' : ld σ B 3 = 0 := a5
  obtain ⟨q, rfl⟩ : ∃ z, n = z + 1 := ⟨n - 1, by omega⟩
  unfold f_J30_append_3 f_J29_append_3 f_J29_ensureCapacityInternal
  refine wp_gd a1 (wp_c1 (wp_gd a1 ?_))
  rw [a5', a3, a4, hA, ishr0 (by omega)]
  refine wp_gI (by decide) (wp_gd a1 (wp_c0e ?_ (wp_gd a1 ?_)))
  · rw [gd_pos a1, gd_pos (Or.inl a2), gd_pos a1, nm_eq, gI_pos (by decide), if_pos (by decide)]
  unfold f_J29_append_3_45 f_J29_inflate f_J29_isLatin1
  have eL : (if (1 : Int) = 0 then some ((0 : Int), σ) else gd (kd σ B = 30) (if ld σ B 1 = 0 then some (1, σ) else some (0, σ))) = some (1, σ) := by
    rw [if_neg (by decide), gd_pos a1, if_pos a4]
  refine wp_c1e eL (wp_neg (by decide) ?_)
  unfold f_J20_canEncode
  refine wp_c1e (if_pos hch) (wp_pos rfl (wp_gd a1 (wp_c1e eL (wp_neg (by decide) (wp_gd a1 (wp_c0 (wp_gd a1 (wp_c1e eL (wp_neg (by decide) (wp_gd a1 ?_))))))))))
  unfold f_J23_newBytesFor f_J23_newBytesLength
  rw [a3, hA]
  refine wp_gd (Or.inl a2) (wp_c1 (wp_c1e (a := 32) (s := σ) ?_ (wp_gd (by decide) (wp_nm0 (wp_nm0 (wp_ok ?_))))))
  · rw [if_pos (by decide), if_pos (by decide)]; rfl
  show Wp (gd (kd (al σ 102 32 32) B = 30) _) _
  generalize hσ2 : al σ 102 32 32 = σ2
  have k2 : kd σ2 B = 30 := by rw [← hσ2, kd_al, if_neg (by omega)]; exact a1
  have n2 : nx σ2 = nx σ + 1 := by rw [← hσ2]; rfl
  have u2 : us σ2 = us σ + 32 := by rw [← hσ2]; rfl
  have lb2 : ∀ j, ld σ2 B j = ld σ B j := fun j => by rw [← hσ2, ld_al, if_neg (by omega)]
  have kc : kd σ2 (nx σ) = 102 := by rw [← hσ2, kd_al, if_pos rfl]
  have lc : ln σ2 (nx σ) = 32 := by rw [← hσ2, ln_al, if_pos rfl]
  have F2 : Fr (fun r => r = B) σ σ2 := by rw [← hσ2]; exact Fr.al (by decide)
  show Wp (gd (kd σ2 B = 30) (gd (kd σ2 B = 30) (c0 (f_J20_inflate (q + 1) (ld σ2 B 0) 0 (nx σ) 0 (ld σ2 B 3) σ2) _))) _
  rw [lb2, lb2, a3, a5']
  unfold f_J20_inflate f_J23_inflate f_J23_checkBoundsOffCount f_J23_length f_J15_checkBoundsOffCount f_J24_checkFromIndexSize f_J23_inflate_10
  have e0 : c1 (gd (kd σ2 (nx σ) = 102 ∨ kd σ2 (nx σ) = 1102) (some (ishrW (ln σ2 (nx σ)) 1, σ2))) (fun v1 σ2 => c1 (c1 (if iorW (iorW v1 0) 0 < 0 then none else gI (v1 - 0) (if (0 : Int) ≤ v1 - 0 then some ((0 : Int), σ2) else none)) fun v1 σ2 => some (v1, σ2)) fun v4 σ5 => some σ5) = some σ2 := by
    rw [gd_pos (Or.inl kc), c1_at, lc, show ishrW 32 1 = 16 from rfl, if_neg (by decide), gI_pos (by decide), if_pos (by decide)]
    rfl
  refine wp_gd k2 (wp_gd k2 (wp_c0 (wp_c0 (wp_c0e e0 (wp_pos (by decide) (wp_ok (wp_ok (wp_gd k2 (wp_nm0 (wp_gd ?_ (wp_nm0 (wp_ok ?_))))))))))))
  · exact k2
  generalize hσ3 : wr (wr σ2 B 0 (nx σ)) B 1 1 = σ3
  have k3 : kd σ3 B = 30 := by rw [← hσ3]; exact k2
  have kc3 : kd σ3 (nx σ) = 102 := by rw [← hσ3]; exact kc
  have lc3 : ln σ3 (nx σ) = 32 := by rw [← hσ3]; exact lc
  have n3 : nx σ3 = nx σ + 1 := by rw [← hσ3]; exact n2
  have u3 : us σ3 = us σ + 32 := by rw [← hσ3]; exact u2
  have b0 : ld σ3 B 0 = nx σ := by rw [← hσ3, ld_wr, if_neg (by omega), ld_wr, if_pos ⟨rfl, rfl⟩]
  have b1 : ld σ3 B 1 = 1 := by rw [← hσ3, ld_wr, if_pos ⟨rfl, rfl⟩]
  have b2 : ld σ3 B 2 = 0 := by rw [← hσ3, ld_wr, if_neg (by omega), ld_wr, if_neg (by omega), lb2]; exact hB2
  have b3 : ld σ3 B 3 = 0 := by rw [← hσ3, ld_wr, if_neg (by omega), ld_wr, if_neg (by omega), lb2]; exact a5'
  have F3 : Fr (fun r => r = B) σ σ3 := by
    rw [← hσ3]
    exact (F2.trans (Fr.wr rfl)).trans (Fr.wr rfl)
  unfold f_J29_append_3_56
  refine wp_gd k3 (wp_gd k3 (wp_nm0 ?_))
  rw [b3]
  refine wp_gI (by decide) (wp_gd k3 (wp_nm0 ?_))
  rw [b0]
  generalize hσ4 : wr σ3 B 3 (0 + 1) = σ4
  have kc4 : kd σ4 (nx σ) = 102 := by rw [← hσ4]; exact kc3
  have lc4 : ln σ4 (nx σ) = 32 := by rw [← hσ4]; exact lc3
  unfold f_J23_putCharSB f_J23_checkIndex f_J23_length f_J15_checkIndex f_J24_checkIndex f_J23_putChar f_J23_putChar_28
  have e1 : c1 (gd (kd σ4 (nx σ) = 102 ∨ kd σ4 (nx σ) = 1102) (some (ishrW (ln σ4 (nx σ)) 1, σ4))) (fun v1 σ2 => c0 (c1 (if (0 : Int) < 0 then none else if (0 : Int) < v1 then some ((0 : Int), σ2) else none) fun v1 σ2 => some σ2) fun σ5 => some σ5) = some σ4 := by
    rw [gd_pos (Or.inl kc4), c1_at, lc4, show ishrW 32 1 = 16 from rfl, if_neg (by decide), if_pos (by decide)]
    rfl
  refine wp_c0 (wp_c0e e1 (wp_c0 (wp_neg (by decide) (wp_nm0 (wp_gI (by decide) (wp_nm0 (wp_gd ⟨kc4, by decide, by rw [lc4]; decide⟩ (wp_gd byt_rng (wp_nm0 (wp_gd ⟨kc4, by decide, by rw [ln_wr, lc4]; decide⟩ (wp_gd byt_rng (wp_nm0 (wp_ok (wp_ok (wp_ok (wp_ok ?_))))))))))))))))
  have hBn : B ≠ nx σ := by omega
  refine ⟨?_, ?_, ?_, ?_, ?_, ?_, ?_, ?_, ?_, ?_⟩
  · show kd σ4 B = 30; rw [← hσ4]; exact k3
  all_goals try show ld (wr (wr σ4 (nx σ) _ _) (nx σ) _ _) B _ = _
  · rw [ld_wr, if_neg (fun z => hBn z.1), ld_wr, if_neg (fun z => hBn z.1), ← hσ4, ld_wr, if_neg (by omega)]; exact b0
  · rw [ld_wr, if_neg (fun z => hBn z.1), ld_wr, if_neg (fun z => hBn z.1), ← hσ4, ld_wr, if_neg (by omega)]; exact b1
  · rw [ld_wr, if_neg (fun z => hBn z.1), ld_wr, if_neg (fun z => hBn z.1), ← hσ4, ld_wr, if_neg (by omega)]; exact b2
  · rw [ld_wr, if_neg (fun z => hBn z.1), ld_wr, if_neg (fun z => hBn z.1), ← hσ4, ld_wr, if_pos ⟨rfl, rfl⟩]; rfl
  · show kd σ4 (nx σ) = 102; exact kc4
  · show ln σ4 (nx σ) = 32; exact lc4
  · have F4 : Fr (fun r => r = B) σ σ4 := by rw [← hσ4]; exact F3.trans (Fr.wr rfl)
    have F5 : Fr (fun r => r = nx σ) σ4 (wr (wr σ4 (nx σ) (ishlW 0 1) (i2bW (ishrW ch 0))) (nx σ) (ishlW 0 1 + 1) (i2bW (ishrW ch 8))) := Fr.trans (Fr.wr rfl) (Fr.wr rfl)
    refine F4.tr2 F5 fun r hr z => ?_
    have z' : r = nx σ := z
    omega
  · show nx σ4 = _; rw [← hσ4]; exact n3
  · show us σ4 = _; rw [← hσ4]; exact u3
theorem toString_neg {B C : Int} (hx : 0 < nx σ) (k1 : kd σ B = 30) (b0 : ld σ B 0 = C) (b1 : ld σ B 1 = 1) (b2 : ld σ B 2 = 0) (b3 : ld σ B 3 = 1) (kc : kd σ C = 102) (lc : ln σ C = 32) (hB : B < nx σ) (hC : C < nx σ) : Wp (f_J30_toString B σ) fun y => y.1 = nx σ ∧ kd y.2 (nx σ) = 24 ∧ nx y.2 = nx σ + 2 ∧ us y.2 = us σ + 6 ∧ Fr (fun _ => False) σ y.2 := by
  unfold f_J30_toString
  refine wp_nm0 (wp_nm0 (wp_gd (by omega) (wp_c0 ?_)))
  generalize hσ1 : al σ 24 0 4 = σ1
  have kB : kd σ1 B = 30 := by rw [← hσ1, kd_al, if_neg (by omega)]; exact k1
  have lB : ∀ j, ld σ1 B j = ld σ B j := fun j => by rw [← hσ1, ld_al, if_neg (by omega)]
  have kC : kd σ1 C = 102 := by rw [← hσ1, kd_al, if_neg (by omega)]; exact kc
  have lC : ln σ1 C = 32 := by rw [← hσ1, ln_al, if_neg (by omega)]; exact lc
  have ks : kd σ1 (nx σ) = 24 := by rw [← hσ1, kd_al, if_pos rfl]
  have n1 : nx σ1 = nx σ + 1 := by rw [← hσ1]; rfl
  have u1 : us σ1 = us σ + 4 := by rw [← hσ1]; rfl
  have F1 : Fr (fun _ => False) σ σ1 := by rw [← hσ1]; exact Fr.al (by decide)
  unfold f_J15_init f_J15_init_2 f_J29_getValue f_J30_length f_J29_length f_J29_isLatin1
  refine wp_gd (by omega) (wp_c0 (wp_gd (by omega) (wp_gd kB (wp_c1e (gd_pos kB) (wp_gd kB (wp_c1e (a := 1) (s := σ1) ?_ (wp_gd kB (wp_c1e (a := 0) (s := σ1) ?_ (wp_pos rfl (wp_neg (by decide) (wp_gd kB (wp_pos ?_ ?_)))))))))))) 
  · rw [gd_pos kB, gd_pos kB, c1_at, lB, b3]
  · rw [if_neg (by decide), gd_pos kB, lB, b1, if_neg (by decide)]
  · rw [lB]; exact b2
  unfold f_J15_init_2_79
  rw [lB, b0]
  refine wp_gd ks (wp_nm0 ?_)
  generalize hσ2 : wr σ1 (nx σ) 1 1 = σ2
  have kC2 : kd σ2 C = 102 := by rw [← hσ2]; exact kC
  have lC2 : ln σ2 C = 32 := by rw [← hσ2]; exact lC
  have ks2 : kd σ2 (nx σ) = 24 := by rw [← hσ2]; exact ks
  have n2 : nx σ2 = nx σ + 1 := by rw [← hσ2]; exact n1
  have u2 : us σ2 = us σ + 4 := by rw [← hσ2]; exact u1
  have F2 : Fr (fun _ => False) σ σ2 := by
    rw [← hσ2]
    refine F1.tr2 (S' := fun r => r = nx σ) (Fr.wr rfl) fun r hr z => ?_
    have z' : r = nx σ := z
    omega
  unfold f_J11_copyOfRange f_J11_copyOfRange_10 f_J11_copyOfRangeByte f_J11_checkLength
  rw [show ishlW 1 1 = 2 from rfl]
  refine wp_c1 (wp_pos rfl (wp_gd (Or.inl kC2) (wp_neg (by rw [lC2]; decide) (wp_c1 (wp_c0e (if_pos (by decide)) (wp_gI (by decide) (wp_nm0 (wp_gd (by decide) (wp_nm0 (wp_nm0 ?_))))))))))
  have e1 : kd (al σ2 102 (2 - 0) (2 - 0)) C = 102 := by rw [kd_al, if_neg (by omega)]; exact kC2
  have e2 : ln (al σ2 102 (2 - 0) (2 - 0)) C = 32 := by rw [ln_al, if_neg (by omega)]; exact lC2
  refine wp_gd (Or.inl e1) ?_
  rw [e2]
  refine wp_gI (by decide) (wp_c1e f_J12_min_eq ?_)
  rw [show min ((32 : Int) - 0) (2 - 0) = 2 from rfl]
  refine wp_gd ⟨Or.inl e1, by rw [kd_al, if_pos rfl], by decide, by decide, by decide, by rw [e2]; decide, by rw [ln_al, if_pos rfl]; decide⟩ (wp_nm0 (wp_ok (wp_ok (wp_gd ?_ (wp_nm0 (wp_ok (wp_ok (wp_ok ⟨rfl, ?_, ?_, ?_, ?_⟩))))))))
  · show kd (al σ2 102 (2 - 0) (2 - 0)) (nx σ) = 24
    rw [kd_al, if_neg (by omega)]; exact ks2
  · show kd (al σ2 102 (2 - 0) (2 - 0)) (nx σ) = 24
    rw [kd_al, if_neg (by omega)]; exact ks2
  · show nx σ2 + 1 = _; omega
  · show us σ2 + (2 - 0) = _; omega
  · have F3 : Fr (fun _ => False) σ (al σ2 102 (2 - 0) (2 - 0)) := F2.trans (Fr.al (by decide))
    refine F3.tr2 (S' := fun r => r = nx σ + 1 ∨ r = nx σ) ((Fr.cpy (Or.inl n2)).trans (Fr.wr (Or.inr rfl))) fun r hr z => ?_
    have z' : r = nx σ + 1 ∨ r = nx σ := z
    omega
theorem piece_neg (hn : 1000000 ≤ n) (hb : BtOk T) (h0 : 0 ≤ q ∧ q < T.length) (hc : bt T q < 0) (hT : TxOk σ x T) (h2 : ld σ x 2 = q) (h3 : ld σ x 3 = q + 1) : Wp (f_X4_piece n x σ) fun y => PcQ σ 1 y := by
  have hx := hT.2.2.2.2.2.1
  have hr := hT.2.2.2.2.2.2.1
  have hp := hT.2.2.2.2.2.2.2.1
  have hbl := hb.1
  have hcr := hb.2 q
  obtain ⟨n', rfl⟩ : ∃ z, n = z + 3 := ⟨n - 3, by omega⟩
  unfold f_X4_piece
  refine wp_nm0 (wp_nm0 (wp_gd (by omega) (wp_c0e (sb_init hp) ?_)))
  obtain ⟨s1, s2, s3, s4, s5, s6⟩ := sb_new hp _ rfl
  generalize wr (wr (al (al σ 30 0 4) 102 16 16) (nx σ) 0 (nx σ + 1)) (nx σ) 1 0 = σ1 at *
  refine wp_gd (by rw [s4.kd hx]; exact hT.1) (wp_nm0 ?_)
  rw [s4.ld hx (fun z => z), h2]
  have k1 : kd σ1 x = 19 := by rw [s4.kd hx]; exact hT.1
  unfold f_X4_piece_13
  refine wp_gd k1 ?_
  rw [s4.ld hx (fun z => z), h3, s4.ld hx (fun z => z)]
  refine wp_neg (by omega) (wp_gd k1 (wp_gd ⟨Or.inl (by rw [s4.kd hr]; exact hT.2.2.1), h0.1, by rw [s4.ln hr]; have := hT.2.2.2.1; omega⟩ (wp_gd s1.1 ?_)))
  rw [s4.ld hr (fun z => z), hT.2.2.2.2.1 _ h0.1 h0.2, cw_neg ⟨hcr.1, hc⟩]
  refine wp_c1 (wp_mono (append_neg (by omega) (by omega) s1 s2 s3 (by omega)) fun y hy => wp_gI (by omega) (wp_nm0 ?_))
  obtain ⟨y1, y2, y3, y4, y5, y6, y7, y8, y9, y10⟩ := hy
  have F' : Fr (fun _ => False) σ y.2 := s4.tr2 y8 fun r hr z => by
    have z' : r = nx σ := z
    omega
  unfold f_X4_piece_13
  refine wp_gd (by rw [F'.kd hx]; exact hT.1) ?_
  rw [F'.ld hx (fun z => z), h3]
  refine wp_pos (by omega) (wp_gd y1 (wp_c1 (wp_mono (toString_neg (by omega) y1 y2 y3 y4 y5 y6 y7 (by omega) (by omega)) fun z hz => wp_ok ?_)))
  obtain ⟨z1, z2, z3, z4, z5⟩ := hz
  rw [← z1] at z2
  refine ⟨?_, ?_, z2, ?_, ?_, F'.trans z5⟩
  · show nx σ ≤ z.1; omega
  · show z.1 + 1 < nx z.2; omega
  · show nx z.2 ≤ _; omega
  · show us z.2 ≤ _; omega
end PIECE
def hcf (l : List Int) : Nat → Int
  | 0 => 0
  | k + 1 => iaddW (imulW 31 (hcf l k)) (iandW (l.getD k 0) 255)
def hcode (l : List Int) : Int := if l.length = 0 then 0 else if l.length = 1 then iandW (l.getD 0 0) 255 else hcf l l.length
def hspr (l : List Int) : Int := ixorW (hcode l) (iushrW (hcode l) 16)
/-- a string of the heap, its hash unknown or right -/
def StrH (σ : AS) (s : Int) (l : List Int) : Prop := StrAt σ s l ∧ (kd σ s = 24 ∧ kd σ (s + 1) = 102) ∧ ld σ s 0 = s + 1 ∧ (ld σ s 2 = 0 ∨ ld σ s 2 = hcode l) ∧ (ld σ s 3 = 0 ∨ hcode l = 0)
theorem StrN.h {σ : AS} {s : Int} {l : List Int} (h : StrN σ s l) : StrH σ s l := ⟨h.1, h.2.1, h.2.2.1, Or.inl h.2.2.2.1, Or.inl h.2.2.2.2⟩
theorem StrH.frame {S : Int → Prop} {σ σ' : AS} {s : Int} {l : List Int} (h : StrH σ s l) (hF : Fr S σ σ') (h1 : s + 1 < nx σ) (h3 : ¬ S s) (h4 : ¬ S (s + 1)) : StrH σ' s l := by
  obtain ⟨a1, a2, a3, a4, a5⟩ := h
  refine ⟨a1.frame hF (by omega) (by omega) h3 (by rw [a3]; exact h4), by rw [hF.kd (by omega), hF.kd (by omega)]; exact a2, by rw [hF.ld (by omega) h3]; exact a3, ?_, ?_⟩
  · rw [hF.ld (by omega) h3]; exact a4
  · rw [hF.ld (by omega) h3]; exact a5
