/-! READ, side by side: return -/
set_option maxRecDepth 100000
noncomputable def twRet (n : Nat) (τ : TT) : Option (Int × TT) := t1 (g_X7_itemTexts n 1022 τ) fun v85 τ86 => if v85 = 0 then some (0, τ86) else twOrd n τ86
/-- the outcome of all behind the conditions -/
def RRet (T : List Int) (N0 U0 k : Int) (σ : AS) (τ : TT) (S : PS) (M : Nat) (cs : List Cnd) (y : Int × AS) (w : Int × TT) : Prop :=
  EfY N0 σ y.2 ∧ RdF τ w.2 ∧ ((w.1 = 1 ∧ y.1 = N0 ∧ ∃ q' S' its os, ShP T N0 U0 y.2 0 k q' S' ∧ (∀ i, i ≠ 3 → i ≠ 4 → S'.2 i = S.2 i) ∧ OKO T N0 y.2 w.2 q' S' M cs its os ∧ its ≠ [] ∧ S.1.1.length ≤ S'.1.1.length ∧ (∀ i : Nat, i < S.1.1.length → w.2 1036 i = τ 1036 i) ∧ ld y.2 1007 5 = 0 ∧ limR (ld y.2 N0 8) (w.2 1022 40) ∧ ld y.2 N0 7 = w.2 1022 39 ∧ (w.2 1022 39 = 0 ∨ w.2 1022 39 = 1)) ∨ RdL T N0 U0 (k + 5) y w)
section RH
variable {σ σ0 σ1 σ2 σ3 σ' : AS} {τ τ0 τ' : TT} {n M : Nat} {N0 U0 z z' k q q0 q' p v l r C l1 l2 l4 l5 e var x a b c s0 hc : Int} {T : List Int} {S S' : PS} {cs : List Cnd} {its : List Trm} {os : List Odr} {t : Trm}
/-- behind "distinct" or not -/
noncomputable def rdIts (n : Nat) (M : Int) (σ50 : AS) : Option (Int × AS) := gd (kd σ50 1007 = 18) <| c0 (f_X3_items n 1007 M σ50) fun σ54 => rdOrd n M σ54
theorem read_80_eq {n : Nat} {M : Int} {σ : AS} : f_X3_read_80 n 1007 M σ = gd (kd σ 1007 = 18) (c0 (f_X3_need n 1007 61 σ) fun σ41 => gd (kd σ41 1007 = 18) <| gd (kd σ41 1007 = 18) <| c1 (f_X3_takes n 1007 63 σ41) fun v45 σ46 => gd (kd σ46 (ld σ41 1007 1) = 12) <| gd (0 ≤ v45 ∧ v45 ≤ 1) <| nm (wr σ46 (ld σ41 1007 1) 7 v45) fun σ50 => rdIts n M σ50) := rfl
theorem lk_its (hn : 1000000 ≤ n) (hb : BtOk T) (h : ShP T N0 U0 σ 0 k q S) (hO : OKC T N0 σ τ q S M cs) (hS3 : S.2 3 = [] ∧ S.2 4 = []) (h36 : τ 1022 36 = 0 ∧ τ 1022 38 = 0) (hl8 : ld σ N0 8 = 2147483647) (hl40 : τ 1022 40 = 100000) (h7 : ld σ N0 7 = τ 1022 39 ∧ (τ 1022 39 = 0 ∨ τ 1022 39 = 1)) : Wp (rdIts n M σ) fun y => Wp (t1 (g_X7_itemTexts_45 n 1022 τ) fun v85 τ86 => if v85 = 0 then some (0, τ86) else twOrd n τ86) fun w => RRet T N0 U0 k σ τ S M cs y w := by
  have hI0 : OKI T N0 σ τ q S M cs [] := ⟨hO, ⟨by rw [hS3.1]; rfl, fun i hi => absurd hi (by simp)⟩, ⟨by rw [h36.1]; rfl, fun i hi => absurd hi (by simp)⟩, by simp, fun _ o ho => absurd ho (by simp)⟩
  obtain ⟨n1, hn1⟩ : ∃ n1, n = n1 + 1 := ⟨n - 1, by omega⟩
  unfold rdIts f_X3_items g_X7_itemTexts_45
  have J := lk_items (k := k) (N0 := N0) (U0 := U0) hn hb (m := 9) (Q := n1) (Q' := n) (by simp) (by omega) (by omega) h hI0
  rw [← hn1] at J
  refine wp_gd h.2.2.2.2.1.1 (wp_join0 J fun σ2 w hw => ?_)
  rcases hw with ⟨x1, q2, S2, its, b1, b2, b3, b4, b5, b6, b7, b8, b9⟩ | ⟨x1, ⟨S2, b1⟩, b2, b3⟩
  · rw [if_neg (show ¬ w.1 = 0 by omega)]
    have w9 : ∀ j, (j = 38 ∨ j = 39 ∨ j = 40) → w.2 1022 j = τ 1022 j := fun j hj => b9 _ _ (by omega) (by omega) (by omega)
    refine wp_mono (lk_ord hn hb b2 b4 (by rw [b3 4 (by decide)]; exact hS3.2) ((w9 38 (by omega)).trans h36.2) (by rw [b8.2.2.1]; exact hl8) ((w9 40 (by omega)).trans hl40)) fun y hy => wp_mono hy fun w' hw' => ?_
    obtain ⟨d1, d2, d3⟩ := hw'
    refine ⟨b8.y.trans d1, b9.rd.trans d2, ?_⟩
    rcases d3 with ⟨y1, y2, q3, S3, os, y3, y4, y5, y6, y7, y8, y9, y10, y11⟩ | ⟨y1, y2, ⟨q3, S3, y3⟩, y4⟩
    · refine Or.inl ⟨y1, y2, q3, S3, its, os, y3, fun i hi hi4 => (y4 i hi4).trans (b3 i hi), y5, b5, by omega, fun i hi => by rw [y7 i (by omega), b7 i hi], y8, y9, ?_, ?_⟩
      · rw [y10, b8.2.2.1, y11, w9 39 (by omega)]; exact h7.1
      · rw [y11, w9 39 (by omega)]; exact h7.2
    · exact Or.inr ⟨y1, y2, ⟨q3, S3, y3.mono (by omega)⟩, y4⟩
  · rw [if_pos x1]
    refine wp_swap (wp_ok ?_)
    unfold rdOrd
    refine wp_gd b1.g (wp_c1e (b1.takes hn hb (r := 67) (C := 16) (by decide) (by unfold spC; omega)) (wp_pos rfl ?_))
    refine wp_mono (r118_fail hn hb b1) fun y hy => ?_
    obtain ⟨y1, ⟨q4, y2⟩, y3, y4⟩ := hy
    exact ⟨b2.y.trans y4.y, b3.rd, Or.inr ⟨rfl, y1, ⟨q4, S2, (y2.monoz (by decide)).mono (by omega)⟩, y3.1, y3.2.1, y3.2.2⟩⟩
/-- what stands behind "return" or "distinct", the failed mode -/
theorem rdIts_fail (hn : 1000000 ≤ n) (hb : BtOk T) (h : FlR T N0 U0 z k S σ τ) (hz : z ≤ 4) : Wp (rdIts n x σ) fun y => y.1 = 0 ∧ (∃ q S, ShP T N0 U0 y.2 (z + 1) k q S) ∧ CF1 y.2 (τ 1022 17) (τ 1022 18) ∧ EfY N0 σ y.2 := by
  obtain ⟨n1, hn1⟩ : ∃ n1, n = n1 + 2 := ⟨n - 2, by omega⟩
  unfold rdIts rdOrd f_X3_items
  have key := items_fail (x := x) hn hb h (by omega) (Q := n1)
  rw [← hn1] at key
  refine wp_gd h.g (wp_c0 (wp_mono key fun σ3 h3 => ?_))
  obtain ⟨⟨S3, f3⟩, E3⟩ := h3
  refine wp_gd f3.g (wp_c1e (f3.takes hn hb (r := 67) (C := 16) (by decide) (by unfold spC; omega)) (wp_pos rfl ?_))
  refine wp_mono (r118_fail hn hb f3) fun y hy => ?_
  obtain ⟨y1, ⟨q4, y2⟩, y3, y4⟩ := hy
  exact ⟨y1, ⟨q4, S3, y2⟩, y3, E3.y.trans y4.y⟩
theorem lk_ret (hn : 1000000 ≤ n) (hb : BtOk T) (h : ShP T N0 U0 σ 0 k q S) (hO : OKC T N0 σ τ q S M cs) (hS3 : S.2 3 = [] ∧ S.2 4 = []) (h36 : τ 1022 36 = 0 ∧ τ 1022 38 = 0) (hl8 : ld σ N0 8 = 2147483647) (hl40 : τ 1022 40 = 100000) : Wp (f_X3_read_80 n 1007 M σ) fun y => Wp (twRet n τ) fun w => RRet T N0 U0 k σ τ S M cs y w := by
  have o1 := hO.1.1.1
  have h7 := h.2.2.2.2.1.1
  rw [read_80_eq]
  unfold twRet g_X7_itemTexts
  refine wp_gd h7 (wp_c0 ?_)
  refine wp_mono (lk_need hn hb h hO.1.1 (r := 61) (C := 14) (by decide) (by unfold spC; omega)) fun σ1 h1 => ?_
  obtain ⟨w1, ew1, b1, b2, b3⟩ := h1
  have flN : ∀ (σ2 : AS) (τ2 : TT) (v : Int), (v = 0 ∨ v = 1) → FlR T N0 U0 0 k S σ2 τ2 → EfY N0 σ σ2 → RdF τ τ2 → Wp (gd (kd σ2 N0 = 12) <| gd (0 ≤ v ∧ v ≤ 1) <| nm (wr σ2 N0 7 v) fun σ50 => rdIts n M σ50) fun y => RRet T N0 U0 k σ τ S M cs y (0, τ2) := fun σ2 τ2 v hv f2 E2 F2 => by
    obtain ⟨q2, s2, c2⟩ := id f2
    obtain ⟨t1, t2, t3, t4⟩ := sh_q (v := v) (j := 7) s2 (by decide)
    refine wp_gd s2.2.2.2.2.2.2.1.1 (wp_gd (by omega) (wp_nm0 ?_))
    have f3 : FlR T N0 U0 0 k S (wr σ2 N0 7 v) τ2 := by
      refine ⟨q2, t1, ?_⟩
      have hN := s2.2.2.2.2.2.1
      unfold CF
      rw [t3 _ _ (by omega), t3 _ _ (by omega)]
      exact c2
    refine wp_mono (rdIts_fail hn hb f3 (by decide)) fun y hy => ?_
    obtain ⟨y1, ⟨q4, S4, y2⟩, y3, y4⟩ := hy
    exact ⟨E2.trans (t2.trans y4), F2, Or.inr ⟨rfl, y1, ⟨q4, S4, (y2.monoz (by decide)).mono (by omega)⟩, y3.1, y3.2.1, y3.2.2⟩⟩
  rcases b3 with ⟨d1, d2, q2, d3, d4, d5⟩ | ⟨d1, d2⟩
  · have hw2 : ∀ r j, ¬ (r = 1022 ∧ 17 ≤ j ∧ j ≤ 22) → w1.2 r j = τ r j := fun r j hh => b2 r j (fun u => hh ⟨u.1, by omega⟩)
    have hO1 : OKC T N0 σ1 w1.2 q2 S M cs := hO.step d5 b1.1 (fun u => by rw [← b1.2.2.2.2.1]; exact u) b2
    have e31 := d4.nN.2.2.1
    have hN := d4.2.2.2.2.2.1
    refine wp_gd d4.2.2.2.2.1.1 (wp_gd d4.2.2.2.2.1.1 ?_)
    rw [e31]
    -- what stands behind "distinct" or not
    have fin : ∀ (σ2 : AS) (τ2 : TT) (q3 : Int) (v : Int), (v = 0 ∨ v = 1) → ShP T N0 U0 σ2 0 k q3 S → OKB T σ2 τ2 q3 S → Eff N0 σ1 σ2 → (∀ r j, ¬ (r = 1022 ∧ ((17 ≤ j ∧ j ≤ 22) ∨ j = 39)) → τ2 r j = w1.2 r j) → τ2 1022 39 = v → Wp (gd (kd σ2 N0 = 12) <| gd (0 ≤ v ∧ v ≤ 1) <| nm (wr σ2 N0 7 v) fun σ50 => rdIts n M σ50) fun y => Wp (t1 (g_X7_itemTexts_45 n 1022 τ2) fun v85 τ86 => if v85 = 0 then some (0, τ86) else twOrd n τ86) fun w => RRet T N0 U0 k σ τ S M cs y w := fun σ2 τ2 q3 v hv s2 B2 E2 F2 e39 => by
      obtain ⟨t1, t2, t3, t4⟩ := sh_q (v := v) (j := 7) s2 (by decide)
      refine wp_gd s2.2.2.2.2.2.2.1.1 (wp_gd (by omega) (wp_nm0 ?_))
      generalize wr σ2 N0 7 v = σ3 at *
      have hB3 : OKB T σ3 τ2 q3 S := okb_same B2 (fun j => t3 _ _ (by omega)) rfl
      have hW3 : OKW T σ3 τ2 q3 S M := ⟨hB3, hO1.1.2.1, fun i hi => by rw [F2 _ _ (by omega)]; exact hO1.1.2.2 i hi⟩
      have hO3 : OKC T N0 σ3 τ2 q3 S M cs := hO1.move hW3 rfl (E2.1.trans t2.1) (fun u => by rw [← E2.2.2.2.2.1]; exact t2.2.2 u) (F2 _ _ (by omega)) fun j => F2 _ _ (by omega)
      have f9 : ∀ j, (j = 36 ∨ j = 38 ∨ j = 40) → τ2 1022 j = τ 1022 j := fun j hj => (F2 _ _ (by omega)).trans (hw2 _ _ (by omega))
      refine wp_mono (lk_its hn hb t1 hO3 hS3 ⟨(f9 36 (by omega)).trans h36.1, (f9 38 (by omega)).trans h36.2⟩ (by rw [t3 _ _ (by omega), E2.2.2.1, b1.2.2.1]; exact hl8) ((f9 40 (by omega)).trans hl40) ⟨by rw [t4, e39], by omega⟩) fun y hy => wp_mono hy fun w hw => ?_
      obtain ⟨r1, r2, r3⟩ := hw
      refine ⟨b1.y.trans (E2.y.trans (t2.trans r1)), b2.nv.rd.trans (RdF.trans (fun r j hh _ => F2 r j (fun u => hh ⟨u.1, by omega⟩)) r2), ?_⟩
      rcases r3 with ⟨y1, y2, q4, S4, its, os, y3, y4, y5, y6, y7, y8, y9⟩ | r3
      · exact Or.inl ⟨y1, y2, q4, S4, its, os, y3, y4, y5, y6, y7, fun i hi => by rw [y8 i hi, F2 _ _ (by omega), hw2 _ _ (by omega)], y9⟩
      · exact Or.inr r3
    by_cases c : tkC T q2 = 20
    · refine wp_c1 (wp_mono (takes_yes hn hb d4 (r := 63) (C := 20) (by decide) (by unfold spC; omega) d5.1 c) fun y hy => ?_)
      obtain ⟨y1, y2, y3, y4⟩ := hy
      rw [y1]
      have ea : ∀ r j, ¬ (r = 1022 ∧ j = 39) → sa w1.2 1022 39 1 r j = w1.2 r j := fun r j hh => by rw [sa_at, if_neg hh]
      have ea0 : sa w1.2 1022 39 1 1022 39 = 1 := by rw [sa_at, if_pos ⟨rfl, rfl⟩]
      have e26 : g_X7_itemTexts_26 n 1022 1022 1 w1.2 = t1 (g_X7_next n 1022 (sa w1.2 1022 39 1)) fun v44 τ45 => if v44 = 0 then some (0, τ45) else g_X7_itemTexts_45 n 1022 τ45 := by
        unfold g_X7_itemTexts_26
        rw [gd_pos (by decide), nm_eq, ea0, if_neg (by decide)]
      have hB1 : OKB T σ1 (sa w1.2 1022 39 1) q2 S := d5.fr (fun j _ => ea _ _ (by omega)) fun r j _ _ => ea _ _ (by omega)
      generalize sa w1.2 1022 39 1 = τ2 at *
      obtain ⟨w3, ew3, v1, v2⟩ := ok_next hn hb d4 hB1 y2 y4
      have eT : (t1 (t1 (g_X7_take n 1022 14 τ) fun v49 τ50 => if v49 = 0 then some ((0 : Int), τ50) else if τ50 1022 19 = 20 then g_X7_itemTexts_26 n 1022 1022 1 τ50 else g_X7_itemTexts_26 n 1022 1022 0 τ50) fun v85 τ86 => if v85 = 0 then some ((0 : Int), τ86) else twOrd n τ86) = t1 (if w3.1 = 0 then some ((0 : Int), w3.2) else g_X7_itemTexts_45 n 1022 w3.2) fun v85 τ86 => if v85 = 0 then some ((0 : Int), τ86) else twOrd n τ86 := by
        rw [ew1, t1_at, if_neg (show ¬ w1.1 = 0 by omega), if_pos (show w1.2 1022 19 = 20 by rw [d5.2.1.2.1]; exact c), e26, ew3, t1_at]
      rw [eT]
      have F3 : ∀ r j, ¬ (r = 1022 ∧ ((17 ≤ j ∧ j ≤ 22) ∨ j = 39)) → w3.2 r j = w1.2 r j := fun r j hh => (v1 r j (fun u => hh ⟨u.1, by omega⟩)).trans (ea r j (fun u => hh ⟨u.1, by omega⟩))
      rcases v2 with ⟨u1, u2⟩ | ⟨u1, u2⟩
      · rw [if_neg (show ¬ w3.1 = 0 by omega)]
        exact fin y.2 w3.2 _ 1 (Or.inr rfl) y2 u2 y3 F3 ((v1 _ _ (by omega)).trans ea0)
      · rw [if_pos u1, t1_at, if_pos (show (0 : Int) = 0 from rfl)]
        exact wp_swap (wp_ok (flN y.2 w3.2 1 (Or.inr rfl) u2 (b1.y.trans y3.y) (b2.nv.rd.trans fun r j hh _ => F3 r j (fun u => hh ⟨u.1, by omega⟩))))
    · refine wp_c1e (takes_no hn hb d4 (r := 63) (C := 20) (by decide) (by unfold spC; omega) fun _ => c) ?_
      have ea : ∀ r j, ¬ (r = 1022 ∧ j = 39) → sa w1.2 1022 39 0 r j = w1.2 r j := fun r j hh => by rw [sa_at, if_neg hh]
      have ea0 : sa w1.2 1022 39 0 1022 39 = 0 := by rw [sa_at, if_pos ⟨rfl, rfl⟩]
      have e26 : g_X7_itemTexts_26 n 1022 1022 0 w1.2 = g_X7_itemTexts_45 n 1022 (sa w1.2 1022 39 0) := by
        unfold g_X7_itemTexts_26
        rw [gd_pos (by decide), nm_eq, ea0, if_pos rfl]
      have hB1 : OKB T σ1 (sa w1.2 1022 39 0) q2 S := d5.fr (fun j _ => ea _ _ (by omega)) fun r j _ _ => ea _ _ (by omega)
      generalize sa w1.2 1022 39 0 = τ2 at *
      have eT : (t1 (t1 (g_X7_take n 1022 14 τ) fun v49 τ50 => if v49 = 0 then some ((0 : Int), τ50) else if τ50 1022 19 = 20 then g_X7_itemTexts_26 n 1022 1022 1 τ50 else g_X7_itemTexts_26 n 1022 1022 0 τ50) fun v85 τ86 => if v85 = 0 then some ((0 : Int), τ86) else twOrd n τ86) = t1 (g_X7_itemTexts_45 n 1022 τ2) fun v85 τ86 => if v85 = 0 then some ((0 : Int), τ86) else twOrd n τ86 := by
        rw [ew1, t1_at, if_neg (show ¬ w1.1 = 0 by omega), if_neg (show ¬ w1.2 1022 19 = 20 by rw [d5.2.1.2.1]; exact c), e26]
      rw [eT]
      exact fin σ1 τ2 q2 0 (Or.inl rfl) d4 hB1 Eff.rf (fun r j hh => ea r j (fun u => hh ⟨u.1, by omega⟩)) ea0
  · obtain ⟨q3, s3, c3⟩ := id d2
    have e31 := s3.nN.2.2.1
    refine wp_gd d2.g (wp_gd d2.g (wp_c1e (d2.takes hn hb (r := 63) (C := 20) (by decide) (by unfold spC; omega)) ?_))
    rw [e31]
    have eT : (t1 (t1 (g_X7_take n 1022 14 τ) fun v49 τ50 => if v49 = 0 then some ((0 : Int), τ50) else if τ50 1022 19 = 20 then g_X7_itemTexts_26 n 1022 1022 1 τ50 else g_X7_itemTexts_26 n 1022 1022 0 τ50) fun v85 τ86 => if v85 = 0 then some ((0 : Int), τ86) else twOrd n τ86) = some (0, w1.2) := by
      rw [ew1, t1_at, if_pos d1, t1_at, if_pos rfl]
    rw [eT]
    exact wp_swap (wp_ok (flN σ1 w1.2 0 (Or.inl rfl) d2 b1.y b2.nv.rd))
end RH
