/-! THE MATCHER: a match is noted in the rows -/
set_option maxRecDepth 100000
def itv (G : Gr) (K : Int → Bool) (env : Int → Int) (t : Trm) : Int := if t.1 = -2 then 0 else nval (tval G K env t)
/-- the rows of the matches L -/
def RW (σ : AS) (G : Gr) (K : Int → Bool) (its : List Trm) (os : List Odr) (L : List (Int → Int)) : Prop :=
  ld σ 1009 4 = L.length ∧ ∀ i : Nat, i < L.length → ld σ 1012 i = 1 ∧ ld σ 1013 i = i ∧ (∀ j : Nat, j < its.length → ld σ 1010 (8 * i + j) = itv G K (L.getD i fun _ => 0) (its.getD j t0d)) ∧ ∀ j : Nat, j < os.length → ld σ 1011 (8 * i + j) = itv G K (L.getD i fun _ => 0) (os.getD j o0d).1
def ItOk (t : Trm) (M : Nat) : Prop := t.1 = -2 ∨ (0 ≤ t.1 ∧ t.1 < M ∧ (t.2.1 = -1 ∨ (0 ≤ t.2.1 ∧ t.2.1 ≤ 31)))
section MB
variable {σ σ0 σ1 σ2 σ3 σ' : AS} {n M k v : Nat} {l : List Ch} {m N0 r a : Int} {S : PS} {ps : List Part} {cs : List Cnd} {its : List Trm} {os : List Odr} {t : Trm} {c : Cnd} {K : Int → Bool} {env : Int → Int} {G : Gr}
theorem isCount_eq (h : TrAt σ r t) : f_X22_isCount r σ = some (if t.1 = -2 then 1 else 0, σ) := by
  unfold f_X22_isCount
  rw [gd_pos h.1, h.2.2.1]
  by_cases c : t.1 = -2
  · rw [if_pos c, if_pos c]
  · rw [if_neg c, if_neg c]
theorem bd_of (hB : ∀ i : Int, 0 ≤ i → i < M → env i ≠ -1) (ht : ItOk t M) (h2 : t.1 ≠ -2) : TrOk t M ∧ bdT env t = true := by
  rcases ht with ht | ht
  · exact absurd ht h2
  · refine ⟨Or.inr ht, ?_⟩
    unfold bdT
    rw [decide_eq_true (hB _ ht.1 ht.2.1), Bool.or_true]
theorem found115 (hn : 1000000 ≤ n) (hv : v < 10000) (h8 : os.length ≤ 8) (hI : ∀ i : Nat, i < os.length → ItOk (os.getD i o0d).1 M) (hB : ∀ i : Int, 0 ≤ i → i < M → env i ≠ -1) : ∀ {d Q j : Nat} {σ : AS}, MQs σ0 σ k l m S K ps cs its os M → EvA σ (run l) K env M → j + d = os.length → d < Q → Wp (f_X6_found_115 n Q 1014 v j σ) fun σ' => MFr (nx σ0) σ σ' ∧ (∀ i : Nat, j ≤ i → i < os.length → ld σ' 1011 (8 * v + i) = itv (run l) K env (os.getD i o0d).1) ∧ ∀ r i, r < 1054 → ¬ (r = 1011 ∧ 8 * (v : Int) + j ≤ i ∧ i < 8 * v + 8) → ld σ' r i = ld σ r i
  | 0, Q + 1, j, σ, h, hE, hd, _ => by
    obtain ⟨k14, e2, k0, e7, hL⟩ := h.n4
    have hA := h.2.2.2.2.2.2.2.2.2.1.1
    have e6 : ld σ (nx σ0) 6 = lref (nx σ0) 4 := by rw [e7 6 (by decide) (by decide)]; exact lref4
    unfold f_X6_found_115
    refine wp_gd k14 ?_
    rw [e2]
    refine wp_gd k0 ?_
    rw [e6]
    exact wp_gd (lsok_kd hL (by decide)) (wp_c1e (hL.size (by decide)) (wp_pos (by omega) (wp_ok ⟨MFr.rf, fun i h1 h2 => absurd h2 (by omega), fun _ _ _ _ => rfl⟩)))
  | d + 1, Q + 1, j, σ, h, hE, hd, hQ => by
    obtain ⟨k14, e2, k0, e7, hL⟩ := h.n4
    obtain ⟨hA1, hA2⟩ := h.2.2.2.2.2.2.2.2.2.1
    have e6 : ld σ (nx σ0) 6 = lref (nx σ0) 4 := by rw [e7 6 (by decide) (by decide)]; exact lref4
    have hN0 := h.1.2.2
    have hj : j < os.length := by omega
    have ho := hA2 j hj
    have hio := hI j hj
    have hget := hL.get (i := 4) (by decide) (j := j) (by omega)
    rw [Int.toNat_natCast] at hget
    have hkd := h.2.2.2.1
    have hfd := h.2.2.2.2.1
    have k9 := hkd.1.1
    have e141 := hfd.1.2.1
    have e91 := hfd.2.2.1
    have k11 := hkd.1.2.2.1
    have l11 := hkd.2.2.1
    generalize hr : (S.2 4).getD j 0 = r at *
    generalize hoo : os.getD j o0d = o at *
    have o17 := ho.1
    have htr := ho.2.2.1
    have eT : f_X23_term r σ = some (ld σ r 0, σ) := by unfold f_X23_term; rw [gd_pos o17]
    have e1 : (j : Int) + 1 = ((j + 1 : Nat) : Int) := by omega
    have on : ∀ x, x = itv (run l) K env o.1 → Wp (f_X6_found_190 n (f_X6_found_115 n Q) 1014 v j 1011 (8 * (v : Int) + j) x σ) fun σ' => MFr (nx σ0) σ σ' ∧ (∀ i : Nat, j ≤ i → i < os.length → ld σ' 1011 (8 * v + i) = itv (run l) K env (os.getD i o0d).1) ∧ ∀ r i, r < 1054 → ¬ (r = 1011 ∧ 8 * (v : Int) + j ≤ i ∧ i < 8 * v + 8) → ld σ' r i = ld σ r i := fun x hx => by
      unfold f_X6_found_190
      refine wp_gd ⟨k11, by omega, by rw [l11]; omega⟩ (wp_nm0 ?_)
      have F1 : MFr (nx σ0) σ (wr σ 1011 (8 * (v : Int) + j) x) := MFr.wr' hkd hN0 (by decide) (fun u => absurd u (by decide)) (fun u => absurd u (by decide))
      have o1 : ∀ r i, ¬ (r = 1011 ∧ i = 8 * (v : Int) + j) → ld (wr σ 1011 (8 * (v : Int) + j) x) r i = ld σ r i := fun r i hh => by rw [ld_wr, if_neg hh]
      have v1 : ld (wr σ 1011 (8 * (v : Int) + j) x) 1011 (8 * (v : Int) + j) = x := by rw [ld_wr, if_pos ⟨rfl, rfl⟩]
      generalize wr σ 1011 (8 * (v : Int) + j) x = σ1 at *
      rw [gI_pos (by omega), nm_eq, e1]
      have hE1 : EvA σ1 (run l) K env M := ⟨fun i h0 h1 => (o1 _ _ (by omega)).trans (hE.1 i h0 h1), hE.2⟩
      refine wp_mono (found115 (d := d) (Q := Q) (j := j + 1) hn hv h8 hI hB (h.fr F1) hE1 (by omega) (by omega)) fun σ2 h2 => ?_
      obtain ⟨g1, g2, g3⟩ := h2
      refine ⟨F1.trans g1, fun i i1 i2 => ?_, fun r i hr hh => ?_⟩
      · by_cases ei : i = j
        · subst ei
          rw [g3 _ _ (by decide) (by omega), v1, hx, hoo]
        · exact g2 i (by omega) i2
      · rw [g3 r i hr (by omega), o1 r i (by omega)]
    unfold f_X6_found_115
    refine wp_gd k14 ?_
    rw [e2]
    refine wp_gd k0 ?_
    rw [e6]
    refine wp_gd (lsok_kd hL (by decide)) (wp_c1e (hL.size (by decide)) (wp_neg (by omega) (wp_gd k14 ?_)))
    rw [e141]
    refine wp_gd k9 ?_
    rw [gI_pos (by omega), gI_pos (by omega)]
    refine wp_gd k14 ?_
    rw [e2]
    refine wp_gd k0 ?_
    rw [e6, e91]
    refine wp_gd (lsok_kd hL (by decide)) (wp_c1e hget (wp_gd (Or.inr o17) (wp_gd o17 (wp_c1e eT (wp_gd htr.1 (wp_c1e (isCount_eq htr) ?_))))))
    by_cases c2 : o.1.1 = -2
    · rw [if_pos c2]
      exact wp_neg (by decide) (on 0 (by unfold itv; rw [if_pos c2]))
    · rw [if_neg c2]
      obtain ⟨b1, b2⟩ := bd_of hB hio c2
      refine wp_pos rfl (wp_gd k14 ?_)
      rw [e2]
      refine wp_gd k0 ?_
      rw [e6]
      refine wp_gd (lsok_kd hL (by decide)) (wp_c1e hget (wp_gd (Or.inr o17) (wp_gd o17 (wp_c1e eT (wp_gd k14 (wp_c1e (mvalue_eq hn h hE htr b1 b2) (on _ ?_)))))))
      unfold itv
      rw [if_neg c2]
theorem found37 (hn : 1000000 ≤ n) (hv : v < 10000) (h8 : its.length ≤ 8) (hI : ∀ i : Nat, i < its.length → ItOk (its.getD i t0d) M) (hB : ∀ i : Int, 0 ≤ i → i < M → env i ≠ -1) {Z : AS → Prop} : ∀ {d Q j : Nat} {σ : AS}, MQs σ0 σ k l m S K ps cs its os M → EvA σ (run l) K env M → j + d = its.length → d < Q → (∀ σ', MFr (nx σ0) σ σ' → (∀ i : Nat, j ≤ i → i < its.length → ld σ' 1010 (8 * v + i) = itv (run l) K env (its.getD i t0d)) → (∀ r i, r < 1054 → ¬ (r = 1010 ∧ 8 * (v : Int) + j ≤ i ∧ i < 8 * v + 8) → ld σ' r i = ld σ r i) → Wp (f_X6_found_115 n n 1014 v 0 σ') Z) → Wp (f_X6_found_37 n Q 1014 v j σ) Z
  | 0, Q + 1, j, σ, h, hE, hd, _, hZ => by
    obtain ⟨k14, e2, k0, e7, hL⟩ := h.n4
    have hA := h.2.2.2.2.2.2.2.2.1.1
    have e6 : ld σ (nx σ0) 5 = lref (nx σ0) 3 := by rw [e7 5 (by decide) (by decide)]; exact lref3
    unfold f_X6_found_37
    refine wp_gd k14 ?_
    rw [e2]
    refine wp_gd k0 ?_
    rw [e6]
    exact wp_gd (lsok_kd hL (by decide)) (wp_c1e (hL.size (by decide)) (wp_pos (by omega) (hZ σ MFr.rf (fun i h1 h2 => absurd h2 (by omega)) fun _ _ _ _ => rfl)))
  | d + 1, Q + 1, j, σ, h, hE, hd, hQ, hZ => by
    obtain ⟨k14, e2, k0, e7, hL⟩ := h.n4
    obtain ⟨hA1, hA2⟩ := h.2.2.2.2.2.2.2.2.1
    have e6 : ld σ (nx σ0) 5 = lref (nx σ0) 3 := by rw [e7 5 (by decide) (by decide)]; exact lref3
    have hN0 := h.1.2.2
    have hj : j < its.length := by omega
    have htr := hA2 j hj
    have hio := hI j hj
    have hget := hL.get (i := 3) (by decide) (j := j) (by omega)
    rw [Int.toNat_natCast] at hget
    have hkd := h.2.2.2.1
    have hfd := h.2.2.2.2.1
    have k9 := hkd.1.1
    have e141 := hfd.1.2.1
    have e91 := hfd.2.1
    have k11 := hkd.1.2.1
    have l11 := hkd.2.1
    generalize hr : (S.2 3).getD j 0 = r at *
    generalize hoo : its.getD j t0d = t at *
    have e1 : (j : Int) + 1 = ((j + 1 : Nat) : Int) := by omega
    have on : ∀ x, x = itv (run l) K env t → Wp (f_X6_found_106 n (f_X6_found_37 n Q) 1014 v j 1010 (8 * (v : Int) + j) x σ) Z := fun x hx => by
      unfold f_X6_found_106
      refine wp_gd ⟨k11, by omega, by rw [l11]; omega⟩ (wp_nm0 ?_)
      have F1 : MFr (nx σ0) σ (wr σ 1010 (8 * (v : Int) + j) x) := MFr.wr' hkd hN0 (by decide) (fun u => absurd u (by decide)) (fun u => absurd u (by decide))
      have o1 : ∀ r i, ¬ (r = 1010 ∧ i = 8 * (v : Int) + j) → ld (wr σ 1010 (8 * (v : Int) + j) x) r i = ld σ r i := fun r i hh => by rw [ld_wr, if_neg hh]
      have v1 : ld (wr σ 1010 (8 * (v : Int) + j) x) 1010 (8 * (v : Int) + j) = x := by rw [ld_wr, if_pos ⟨rfl, rfl⟩]
      generalize wr σ 1010 (8 * (v : Int) + j) x = σ1 at *
      rw [gI_pos (by omega), nm_eq, e1]
      have hE1 : EvA σ1 (run l) K env M := ⟨fun i h0 h1 => (o1 _ _ (by omega)).trans (hE.1 i h0 h1), hE.2⟩
      refine found37 (d := d) (Q := Q) (j := j + 1) hn hv h8 hI hB (h.fr F1) hE1 (by omega) (by omega) fun σ2 g1 g2 g3 => ?_
      refine hZ σ2 (F1.trans g1) (fun i i1 i2 => ?_) fun r i hr hh => ?_
      · by_cases ei : i = j
        · subst ei
          rw [g3 _ _ (by decide) (by omega), v1, hx, hoo]
        · exact g2 i (by omega) i2
      · rw [g3 r i hr (by omega), o1 r i (by omega)]
    unfold f_X6_found_37
    refine wp_gd k14 ?_
    rw [e2]
    refine wp_gd k0 ?_
    rw [e6]
    refine wp_gd (lsok_kd hL (by decide)) (wp_c1e (hL.size (by decide)) (wp_neg (by omega) (wp_gd k14 ?_)))
    rw [e141]
    refine wp_gd k9 ?_
    rw [gI_pos (by omega), gI_pos (by omega)]
    refine wp_gd k14 ?_
    rw [e2]
    refine wp_gd k0 ?_
    rw [e6, e91]
    refine wp_gd (lsok_kd hL (by decide)) (wp_c1e hget (wp_gd (Or.inr htr.1) (wp_gd htr.1 (wp_c1e (isCount_eq htr) ?_))))
    by_cases c2 : t.1 = -2
    · rw [if_pos c2]
      exact wp_neg (by decide) (on 0 (by unfold itv; rw [if_pos c2]))
    · rw [if_neg c2]
      obtain ⟨b1, b2⟩ := bd_of hB hio c2
      refine wp_pos rfl (wp_gd k14 ?_)
      rw [e2]
      refine wp_gd k0 ?_
      rw [e6]
      refine wp_gd (lsok_kd hL (by decide)) (wp_c1e hget (wp_gd (Or.inr htr.1) (wp_gd k14 (wp_c1e (mvalue_eq hn h hE htr b1 b2) (on _ ?_)))))
      unfold itv
      rw [if_neg c2]
theorem found_wp {L : List (Int → Int)} (hn : 1000000 ≤ n) (h : MQs σ0 σ k l m S K ps cs its os M) (hE : EvA σ (run l) K env M) (hB : ∀ i : Int, 0 ≤ i → i < M → env i ≠ -1) (hI : ∀ i : Nat, i < its.length → ItOk (its.getD i t0d) M) (hO : ∀ i : Nat, i < os.length → ItOk (os.getD i o0d).1 M) (h8 : its.length ≤ 8 ∧ os.length ≤ 8) (hR : RW σ (run l) K its os L) (hL : L.length < 10000) : Wp (f_X6_found n 1014 σ) fun σ' => MFr (nx σ0) σ σ' ∧ RW σ' (run l) K its os (L ++ [env]) ∧ ∀ r i, (r < 1009 ∨ 1014 ≤ r) → r < 1054 → ld σ' r i = ld σ r i := by
  obtain ⟨r1, r2⟩ := hR
  have hkd := h.2.2.2.1
  have hfd := h.2.2.2.2.1
  have hN0 := h.1.2.2
  have k14 := hkd.1.2.2.2.2.2.1
  unfold f_X6_found
  refine wp_gd k14 (wp_nm0 ?_)
  rw [hfd.1.2.1]
  refine wp_gd hkd.1.1 (wp_nm0 ?_)
  rw [r1, gI_pos (by omega)]
  refine wp_gd hkd.1.1 (wp_nm0 ?_)
  have F1 : MFr (nx σ0) σ (wr σ 1009 4 ((L.length : Int) + 1)) := MFr.wr' hkd hN0 (by decide) (fun u => absurd u (by decide)) (fun _ => Or.inl rfl)
  have o1 : ∀ r i, ¬ (r = 1009 ∧ i = 4) → ld (wr σ 1009 4 ((L.length : Int) + 1)) r i = ld σ r i := fun r i hh => by rw [ld_wr, if_neg hh]
  have v1 : ld (wr σ 1009 4 ((L.length : Int) + 1)) 1009 4 = L.length + 1 := by rw [ld_wr, if_pos ⟨rfl, rfl⟩]
  generalize wr σ 1009 4 ((L.length : Int) + 1) = σ1 at *
  have h1 := h.fr F1
  have hkd1 := h1.2.2.2.1
  have hfd1 := h1.2.2.2.2.1
  refine wp_gd hkd1.1.2.2.2.2.2.1 ?_
  rw [hfd1.1.2.1]
  refine wp_gd hkd1.1.1 ?_
  rw [hfd1.2.2.2.2.1]
  refine wp_gd ⟨hkd1.1.2.2.2.2.1, by omega, by rw [hkd1.2.2.2.2.1]; omega⟩ (wp_nm0 ?_)
  have F2 : MFr (nx σ0) σ1 (wr σ1 1013 L.length L.length) := MFr.wr' hkd1 hN0 (by decide) (fun u => absurd u (by decide)) (fun u => absurd u (by decide))
  have o2 : ∀ r i, ¬ (r = 1013 ∧ i = (L.length : Int)) → ld (wr σ1 1013 L.length L.length) r i = ld σ1 r i := fun r i hh => by rw [ld_wr, if_neg hh]
  have v2 : ld (wr σ1 1013 L.length L.length) 1013 L.length = L.length := by rw [ld_wr, if_pos ⟨rfl, rfl⟩]
  generalize wr σ1 1013 L.length L.length = σ2 at *
  have h2 := h1.fr F2
  have hkd2 := h2.2.2.2.1
  have hfd2 := h2.2.2.2.2.1
  refine wp_gd hkd2.1.2.2.2.2.2.1 ?_
  rw [hfd2.1.2.1]
  refine wp_gd hkd2.1.1 ?_
  rw [hfd2.2.2.2.1]
  refine wp_gd ⟨hkd2.1.2.2.2.1, by omega, by rw [hkd2.2.2.2.1]; omega⟩ (wp_nm0 ?_)
  have F3 : MFr (nx σ0) σ2 (wr σ2 1012 L.length 1) := MFr.wr' hkd2 hN0 (by decide) (fun u => absurd u (by decide)) (fun u => absurd u (by decide))
  have o3 : ∀ r i, ¬ (r = 1012 ∧ i = (L.length : Int)) → ld (wr σ2 1012 L.length 1) r i = ld σ2 r i := fun r i hh => by rw [ld_wr, if_neg hh]
  have v3 : ld (wr σ2 1012 L.length 1) 1012 L.length = 1 := by rw [ld_wr, if_pos ⟨rfl, rfl⟩]
  generalize wr σ2 1012 L.length 1 = σ3 at *
  have h3 := h2.fr F3
  have hE3 : EvA σ3 (run l) K env M := ⟨fun i i0 i8 => by rw [o3 _ _ (by omega), o2 _ _ (by omega), o1 _ _ (by omega)]; exact hE.1 i i0 i8, hE.2⟩
  refine found37 (d := its.length) (Q := n) (j := 0) (v := L.length) hn hL h8.1 hI hB h3 hE3 (by omega) (by omega) fun σ4 F4 c4 o4 => ?_
  have h4 := h3.fr F4
  have hE4 : EvA σ4 (run l) K env M := ⟨fun i i0 i8 => (o4 _ _ (by decide) (by omega)).trans (hE3.1 i i0 i8), hE.2⟩
  refine wp_mono (found115 (d := os.length) (Q := n) (j := 0) (v := L.length) hn hL h8.2 hO hB h4 hE4 (by omega) (by omega)) fun σ5 h5 => ?_
  obtain ⟨F5, c5, o5⟩ := h5
  refine ⟨F1.trans (F2.trans (F3.trans (F4.trans F5))), ⟨?_, fun i hi => ?_⟩, fun r i hr hr2 => ?_⟩
  · rw [o5 _ _ (by decide) (by omega), o4 _ _ (by decide) (by omega), o3 _ _ (by omega), o2 _ _ (by omega), v1]
    simp
  · have hi' : i < L.length + 1 := by simpa using hi
    rw [getD_snocG hi']
    by_cases e : i = L.length
    · rw [if_pos e, e]
      refine ⟨?_, ?_, fun j hj => ?_, fun j hj => c5 j (by omega) hj⟩
      · rw [o5 _ _ (by decide) (by omega), o4 _ _ (by decide) (by omega), v3]
      · rw [o5 _ _ (by decide) (by omega), o4 _ _ (by decide) (by omega), o3 _ _ (by omega), v2]
      · rw [o5 _ _ (by decide) (by omega)]; exact c4 j (by omega) hj
    · rw [if_neg e]
      obtain ⟨x1, x2, x3, x4⟩ := r2 i (by omega)
      refine ⟨?_, ?_, fun j hj => ?_, fun j hj => ?_⟩
      · rw [o5 _ _ (by decide) (by omega), o4 _ _ (by decide) (by omega), o3 _ _ (by omega), o2 _ _ (by omega), o1 _ _ (by omega)]; exact x1
      · rw [o5 _ _ (by decide) (by omega), o4 _ _ (by decide) (by omega), o3 _ _ (by omega), o2 _ _ (by omega), o1 _ _ (by omega)]; exact x2
      · rw [o5 _ _ (by decide) (by omega), o4 _ _ (by decide) (by omega), o3 _ _ (by omega), o2 _ _ (by omega), o1 _ _ (by omega)]; exact x3 j hj
      · rw [o5 _ _ (by decide) (by omega), o4 _ _ (by decide) (by omega), o3 _ _ (by omega), o2 _ _ (by omega), o1 _ _ (by omega)]; exact x4 j hj
  · rw [o5 _ _ hr2 (by omega), o4 _ _ hr2 (by omega), o3 _ _ (by omega), o2 _ _ (by omega), o1 _ _ (by omega)]
end MB
