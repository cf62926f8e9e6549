/-! THE PRIORITY QUEUE: poll; THE BIT SET -/
set_option maxRecDepth 100000
theorem cn_pop {f : F1} {z : Int} {m : Nat} (hm : 1 ≤ m) : cn f z (m + 1) = cn (ud f 0 (f m)) z m + (if f 0 = z then 1 else 0) := by
  have := cn_upd (f := f) (x := z) (v := f m) (n := m) (i := 0) (by omega)
  show cn f z m + (if f m = z then 1 else 0) = _
  have e : ((0 : Nat) : Int) = 0 := rfl
  rw [e] at this
  omega
section PQ3
variable {σ σ' : AS} {pq arr x w bs wd : Int} {s n : Nat} {X : Int → Prop} {DN : Int → Prop}
/-- what a poll leaves -/
def PollP (σ : AS) (pq arr : Int) (s : Nat) (w : Int) (y : Int × AS) : Prop := Rch σ y.1 ∧ (∀ p ∈ pqW σ arr (s + 1), ld σ y.1 0 ≤ p.1) ∧ PqOk y.2 pq arr s (w + 1) ∧ (pqW σ arr (s + 1)).Perm (rW σ y.1 :: pqW y.2 arr s) ∧ Fr (fun r => r = pq ∨ r = arr) σ y.2 ∧ nx y.2 = nx σ ∧ us y.2 = us σ
set_option maxHeartbeats 1000000 in
theorem poll_wp (hn : 1000000 ≤ n) (h : PqOk σ pq arr (s + 1) w) (hw : w ≤ 100000) (h70 : s ≤ 70) : Wp (f_J28_poll n pq σ) (PollP σ pq arr s w) := by
  obtain ⟨⟨a1, a2, a3, a4, a5, a6⟩, ⟨b1, b2, b3⟩, c, d, e, f1, f2, f3, f4⟩ := h
  have pa : pq ≠ arr := fun z => by rw [z, b1] at a1; omega
  have r0 := c 0 (by omega) (by omega)
  have rs := c s (by omega) (by omega)
  unfold f_J28_poll
  refine wp_gd a1 ?_
  rw [a2]
  refine wp_nm0 (wp_gd ⟨Or.inl b1, by decide, by omega⟩ (wp_nm0 (wp_neg (by have := r0.2.1; omega) (wp_gd a1 (wp_gI (by omega) (wp_gd a1 (wp_nm0 ?_)))))))
  have e1 : ld (wr σ pq 3 (ld σ pq 3 + 1)) pq 1 = ((s + 1 : Nat) : Int) := by rw [ld_wr, if_neg (by omega)]; exact a3
  rw [e1, show ((s + 1 : Nat) : Int) - 1 = (s : Int) by omega]
  refine wp_gd a1 (wp_gI (by omega) (wp_nm0 (wp_gd a1 (wp_nm0 ?_))))
  have e2 : ld (wr (wr σ pq 3 (ld σ pq 3 + 1)) pq 1 s) arr = ld σ arr := by
    funext j
    rw [ld_wr, if_neg (fun z => pa z.1.symm), ld_wr, if_neg (fun z => pa z.1.symm)]
  rw [e2]
  refine wp_gd ⟨Or.inl b1, by omega, by show (s : Int) < ln σ arr; omega⟩ (wp_nm0 (wp_gd ⟨b1, by omega, by show (s : Int) < ln σ arr; omega⟩ (wp_nm0 ?_)))
  generalize hσ2 : wr (wr (wr σ pq 3 (ld σ pq 3 + 1)) pq 1 s) arr s 0 = σ2
  have F2 : Fr (fun r => r = pq ∨ r = arr) σ σ2 := by
    rw [← hσ2]
    exact ((Fr.wr (Or.inl rfl)).trans (Fr.wr (Or.inl rfl))).trans (Fr.wr (Or.inr rfl))
  have n2 : nx σ2 = nx σ := by rw [← hσ2]; rfl
  have u2 : us σ2 = us σ := by rw [← hσ2]; rfl
  have g0 : ∀ j, j ≠ 1 → j ≠ 3 → ld σ2 pq j = ld σ pq j := fun j h1 h3 => by
    rw [← hσ2, ld_wr, if_neg (fun z => pa z.1), ld_wr, if_neg (fun z => h1 z.2), ld_wr, if_neg (fun z => h3 z.2)]
  have g1 : ld σ2 pq 1 = s := by rw [← hσ2, ld_wr, if_neg (fun z => pa z.1), ld_wr, if_pos ⟨rfl, rfl⟩]
  have g3 : ld σ2 pq 3 = ld σ pq 3 + 1 := by rw [← hσ2, ld_wr, if_neg (fun z => pa z.1), ld_wr, if_neg (by omega), ld_wr, if_pos ⟨rfl, rfl⟩]
  have gA : ld σ2 arr = ud (ld σ arr) s 0 := by
    funext j
    rw [← hσ2, ld_wr, ud_at]
    by_cases q : j = s
    · rw [if_pos ⟨rfl, q⟩, if_pos q]
    · rw [if_neg (fun z => q z.2), if_neg q, e2]
  have k2a : kd σ2 arr = 105 := by rw [F2.kd f4]; exact b1
  have k2p : kd σ2 pq = 29 := by rw [F2.kd f2]; exact a1
  have l2 : ln σ2 arr = ln σ arr := F2.ln f4
  clear hσ2
  have xr : ∀ r, Rch σ r → Rch σ2 r ∧ ∀ j, ld σ2 r j = ld σ r j := fun r q => by
    have r1 : r ≠ pq := fun z => by have := q.1; rw [z, a1] at this; omega
    have r2 : r ≠ arr := fun z => by have := q.1; rw [z, b1] at this; omega
    exact ⟨⟨by rw [F2.kd q.2.2]; exact q.1, q.2.1, by have := q.2.2; omega⟩, F2.ld q.2.2 (fun z => z.elim r1 r2)⟩
  have hmin : ∀ p ∈ pqW σ arr (s + 1), ld σ (ld σ arr 0) 0 ≤ p.1 := fun p hp => by
    obtain ⟨r, h1, h2⟩ := List.mem_map.mp hp
    obtain ⟨i, h3, h4⟩ := fl_mem.mp h1
    have := heap_root (ge := kge σ) kge_rf kge_tr e i i (by omega) (by omega) (by omega)
    rw [h4] at this
    rw [← h2]
    show ld σ (ld σ arr 0) 0 ≤ ld σ r 0
    unfold kge at this
    omega
  by_cases cs : s = 0
  · refine wp_pos (by omega) (wp_ok ⟨r0, hmin, ⟨⟨k2p, by rw [g0 _ (by decide) (by decide)]; exact a2, g1, by rw [g0 _ (by decide) (by decide)]; exact a4, by show 0 ≤ ld σ2 pq 3; omega, by show ld σ2 pq 3 ≤ w + 1; omega⟩, ⟨k2a, by rw [l2]; exact b2, by rw [l2]; omega⟩, fun i h1 h2 => by omega, fun i h1 h2 => ?_, fun i h1 h2 h3 => by omega, f1, by show pq < nx σ2; omega, f3, by show arr < nx σ2; omega⟩, ?_, F2, n2, u2⟩)
    · show ld σ2 arr i = 0
      rw [gA, ud_at]
      by_cases q : i = s
      · rw [if_pos q]
      · rw [if_neg q]; exact d i (by omega) (by rw [← l2]; exact h2)
    · rw [cs]
      exact List.Perm.refl _
  · refine wp_neg (by omega) (wp_gd k2p ?_)
    rw [g0 2 (by decide) (by decide)]
    refine wp_nm0 (wp_pos a4 ?_)
    unfold f_J28_siftDownComparable
    refine wp_c0 (wp_gd (Or.inr (xr _ rs).1.1) ?_)
    rw [ushr1_eq (by omega)]
    refine wp_nm0 ?_
    have eud : ∀ i : Int, 0 ≤ i → i < s → ud (ld σ2 arr) 0 (ld σ arr s) i = ud (ld σ arr) 0 (ld σ arr s) i := fun i h1 h2 => by
      rw [ud_at, ud_at, gA]
      by_cases q : i = 0
      · rw [if_pos q, if_pos q]
      · rw [if_neg q, if_neg q, ud_ne (by omega)]
    have hR : ∀ i : Int, 0 ≤ i → i < s → Rch σ2 (ud (ld σ2 arr) 0 (ld σ arr s) i) := fun i h1 h2 => by
      rw [eud i h1 h2, ud_at]
      by_cases q : i = 0
      · rw [if_pos q]; exact (xr _ rs).1
      · rw [if_neg q]; exact (xr _ (c i h1 (by omega))).1
    have hH : HoleI (kge σ2) (ud (ld σ2 arr) 0 (ld σ arr s)) 0 s 0 := by
      refine hole_start (Int.le_refl 0) fun i h1 h2 h3 => ?_
      rw [eud _ (by omega) (by omega), eud _ (by omega) h2, ud_ne (by omega), ud_ne (by omega)]
      have := e i h1 (by omega) (by omega)
      have q1 := (xr _ (c ((i - 1) / 2) (by omega) (by omega))).2
      have q2 := (xr _ (c i (by omega) (by omega))).2
      unfold kge at *
      rw [q1, q1, q2, q2]
      exact this
    refine wp_mono (siftDown_wp (en := s) (by omega) s n 0 σ2 (by omega) (by omega) k2a (by rw [l2]; omega) (by omega) (by omega) (by omega) (xr _ rs).1 (fun i h1 h2 h3 => by have := hR i h1 h2; rw [ud_ne h3] at this; exact this) hH) fun σ3 hq => ?_
    obtain ⟨q1, q2, q3, q4, q5, q6⟩ := hq
    have hperm : (fl (ld σ3 arr) s).Perm (fl (ud (ld σ arr) 0 (ld σ arr s)) s) := by
      have := fl_perm q2
      rw [fl_congr (f := ud (ld σ2 arr) 0 (ld σ arr s)) (g := ud (ld σ arr) 0 (ld σ arr s)) fun i hi => eud i (by omega) (by omega)] at this
      exact this
    have hall : (fl (ld σ arr) (s + 1)).Perm (ld σ arr 0 :: fl (ud (ld σ arr) 0 (ld σ arr s)) s) := by
      rw [List.perm_iff_count]
      intro z
      rw [fl_count, List.count_cons, fl_count, cn_pop (by omega)]
      by_cases q : ld σ arr 0 = z
      · simp [q]
      · simp [q]
    have xr3 : ∀ r, Rch σ r → Rch σ3 r ∧ ∀ j, ld σ3 r j = ld σ r j := fun r q => by
      have r2 : r ≠ arr := fun z => by have := q.1; rw [z, b1] at this; omega
      have y := xr r q
      exact ⟨⟨by rw [q4.kd y.1.2.2]; exact y.1.1, q.2.1, by have := y.1.2.2; omega⟩, fun j => (q4.ld y.1.2.2 r2 j).trans (y.2 j)⟩
    have mem : ∀ r ∈ fl (ld σ3 arr) s, Rch σ r := fun r hr => by
      have m2 := hperm.mem_iff.mp hr
      have m3 := hall.mem_iff.mpr (List.mem_cons_of_mem _ m2)
      exact rch_fl c m3
    have memi : ∀ i : Int, 0 ≤ i → i < s → Rch σ (ld σ3 arr i) := fun i h1 h2 => mem _ (fl_mem.mpr ⟨i.toNat, by omega, by rw [show ((i.toNat : Nat) : Int) = i by omega]⟩)
    have xp : ∀ j, ld σ3 pq j = ld σ2 pq j := q4.ld (by omega) pa
    refine wp_ok ⟨r0, hmin, ⟨⟨by rw [q4.kd (by omega)]; exact k2p, by rw [xp, g0 _ (by decide) (by decide)]; exact a2, by rw [xp]; exact g1, by rw [xp, g0 _ (by decide) (by decide)]; exact a4, by rw [xp]; omega, by rw [xp]; omega⟩, ⟨by rw [q4.kd (by omega)]; exact k2a, by rw [q4.ln (by omega), l2]; exact b2, by rw [q4.ln (by omega), l2]; omega⟩, fun i h1 h2 => (xr3 _ (memi i h1 h2)).1, fun i h1 h2 => ?_, ?_, f1, by show pq < nx σ3; omega, f3, by show arr < nx σ3; omega⟩, ?_, F2.tr2 q4 fun r _ z => Or.inr z, by show nx σ3 = _; omega, by show us σ3 = _; omega⟩
    · show ld σ3 arr i = 0
      have hl : i < ln σ arr := by
        have : i < ln σ3 arr := h2
        rw [q4.ln (by omega), l2] at this
        exact this
      rw [q3 i (Or.inr h1), gA, ud_at]
      by_cases q : i = s
      · rw [if_pos q]
      · rw [if_neg q]; exact d i (by omega) hl
    · show HeapI (kge σ3) (ld σ3 arr) 0 s
      refine heap_congr q1 fun i j h1 h2 h3 h4 q => ?_
      have z1 := (xr _ (memi i h1 h2)).2
      have z2 := (xr _ (memi j h3 h4)).2
      have z3 := (xr3 _ (memi i h1 h2)).2
      have z4 := (xr3 _ (memi j h3 h4)).2
      unfold kge at *
      rw [z1, z1, z2, z2] at q
      rw [z3, z3, z4, z4]
      exact q
    · show (pqW σ arr (s + 1)).Perm (rW σ (ld σ arr 0) :: pqW σ3 arr s)
      unfold pqW
      rw [map_rW (σ := σ) (fun r hr => (xr3 r (mem r hr)).2)]
      exact (hall.map (rW σ)).trans (List.Perm.cons _ (hperm.map (rW σ)).symm)
theorem shr6 : ∀ k : Fin 64, ishrW ((k : Nat) : Int) 6 = 0 := by decide +kernel
theorem shr6_eq {k : Int} (h : 0 ≤ k ∧ k < 64) : ishrW k 6 = 0 := by
  have := shr6 ⟨k.toNat, by omega⟩
  have e : (((⟨k.toNat, by omega⟩ : Fin 64) : Nat) : Int) = k := by show ((k.toNat : Nat) : Int) = k; omega
  rw [e] at this
  exact this
/-- numbers below 64: those of DN -/
def BsOk (σ : AS) (bs wd : Int) (DN : Int → Prop) : Prop := kd σ bs = 28 ∧ ld σ bs 0 = wd ∧ kd σ wd = 101 ∧ ln σ wd = 1 ∧ ((ld σ bs 1 = 0 ∧ ld σ wd 0 = 0) ∨ ld σ bs 1 = 1) ∧ (∀ v, 0 ≤ v → v < 64 → (hasB (ld σ wd 0) v ↔ DN v)) ∧ bs < nx σ ∧ wd < nx σ
theorem BsOk.frame (h : BsOk σ bs wd DN) (hF : Fr X σ σ') (hX : ∀ r, X r → r ≠ bs ∧ r ≠ wd) : BsOk σ' bs wd DN := by
  obtain ⟨h1, h2, h3, h4, h5, h6, h7, h8⟩ := h
  have n1 := hF.1
  have xb : ∀ j, ld σ' bs j = ld σ bs j := hF.ld h7 (fun z => (hX _ z).1 rfl)
  have xw : ∀ j, ld σ' wd j = ld σ wd j := hF.ld h8 (fun z => (hX _ z).2 rfl)
  exact ⟨by rw [hF.kd h7]; exact h1, by rw [xb]; exact h2, by rw [hF.kd h8]; exact h3, by rw [hF.ln h8]; exact h4, by rw [xb, xw]; exact h5, fun v a b => by rw [xw]; exact h6 v a b, by omega, by omega⟩
theorem chkInv_eq : f_J26_checkInvariants bs σ = some σ := by
  unfold f_J26_checkInvariants f_J26_checkInvariants_37 f_J26_checkInvariants_70
  rw [if_neg (by decide), if_neg (by decide), if_neg (by decide)]
theorem bget_wp {v : Int} (h : BsOk σ bs wd DN) (hv : 0 ≤ v ∧ v < 64) : ∃ c, f_J26_get bs v σ = some (c, σ) ∧ (c = 0 ↔ ¬ DN v) := by
  obtain ⟨h1, h2, h3, h4, h5, h6, h7, h8⟩ := h
  have hd := h6 v hv.1 hv.2
  unfold f_J26_get f_J26_wordIndex
  rw [if_pos hv.1, gd_pos h1, chkInv_eq, c0_at, shr6_eq hv, c1_at, gd_pos h1]
  by_cases c : ld σ bs 1 ≤ 0
  · rw [if_pos c]
    refine ⟨0, rfl, fun _ => ?_, fun _ => rfl⟩
    have w0 : ld σ wd 0 = 0 := by
      rcases h5 with q | q
      · exact q.2
      · omega
    rw [w0] at hd
    exact fun z => hasB_zero (hd.mpr z)
  · rw [if_neg c, gd_pos h1, h2, gd_pos ⟨h3, by decide, by omega⟩]
    unfold hasB at hd
    unfold lcmpW
    by_cases z : landW (ld σ wd 0) (lshlW 1 v) = 0
    · rw [z, if_pos (show (if (0 : Int) < 0 then (1 : Int) else if (0 : Int) = 0 then 0 else -1) = 0 by decide)]
      exact ⟨0, rfl, fun _ w => hd.mpr w z, fun _ => rfl⟩
    · have : (if (0 : Int) < landW (ld σ wd 0) (lshlW 1 v) then (1 : Int) else if landW (ld σ wd 0) (lshlW 1 v) = 0 then 0 else -1) ≠ 0 := by
        by_cases c1 : (0 : Int) < landW (ld σ wd 0) (lshlW 1 v)
        · rw [if_pos c1]; decide
        · rw [if_neg c1, if_neg z]; decide
      rw [if_neg this]
      exact ⟨1, rfl, fun w => by omega, fun w => absurd (hd.mp z) w⟩
theorem bset_wp {v : Int} (h : BsOk σ bs wd DN) (hv : 0 ≤ v ∧ v < 64) : Wp (f_J26_set bs v σ) fun σ' => BsOk σ' bs wd (fun u => u = v ∨ DN u) ∧ Fr (fun r => r = bs ∨ r = wd) σ σ' ∧ nx σ' = nx σ ∧ us σ' = us σ := by
  obtain ⟨h1, h2, h3, h4, h5, h6, h7, h8⟩ := h
  have nb : bs ≠ wd := fun z => by rw [z, h3] at h1; omega
  unfold f_J26_set f_J26_wordIndex
  refine wp_pos hv.1 ?_
  rw [shr6_eq hv]
  refine wp_c1e rfl (wp_gd h1 ?_)
  have hexp : Wp (f_J26_expandTo bs 0 σ) fun σ1 => ld σ1 bs 0 = wd ∧ ld σ1 bs 1 = 1 ∧ (∀ j, ld σ1 wd j = ld σ wd j) ∧ Fr (fun r => r = bs ∨ r = wd) σ σ1 ∧ nx σ1 = nx σ ∧ us σ1 = us σ := by
    unfold f_J26_expandTo
    refine wp_gI (by decide) (wp_nm0 (wp_gd h1 ?_))
    by_cases c : (0 : Int) + 1 ≤ ld σ bs 1
    · exact wp_pos c (wp_ok ⟨h2, by omega, fun _ => rfl, Fr.rf, rfl, rfl⟩)
    · refine wp_neg c (wp_gd h1 ?_)
      unfold f_J26_ensureCapacity
      refine wp_c0 (wp_gd h1 ?_)
      rw [h2]
      refine wp_gd h3 (wp_pos (by omega) (wp_ok (wp_gd h1 (wp_nm0 (wp_ok ⟨?_, ?_, fun j => ?_, Fr.wr (Or.inl rfl), rfl, rfl⟩)))))
      · rw [ld_wr, if_neg (by omega)]; exact h2
      · rw [ld_wr, if_pos ⟨rfl, rfl⟩]; rfl
      · rw [ld_wr, if_neg (fun z => nb z.1.symm)]
  refine wp_c0 (wp_mono hexp fun σ1 hq => ?_)
  obtain ⟨q1, q2, q3, q4, q5, q6⟩ := hq
  have k1 : kd σ1 bs = 28 := by rw [q4.kd h7]; exact h1
  have kw : kd σ1 wd = 101 := by rw [q4.kd h8]; exact h3
  have lw : ln σ1 wd = 1 := by rw [q4.ln h8]; exact h4
  refine wp_gd k1 ?_
  rw [q1]
  refine wp_gd ⟨kw, by decide, by omega⟩ (wp_gd ⟨kw, by decide, by omega⟩ (wp_nm0 (wp_gd k1 (wp_c0e chkInv_eq (wp_ok ?_)))))
  rw [q3]
  refine ⟨⟨k1, by rw [ld_wr, if_neg (fun z => nb z.1)]; exact q1, kw, lw, Or.inr (by rw [ld_wr, if_neg (fun z => nb z.1)]; exact q2), fun u a b => ?_, by show bs < nx σ1; omega, by show wd < nx σ1; omega⟩, q4.trans (Fr.wr (Or.inr rfl)), q5, q6⟩
  rw [ld_wr, if_pos ⟨rfl, rfl⟩, hasB_or hv ⟨a, b⟩, h6 u a b]
end PQ3
