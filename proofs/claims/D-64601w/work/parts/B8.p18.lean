/-! TreeMap: remove, whole -/
set_option maxRecDepth 100000
section RM
variable {N : Int → Prop} {k lo hi ow : F1} {t v mc p : Int} {σ : AS} {D : Int → Prop} {f : Int → Int}
theorem ud_zero (h : f v = 0) : ud f v 0 = f := by
  rw [← h]; exact ud_self
theorem delete_wp {n : Nat} (hn : 100 ≤ n) (hI : IntC σ) (hv : 0 ≤ v ∧ v < 32) (hmc : mc ≤ 100000) (hM : MapOk σ t D f mc) (hN : MapN σ N) (hT : MapT σ t N k lo hi ow) (hk : ∀ q, N q → D q ∧ q < nx σ ∧ ld σ q 0 = 328 + k q / 2 ∧ ld σ q 1 = f (k q / 2) ∧ f (k q / 2) ≠ 0) (hall : ∀ i, f i ≠ 0 → ∃ q, N q ∧ k q = 2 * i) (hp : N p) (hkp : k p = 2 * v) : Wp (f_J8_deleteEntry n t p σ) fun σ' => MapOk σ' t D (ud f v 0) (mc + 1) ∧ Fr (fun q => q = t ∨ D q) σ σ' ∧ nx σ' = nx σ ∧ us σ' = us σ := by
  obtain ⟨M1, M2, M3, M4, M5, M6⟩ := hM
  have nt : ∀ q, N q → q ≠ t := fun q hq z => by rw [z] at hq; have := (hN t hq).1; omega
  have fv : f v ≠ 0 := by
    have := (hk p hp).2.2.2.2
    have e : k p / 2 = v := by omega
    rw [e] at this
    exact this
  have hcnt := sm_ud (f := f) (v := 0) (n := 32) (a := v.toNat) (by omega)
  have ev : ((v.toNat : Nat) : Int) = v := by omega
  rw [ev, if_neg fv, if_pos rfl] at hcnt
  have hsz : sm (has f) 32 ≤ 32 := sm_le (fun x => by unfold has; by_cases c : f x = 0 <;> simp [c])
  have gk : ∀ q, N q → ow (k q) = q := hT.2.2.2.2.2.1
  have dif : ∀ q, N q → q ≠ p → k q / 2 ≠ v := fun q hq a e => by
    obtain ⟨j, ej⟩ := (hT.2.2.2.2.2.2.1 q hq).1
    apply a
    have e1 : k q = k p := by omega
    rw [← gk q hq, e1, gk p hp]
  unfold f_J8_deleteEntry
  refine wp_gd M1 ?_
  refine wp_gI (by omega) ?_
  refine wp_gd M1 ?_
  refine wp_nm0 ?_
  refine wp_gd M1 ?_
  have e4 : ld (wr σ t 5 (ld σ t 5 + 1)) t 4 = ld σ t 4 := by rw [ld_wr, if_neg (fun z => by omega)]
  rw [e4]
  refine wp_gI (by omega) ?_
  refine wp_gd M1 ?_
  refine wp_nm0 ?_
  have A : ∀ q, q ≠ t → ∀ j, ld (wr (wr σ t 5 (ld σ t 5 + 1)) t 4 (ld σ t 4 - 1)) q j = ld σ q j := fun q hq j => by rw [ld_wr, if_neg (fun z => hq z.1), ld_wr, if_neg (fun z => hq z.1)]
  have T : ∀ j, ld (wr (wr σ t 5 (ld σ t 5 + 1)) t 4 (ld σ t 4 - 1)) t j = if j = 4 then ld σ t 4 - 1 else if j = 5 then ld σ t 5 + 1 else ld σ t j := fun j => by simp only [ld_wr, true_and]
  have S1 : SameK σ (wr (wr σ t 5 (ld σ t 5 + 1)) t 4 (ld σ t 4 - 1)) := ⟨rfl, rfl, rfl, rfl⟩
  generalize wr (wr σ t 5 (ld σ t 5 + 1)) t 4 (ld σ t 4 - 1) = σ1 at *
  have N1 : MapN σ1 N := fun q hq => by rw [S1.kd, A q (nt q hq)]; exact hN q hq
  have T1 : MapT σ1 t N k lo hi ow := hT.same (fun q hq => ⟨A q (nt q hq) 2, A q (nt q hq) 3, A q (nt q hq) 4⟩) (by rw [T]; simp)
  have ht1 : kd σ1 t = 26 := (S1.kd t).trans M1
  have kp := (N1 p hp).1
  have domf : ∀ i, ud f v 0 i ≠ 0 → 0 ≤ i ∧ i < 32 := fun i h => by
    rw [ud_at] at h
    by_cases c : i = v
    · rw [if_pos c] at h; exact absurd rfl h
    · rw [if_neg c] at h; exact M5 i h
  -- what remains to be shown of the end
  have fin : ∀ σ2 : AS, SameK σ σ2 → (∀ q, ¬ N q → q ≠ t → ∀ j, ld σ2 q j = ld σ q j) → (∀ j, j ≠ 3 → ld σ2 t j = ld σ1 t j) → ((ld σ2 t 3 = 0 ∧ ∀ i, ud f v 0 i = 0) ∨ ∃ (N' : Int → Prop) (k lo hi ow : F1), MapN σ2 N' ∧ MapT σ2 t N' k lo hi ow ∧ (∀ q, N' q → D q ∧ q < nx σ2 ∧ ld σ2 q 0 = 328 + k q / 2 ∧ ld σ2 q 1 = ud f v 0 (k q / 2) ∧ ud f v 0 (k q / 2) ≠ 0) ∧ ∀ i, ud f v 0 i ≠ 0 → ∃ q, N' q ∧ k q = 2 * i) → MapOk σ2 t D (ud f v 0) (mc + 1) ∧ Fr (fun q => q = t ∨ D q) σ σ2 ∧ nx σ2 = nx σ ∧ us σ2 = us σ := by
    intro σ2 S E1 E2 E3
    refine ⟨⟨(S.kd t).trans M1, by rw [E2 2 (by decide), T]; exact M2, ?_, ?_, domf, E3⟩, ⟨by rw [S.2.2.1]; exact Int.le_refl _, by rw [S.2.2.2]; exact Int.le_refl _, fun q _ => ⟨S.kd q, S.ln q⟩, fun q _ a j => E1 q (fun z => a (Or.inr (hk q z).1)) (fun z => a (Or.inl z)) j⟩, S.2.2.1, S.2.2.2⟩
    · rw [E2 5 (by decide), T, if_neg (by decide), if_pos rfl]; omega
    · rw [E2 4 (by decide), T, if_pos rfl, M4]; omega
  have one : (ld σ1 p 2 = 0 ∨ ld σ1 p 3 = 0) → Wp (f_J8_deleteEntry_57 n t p σ1) fun σ' => MapOk σ' t D (ud f v 0) (mc + 1) ∧ Fr (fun q => q = t ∨ D q) σ σ' ∧ nx σ' = nx σ ∧ us σ' = us σ := by
    intro h1
    refine wp_mono (unlink_wp hn ht1 N1 T1 hp h1) fun σ2 hq => ?_
    obtain ⟨u1, u2, u3, u4, u5⟩ := hq
    refine fin σ2 (S1.trans u1) (fun q a b j => (u2 q a b j).trans (A q b j)) u3 ?_
    rcases u5 with ⟨u6, u7⟩ | ⟨u6, lo2, hi2, ow2, u7⟩
    · refine Or.inl ⟨u6, fun i => ?_⟩
      rw [ud_at]
      by_cases c : i = v
      · rw [if_pos c]
      · rw [if_neg c]
        by_cases z : f i = 0
        · exact z
        · obtain ⟨q, q1, q2⟩ := hall i z
          rw [u7 q q1] at q2
          omega
    · refine Or.inr ⟨_, k, lo2, hi2, ow2, u6, u7, fun q hq => ?_, fun i hi => ?_⟩
      · obtain ⟨b1, b2, b3, b4, b5⟩ := hk q hq.1
        obtain ⟨d1, d2⟩ := u4 q hq.1 hq.2
        rw [A q (nt q hq.1)] at d1 d2
        rw [ud_ne (dif q hq.1 hq.2)]
        exact ⟨b1, by rw [(S1.trans u1).2.2.1]; exact b2, d1.trans b3, d2.trans b4, b5⟩
      · rw [ud_at] at hi
        by_cases c : i = v
        · rw [if_pos c] at hi; exact absurd rfl hi
        · rw [if_neg c] at hi
          obtain ⟨q, q1, q2⟩ := hall i hi
          exact ⟨q, ⟨q1, fun e => by rw [e] at q2; omega⟩, q2⟩
  refine wp_gd kp ?_
  by_cases cl : ld σ1 p 2 = 0
  · exact wp_pos cl (one (Or.inl cl))
  · refine wp_neg cl ?_
    refine wp_gd kp ?_
    by_cases cr : ld σ1 p 3 = 0
    · exact wp_pos cr (one (Or.inr cr))
    · refine wp_neg cr ?_
      clear one
      have hp0 : p ≠ 0 := (hT.1 p hp).1
      have bp := hT.1 p hp
      obtain ⟨r1, r2, r3, r4⟩ := T1.2.2.1 p hp cr
      dsimp only at r1 r2 r3 r4
      have br := hT.1 _ r1
      obtain ⟨s, s1, s2, s3, s4, s5⟩ := succ_eq (n := n) N1 T1 67 n (ld σ1 p 3) r1 (by omega) (by omega)
      have esucc : f_J8_successor n p σ1 = some (s, σ1) := by
        unfold f_J8_successor
        rw [if_neg hp0, gd_pos kp, if_neg cr, gd_pos kp]
        exact s1
      refine wp_c1e esucc ?_
      have ks := (N1 s s2).1
      have bs := hT.1 s s2
      have hsp : s ≠ p := fun e => by rw [e] at s4; omega
      -- no label lies between p's and s'
      have hno : ∀ q, N q → q ≠ s → ¬ (k p < k q ∧ k q ≤ k s) := fun q hq a c => by
        apply a
        by_cases z : k q = k s
        · rw [← gk q hq, z, gk s s2]
        · rw [← gk q hq]
          exact T1.2.2.2.1 s s2 s3 _ (by omega) (by omega)
      refine wp_gd ks ?_
      refine wp_gd kp ?_
      refine wp_nm0 ?_
      refine wp_gd ks ?_
      refine wp_gd kp ?_
      refine wp_nm0 ?_
      have e1 : ld (wr σ1 p 0 (ld σ1 s 0)) s 1 = ld σ1 s 1 := by rw [ld_wr, if_neg (fun z => by omega)]
      rw [e1]
      have B : ∀ q j, ¬ (q = p ∧ (j = 0 ∨ j = 1)) → ld (wr (wr σ1 p 0 (ld σ1 s 0)) p 1 (ld σ1 s 1)) q j = ld σ1 q j := fun q j h => by rw [ld_wr, if_neg (fun z => h ⟨z.1, Or.inr z.2⟩), ld_wr, if_neg (fun z => h ⟨z.1, Or.inl z.2⟩)]
      have B0 : ld (wr (wr σ1 p 0 (ld σ1 s 0)) p 1 (ld σ1 s 1)) p 0 = ld σ1 s 0 := by rw [ld_wr, if_neg (fun z => by omega), ld_wr, if_pos ⟨rfl, rfl⟩]
      have B1 : ld (wr (wr σ1 p 0 (ld σ1 s 0)) p 1 (ld σ1 s 1)) p 1 = ld σ1 s 1 := by rw [ld_wr, if_pos ⟨rfl, rfl⟩]
      have S2 : SameK σ1 (wr (wr σ1 p 0 (ld σ1 s 0)) p 1 (ld σ1 s 1)) := ⟨rfl, rfl, rfl, rfl⟩
      generalize wr (wr σ1 p 0 (ld σ1 s 0)) p 1 (ld σ1 s 1) = σ2 at *
      have N2 : MapN σ2 N := fun q hq => by rw [S2.kd, B q 5 (by omega)]; exact N1 q hq
      have T2 : MapT σ2 t N k lo hi ow := T1.same (fun q hq => ⟨B q 2 (by omega), B q 3 (by omega), B q 4 (by omega)⟩) (B t 3 (by omega))
      refine wp_mono (unlink_wp hn ((S2.kd t).trans ht1) N2 T2 s2 (Or.inl (by rw [B s 2 (by omega)]; exact s3))) fun σ3 hq => ?_
      obtain ⟨u1, u2, u3, u4, u5⟩ := hq
      refine fin σ3 ((S1.trans S2).trans u1) (fun q a b j => ((u2 q a b j).trans (B q j (fun z => a (z.1 ▸ hp)))).trans (A q b j)) (fun j hj => (u3 j hj).trans (B t j (fun z => nt p hp z.1.symm))) ?_
      rcases u5 with ⟨u6, u7⟩ | ⟨u6, lo2, hi2, ow2, u7⟩
      · exact absurd (u7 p hp) (fun e => hsp e.symm)
      · have tl := tree_label (x := p) (a := k p) (b := k s) u7 ⟨hp, fun e => hsp e.symm⟩ rfl (by omega) (T1.2.2.2.2.2.2.1 s s2).1 (by omega) (fun q hq => hno q hq.1 hq.2)
        have ekq : ∀ q, N q → q ≠ p → k q ≠ k p := fun q hq a e => a (by rw [← gk q hq, e, gk p hp])
        refine Or.inr ⟨_, _, _, _, _, u6, tl, fun q hq => ?_, fun i hi => ?_⟩
        · obtain ⟨d1, d2⟩ := u4 q hq.1 hq.2
          by_cases c : q = p
          · subst c
            rw [if_pos rfl]
            rw [B0, A s (nt s s2)] at d1
            rw [B1, A s (nt s s2)] at d2
            obtain ⟨b1, b2, b3, b4, b5⟩ := hk s s2
            rw [ud_ne (dif s s2 hsp)]
            exact ⟨(hk q hq.1).1, by rw [((S1.trans S2).trans u1).2.2.1]; exact (hk q hq.1).2.1, d1.trans b3, d2.trans b4, b5⟩
          · rw [if_neg (ekq q hq.1 c)]
            rw [B q 0 (fun z => c z.1), A q (nt q hq.1)] at d1
            rw [B q 1 (fun z => c z.1), A q (nt q hq.1)] at d2
            obtain ⟨b1, b2, b3, b4, b5⟩ := hk q hq.1
            rw [ud_ne (dif q hq.1 c)]
            exact ⟨b1, by rw [((S1.trans S2).trans u1).2.2.1]; exact b2, d1.trans b3, d2.trans b4, b5⟩
        · rw [ud_at] at hi
          by_cases c : i = v
          · rw [if_pos c] at hi; exact absurd rfl hi
          · rw [if_neg c] at hi
            obtain ⟨q, q1, q2⟩ := hall i hi
            by_cases cs : q = s
            · refine ⟨p, ⟨hp, fun e => hsp e.symm⟩, ?_⟩
              show (if k p = k p then k s else k p) = 2 * i
              rw [if_pos rfl, ← cs, q2]
            · refine ⟨q, ⟨q1, cs⟩, ?_⟩
              show (if k q = k p then k s else k q) = 2 * i
              rw [if_neg (fun e => by omega), q2]
theorem remove_wp {n : Nat} (hn : 100 ≤ n) (hI : IntC σ) (hv : 0 ≤ v ∧ v < 32) (hmc : mc ≤ 100000) (hM : MapOk σ t D f mc) : Wp (f_J8_remove n t (328 + v) σ) (RemP σ t D f mc v) := by
  have nothing : f v = 0 → RemP σ t D f mc v (0, σ) := fun h => ⟨h.symm, by rw [ud_zero h]; exact hM.frame (by omega) (Int.le_refl _) ⟨rfl, fun _ => rfl⟩ (fun q hq _ => ⟨hq, rfl, fun _ => rfl⟩), Fr.rf, rfl, rfl⟩
  have hM' := hM
  obtain ⟨M1, M2, M3, M4, M5, M6⟩ := hM
  have iv := int_at hI (v := v) (by omega) (by omega)
  unfold f_J8_remove
  refine wp_gd M1 ?_
  unfold f_J8_getEntry f_J18_requireNonNull
  rw [gd_pos M1, if_pos M2, if_neg (by omega : ¬ 328 + v = 0), c1_at, gd_pos (Or.inr (Or.inr iv.1)), gd_pos M1]
  rcases M6 with ⟨a, b⟩ | ⟨N, k, lo, hi, ow, a1, a2, a3, a4⟩
  · obtain ⟨m, rfl⟩ : ∃ z, n = z + 1 := ⟨n - 1, by omega⟩
    have e : nm (ld σ t 3) (fun u36 => f_J8_getEntry_28 (m + 1) (m + 1) (328 + v) u36 σ) = some (0, σ) := by
      show f_J8_getEntry_28 (m + 1) (m + 1) (328 + v) (ld σ t 3) σ = _
      rw [a]
      unfold f_J8_getEntry_28
      rw [if_pos rfl]
    refine wp_c1e e ?_
    refine wp_pos rfl ?_
    exact wp_ok (nothing (b v))
  · obtain ⟨r1, r2, r3, r4⟩ := a2.2.2.2.2.2.2.2.2
    have hf := find_eq (n := n) hI hv a1 a2 (fun q hq => (a3 q hq).2.2.1) 67 n (ld σ t 3) r1 (by omega) (by omega) (by omega) (by omega)
    have e : nm (ld σ t 3) (fun u36 => f_J8_getEntry_28 n n (328 + v) u36 σ) = some (if k (ow (2 * v)) = 2 * v then ow (2 * v) else 0, σ) := hf.1
    refine wp_c1e e ?_
    by_cases z : k (ow (2 * v)) = 2 * v
    · rw [if_pos z]
      have b := a3 _ hf.2
      rw [z] at b
      have e2 : 2 * v / 2 = v := by omega
      rw [e2] at b
      refine wp_neg (a2.1 _ hf.2).1 ?_
      refine wp_gd (a1 _ hf.2).1 ?_
      refine wp_nm0 ?_
      refine wp_gd M1 ?_
      refine wp_c0 ?_
      refine wp_mono (delete_wp hn hI hv hmc hM' a1 a2 a3 a4 hf.2 z) fun σ' hq => ?_
      exact wp_ok ⟨b.2.2.2.1, hq.1, hq.2.1, hq.2.2.1, hq.2.2.2⟩
    · rw [if_neg z]
      refine wp_pos rfl ?_
      refine wp_ok (nothing ?_)
      by_cases c : f v = 0
      · exact c
      · obtain ⟨q, q1, q2⟩ := a4 v c
        have e : ow (k q) = q := a2.2.2.2.2.2.1 q q1
        rw [q2] at e
        rw [e] at z
        exact absurd q2 z
end RM
