/-! TERMS, side by side: a name and its key, the law -/
set_option maxRecDepth 100000
section TW
variable {σ σ0 σ' : AS} {τ τ0 τ' : TT} {n M : Nat} {N0 U0 z z' k q q0 q' c p v l r C l1 l2 l4 l5 e var x a b : Int} {T : List Int} {S : PS}
theorem lk_value (hn : 1000000 ≤ n) (hb : BtOk T) (h : ShP T N0 U0 σ z k q S) (hO : OKW T σ τ q S M) (cn : tkC T q = 1) : Wp (f_X3_value n 1007 M a σ) fun y => Wp (g_X7_nameOrKey n 1022 a τ) fun w => VlP T N0 U0 z k σ τ q S M a y w := by
  have hbl := hb.1
  have hrg := sh_rng h
  have hqq := nxq_le h
  obtain ⟨a1, a2, a3, a4, ⟨b1, b2, b3, b4, b5⟩, ⟨c1, c2⟩, ⟨d1, d2, d3, d4⟩, e1, e2, f, g1⟩ := id h
  obtain ⟨⟨o1, o2, o3, o4, o5⟩, oM, o6⟩ := id hO
  have le8 := e2.2.2.2.2.1
  have lenE : (S.1.1.map S.1.2).length = S.1.1.length := List.length_map _
  have hE := tkE_le (T := T) hrg.2.1
  have htw := tw_name (n := n) hn o3 hb o5 o2.1 o2.2.2.1 ⟨hrg.1, hE.1⟩ hE.2.1
  have fin : ∀ (σ2 : AS) (S2 : PS) (τ2 : TT) (v : Int), ShP T N0 U0 σ2 z k (nxq T q) S2 → ld σ2 1007 3 = 0 → TpT τ2 T → τ2 1022 21 = tkE T q → Lt σ2 τ2 q → NmT τ2 T (S2.1.1.map S2.1.2) → S2.2 = S.2 → EfX N0 σ σ2 → NvF τ τ2 → τ2 1022 41 = v → M ≤ S2.1.1.length → (∀ i : Nat, i < S2.1.1.length → (τ2 1036 i = 0 ↔ M ≤ i)) → (∀ i : Nat, i < S.1.1.length → τ2 1036 i = τ 1036 i) → S.1.1.length ≤ S2.1.1.length → 0 ≤ v ∧ v < S2.1.1.length → (ld σ2 1007 5 = 0 → v < M) → Wp (f_X3_value_33 n 1007 a v σ2) fun y => Wp (g_X7_nameOrKey_41 n 1022 a τ2) fun w => VlP T N0 U0 z k σ τ q S M a y w := fun σ2 S2 τ2 v s1 s2 s3 s4 s5 s6 s7 s8 s9 t1 t2 t3 t4 t5 t6 t7 => by
    refine wp_mono (lk_v33 hn hb s1 s2 s3 s4 ⟨hrg.1, hrg.2.1⟩ s5 s6 hqq) fun y hy => wp_mono hy fun w hw => ?_
    obtain ⟨w1, w2, w3, w4⟩ := hw
    refine ⟨s8.trans w1.x, s9.trans w2.nv, w3, ?_⟩
    rcases w4 with ⟨x1, q1, kk, x2, x3, x4, x5, x6, x7, x8, x9⟩ | w4
    · have kk36 : ∀ i : Int, w.2 1036 i = τ2 1036 i := fun i => w2 _ _ (by omega)
      exact Or.inl ⟨x1, q1, S2, (v, kk, 0), x2, x3, s7, ⟨x4, t2, fun i hi => by rw [kk36]; exact t3 i hi⟩, t5, fun i hi => by rw [kk36]; exact t4 i hi, x5, (w2 _ _ (by omega)).trans t1, x6, rfl, t6.1, t6.2, x7, x8, x9, fun u => t7 (by rw [← w1.2.2.2.2.1]; exact u)⟩
    · exact Or.inr w4
  have s41 : ∀ (X : TT) (v : Int) r j, ¬ (r = 1022 ∧ j = 41) → sa X 1022 41 v r j = X r j := fun X v r j hh => by rw [sa_at, if_neg hh]
  have e41 : ∀ (X : TT) (v : Int), sa X 1022 41 v 1022 41 = v := fun X v => by rw [sa_at, if_pos ⟨rfl, rfl⟩]
  unfold f_X3_value
  refine wp_gd b1 ?_
  rw [b2]
  refine wp_gd a3.1.1 (wp_nm0 (wp_gd b1 (wp_c1 (wp_mono (name_wp hn hb h o1 cn) fun y hy => ?_))))
  rw [a3.2.1]
  obtain ⟨y1, y2, y3⟩ := hy
  unfold g_X7_nameOrKey
  rw [nm_eq, o2.1, htw, lenE]
  by_cases hm : slc T q (tkE T q) ∈ S.1.1.map S.1.2
  · obtain ⟨p1, p2, p3, p4⟩ := y1 hm
    rw [if_pos hm, t1_at, nm_eq]
    have hp := pos_mem.mpr hm
    rw [lenE] at hp
    generalize hpp : pos (slc T q (tkE T q)) (S.1.1.map S.1.2) = i at *
    have g7 := p2.2.2.2.2.1
    have z0 : ld y.2 1007 3 = 0 := (p4 3).trans o1
    have hiff := o6 i hp
    have h36 : ∀ j : Int, sa τ 1022 41 i 1036 j = τ 1036 j := fun j => s41 _ _ _ _ (by omega)
    have hT1 : TpT (sa τ 1022 41 i) T := ⟨by rw [s41 _ _ _ _ (by omega)]; exact o3.1, fun j hj => by rw [s41 _ _ _ _ (by omega)]; exact o3.2 j hj⟩
    have hN1 : NmT (sa τ 1022 41 i) T (S.1.1.map S.1.2) := o5.congr (s41 _ _ _ _ (by omega)) fun j => ⟨s41 _ _ _ _ (by omega), s41 _ _ _ _ (by omega)⟩
    have F1 : NvF τ (sa τ 1022 41 i) := fun r j hh _ => s41 _ _ _ _ (fun u => hh ⟨u.1, by omega⟩)
    have L0 : Lt y.2 (sa τ 1022 41 i) q := o4.congr (p4 5) (p4 6) (s41 _ _ _ _ (by omega)) (s41 _ _ _ _ (by omega))
    rw [e41, if_neg (show ¬ (i : Int) = -1 by omega), gd_pos (show (0 : Int) ≤ (i : Int) ∧ (i : Int) < 9 by omega), h36]
    refine wp_gd g7.1 (wp_pos z0 ?_)
    by_cases cM : M ≤ i
    · rw [if_pos (hiff.mpr cM), wrong_eq, t0_at]
      refine wp_neg (by omega) (wp_gd g7.1 (wp_c0 (wp_mono (means_wp p2 (c := 5) (p := q)) fun σ2 hm2 => ?_)))
      obtain ⟨m1, m2, m3, m4, m5, m6, m7⟩ := hm2
      obtain ⟨L1, L2⟩ := L0.both (c := 5) (by omega) (by decide) m6 m7
      have w36 : ∀ r j, ¬ (r = 1022 ∧ (j = 27 ∨ j = 28)) → wrg (sa τ 1022 41 i) 5 q r j = sa τ 1022 41 i r j := fun r j hh => wrg_at hh
      rw [p1]
      exact fin σ2 S _ i m1 ((m5 3 (by decide) (by decide)).trans z0) ⟨by rw [w36 _ _ (by omega)]; exact hT1.1, fun j hj => by rw [w36 _ _ (by omega)]; exact hT1.2 j hj⟩ (by rw [w36 _ _ (by omega), s41 _ _ _ _ (by omega)]; exact o2.2.2.1) L1 (hN1.congr (w36 _ _ (by omega)) fun j => ⟨w36 _ _ (by omega), w36 _ _ (by omega)⟩) rfl ⟨p3.1.trans m2, fun j => (m3 j).trans (p3.2.1 j), fun j => (m4 j).trans (p3.2.2.1 j), fun u => absurd u L2⟩ (F1.trans fun r j hh _ => w36 r j (fun u => hh ⟨u.1, by omega⟩)) (by rw [w36 _ _ (by omega), e41]) oM (fun j hj => by rw [w36 _ _ (by omega), h36]; exact o6 j hj) (fun j hj => by rw [w36 _ _ (by omega), h36]) (Nat.le_refl _) ⟨by omega, by omega⟩ (fun u => absurd u L2)
    · rw [if_neg (fun u => cM (hiff.mp u))]
      refine wp_pos (by omega) ?_
      rw [p1]
      exact fin y.2 S _ i p2 z0 hT1 (by rw [s41 _ _ _ _ (by omega)]; exact o2.2.2.1) L0 hN1 rfl p3.x F1 (e41 _ _) oM (fun j hj => by rw [h36]; exact o6 j hj) (fun j hj => h36 j) (Nat.le_refl _) ⟨by omega, by omega⟩ (fun _ => by omega)
  · rw [if_neg hm]
    by_cases c8 : S.1.1.length = 8
    · obtain ⟨p1, p2, p3, p4⟩ := y3 hm c8
      rw [if_pos c8, t1_at, nm_eq, e41, if_pos rfl]
      have g7 := p2.2.2.2.2.1
      refine wp_gd g7.1 (wp_neg (by rw [p4.1]; decide) ?_)
      have F1 : NvF τ (sa (sa (sa τ 1022 17 3) 1022 18 q) 1022 41 (-1)) := fun r j hh _ => by
        rw [s41 _ _ _ _ (fun u => hh ⟨u.1, by omega⟩), sa_at, if_neg (fun u => hh ⟨u.1, by omega⟩), sa_at, if_neg (fun u => hh ⟨u.1, by omega⟩)]
      have fl : FlR T N0 U0 z k S y.2 (sa (sa (sa τ 1022 17 3) 1022 18 q) 1022 41 (-1)) := by
        refine ⟨q, p2, ?_⟩
        rw [s41 _ _ _ _ (by omega), s41 _ _ _ _ (by omega), flw_sa.1, flw_sa.2]
        exact Or.inl p4
      exact wp_mono (v33_fail hn hb fl) fun y' hy' => wp_ok ⟨(p3.trans hy'.2.1).x, F1, hy'.2.2, Or.inr ⟨rfl, S, hy'.1⟩⟩
    · obtain ⟨p1, ⟨e, W', p2, p2'⟩, p3, p4⟩ := y2 hm (by omega)
      rw [if_neg c8, t1_at, nm_eq]
      have g7 := p2'.2.2.2.2.1
      have z0 : ld y.2 1007 3 = 0 := (p4 3).trans o1
      have hA : NmT (addT τ S.1.1.length q (tkE T q)) T (S.1.1.map S.1.2 ++ [slc T q (tkE T q)]) := by
        have := o5.add (by omega) ⟨hrg.1, hE.1⟩ hE.2.1
        rw [lenE] at this
        exact this
      have eA : ∀ r j : Int, ¬ (r = 1022 ∧ j = 26) → ¬ (1034 ≤ r ∧ r ≤ 1036 ∧ j = S.1.1.length) → addT τ S.1.1.length q (tkE T q) r j = τ r j := fun r j hh h2 => by
        unfold addT
        rw [sa_at, if_neg hh, sa_at, if_neg (fun u => h2 ⟨by omega, by omega, u.2⟩), sa_at, if_neg (fun u => h2 ⟨by omega, by omega, u.2⟩), sa_at, if_neg (fun u => h2 ⟨by omega, by omega, u.2⟩)]
      have e36 : addT τ S.1.1.length q (tkE T q) 1036 S.1.1.length = 0 := by
        unfold addT
        rw [sa_at, if_neg (by omega), sa_at, if_pos ⟨rfl, rfl⟩]
      generalize addT τ S.1.1.length q (tkE T q) = τA at *
      have hlen : (S.1.1 ++ [e]).length = S.1.1.length + 1 := by simp
      rw [e41, if_neg (show ¬ (S.1.1.length : Int) = -1 by omega), gd_pos (show (0 : Int) ≤ (S.1.1.length : Int) ∧ (S.1.1.length : Int) < 9 by omega), s41 _ _ _ _ (by omega), e36, if_pos (show (0 : Int) = 0 from rfl), wrong_eq, t0_at]
      refine wp_gd g7.1 (wp_pos z0 (wp_neg (by omega) (wp_gd g7.1 (wp_c0 (wp_mono (means_wp p2' (c := 5) (p := q)) fun σ2 hm2 => ?_)))))
      obtain ⟨m1, m2, m3, m4, m5, m6, m7⟩ := hm2
      have L0 : Lt y.2 (sa τA 1022 41 S.1.1.length) q := o4.congr (p4 5) (p4 6) (by rw [s41 _ _ _ _ (by omega)]; exact eA _ _ (by omega) (by omega)) (by rw [s41 _ _ _ _ (by omega)]; exact eA _ _ (by omega) (by omega))
      obtain ⟨L1, L2⟩ := L0.both (c := 5) (by omega) (by decide) m6 m7
      have w36 : ∀ r j, ¬ (r = 1022 ∧ (j = 27 ∨ j = 28 ∨ j = 41)) → wrg (sa τA 1022 41 S.1.1.length) 5 q r j = τA r j := fun r j hh => by
        rw [wrg_at (fun u => hh ⟨u.1, by omega⟩), s41 _ _ _ _ (fun u => hh ⟨u.1, by omega⟩)]
      rw [p1]
      refine fin σ2 _ _ (S.1.1.length : Int) m1 ((m5 3 (by decide) (by decide)).trans z0) ⟨by rw [w36 _ _ (by omega), eA _ _ (by omega) (by omega)]; exact o3.1, fun j hj => by rw [w36 _ _ (by omega), eA _ _ (by omega) (by omega)]; exact o3.2 j hj⟩ (by rw [w36 _ _ (by omega), eA _ _ (by omega) (by omega)]; exact o2.2.2.1) L1 ?_ rfl ⟨p3.1.trans m2, fun j => (m3 j).trans (p3.2.1 j), fun j => (m4 j).trans (p3.2.2.1 j), fun u => absurd u L2⟩ (fun r j hh h2 => ?_) ?_ ?_ (fun j hj => ?_) (fun j hj => ?_) ?_ ?_ (fun u => absurd u L2)
      · show NmT _ T ((S.1.1 ++ [e]).map W')
        rw [p2]
        exact hA.congr (w36 _ _ (by omega)) fun j => ⟨w36 _ _ (by omega), w36 _ _ (by omega)⟩
      · rw [w36 r j (fun u => hh ⟨u.1, by omega⟩)]
        exact eA r j (fun u => hh ⟨u.1, by omega⟩) (fun u => h2 ⟨u.1, u.2.1⟩)
      · rw [wrg_at (by omega), e41]
      · show M ≤ (S.1.1 ++ [e]).length; omega
      · have hj' : j < (S.1.1 ++ [e]).length := hj
        rw [w36 _ _ (by omega)]
        by_cases cj : j = S.1.1.length
        · rw [cj, e36]; exact ⟨fun _ => oM, fun _ => rfl⟩
        · rw [eA _ _ (by omega) (by omega)]
          exact o6 j (by omega)
      · rw [w36 _ _ (by omega), eA _ _ (by omega) (by omega)]
      · show S.1.1.length ≤ (S.1.1 ++ [e]).length; omega
      · show 0 ≤ (S.1.1.length : Int) ∧ (S.1.1.length : Int) < ((S.1.1 ++ [e]).length : Int)
        omega
end TW
