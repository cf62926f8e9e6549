/-! SIDE BY SIDE: a node's name, the law -/
set_option maxRecDepth 100000
section JNN
variable {β : Type} {σ σ0 σ' : AS} {τ : TT} {n : Nat} {N0 U0 z k q q' c p v r C lo hi : Int} {T : List Int} {S : PS}
theorem lk_ndNm {R : AS → β → Prop} (hn : 1000000 ≤ n) (hb : BtOk T) (h : ShP T N0 U0 σ z k q S) (hO : OKA T N0 σ τ q S) {Kc : Int → AS → Option AS} {Kt : Int → TT → Option β}
    (hk : ∀ σ' τ' q' S' v, ShP T N0 U0 σ' z k q' S' → OKA T N0 σ' τ' q' S' → NdR 1 S S' σ' τ τ' v → EfW N0 σ σ' → NoF τ τ' → q ≤ q' → Wp (Kc v σ') fun a => Wp (Kt 1 τ') fun b => R a b)
    (hf : ∀ σ' τ' v, Fl T N0 U0 z k σ' τ' → EfW N0 σ σ' → NoF τ τ' → Wp (Kc v σ') fun a => Wp (Kt 0 τ') fun b => R a b) :
    Wp (ndNm n Kc 1007 σ) fun a => Wp (t1 (g_X7_nameOf n 1022 1 τ) Kt) fun b => R a b := by
  have hbl := hb.1
  have hrg := sh_rng h
  have hqq := nxq_le h
  obtain ⟨a1, a2, a3, a4, ⟨b1, b2, b3, b4, b5⟩, ⟨c1, c2⟩, ⟨d1, d2, d3, d4⟩, e1, e2, f, g1⟩ := id h
  obtain ⟨⟨o1, o2, o3, o4, o5⟩, o6⟩ := id hO
  have dm : ld σ N0 2 = N0 + 3 := by rw [d2 2 (by decide) (by decide)]; omega
  have le8 := e2.2.2.2.2.1
  have lenE : (S.1.1.map S.1.2).length = S.1.1.length := List.length_map _
  have hK : ∀ i : Nat, i < (S.1.1.map S.1.2).length → τ 1036 i ≠ 0 := fun i hi => by
    rw [lenE] at hi
    have := ((o6 i (by omega)).1 hi).1
    omega
  have fin : ∀ (σ2 : AS) (S2 : PS) (v : Int) (w : Int × TT), ShP T N0 U0 σ2 z k (nxq T q) S2 → ld σ2 1007 3 = 0 → NxR T (nxq T q) w → TpT w.2 T → Lt σ2 w.2 (nxq T q) → NmT w.2 T (S2.1.1.map S2.1.2) → KR N0 σ2 w.2 S2.1.1.length → NdR 1 S S2 σ2 τ w.2 v → EfW N0 σ σ2 → NoF τ w.2 → Wp (Kt w.1 w.2) fun b => Wp (Kc v σ2) fun a => R a b := fun σ2 S2 v w q1 q2 q3 q4 q5 q6 q7 q8 q9 q10 => by
    refine wp_swap ?_
    rcases join_next q1 q2 q3 q4 q5 q6 with ⟨u1, u2⟩ | ⟨u1, u2⟩
    · rw [u1]; exact hk σ2 w.2 _ S2 v q1 ⟨u2, q7⟩ q8 q9 q10 hqq
    · rw [u1]; exact hf σ2 w.2 v u2 q9 q10
  unfold ndNm
  refine wp_gd b1 (wp_pos o1 (wp_gd b1 ?_))
  rw [b2]
  refine wp_gd a3.1.1 (wp_gdc (cmp_kinds a1 a3 (by decide)) ?_)
  rw [a3.2.2.2.1]
  by_cases cn : tkC T q = 1
  · have htw := tw_nameOf (a := 1) hn hb o3 o2 cn o5 hK
    have hE := tkE_le (T := T) hrg.2.1
    refine wp_pos (by rw [cn]; rfl) (wp_gd b1 (wp_gd a3.1.1 (wp_nm0 (wp_gd b1 ?_))))
    rw [b3]
    refine wp_gd d1 ?_
    rw [dm, a3.2.1]
    have esz : f_J33_size (N0 + 3) σ = some ((S.1.1.length : Int), σ) := by
      unfold f_J33_size
      rw [gd_pos e2.1, e2.2.1]
    refine wp_gd e2.1 (wp_c1e esz (wp_gd b1 (wp_c1 (wp_mono (name_wp hn hb h o1 cn) fun y hy => ?_))))
    obtain ⟨y1, y2, y3⟩ := hy
    by_cases hm : slc T q (tkE T q) ∈ S.1.1.map S.1.2
    · obtain ⟨p1, p2, p3, p4⟩ := y1 hm
      have hp := pos_mem.mpr hm
      rw [lenE] at hp
      have g7 := p2.2.2.2.2.1
      have gN := p2.2.2.2.2.2.2.1
      have z0 : ld y.2 1007 3 = 0 := (p4 3).trans o1
      have dB : ld y.2 N0 3 = N0 + 4 := by rw [gN.2.1 3 (by decide) (by decide)]; omega
      refine wp_gd g7.1 (wp_pos z0 (wp_neg (by omega) (wp_gd g7.1 ?_)))
      rw [g7.2.2.1]
      refine wp_gd gN.1 ?_
      rw [dB]
      refine wp_gd ⟨gN.2.2.1, by omega, by rw [gN.2.2.2]; omega⟩ ?_
      rw [p3.2.1]
      generalize hpp : pos (slc T q (tkE T q)) (S.1.1.map S.1.2) = i at *
      obtain ⟨kr1, kr2⟩ := (o6 i (by omega)).1 hp
      rw [p1, kr2]
      have oldK : ∀ (σ2 : AS) (τ2 : TT), (∀ j, ld σ2 (N0 + 4) j = ld σ (N0 + 4) j) → (∀ j, τ2 1036 j = τ 1036 j) → KR N0 σ2 τ2 S.1.1.length := fun σ2 τ2 g1 g2 j hj => by
        rw [g1, g2]; exact o6 j hj
      by_cases k2 : τ 1036 i = 2
      · rw [if_pos k2]
        refine wp_neg (by decide) (wp_gd g7.1 (wp_c0 (wp_mono (means_wp p2 (c := 4) (p := q)) fun σ2 hm2 => wp_swap (wp_t1 (wp_mono htw fun w hw => ?_)))))
        obtain ⟨m1, m2, m3, m4, m5, m6, m7⟩ := hm2
        obtain ⟨w1, w2⟩ := hw.1 hm
        rw [hpp, if_pos (Or.inr k2)] at w2
        obtain ⟨f1, f2, f3, f4, f5, f6, f7⟩ := no_old (NL := S.1.1.map S.1.2) (fun r j hh => by rw [wrg_at (fun u => hh ⟨u.1, by omega⟩), sa_at, if_neg (fun u => hh ⟨u.1, Or.inr (Or.inr u.2)⟩)]) w2
        have L0 : Lt y.2 (sa τ 1022 41 (-1)) q := o4.congr (p4 5) (p4 6) (by rw [sa_at, if_neg (by omega)]) (by rw [sa_at, if_neg (by omega)])
        obtain ⟨L1, L2⟩ := L0.both (c := 4) (by omega) (by decide) m6 m7
        exact fin σ2 S _ w m1 ((m5 3 (by decide) (by decide)).trans z0) w1 (f4 o3) ((L1.congr rfl rfl f6 f7).le hqq) (f5 o5) (oldK σ2 w.2 (fun j => (m3 j).trans (p3.2.1 j)) f2) ⟨rfl, f1, Or.inr (Or.inl ⟨i, rfl, hp, rfl, f2, fun u => absurd u L2⟩)⟩ ⟨p3.1.trans m2, fun j => (m4 j).trans (p3.2.2.1 j), (m5 2 (by decide) (by decide)).trans (p4 2), fun u => absurd u L2⟩ f3
      · rw [if_neg k2]
        refine wp_pos rfl (wp_swap (wp_t1 (wp_mono htw fun w hw => ?_)))
        obtain ⟨w1, w2⟩ := hw.1 hm
        rw [hpp, if_neg (fun u => u.elim (by decide) k2)] at w2
        obtain ⟨f1, f2, f3, f4, f5, f6, f7⟩ := no_old (NL := S.1.1.map S.1.2) (fun r j hh => by rw [sa_at, if_neg (fun u => hh ⟨u.1, Or.inr (Or.inr u.2)⟩)]) w2
        have L0 : Lt y.2 w.2 q := o4.congr (p4 5) (p4 6) (by rw [f6, sa_at, if_neg (by omega)]) (by rw [f7, sa_at, if_neg (by omega)])
        exact fin y.2 S _ w p2 z0 w1 (f4 o3) (L0.le hqq) (f5 o5) (oldK y.2 w.2 p3.2.1 f2) ⟨rfl, f1, Or.inr (Or.inl ⟨i, rfl, hp, rfl, f2, fun _ => ⟨rfl, by omega⟩⟩)⟩ p3.w f3
    · by_cases c8 : S.1.1.length = 8
      · obtain ⟨p1, p2, p3, p4⟩ := y3 hm c8
        have g7 := p2.2.2.2.2.1
        refine wp_gd g7.1 (wp_neg (by rw [p4.1]; decide) (wp_swap (wp_t1 (wp_mono htw fun w hw => ?_))))
        obtain ⟨w1, ⟨w2, w3⟩, w4⟩ := hw.2.2 hm (by rw [lenE]; exact c8)
        rw [w1]
        refine wp_swap (hf y.2 w.2 y.1 ⟨S, q, p2, ?_⟩ p3.w w4)
        rw [w2, w3]
        exact Or.inl p4
      · obtain ⟨p1, ⟨e, W', p2, p2'⟩, p3, p4⟩ := y2 hm (by omega)
        have g7 := p2'.2.2.2.2.1
        have z0 : ld y.2 1007 3 = 0 := (p4 3).trans o1
        refine wp_gd g7.1 (wp_pos z0 (wp_pos (by omega) (wp_swap (wp_t1 (wp_mono htw fun w hw => ?_)))))
        obtain ⟨w1, w2⟩ := hw.2.1 hm (by rw [lenE]; omega)
        obtain ⟨f1, f2, f3, f4, f5, f6, f7, f8⟩ := no_new o5 (by rw [lenE]; omega) ⟨hrg.1, hE.1⟩ hE.2.1 w2
        rw [lenE] at f1 f2 f3
        have L0 : Lt y.2 w.2 q := o4.congr (p4 5) (p4 6) f7 f8
        refine fin y.2 _ _ w p2' z0 w1 (f5 o3) (L0.le hqq) (by show NmT w.2 T ((S.1.1 ++ [e]).map W'); rw [p2]; exact f6) (fun j hj => ?_) ⟨rfl, by rw [f1, p1], Or.inr (Or.inr ⟨p1, by omega, by show (S.1.1 ++ [e]).length = _; simp, by rw [p1]; exact f2, fun j hj => f3 j (by rw [← p1]; exact hj)⟩)⟩ p3.w f4
        have hjl : (S.1.1 ++ [e]).length = S.1.1.length + 1 := by simp
        show (j < (S.1.1 ++ [e]).length → _) ∧ ((S.1.1 ++ [e]).length ≤ j → _)
        rw [hjl, p3.2.1]
        obtain ⟨r1, r2⟩ := o6 j hj
        refine ⟨fun hjj => ?_, fun hjj => r2 (by omega)⟩
        by_cases cj : j = S.1.1.length
        · rw [cj, f2]
          rw [cj] at r2
          rw [r2 (Nat.le_refl _)]
          exact ⟨Or.inl rfl, by decide⟩
        · rw [f3 j (by omega)]
          exact r1 (by omega)
  · refine wp_neg (fun u => cn ((kd_nam hrg.1).mp u)) (wp_swap ?_)
    unfold g_X7_nameOf
    have e19 : sa τ 1022 41 (-1) 1022 19 ≠ 1 := by
      rw [sa_at, if_neg (by omega), o2.2.1]; exact cn
    rw [nm_eq, if_neg e19, t1_at]
    refine wp_swap (hk σ _ q S (-1) h ⟨okb_sa hO.1 (Or.inr (Or.inl rfl)), fun j hj => ?_⟩ ⟨rfl, by rw [sa_at, if_pos ⟨rfl, rfl⟩], Or.inl ⟨rfl, rfl, fun i => by rw [sa_at, if_neg (by omega)]⟩⟩ EfW.rf (fun r j hh _ => by rw [sa_at, if_neg (fun u => hh ⟨u.1, Or.inr (Or.inr u.2)⟩)]) (Int.le_refl _))
    rw [sa_at, if_neg (by omega)]
    exact o6 j hj
end JNN
