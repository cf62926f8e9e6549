/-! THE PARSER'S PRIMITIVES: name -/
set_option maxRecDepth 100000
section PNM
variable {σ σ0 σ' : AS} {n : Nat} {N0 U0 z k q q' c p v r C lo hi : Int} {T : List Int} {S : PS} {X : Int → Prop} {l : List Int} {s : Int}
theorem sh_hs (h : ShP T N0 U0 σ z k q S) (hs : StrH σ s l) (hs' : StrH σ' s l) (hH : HsF σ σ') (hF : Fr (fun r => r = s) σ σ') (hsN : N0 ≤ s) : ShP T N0 U0 σ' z k q S ∧ Eff N0 σ σ' ∧ ∀ j, ld σ' 1007 j = ld σ 1007 j := by
  obtain ⟨a1, a2, a3, a4, ⟨b1, b2, b3, b4, b5⟩, ⟨c1, c2⟩, ⟨d1, d2, d3, d4⟩, e1, e2, f, g1⟩ := id h
  have kn : ∀ r, kd σ r ≠ 24 → r ≠ s := fun r hr e => hr (by rw [e]; exact hs.2.1.1)
  have o7 : ∀ j, ld σ' 1007 j = ld σ 1007 j := hH.c (by rw [b1]; decide)
  have o8 : ∀ j, ld σ' 1008 j = ld σ 1008 j := hH.c (by rw [a3.1.1]; decide)
  have oN : ∀ j, ld σ' N0 j = ld σ N0 j := hH.c (by rw [d1]; decide)
  have oB : ∀ j, ld σ' (N0 + 4) j = ld σ (N0 + 4) j := hH.c (by rw [d3]; decide)
  obtain ⟨l1, l2, l3, l4, l5, l6, l7⟩ := a3
  have hl : LxC σ' 1008 T q := by
    refine ⟨l1.keep hF (fun j _ => o8 j) (fun w => kn _ (by rw [l1.2.2.1]; decide) w), by rw [o8]; exact l2, by rw [o8]; exact l3, by rw [o8]; exact l4, fun w => by rw [o8]; exact l5 w, fun w1 w2 w3 => ?_, l7⟩
    obtain ⟨s1, s2⟩ := l6 w1 w2 w3
    rw [o8]
    exact ⟨s1.keep hs hs' hF s2, by rw [hH.1]; exact s2⟩
  refine ⟨⟨a1.frame hF (fun r hr w => ?_), a2.frame hF (by omega) (fun r w => ?_), hl, fun w1 w2 w3 => by rw [o8]; exact a4 w1 w2 w3, ⟨by rw [hH.kk]; exact b1, by rw [o7]; exact b2, by rw [o7]; exact b3, by rw [o7]; exact b4, by rw [o7]; exact b5⟩, ⟨c1, by rw [hH.1]; exact c2⟩, ⟨by rw [hH.kk]; exact d1, fun i h1 h2 => by rw [oN]; exact d2 i h1 h2, by rw [hH.kk]; exact d3, by rw [hH.ll]; exact d4⟩, e1.frame hF (fun r hr w => ?_), e2.hs hs hs' hH hF, f, by rw [hH.1, hH.2.1]; exact g1⟩, ⟨⟨hF.sub fun r _ w => ?_, fun r _ _ j => hH.2.2.2 r j, fun t m a b => a.keep hs hs' hF b⟩, oB, oN, o7 2, o7 5, o7 6⟩, o7⟩
  · have w' : r = s := w
    omega
  · have w' : r = s := w
    omega
  · have w' : r = s := w
    rw [w', hs.2.1.1]; decide
  · have w' : r = s := w
    exact Or.inl (by omega)
theorem name_fail (h : ShP T N0 U0 σ z k q S) (hf : CF T q σ c p) : Wp (f_X3_name n 1007 σ) fun y => y.1 = 0 ∧ ShP T N0 U0 y.2 z k q S ∧ Eff N0 σ y.2 ∧ CF1 y.2 c p := by
  have h7 := h.2.2.2.2.1
  have hl := h.2.2.1
  have hw : Wp (f_X3_name_20 n 1007 σ) fun y => y.1 = 0 ∧ ShP T N0 U0 y.2 z k q S ∧ Eff N0 σ y.2 ∧ CF1 y.2 c p := by
    unfold f_X3_name_20
    exact wp_gd h7.1 (wp_c0 (wp_mono (wrong_fail h hf) fun σ' h' => wp_ok ⟨rfl, h'⟩))
  unfold f_X3_name
  refine wp_gd h7.1 (wp_ite (fun h0 => wp_gd h7.1 ?_) fun _ => hw)
  rw [h7.2.1]
  refine wp_gd hl.1.1 (wp_gdc (cmp_kinds h.1 hl (by decide)) (wp_neg ?_ hw))
  rw [hl.2.2.2.1, (hf.code0 h0).1]; decide
theorem name_not (h : ShP T N0 U0 σ z k q S) (h0 : ld σ 1007 3 = 0) (he : tkC T q ≠ 1) : Wp (f_X3_name n 1007 σ) fun y => y.1 = 0 ∧ ShP T N0 U0 y.2 z k q S ∧ Eff N0 σ y.2 ∧ CF1 y.2 (if tkC T q = 50 then 1 else 2) q := by
  have h7 := h.2.2.2.2.1
  have hl := h.2.2.1
  unfold f_X3_name f_X3_name_20
  refine wp_gd h7.1 (wp_pos h0 (wp_gd h7.1 ?_))
  rw [h7.2.1]
  refine wp_gd hl.1.1 (wp_gdc (cmp_kinds h.1 hl (by decide)) (wp_neg ?_ (wp_gd h7.1 (wp_c0 (wp_mono (wrong_set h h0) fun σ' h' => wp_ok ⟨rfl, h'⟩)))))
  rw [hl.2.2.2.1]
  exact fun w => he ((kd_nam hl.2.2.2.2.2.2.1).mp w)
/-- what a name's step leaves -/
def NmQ3 (T : List Int) (N0 U0 : Int) (σ : AS) (z k q : Int) (S : PS) (y : Int × AS) : Prop :=
  (slc T q (tkE T q) ∈ S.1.1.map S.1.2 → y.1 = pos (slc T q (tkE T q)) (S.1.1.map S.1.2) ∧ ShP T N0 U0 y.2 z k (nxq T q) S ∧ Eff N0 σ y.2 ∧ ∀ j, ld y.2 1007 j = ld σ 1007 j) ∧
  (¬ slc T q (tkE T q) ∈ S.1.1.map S.1.2 → S.1.1.length < 8 → y.1 = S.1.1.length ∧ (∃ e W', (S.1.1 ++ [e]).map W' = S.1.1.map S.1.2 ++ [slc T q (tkE T q)] ∧ ShP T N0 U0 y.2 z k (nxq T q) ((S.1.1 ++ [e], W'), S.2)) ∧ Eff N0 σ y.2 ∧ ∀ j, ld y.2 1007 j = ld σ 1007 j) ∧
  (¬ slc T q (tkE T q) ∈ S.1.1.map S.1.2 → S.1.1.length = 8 → y.1 = 0 ∧ ShP T N0 U0 y.2 z k q S ∧ Eff N0 σ y.2 ∧ CF1 y.2 3 q)
theorem sh_put (h : ShP T N0 U0 σ z k q S) (hs : StrH σ s l) (hsN : N0 ≤ s) (hP : PtQ σ (N0 + 3) s l S.1.1 S.1.2 σ') : ShP T N0 U0 σ' z k q ((S.1.1 ++ [nx σ' - 1], udW S.1.2 (nx σ' - 1) l), S.2) ∧ Eff N0 σ σ' ∧ ∀ j, ld σ' 1007 j = ld σ 1007 j := by
  obtain ⟨a1, a2, a3, a4, ⟨b1, b2, b3, b4, b5⟩, ⟨c1, c2⟩, ⟨d1, d2, d3, d4⟩, e1, e2, f, g1, g2⟩ := id h
  obtain ⟨p1, p2, p3, p4, p5, p6, p7⟩ := hP
  have nX : ∀ r, r < nx σ → (r = N0 + 3 ∨ r = s ∨ (N0 + 3 < r ∧ (kd σ r = 108 ∨ kd σ r = 33))) → (kd σ r = 32 ∨ kd σ r = 24 ∨ kd σ r = 108 ∨ kd σ r = 33) ∧ N0 ≤ r := fun r hr w => by
    rcases w with w | w | ⟨w, w2⟩
    · rw [w]; exact ⟨Or.inl e2.1, by omega⟩
    · rw [w]; exact ⟨Or.inr (Or.inl hs.2.1.1), by omega⟩
    · exact ⟨by omega, by omega⟩
  have o : ∀ r, r < nx σ → kd σ r ≠ 32 → kd σ r ≠ 24 → kd σ r ≠ 108 → kd σ r ≠ 33 → ∀ j, ld σ' r j = ld σ r j := fun r hr k1 k2 k3 k4 j => p6.ld hr (fun w => by
    have := (nX r hr w).1; omega) j
  have o7 := o 1007 (by omega) (by rw [b1]; decide) (by rw [b1]; decide) (by rw [b1]; decide) (by rw [b1]; decide)
  have o8 := o 1008 (by omega) (by rw [a3.1.1]; decide) (by rw [a3.1.1]; decide) (by rw [a3.1.1]; decide) (by rw [a3.1.1]; decide)
  have oN := o N0 (by omega) (by rw [d1]; decide) (by rw [d1]; decide) (by rw [d1]; decide) (by rw [d1]; decide)
  have oB := o (N0 + 4) (by omega) (by rw [d3]; decide) (by rw [d3]; decide) (by rw [d3]; decide) (by rw [d3]; decide)
  have pf : PF N0 σ σ' := by
    refine ⟨p6.sub fun r hr w => Or.inl (nX r hr w).2, fun r hr hw j => ?_, fun t m ht hb2 => ?_⟩
    rotate_left
    · by_cases e : t = s
      · rw [e] at ht ⊢
        rw [ht.1.inj hs.1]; exact p2
      · refine ht.frame p6 hb2 (fun w => ?_) (fun w => ?_)
        · have w' : t = N0 + 3 ∨ t = s ∨ (N0 + 3 < t ∧ (kd σ t = 108 ∨ kd σ t = 33)) := w
          rw [ht.2.1.1] at w'
          rcases w' with w' | w' | ⟨-, w' | w'⟩
          · have h1 := ht.2.1.1
            rw [w', e2.1] at h1; exact absurd h1 (by decide)
          · exact e w'
          · exact absurd w' (by decide)
          · exact absurd w' (by decide)
        · have := (nX _ hb2 w).1
          rw [ht.2.1.2] at this
          revert this; decide
    by_cases e : r = s
    · rw [e]
      by_cases j2 : j = 2
      · exact Or.inr ⟨hs.2.1.1, Or.inl j2⟩
      by_cases j3 : j = 3
      · exact Or.inr ⟨hs.2.1.1, Or.inr j3⟩
      exact Or.inl (p7 j j2 j3)
    · refine Or.inl (p6.ld hr (fun w => ?_) j)
      have w' : r = N0 + 3 ∨ r = s ∨ (N0 + 3 < r ∧ (kd σ r = 108 ∨ kd σ r = 33)) := w
      rcases w' with w' | w' | ⟨-, w' | w'⟩
      · exact hw (by rw [w', e2.1]; exact Or.inr (Or.inr (Or.inr (Or.inr (Or.inl rfl)))))
      · exact e w'
      · exact hw (by rw [w']; exact Or.inr (Or.inr (Or.inr (Or.inr (Or.inr (Or.inr (Or.inr (Or.inr rfl))))))))
      · exact hw (by rw [w']; exact Or.inr (Or.inr (Or.inr (Or.inr (Or.inr (Or.inl rfl))))))
  have p6' : Fr (fun r => N0 ≤ r) σ σ' := p6.sub fun r hr w => (nX r hr w).2
  obtain ⟨l1, l2, l3, l4, l5, l6, l7⟩ := a3
  have hsz : szS ((S.1.1 ++ [nx σ' - 1], udW S.1.2 (nx σ' - 1) l), S.2) = szS S + 1 := by
    unfold szS
    simp
    omega
  have hl : LxC σ' 1008 T q := by
    refine ⟨l1.keep p6 (fun j _ => o8 j) (fun w => ?_), by rw [o8]; exact l2, by rw [o8]; exact l3, by rw [o8]; exact l4, fun w => by rw [o8]; exact l5 w, fun w1 w2 w3 => ?_, l7⟩
    · have := (nX _ l1.2.2.2.2.2.2.1 w).1
      rw [l1.2.2.1] at this
      revert this; decide
    · obtain ⟨s1, s2⟩ := l6 w1 w2 w3
      rw [o8]
      refine ⟨?_, by omega⟩
      by_cases e : ld σ 1008 5 = s
      · rw [e] at s1 ⊢
        rw [s1.1.inj hs.1]; exact p2
      · refine s1.frame p6 s2 (fun w => ?_) (fun w => ?_)
        · have w' : ld σ 1008 5 = N0 + 3 ∨ ld σ 1008 5 = s ∨ (N0 + 3 < ld σ 1008 5 ∧ (kd σ (ld σ 1008 5) = 108 ∨ kd σ (ld σ 1008 5) = 33)) := w
          rw [s1.2.1.1] at w'
          rcases w' with w' | w' | ⟨-, w' | w'⟩
          · have h1 := s1.2.1.1
            rw [w', e2.1] at h1; exact absurd h1 (by decide)
          · exact e w'
          · exact absurd w' (by decide)
          · exact absurd w' (by decide)
        · have := (nX _ s2 w).1
          rw [s1.2.1.2] at this
          revert this; decide
  refine ⟨⟨a1.frame p6' (fun r hr w => by have w' : N0 ≤ r := w; omega), a2.frame p6' (by omega) (fun r w => by have w' : N0 ≤ r := w; omega), hl, fun w1 w2 w3 => by rw [o8]; exact a4 w1 w2 w3, ⟨by rw [p6.kd (by omega)]; exact b1, by rw [o7]; exact b2, by rw [o7]; exact b3, by rw [o7]; exact b4, by rw [o7]; exact b5⟩, ⟨c1, by omega⟩, ⟨by rw [p6.kd (by omega)]; exact d1, fun i h1 h2 => by rw [oN]; exact d2 i h1 h2, by rw [p6.kd (by omega)]; exact d3, by rw [p6.ln (by omega)]; exact d4⟩, e1.frame p6 (fun r hr w => ?_), p1, f, ?_, ?_⟩, ⟨pf, oB, oN, o7 2, o7 5, o7 6⟩, o7⟩
  · have := (nX r hr w).1; omega
  · rw [hsz]; omega
  · rw [hsz]; omega
theorem name_wp (hn : 1000000 ≤ n) (hb : BtOk T) (h : ShP T N0 U0 σ z k q S) (h0 : ld σ 1007 3 = 0) (he : tkC T q = 1) : Wp (f_X3_name n 1007 σ) (NmQ3 T N0 U0 σ z k q S) := by
  have hbl := hb.1
  obtain ⟨a1, a2, a3, a4, ⟨b1, b2, b3, b4, b5⟩, ⟨c1, c2⟩, ⟨d1, d2, d3, d4⟩, e1, e2, f, g1⟩ := id h
  obtain ⟨l1, l2, l3, l4, l5, l6, l7⟩ := id a3
  obtain ⟨s1, s2⟩ := l6 (by omega) (by omega) (by omega)
  have hsN := a4 (by omega) (by omega) (by omega)
  have hr := sh_rng h
  have hlen : ((slc T q (tkE T q)).length : Int) = tkE T q - q := slc_len hr.1 (by omega) hr.2.2.2
  have dm : ld σ N0 2 = N0 + 3 := by rw [d2 2 (by decide) (by decide)]; omega
  unfold f_X3_name
  refine wp_gd b1 (wp_pos h0 (wp_gd b1 ?_))
  rw [b2]
  refine wp_gd l1.1 (wp_gdc (cmp_kinds a1 a3 (by decide)) (wp_pos (by rw [l4, he]; rfl) (wp_gd b1 ?_)))
  rw [b3]
  refine wp_gd d1 (wp_gd b1 (wp_gd l1.1 ?_))
  rw [dm]
  unfold NmQ3
  generalize hsd : ld σ 1008 5 = s at *
  generalize slc T q (tkE T q) = l at *
  have hpm : pos l (S.1.1.map S.1.2) < S.1.1.length ↔ l ∈ S.1.1.map S.1.2 := by
    have := pos_mem (l := l) (L := S.1.1.map S.1.2)
    rw [List.length_map] at this; exact this
  refine wp_gd e2.1 (wp_c1 (wp_mono (get_wp hn e2 s1 (by omega) (by omega)) fun y hy => ?_))
  obtain ⟨y1, y2, y3, y4, y5⟩ := hy
  obtain ⟨hS, hE, hj⟩ := sh_hs h s1 y2 y3 y4 hsN
  have h0' : ld y.2 1007 3 = 0 := by rw [hj]; exact h0
  obtain ⟨a1', a2', a3', a4', ⟨b1', b2', b3', b4', b5'⟩, ⟨c1', c2'⟩, ⟨d1', d2', d3', d4'⟩, e1', e2', f', g1'⟩ := id hS
  have dm' : ld y.2 N0 2 = N0 + 3 := by rw [d2' 2 (by decide) (by decide)]; omega
  have nxt : ∀ (σ1 : AS) (k1 : Int) (S1 : PS) (v : Int), ShP T N0 U0 σ1 z k1 q S1 → Eff N0 σ σ1 → (∀ j, ld σ1 1007 j = ld σ 1007 j) → ∀ Q : Int × AS → Prop, (∀ σ2, ShP T N0 U0 σ2 z k1 (nxq T q) S1 → Eff N0 σ σ2 → (∀ j, ld σ2 1007 j = ld σ 1007 j) → Q (v, σ2)) → Wp (f_X3_name_138 n 1007 v σ1) Q := fun σ1 k1 S1 v g1 g2 g3 Q hQ => by
    have g7 := g1.2.2.2.2.1
    unfold f_X3_name_138
    refine wp_gd g7.1 ?_
    rw [g7.2.1]
    exact wp_gd g1.2.2.1.1.1 (wp_c0 (wp_mono (sh_next hn hb g1) fun σ2 h2 => wp_ok (hQ σ2 h2.1 (g2.trans h2.2.1) fun j => (h2.2.2 j).trans (g3 j))))
  by_cases hm : l ∈ S.1.1.map S.1.2
  · -- an old name
    have le8 := e2.2.2.2.2.1
    have hp := hpm.mpr hm
    rw [if_pos hp] at y1
    have hI := a2'.2.2 (128 + (pos l (S.1.1.map S.1.2) : Int)) (by omega) (by omega)
    have e328 : 200 + (128 + (pos l (S.1.1.map S.1.2) : Int)) = y.1 := by omega
    rw [e328] at hI
    refine wp_gd (Or.inr (Or.inr hI.2.1)) (wp_neg (by omega) ?_)
    unfold f_X3_name_71 f_X3_name_115
    refine wp_gd b1' (wp_pos h0' (wp_neg (by omega) (wp_neg (by omega) (wp_gd (Or.inr hI.2.1) ?_))))
    unfold f_J17_intValue
    refine wp_c1e (gd_pos (Or.inr hI.2.1)) ?_
    refine nxt y.2 k S _ hS hE hj _ fun σ2 q1 q2 q3 => ⟨fun _ => ⟨?_, q1, q2, q3⟩, fun w => absurd hm w, fun w => absurd hm w⟩
    show ld y.2 y.1 0 = _
    rw [hI.2.2]; omega
  · have hp : ¬ pos l (S.1.1.map S.1.2) < S.1.1.length := fun w => hm (hpm.mp w)
    rw [if_neg hp] at y1
    have esz : f_J33_size (N0 + 3) y.2 = some ((S.1.1.length : Int), y.2) := by
      unfold f_J33_size
      rw [gd_pos e2'.1, e2'.2.1]
    refine wp_gd (Or.inl y1) (wp_pos y1 (wp_gd b1' ?_))
    rw [b3']
    refine wp_gd d1' ?_
    rw [dm']
    refine wp_gd e2'.1 (wp_c1e esz ?_)
    have le8 := e2.2.2.2.2.1
    refine wp_ite (fun c8 => ?_) fun c8 => ?_
    · refine wp_gd b1' (wp_c0 (wp_mono (fail_set hS h0' (by decide)) fun σ2 h2 => ?_))
      have g7 := h2.1.2.2.2.2.1
      unfold f_X3_name_71
      refine wp_gd g7.1 (wp_neg (by rw [h2.2.2.1]; exact h2.2.2.2.1) (wp_ok ⟨fun w => absurd w hm, fun _ w => by omega, fun _ _ => ⟨rfl, h2.1, hE.trans h2.2.1, h2.2.2⟩⟩))
    · unfold f_X3_name_71
      refine wp_gd b1' (wp_pos h0' (wp_pos y1 (wp_gd b1' ?_)))
      rw [b3']
      refine wp_gd d1' (wp_gd b1' ?_)
      rw [b2']
      refine wp_gd a3'.1.1 (wp_gd b1' (wp_gd d1' ?_))
      rw [dm']
      refine wp_gd e2'.1 (wp_c1e esz (wp_c1e (valueOf_eq a2' (by omega) (by omega)) (wp_gd e2'.1 ?_)))
      have e5 : ld y.2 1008 5 = s := by
        have o8 : ∀ j, ld y.2 1008 j = ld σ 1008 j := y3.c (by rw [l1.1]; decide)
        rw [o8]; exact hsd
      rw [e5]
      refine wp_c1 (wp_mono (names_put hn e2' y2 (by omega) (by rw [y3.1]; exact s2) (by omega) hm (by omega) (by omega)) fun w hw => ?_)
      obtain ⟨hS2, hE2, hj2⟩ := sh_put hS y2 hsN hw
      have hnew := hw.1.2.2.2.2.2.2.2.2.2.1
      obtain ⟨a1'', a2'', a3'', a4'', ⟨b1'', b2'', b3'', b4'', b5''⟩, ⟨c1'', c2''⟩, ⟨d1'', d2'', d3'', d4''⟩, e1'', e2'', f'', g1''⟩ := id hS2
      have dm'' : ld w.2 N0 2 = N0 + 3 := by rw [d2'' 2 (by decide) (by decide)]; omega
      have hmap : (S.1.1 ++ [nx w.2 - 1]).map (udW S.1.2 (nx w.2 - 1) l) = S.1.1.map S.1.2 ++ [l] := by
        rw [List.map_append]
        have h1 : S.1.1.map (udW S.1.2 (nx w.2 - 1) l) = S.1.1.map S.1.2 := by
          refine List.map_congr_left fun a ha => ?_
          unfold udW
          rw [if_neg]
          intro e
          rw [List.nodup_append] at hnew
          exact hnew.2.2 a ha (nx w.2 - 1) (by simp) e
        rw [h1]
        show S.1.1.map S.1.2 ++ [udW S.1.2 (nx w.2 - 1) l (nx w.2 - 1)] = _
        unfold udW
        rw [if_pos rfl]
      have esz2 : f_J33_size (N0 + 3) w.2 = some ((S.1.1.length : Int) + 1, w.2) := by
        unfold f_J33_size
        rw [gd_pos e2''.1, e2''.2.1]
        simp
      unfold f_X3_name_115
      refine wp_pos y1 (wp_gd b1'' ?_)
      rw [b3'']
      refine wp_gd d1'' ?_
      rw [dm'']
      refine wp_gd e2''.1 (wp_c1e esz2 (wp_gI (by omega) ?_))
      refine nxt w.2 k _ _ hS2 (hE.trans hE2) (fun j => (hj2 j).trans (hj j)) _ fun σ2 q1 q2 q3 => ⟨fun u => absurd u hm, fun _ _ => ⟨by show (S.1.1.length : Int) + 1 - 1 = _; omega, ⟨_, _, hmap, q1⟩, q2, q3⟩, fun _ u => by omega⟩
end PNM
