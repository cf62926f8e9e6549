/-! THE MATCHER: a step along an edge -/
set_option maxRecDepth 100000
section ME
variable {σ σ0 σ1 σ2 σ3 σ' : AS} {n M k i : Nat} {l : List Ch} {m r a : Int} {S : PS} {ps : List Part} {cs : List Cnd} {its : List Trm} {os : List Odr} {t : Trm} {K : Int → Bool} {env : Int → Int} {us : List Int} {mode c : Int} {L : List (Int → Int)} {p : Part} {v nn e dn fr : Int}
theorem MS.wr_gone (h : MS σ0 σ k l m S K ps cs its os M mode env us c L) {us' : List Int} (he : ∀ x : Int, 0 ≤ x → x < 1000 → (if x = e then a else if x ∈ us then 1 else 0) = if x ∈ us' then 1 else 0) : MS σ0 (wr σ 1017 e a) k l m S K ps cs its os M mode env us' c L ∧ MFr (nx σ0) σ (wr σ 1017 e a) := by
  obtain ⟨h1, h2, h3, h4, h5, h6⟩ := h
  have F : MFr (nx σ0) σ (wr σ 1017 e a) := MFr.wr' h1.2.2.2.1 h1.1.2.2 (by decide) (fun u => absurd u (by decide)) (fun u => absurd u (by decide))
  have o : ∀ r i, ¬ (r = 1017 ∧ i = e) → ld (wr σ 1017 e a) r i = ld σ r i := fun r i hh => by rw [ld_wr, if_neg hh]
  refine ⟨⟨h1.fr F, fun i i0 i8 => (o _ _ (by omega)).trans (h2 i i0 i8), fun x e0 e1 => ?_, (o _ _ (by omega)).trans h4, (o _ _ (by omega)).trans h5, h6.fr fun r i g1 g2 => o _ _ (by omega)⟩, F⟩
  rw [← he x e0 e1, ld_wr]
  by_cases hx : x = e
  · rw [if_pos ⟨rfl, hx⟩, if_pos hx]
  · rw [if_neg (fun u => hx u.2), if_neg hx]; exact h3 x e0 e1
/-- the edge's part on the heap -/
theorem MQs.ed (h : MQs σ0 σ k l m S K ps cs its os M) (hi : i < ps.length) (hp : ps.getD i p0 = p) (hr : (S.2 1).getD i 0 = r) (hH : pH p ≠ 0) : kd σ r = 14 ∧ ld σ r 0 = pE p ∧ ld σ r 1 = pT p ∧ ld σ r 2 = pW p ∧ ld σ r 3 = pLo p ∧ ld σ r 4 = pHi p := by
  have := (h.2.2.2.2.2.2.1.2.2 i hi).2
  rw [hp, hr] at this
  rcases this with ⟨w, -⟩ | ⟨-, a, -, b⟩
  · exact absurd w hH
  · exact ⟨a, b⟩
theorem lk_step {Sk : MK} {Vs : Int → (Int → Int) → Prop} {rS : Int → Int → Int → Int → Int → AS → Option AS} {forth : Bool} (hi : i < ps.length) (hp : ps.getD i p0 = p) (hr : (S.2 1).getD i 0 = r) (hHp : pH p ≠ 0) (hM8 : M ≤ 8) (hm : mode = 1 ∨ mode = 0) (hdn : 0 ≤ dn ∧ dn < 10)
    (hE : pE p = -1 ∨ ((0 ≤ pE p ∧ pE p < M) ∧ env (pE p) = -1))
    (hS : ∀ (σ : AS) (env : Int → Int) (us : List Int) (c : Int) (L : List (Int → Int)) (x : Int), MS σ0 σ k l m S K ps cs its os M mode env us c L → Okc mode c L (Sk x env us) → nodeAt (run l) x → Vs x env → Wp (rS 1014 i x r (dn + 1) σ) (MP σ0 σ k l m S K ps cs its os M mode env us c L (Sk x env us)))
    (h : MS σ0 σ k l m S K ps cs its os M mode env us c L) (hnf : c ≤ 10000) (hed : edgeAt (run l) e) (hV : ∀ x, Vs x (bnd env (pE p) e)) (hO : Okc mode c L (stepC (run l) p Sk forth env us e)) : Wp (b_X6_step n rS 1014 i fr r dn e (if forth = true then 1 else 0) σ) (MP σ0 σ k l m S K ps cs its os M mode env us c L (stepC (run l) p Sk forth env us e)) := by
  obtain ⟨h1, h2, h3, h4, h5, h6⟩ := id h
  have hkd := h1.2.2.2.1
  have hfd := h1.2.2.2.2.1
  have hgv := h1.gv
  have hG := hgv.2.2.2.2
  obtain ⟨r14, rE, rT, rW, rLo, rHi⟩ := h1.ed hi hp hr hHp
  have k14 := hkd.1.2.2.2.2.2.1
  obtain ⟨g1, g2, g3, g4⟩ := hgv.2.2.1 e hed
  have kg := hkd.1.2.2.2.2.2.2.2.2
  have lg := hkd.2.2.2.2.2.2.2
  have e145 := hfd.1.2.2.2.2.2
  have he0 := hed.1
  have he1 := hed.2.1
  have eT : f_X20_type r σ = some (pT p, σ) := by unfold f_X20_type; rw [gd_pos r14, rT]
  have eW : f_X20_way r σ = some (pW p, σ) := by unfold f_X20_way; rw [gd_pos r14, rW]
  have eVar : ∀ σ', MQs σ0 σ' k l m S K ps cs its os M → kd σ' r = 14 ∧ f_X20_variable r σ' = some (pE p, σ') := fun σ' h' => by
    obtain ⟨q14, qE, -⟩ := h'.ed hi hp hr hHp
    exact ⟨q14, by unfold f_X20_variable; rw [gd_pos q14, qE]⟩
  generalize hu : ld σ 1003 e = u at *
  have no : ¬ canC (run l) p forth us e = true → Wp (some σ) (MP σ0 σ k l m S K ps cs its os M mode env us c L (stepC (run l) p Sk forth env us e)) := fun hc => by
    have eA : stepC (run l) p Sk forth env us e = m0 := by unfold stepC; rw [if_neg hc]
    rw [eA]
    exact wp_ok (MP.stay h hO.2.1)
  -- go along
  have goE : canC (run l) p forth us e = true → Wp (b_X6_step_80 n rS 1014 i r dn e (if forth = true then 1 else 0) u σ) (MP σ0 σ k l m S K ps cs its os M mode env us c L (stepC (run l) p Sk forth env us e)) := fun hcan => by
    have eA : stepC (run l) p Sk forth env us e = madd (1, []) (Sk (if forth = true then go (run l) e else gf (run l) e) (bnd env (pE p) e) (e :: us)) := by
      unfold stepC
      rw [if_pos hcan]
    have hnu : ¬ e ∈ us := by
      unfold canC at hcan
      rw [decide_eq_true_eq] at hcan
      exact hcan.2.1
    rw [eA] at hO ⊢
    obtain ⟨hO1, hO2⟩ := hO.up
    have eL : LU mode L (1, []) = L := by
      unfold LU
      by_cases a : mode = 1
      · rw [if_pos a]
      · rw [if_neg a]; exact List.append_nil _
    rw [eL] at hO2
    have hxn : nodeAt (run l) (if forth = true then go (run l) e else gf (run l) e) := by
      obtain ⟨-, oE, -⟩ := hG
      obtain ⟨-, -, -, o1, o2⟩ := oE e hed.2.2
      by_cases hf : forth = true
      · rw [if_pos hf]; exact o2
      · rw [if_neg hf]; exact o1
    have hVx := hV (if forth = true then go (run l) e else gf (run l) e)
    have exn : (if (if forth = true then (1 : Int) else 0) = 0 then ld σ u 2 else ld σ u 3) = (if forth = true then go (run l) e else gf (run l) e) := by
      cases forth
      · simpa using g3
      · simpa using g4
    generalize hx : (if forth = true then go (run l) e else gf (run l) e) = x at *
    -- the edge's mark and name are taken back
    have undo : ∀ σ3, MP σ0 σ k l m S K ps cs its os M mode (bnd env (pE p) e) (e :: us) (cU mode c (1, [])) L (Sk x (bnd env (pE p) e) (e :: us)) σ3 → ∀ σ4, MFr (nx σ0) σ3 σ4 → MS σ0 σ4 k l m S K ps cs its os M mode env (e :: us) (cU mode (cU mode c (1, [])) (Sk x (bnd env (pE p) e) (e :: us))) (LU mode L (Sk x (bnd env (pE p) e) (e :: us))) → Wp (b_X6_step_170 n rS 1014 e σ4) (MP σ0 σ k l m S K ps cs its os M mode env us c L (madd (1, []) (Sk x (bnd env (pE p) e) (e :: us)))) := fun σ3 h3' σ4 F4 s4 => by
      have kd4 := s4.1.2.2.2.1
      unfold b_X6_step_170
      refine wp_gd kd4.1.2.2.2.2.2.1 ?_
      rw [s4.1.2.2.2.2.1.1.2.2.2.2.2]
      refine wp_gd ⟨kd4.1.2.2.2.2.2.2.2.2, he0, by rw [kd4.2.2.2.2.2.2.2]; exact he1⟩ (wp_nm0 (wp_ok ?_))
      obtain ⟨s5, F5⟩ := s4.wr_gone (e := e) (a := 0) (us' := us) (fun y y0 y1 => by
        by_cases hy : y = e
        · rw [if_pos hy, hy, if_neg hnu]
        · rw [if_neg hy]
          by_cases hyu : y ∈ us
          · rw [if_pos (List.mem_cons_of_mem _ hyu), if_pos hyu]
          · rw [if_neg hyu, if_neg (fun w => by
              rcases List.mem_cons.mp w with w | w
              · exact hy w
              · exact hyu w)])
      refine ⟨?_, h3'.2.trans (F4.trans F5)⟩
      rw [cU_add, show LU mode L (madd (1, []) (Sk x (bnd env (pE p) e) (e :: us))) = LU mode L (Sk x (bnd env (pE p) e) (e :: us)) by rw [← LU_add, eL]] at *
      exact s5
    have h97 : ∀ σ1, MS σ0 σ1 k l m S K ps cs its os M mode env us (cU mode c (1, [])) L → MFr (nx σ0) σ σ1 → ld σ1 u 2 = ld σ u 2 → ld σ1 u 3 = ld σ u 3 → kd σ1 u = 5 → Wp (b_X6_step_97 n rS 1014 i r dn e (if forth = true then 1 else 0) u σ1) (MP σ0 σ k l m S K ps cs its os M mode env us c L (madd (1, []) (Sk x (bnd env (pE p) e) (e :: us)))) := fun σ1 s1 F1 q2 q3 ku => by
      have kd1 := s1.1.2.2.2.1
      unfold b_X6_step_97
      refine wp_gd kd1.1.2.2.2.2.2.1 ?_
      rw [s1.1.2.2.2.2.1.1.2.2.2.2.2]
      refine wp_gd ⟨kd1.1.2.2.2.2.2.2.2.2, he0, by rw [kd1.2.2.2.2.2.2.2]; exact he1⟩ (wp_nm0 ?_)
      obtain ⟨s2, F2⟩ := s1.wr_gone (e := e) (a := 1) (us' := e :: us) (fun y y0 y1 => by
        by_cases hy : y = e
        · rw [if_pos hy, hy, if_pos (List.mem_cons_self ..)]
        · rw [if_neg hy]
          by_cases hyu : y ∈ us
          · rw [if_pos (List.mem_cons_of_mem _ hyu), if_pos hyu]
          · rw [if_neg hyu, if_neg (fun w => by
              rcases List.mem_cons.mp w with w | w
              · exact hy w
              · exact hyu w)])
      have hu5 : ∀ σ', MFr (nx σ0) σ1 σ' → MQs σ0 σ' k l m S K ps cs its os M → kd σ' u = 5 ∧ ld σ' u 2 = ld σ u 2 ∧ ld σ' u 3 = ld σ u 3 := fun σ' F' h' => by
        have hx0 : 1054 ≤ nx σ := by have := h1.2.1.1; have := h1.1.2.2; omega
        have k1003 := hgv.1.2.2.2.2.2.2.2.1
        have e1003 : ld σ' 1003 e = u := (((F1.trans F').old hkd (show (1003 : Int) < nx σ by omega) (by rw [k1003]; decide)).2.2.2 e).trans hu
        obtain ⟨y1, y2, y3, y4⟩ := h'.gv.2.2.1 e hed
        rw [e1003] at y1 y3 y4
        exact ⟨y1, y3.trans g3.symm, y4.trans g4.symm⟩
      generalize wr σ1 1017 e 1 = σ2 at *
      obtain ⟨q14, qv⟩ := eVar σ2 s2.1
      -- behind the name
      have h124 : ∀ σ3, MS σ0 σ3 k l m S K ps cs its os M mode (bnd env (pE p) e) (e :: us) (cU mode c (1, [])) L → MFr (nx σ0) σ1 σ3 → Wp (b_X6_step_124 n rS 1014 i r dn e (if forth = true then 1 else 0) u σ3) (MP σ0 σ k l m S K ps cs its os M mode env us c L (madd (1, []) (Sk x (bnd env (pE p) e) (e :: us)))) := fun σ3 s3 F3 => by
        obtain ⟨u1, u2, u3⟩ := hu5 σ3 F3 s3.1
        have h144 : Wp (b_X6_step_144 n rS 1014 r dn e 1014 i x σ3) (MP σ0 σ k l m S K ps cs its os M mode env us c L (madd (1, []) (Sk x (bnd env (pE p) e) (e :: us)))) := by
          unfold b_X6_step_144
          rw [gI_pos (by omega)]
          refine wp_gd s3.1.2.2.2.1.1.2.2.2.2.2.1 (wp_c0 (wp_mono (hS σ3 _ _ _ L x s3 hO2 hxn hVx) fun σ4 h4' => ?_))
          obtain ⟨s4, F4⟩ := h4'
          have h4'' : MP σ0 σ k l m S K ps cs its os M mode (bnd env (pE p) e) (e :: us) (cU mode c (1, [])) L (Sk x (bnd env (pE p) e) (e :: us)) σ4 := ⟨s4, F1.trans (F3.trans F4)⟩
          obtain ⟨z14, zv⟩ := eVar σ4 s4.1
          refine wp_gd z14 (wp_c1e zv (wp_ite (fun cv => ?_) fun cv => ?_))
          · refine undo σ4 h4'' σ4 MFr.rf ?_
            have : bnd env (pE p) e = env := by unfold bnd; rw [if_pos cv]
            rw [this] at s4 ⊢
            exact s4
          · obtain ⟨v0, v1⟩ := hE.resolve_left cv
            have kd4 := s4.1.2.2.2.1
            refine wp_gd kd4.1.2.2.2.2.2.1 (wp_gd z14 (wp_c1e zv ?_))
            rw [s4.1.2.2.2.2.1.1.2.2.2.2.1]
            refine wp_gd ⟨kd4.1.2.2.2.2.2.2.2.1, v0.1, by rw [kd4.2.2.2.2.2.2.1]; omega⟩ (wp_nm0 ?_)
            obtain ⟨s5, F5⟩ := s4.wr_env (v := pE p) (a := -1) ⟨v0.1, by omega⟩
            refine undo σ4 h4'' _ F5 (s5.envc fun y y0 y8 => ?_)
            have eb : bnd env (pE p) e = ud env (pE p) e := by unfold bnd; rw [if_neg cv]
            rw [eb]
            show env y = if y = pE p then -1 else if y = pE p then e else env y
            by_cases hy : y = pE p
            · rw [if_pos hy, hy]; exact v1
            · rw [if_neg hy, if_neg hy]
        unfold b_X6_step_124
        refine wp_ite (fun cf => wp_gd u1 ?_) fun cf => wp_gd u1 ?_
        · rw [if_pos cf] at exn
          rw [u2, exn]; exact h144
        · rw [if_neg cf] at exn
          rw [u3, exn]; exact h144
      refine wp_gd q14 (wp_c1e qv (wp_ite (fun cv => ?_) fun cv => ?_))
      · have : bnd env (pE p) e = env := by unfold bnd; rw [if_pos cv]
        refine h124 σ2 ?_ F2
        rw [this]; exact s2
      · obtain ⟨v0, v1⟩ := hE.resolve_left cv
        have kd2 := s2.1.2.2.2.1
        refine wp_gd kd2.1.2.2.2.2.2.1 (wp_gd q14 (wp_c1e qv ?_))
        rw [s2.1.2.2.2.2.1.1.2.2.2.2.1]
        refine wp_gd ⟨kd2.1.2.2.2.2.2.2.2.1, v0.1, by rw [kd2.2.2.2.2.2.2.1]; omega⟩ (wp_nm0 ?_)
        obtain ⟨s3, F3⟩ := s2.wr_env (v := pE p) (a := e) ⟨v0.1, by omega⟩
        have eb : bnd env (pE p) e = ud env (pE p) e := by unfold bnd; rw [if_neg cv]
        rw [← eb] at s3
        exact h124 _ s3 (F2.trans F3)
    unfold b_X6_step_80
    refine wp_gd k14 ?_
    rw [h4]
    rcases hm with hm | hm
    · refine wp_neg (by omega) (wp_gd k14 ?_)
      rw [h5, gI_pos (by have := hO1.1; omega)]
      refine wp_gd k14 (wp_nm0 ?_)
      obtain ⟨s2, F2⟩ := h.wr_c (a := c + 1)
      have ec : cU mode c (1, []) = c + 1 := by
        unfold cU
        rw [if_pos hm]
        show (if c + ((1 : Nat) : Int) ≤ 10001 then c + ((1 : Nat) : Int) else 10001) = c + 1
        rw [if_pos (by omega)]; omega
      have hne : u ≠ 1014 := fun w => by rw [w, k14] at g1; omega
      refine h97 (wr σ 1014 7 (c + 1)) (by rw [ec]; exact s2) F2 ?_ ?_ ?_
      · rw [ld_wr, if_neg (fun w => hne w.1)]
      · rw [ld_wr, if_neg (fun w => hne w.1)]
      · exact g1
    · have ec : cU mode c (1, []) = c := by unfold cU; rw [if_neg (by omega)]
      refine wp_pos hm (h97 σ (by rw [ec]; exact h) MFr.rf rfl rfl g1)
  -- the looks before
  have h42 : ∀ s0 : Int, (s0 = 1 ∧ (forth = false ∧ pW p = 0 ∧ gf (run l) e = go (run l) e)) ∨ (s0 = 0 ∧ ¬ (forth = false ∧ pW p = 0 ∧ gf (run l) e = go (run l) e)) → Wp (b_X6_step_42 n rS 1014 i r dn e (if forth = true then 1 else 0) u s0 σ) (MP σ0 σ k l m S K ps cs its os M mode env us c L (stepC (run l) p Sk forth env us e)) := fun s0 hs0 => by
    unfold b_X6_step_42
    rcases hs0 with ⟨z, hz⟩ | ⟨z, hz⟩
    · rw [z]
      refine wp_neg (by decide) (no fun w => ?_)
      unfold canC at w
      rw [decide_eq_true_eq] at w
      exact w.1 hz
    · rw [z]
      refine wp_pos rfl (wp_gd k14 ?_)
      rw [e145]
      refine wp_gd ⟨kg, he0, by rw [lg]; exact he1⟩ ?_
      rw [h3 e he0 he1]
      by_cases hu2 : e ∈ us
      · rw [if_pos hu2]
        refine wp_neg (by decide) (no fun w => ?_)
        unfold canC at w
        rw [decide_eq_true_eq] at w
        exact w.2.1 hu2
      · rw [if_neg hu2]
        refine wp_pos rfl (wp_gd r14 (wp_c1e eT (wp_ite (fun ct => goE ?_) fun ct => wp_gd g1 (wp_gd r14 (wp_c1e eT ?_)))))
        · unfold canC
          exact decide_eq_true ⟨hz, hu2, Or.inl ct⟩
        · rw [g2]
          refine wp_ite (fun ce => goE ?_) fun ce => no fun w => ?_
          · unfold canC
            exact decide_eq_true ⟨hz, hu2, Or.inr ce⟩
          · unfold canC at w
            rw [decide_eq_true_eq] at w
            exact w.2.2.elim ct ce
  unfold b_X6_step b_X6_step_41
  refine wp_gd k14 ?_
  rw [hfd.1.1]
  refine wp_gd hgv.1.2.2.1 ?_
  rw [hgv.1.2.2.2.2.1]
  refine wp_gd ⟨hgv.1.2.2.2.2.2.2.2.1, he0, by rw [hgv.1.2.2.2.2.2.2.2.2]; exact he1⟩ (wp_nm0 ?_)
  rw [hu]
  cases forth
  · refine wp_pos rfl (wp_gd r14 (wp_c1e eW (wp_ite (fun cw => wp_gd g1 (wp_gd g1 ?_)) fun cw => h42 0 (Or.inr ⟨rfl, fun w => cw w.2.1⟩))))
    rw [g3, g4]
    exact wp_ite (fun ce => h42 1 (Or.inl ⟨rfl, rfl, cw, ce⟩)) fun ce => h42 0 (Or.inr ⟨rfl, fun w => ce w.2.2⟩)
  · refine wp_neg (by decide) (h42 0 (Or.inr ⟨rfl, fun w => absurd w.1 (by decide)⟩))
end ME
