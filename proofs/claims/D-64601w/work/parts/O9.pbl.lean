/-! THE MATCHER: node, the recursion -/
set_option maxRecDepth 100000
theorem msum_single {f : Int → MR} {x : Int} : ∀ {Y : List Int}, Y.Nodup → x ∈ Y → (∀ y, y ∈ Y → y ≠ x → f y = m0) → msum f Y = f x
  | y :: Y, hnd, hx, h0 => by
    have hnd' := List.nodup_cons.mp hnd
    show madd (f y) (msum f Y) = f x
    by_cases e : y = x
    · rw [e, msum_zero (fun z hz => h0 z (List.mem_cons_of_mem _ hz) (fun w => hnd'.1 (by rw [e, ← w]; exact hz))), madd_zero]
    · rw [h0 y (List.mem_cons_self ..) e, zero_madd]
      refine msum_single hnd'.2 ?_ fun z hz hzx => h0 z (List.mem_cons_of_mem _ hz) hzx
      rcases List.mem_cons.mp hx with w | w
      · exact absurd w.symm e
      · exact w
theorem ndL_nodup {G : Gr} : (ndL G).Nodup := by
  unfold ndL
  have h : List.Pairwise (fun a b : Int => a ≠ b) (nums 400) := nums_rise.imp fun h => by omega
  exact h.filter _
section MI2
variable {σ σ0 σ1 σ2 σ3 σ' : AS} {n M k i : Nat} {l : List Ch} {m r a : Int} {S : PS} {ps : List Part} {cs : List Cnd} {its : List Trm} {os : List Odr} {t : Trm} {K : Int → Bool} {env : Int → Int} {us : List Int} {mode c : Int} {L : List (Int → Int)} {p : Part} {v nn e u cur : Int} {H : (Int → Int) → Bool}
/-- all nodes, one after another -/
theorem nodes_loop {f : Int → MR} {rA : Int → Int → Int → AS → Option AS} {rS : Int → Int → Int → Int → Int → AS → Option AS}
    (hA : ∀ (σ : AS) (c : Int) (L : List (Int → Int)) (x : Int), MS σ0 σ k l m S K ps cs its os M mode env us c L → nodeAt (run l) x → Okc mode c L (f x) → Wp (rA 1014 i x σ) (MP σ0 σ k l m S K ps cs its os M mode env us c L (f x))) :
    ∀ {d Q : Nat} {j : Nat} {σ : AS} {c : Int} {L : List (Int → Int)}, j + d = 400 → d < Q → MS σ0 σ k l m S K ps cs its os M mode env us c L → Okc mode c L (msum (fun x => if decide (gl (run l) x ≠ -1) = true then f x else m0) ((nums 400).drop j)) → Wp (b_X6_node_111 n rA rS Q 1014 i j σ) (MP σ0 σ k l m S K ps cs its os M mode env us c L (msum (fun x => if decide (gl (run l) x ≠ -1) = true then f x else m0) ((nums 400).drop j)))
  | d, 0, j, σ, c, L, _, hQ, _, _ => absurd hQ (by omega)
  | 0, Q + 1, j, σ, c, L, hd, _, h, hO => by
    have hl : (nums 400).length = 400 := by unfold nums; rw [List.length_map, List.length_range]
    unfold b_X6_node_111
    refine wp_pos (by omega) (wp_ok ?_)
    rw [List.drop_of_length_le (by omega)]
    exact MP.stay h hO.2.1
  | d + 1, Q + 1, j, σ, c, L, hd, hQ, h, hO => by
    have hl : (nums 400).length = 400 := by unfold nums; rw [List.length_map, List.length_range]
    have hj : j < (nums 400).length := by omega
    have hgj : (nums 400)[j] = (j : Int) := by simp only [nums, List.getElem_map, List.getElem_range]
    have hdr : (nums 400).drop j = (j : Int) :: (nums 400).drop (j + 1) := by rw [List.drop_eq_getElem_cons hj, hgj]
    have hm : ∀ g : Int → MR, msum g ((nums 400).drop j) = madd (g j) (msum g ((nums 400).drop (j + 1))) := fun g => by rw [hdr]; rfl
    have kd := h.1.2.2.2.1
    have fd := h.1.2.2.2.2.1
    have gv := h.1.gv
    have k14 := kd.1.2.2.2.2.2.1
    have e1 : (j : Int) + 1 = ((j + 1 : Nat) : Int) := by omega
    unfold b_X6_node_111
    refine wp_neg (by omega) (wp_gd k14 (wp_c1e (isFull_eq h) ?_))
    by_cases hf : c ≤ 10000
    · rw [if_pos hf]
      rw [hm] at hO ⊢
      obtain ⟨hO1, hO2⟩ := hO.up
      refine wp_pos rfl (wp_gd k14 ?_)
      rw [fd.1.1]
      refine wp_gd gv.1.2.2.1 ?_
      rw [gv.1.2.2.2.1]
      refine wp_gd ⟨gv.1.2.2.2.2.2.1, by omega, by rw [gv.1.2.2.2.2.2.2.1]; omega⟩ ?_
      have hiff := gv.2.2.2.1 (j : Int) (by omega) (by omega)
      unfold b_X6_node_146
      by_cases hnd : nodeAt (run l) (j : Int)
      · have hne := hiff.mpr hnd
        have hgl : decide (gl (run l) (j : Int) ≠ -1) = true := decide_eq_true hnd.2.2
        rw [if_pos hgl] at hO1 hO2 ⊢
        refine wp_neg hne (wp_gd k14 (wp_c0 (wp_mono (hA σ c L j h hnd hO1) fun σ1 h1 => ?_)))
        rw [gI_pos (by omega), nm_eq, e1]
        exact wp_mono (nodes_loop hA (d := d) (Q := Q) (j := j + 1) (by omega) (by omega) h1.1 hO2) fun σ2 h2 => h1.trans' h2
      · have hz : ld σ 1002 (j : Int) = 0 := Classical.byContradiction fun w => hnd (hiff.mp w)
        have hgl : ¬ decide (gl (run l) (j : Int) ≠ -1) = true := fun w => hnd ⟨by omega, by omega, of_decide_eq_true w⟩
        rw [if_neg hgl] at hO1 hO2 ⊢
        rw [cU_m0 hO1.2.1, LU_m0] at hO2
        refine wp_pos hz ?_
        rw [gI_pos (by omega), nm_eq, e1, zero_madd]
        exact nodes_loop hA (d := d) (Q := Q) (j := j + 1) (by omega) (by omega) h hO2
    · rw [if_neg hf]
      exact wp_neg (by decide) (wp_ok (MP.full h hO hf))
/-- the recursion -/
theorem lk_mnode (hn : 1000000 ≤ n) (hW : ∀ i : Nat, i < cs.length → CnW (cs.getD i c0d) M) (h8 : cs.length ≤ 8 ∧ its.length ≤ 8 ∧ os.length ≤ 8) (hM8 : M ≤ 8) (hps : ps.length ≤ 12) (hI : ∀ i : Nat, i < its.length → ItOk (its.getD i t0d) M) (hOd : ∀ i : Nat, i < os.length → ItOk (os.getD i o0d).1 M) (hH : (mode = 1 ∧ H = tt) ∨ (mode = 0 ∧ H = cH (run l) K cs)) :
    ∀ {rest : List Part} {i f : Nat} {mm : Int} {σ : AS} {env : Int → Int} {us : List Int} {c : Int} {L : List (Int → Int)} {cur : Int}, rest.length < f → i + rest.length = ps.length → ps.drop i = rest → WFp (fun k => K k = true) mm rest M → EnvI (run l) (fun k => K k = true) mm env → (0 < i → ld σ 1015 ((i : Int) - 1) = cur) → ((0 < i ∧ nodeAt (run l) cur) ∨ ∃ p ps', rest = p :: ps' ∧ pH p = 0) → MS σ0 σ k l m S K ps cs its os M mode env us c L → Okc mode c L (runC (run l) H rest cur env us) → Wp (f_X6_node n f 1014 i σ) (MP σ0 σ k l m S K ps cs its os M mode env us c L (runC (run l) H rest cur env us))
  | rest, i, 0, mm, σ, env, us, c, L, cur, hf, _, _, _, _, _, _, _, _ => absurd hf (by omega)
  | [], i, f + 1, mm, σ, env, us, c, L, cur, hf, hlen, hdr, hwf, hev, hat, hcur, h, hO => by
    obtain ⟨k14, e2, k0, e7, hL⟩ := h.1.n4
    have hPs := h.1.2.2.2.2.2.2.1
    have e0 : ld σ (nx σ0) 0 = lref (nx σ0) 0 := by rw [e7 0 (by decide) (by decide)]; show _ = nx σ0 + 1; omega
    have hi : i = ps.length := by simpa using hlen
    have hmM : mm = M := hwf.1
    show Wp (b_X6_node n (b_X6_arrive n (f_X6_node n f)) (f_X6_steps n (b_X6_arrive n (f_X6_node n f)) 5) 1014 i σ) _
    unfold b_X6_node
    refine wp_gd k14 ?_
    rw [e2]
    refine wp_gd k0 ?_
    rw [e0]
    refine wp_gd (lsok_kd hL (by decide)) (wp_c1e (hL.size (by decide)) (wp_pos (by rw [hPs.1]; omega) (wp_gd k14 ?_)))
    rw [h.2.2.2.1]
    have eR : runC (run l) H [] cur env us = (0, [env]) := rfl
    rw [eR] at hO ⊢
    have hfull : ∀ y : Int, 0 ≤ y → y < M → env y ≠ -1 := fun y y0 y1 => ((hev y).2 y0 (by omega)).1
    rcases hH with ⟨hm, hH⟩ | ⟨hm, hH⟩
    · refine wp_neg (by omega) (wp_ok ?_)
      have ec : cU mode c (0, [env]) = c := by
        unfold cU
        rw [if_pos hm]
        show (if c + ((0 : Nat) : Int) ≤ 10001 then c + ((0 : Nat) : Int) else 10001) = c
        rw [if_pos (by have := hO.2.1; omega)]; omega
      have el : LU mode L (0, [env]) = L := by unfold LU; rw [if_pos hm]
      refine ⟨?_, MFr.rf⟩
      rw [ec, el]
      exact h
    · have hO3 : L.length + 1 ≤ 10000 := by
        rcases hO.2.2 with w | w
        · omega
        · exact w.2.2
      have hE : EvA σ (run l) K env M := ⟨h.2.1, fun y y0 y1 _ => ⟨fun hk => ((hev y).2 y0 (by omega)).2.1 hk, fun hk => ((hev y).2 y0 (by omega)).2.2 hk⟩⟩
      refine wp_pos hm (wp_gd k14 (wp_c0 (wp_mono (found_wp hn h.1 hE hfull hI hOd h8.2 h.2.2.2.2.2 (by omega)) fun σ1 h1 => wp_ok ?_)))
      obtain ⟨f1, f2, f3⟩ := h1
      have ec : cU mode c (0, [env]) = c := by unfold cU; rw [if_neg (by omega)]
      have el : LU mode L (0, [env]) = L ++ [env] := by unfold LU; rw [if_neg (by omega)]
      refine ⟨?_, f1⟩
      rw [ec, el]
      exact ⟨h.1.fr f1, fun y y0 y8 => (f3 _ _ (by omega) (by decide)).trans (h.2.1 y y0 y8), fun y y0 y1 => (f3 _ _ (by omega) (by decide)).trans (h.2.2.1 y y0 y1), (f3 _ _ (by omega) (by decide)).trans h.2.2.2.1, (f3 _ _ (by omega) (by decide)).trans h.2.2.2.2.1, f2⟩
  | p :: rest, i, f + 1, mm, σ, env, us, c, L, cur, hf, hlen, hdr, hwf, hev, hat, hcur, h, hO => by
    obtain ⟨k14, e2, k0, e7, hL⟩ := h.1.n4
    have hPs := h.1.2.2.2.2.2.2.1
    have hkd := h.1.2.2.2.1
    have hfd := h.1.2.2.2.2.1
    have hgv := h.1.gv
    have hlen' : i + (rest.length + 1) = ps.length := by simpa using hlen
    have hi : i < ps.length := by omega
    have hpi : ps.getD i p0 = p := by
      have := List.drop_eq_getElem_cons hi
      rw [hdr] at this
      rw [List.getD_eq_getElem?_getD, List.getElem?_eq_getElem hi]
      exact (List.cons.inj this).1.symm
    have hdr' : ps.drop (i + 1) = rest := by
      have := List.drop_eq_getElem_cons hi
      rw [hdr] at this
      exact (List.cons.inj this).2.symm
    have e0 : ld σ (nx σ0) 0 = lref (nx σ0) 0 := by rw [e7 0 (by decide) (by decide)]; show _ = nx σ0 + 1; omega
    have e1 : ld σ (nx σ0) 1 = lref (nx σ0) 1 := by rw [e7 1 (by decide) (by decide)]; show _ = nx σ0 + 2; omega
    obtain ⟨w0, m1, m2, wA, wB, wC, wD⟩ := hwf
    have hm2 : m2 ≤ M := (wD.congr (K' := fun k => K k = true) fun _ _ _ => Iff.rfl).1
    have hm01 : mm ≤ m1 := by rcases wB with ⟨-, w⟩ | ⟨-, -, -, w, -⟩ <;> omega
    have hm12 : m1 ≤ m2 := by rcases wC with ⟨-, w⟩ | ⟨-, -, -, w⟩ | ⟨-, -, w⟩ <;> omega
    have hm : mode = 1 ∨ mode = 0 := hH.imp (fun w => w.1) fun w => w.1
    have hpv : pV p = -1 ∨ (0 ≤ pV p ∧ pV p < M) := by
      rcases wC with ⟨w, -⟩ | ⟨w, w', -⟩ | ⟨w, -, w'⟩
      · exact Or.inl w
      · exact Or.inr ⟨w, by omega⟩
      · exact Or.inr ⟨by omega, by omega⟩
    -- the law of arrive at this part
    have arr : ∀ (σ : AS) (env' : Int → Int) (us : List Int) (c : Int) (L : List (Int → Int)) (x : Int), MS σ0 σ k l m S K ps cs its os M mode env' us c L → nodeAt (run l) x → EnvI (run l) (fun k => K k = true) m1 env' → Okc mode c L (arrC (run l) p H (runC (run l) H rest) x env' us) → Wp (b_X6_arrive n (f_X6_node n f) 1014 i x σ) (MP σ0 σ k l m S K ps cs its os M mode env' us c L (arrC (run l) p H (runC (run l) H rest) x env' us)) := fun σ env' us c L x h hx hev' hO => by
      refine lk_arrive (V := fun y e => nodeAt (run l) y ∧ EnvI (run l) (fun k => K k = true) m2 e) hn hW h8.1 ⟨hi, hps⟩ hpi hpv hM8 hH (fun y e hv => ?_) (fun σ2 env2 us2 c2 L2 cur2 s2 hO2 hat2 hv2 => ?_) h hx (fun hcan => ?_) hO
      · intro y y0 y1 hne
        have := (hv.2 y).1
        by_cases hy : y < m2
        · have z := (hv.2 y).2 y0 hy
          exact ⟨fun hk => z.2.1 hk, fun hk => z.2.2 hk⟩
        · exact absurd (this (Or.inr (by omega))) hne
      · have e1' : (i : Int) + 1 = ((i + 1 : Nat) : Int) := by omega
        rw [e1']
        refine lk_mnode hn hW h8 hM8 hps hI hOd hH (rest := rest) (i := i + 1) (f := f) (mm := m2) (by simp at hf; omega) (by omega) hdr' wD hv2.2 (fun _ => ?_) (Or.inl ⟨by omega, hv2.1⟩) s2 hO2
        rw [show ((i + 1 : Nat) : Int) - 1 = (i : Int) by omega]
        exact hat2
      · unfold canA at hcan
        rw [decide_eq_true_eq] at hcan
        exact ⟨hx, (wf_node (by omega) hev' wC hx hcan.1).2.1⟩
    show Wp (b_X6_node n (b_X6_arrive n (f_X6_node n f)) (f_X6_steps n (b_X6_arrive n (f_X6_node n f)) 5) 1014 i σ) _
    have hget := hL.get (i := 1) (by decide) (j := i) (by have := hPs.2.1; omega)
    rw [Int.toNat_natCast] at hget
    unfold b_X6_node
    refine wp_gd k14 ?_
    rw [e2]
    refine wp_gd k0 ?_
    rw [e0]
    refine wp_gd (lsok_kd hL (by decide)) (wp_c1e (hL.size (by decide)) (wp_neg (by rw [hPs.1]; omega) (wp_gd k14 ?_)))
    rw [e2]
    refine wp_gd k0 ?_
    rw [e1]
    refine wp_gd (lsok_kd hL (by decide)) (wp_c1e hget ?_)
    have hed := (hPs.2.2 i hi).2
    rw [hpi] at hed
    by_cases hp0 : pH p = 0
    · have hr0 : (S.2 1).getD i 0 = 0 := by
        rcases hed with ⟨-, w⟩ | ⟨⟨w, -⟩, -⟩
        · exact w
        · exact absurd hp0 w
      have em1 : m1 = mm := by
        rcases wB with ⟨-, w⟩ | ⟨w, -⟩
        · exact w
        · exact absurd hp0 w
      rw [hr0]
      have eR : runC (run l) H (p :: rest) cur env us = msum (fun x => arrC (run l) p H (runC (run l) H rest) x env us) (ndL (run l)) := by
        show (if pH p = 0 then _ else _) = _
        rw [if_pos hp0]
      rw [eR] at hO ⊢
      obtain ⟨nd1, nd2, nd3, nd4⟩ := (hPs.2.2 i hi).1
      rw [hpi] at nd3
      have hget0 := hL.get (i := 0) (by decide) (j := i) (by have := hPs.1; omega)
      rw [Int.toNat_natCast] at hget0
      have eV : f_X19_variable ((S.2 0).getD i 0) σ = some (pV p, σ) := by unfold f_X19_variable; rw [gd_pos nd1, nd3]
      refine wp_gd (Or.inl rfl) (wp_pos rfl (wp_gd k14 ?_))
      rw [e2]
      refine wp_gd k0 ?_
      rw [e0]
      refine wp_gd (lsok_kd hL (by decide)) (wp_c1e hget0 (wp_gd (Or.inr nd1) (wp_gd nd1 (wp_c1e eV ?_))))
      have all : Wp (b_X6_node_108 n (b_X6_arrive n (f_X6_node n f)) (f_X6_steps n (b_X6_arrive n (f_X6_node n f)) 5) 1014 i σ) (MP σ0 σ k l m S K ps cs its os M mode env us c L (msum (fun x => arrC (run l) p H (runC (run l) H rest) x env us) (ndL (run l)))) := by
        unfold b_X6_node_108
        have eN : msum (fun x => arrC (run l) p H (runC (run l) H rest) x env us) (ndL (run l)) = msum (fun x => if decide (gl (run l) x ≠ -1) = true then arrC (run l) p H (runC (run l) H rest) x env us else m0) ((nums 400).drop 0) := by
          rw [List.drop_zero]
          unfold ndL
          rw [msum_filter]
        rw [eN] at hO ⊢
        exact nodes_loop (n := n) (rS := f_X6_steps n (b_X6_arrive n (f_X6_node n f)) 5) (f := fun x => arrC (run l) p H (runC (run l) H rest) x env us) (fun σ c L x a b d => arr σ env us c L x a b (by rw [em1]; exact hev) d) (d := 400) (Q := n) (j := 0) (by decide) (by omega) h hO
      refine wp_ite (fun cv => all) fun cv => ?_
      have hv2 : 0 ≤ pV p ∧ pV p < M := hpv.resolve_left cv
      refine wp_gd k14 ?_
      rw [hfd.1.2.2.2.2.1]
      refine wp_gd ⟨hkd.1.2.2.2.2.2.2.2.1, hv2.1, by rw [hkd.2.2.2.2.2.2.1]; omega⟩ ?_
      rw [h.2.1 _ hv2.1 (by omega)]
      refine wp_ite (fun z => all) fun z => wp_gd k14 ?_
      refine wp_gd ⟨hkd.1.2.2.2.2.2.2.2.1, hv2.1, by rw [hkd.2.2.2.2.2.2.1]; omega⟩ (wp_gd k14 (wp_c0 ?_))
      -- the node is known
      have hxn : nodeAt (run l) (env (pV p)) := by
        have hlt : pV p < mm := by
          refine Classical.byContradiction fun w => z ((hev (pV p)).1 (Or.inr (by omega)))
        have hz := (hev (pV p)).2 hv2.1 hlt
        refine hz.2.2 ?_
        rcases wC with ⟨w, -⟩ | ⟨-, -, w, -⟩ | ⟨w, -, -⟩
        · exact absurd w cv
        · exact w
        · omega
      have eS : msum (fun x => arrC (run l) p H (runC (run l) H rest) x env us) (ndL (run l)) = arrC (run l) p H (runC (run l) H rest) (env (pV p)) env us := by
        refine msum_single ndL_nodup (mem_ndL.mpr hxn) fun y _ hyx => ?_
        unfold arrC
        rw [if_neg]
        unfold canA
        rw [decide_eq_true_eq]
        rintro ⟨w | w | w, -⟩
        · exact cv w
        · exact z w
        · exact hyx w.symm
      rw [eS] at hO ⊢
      exact wp_mono (arr σ env us c L _ h hxn (by rw [em1]; exact hev) hO) fun σ2 h2 => wp_ok h2
    · have hr : 0 < (S.2 1).getD i 0 ∧ kd σ ((S.2 1).getD i 0) = 14 := by
        rcases hed with ⟨w, -⟩ | ⟨⟨-, w⟩, w2, -⟩
        · exact absurd w hp0
        · exact ⟨w, w2⟩
      have hcn : 0 < i ∧ nodeAt (run l) cur := by
        rcases hcur with w | ⟨p', ps', w, w2⟩
        · exact w
        · rw [← (List.cons.inj w).1] at w2; exact absurd w2 hp0
      have eR : runC (run l) H (p :: rest) cur env us = stepsC (run l) p (arrC (run l) p H (runC (run l) H rest)) (pHi p) 0 cur env us := by
        show (if pH p = 0 then _ else _) = _
        rw [if_neg hp0]
      rw [eR] at hO ⊢
      obtain ⟨wA1, wA2, wA3⟩ := wA.resolve_left hp0
      refine wp_gd (Or.inr hr.2) (wp_neg (by omega) (wp_gd k14 ?_))
      rw [gI_pos (by omega), hfd.1.2.2.2.1]
      refine wp_gd ⟨hkd.1.2.2.2.2.2.2.1, by omega, by rw [hkd.2.2.2.2.2.1]; omega⟩ (wp_gd k14 ?_)
      rw [hat hcn.1]
      refine wp_c0 ?_
      have hpe : pE p ≠ -1 → pE p = mm ∧ K mm = true ∧ m1 = mm + 1 ∧ pLo p = 1 ∧ pHi p = 1 := fun hne => by
        rcases wB with ⟨w | w, -⟩ | ⟨-, w, w2, w3, w4, w5⟩
        · exact absurd w hp0
        · exact absurd w hne
        · exact ⟨w, w2, w3, w4, w5⟩
      have ST := lk_steps (n := n) (A := arrC (run l) p H (runC (run l) H rest)) (env0 := env) (rA := b_X6_arrive n (f_X6_node n f)) (mode := mode) hn hi hpi rfl hp0 hM8 hm wA3 wA1 (fun hne => by
          obtain ⟨a1, a2, a3, -⟩ := hpe hne
          exact ⟨⟨by omega, by omega⟩, by rw [a1]; exact (hev mm).1 (Or.inr (Int.le_refl _))⟩)
        (fun σ env' us c L x done s hO' hx hve hlo => by
          refine arr σ env' us c L x s hx ?_ hO'
          rcases hve with ⟨a, b⟩ | ⟨a, b1, b2, ⟨b3, b4⟩ | ⟨b3, e, he, b4⟩⟩
          · have : m1 = mm := by
              rcases wB with ⟨-, w⟩ | ⟨-, w, -⟩
              · exact w
              · omega
            rw [b, this]; exact hev
          · omega
          · obtain ⟨a1, a2, a3, a4, a5⟩ := hpe a
            exact (wf_edge (e := 0) (by omega) hev hp0 wB (Or.inr ⟨e, he, b4⟩)).2.1)
        (h := pHi p) (done := 0) (fuel := 5) (σ := σ) (env := env) (us := us) (c := c) (L := L) (u := cur) (by omega) (by omega) (by
          by_cases hne : pE p = -1
          · exact Or.inl ⟨hne, rfl⟩
          · obtain ⟨a1, a2, a3, a4, a5⟩ := hpe hne
            exact Or.inr ⟨hne, a4, a5, Or.inl ⟨rfl, rfl⟩⟩) h hcn.2 hO
      exact wp_mono ST fun σ2 h2 => wp_ok h2
end MI2
