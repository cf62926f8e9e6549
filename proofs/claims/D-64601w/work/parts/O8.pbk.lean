/-! THE MATCHER: steps -/
set_option maxRecDepth 100000
theorem outL_len {G : Gr} {u : Int} : (outL G u).length ≤ 1000 := by
  unfold outL
  refine Nat.le_trans (List.length_filter_le _ _) ?_
  unfold nums
  rw [List.length_map, List.length_range]
  exact Nat.le_refl _
theorem inL_len {G : Gr} {u : Int} : (inL G u).length ≤ 1000 := by
  unfold inL
  refine Nat.le_trans (List.length_filter_le _ _) ?_
  unfold nums
  rw [List.length_map, List.length_range]
  exact Nat.le_refl _
section MH2
variable {σ σ0 σ1 σ2 σ3 σ' : AS} {n M k i : Nat} {l : List Ch} {m r a : Int} {S : PS} {ps : List Part} {cs : List Cnd} {its : List Trm} {os : List Odr} {t : Trm} {K : Int → Bool} {env : Int → Int} {us : List Int} {mode c : Int} {L : List (Int → Int)} {p : Part} {v nn e u : Int} {dn : Int}
theorem MP.trans' {A B : MR} (h1 : MP σ0 σ k l m S K ps cs its os M mode env us c L A σ1) (h2 : MP σ0 σ1 k l m S K ps cs its os M mode env us (cU mode c A) (LU mode L A) B σ2) : MP σ0 σ k l m S K ps cs its os M mode env us c L (madd A B) σ2 := by
  obtain ⟨s, F⟩ := h2
  rw [cU_add, LU_add] at s
  exact ⟨s, h1.2.trans F⟩
theorem node_ref (h : MQs σ0 σ k l m S K ps cs its os M) (hF : MFr (nx σ0) σ σ') (v : Int) : ld σ' 1002 v = ld σ 1002 v := by
  have hx0 : 1054 ≤ nx σ := by have := h.2.1.1; have := h.1.2.2; omega
  have k1002 := h.gv.1.2.2.2.2.2.1
  exact (hF.old h.2.2.2.1 (show (1002 : Int) < nx σ by omega) (by rw [k1002]; decide)).2.2.2 v
theorem out_loop {f : Int → MR} {RB : MR} {rA : Int → Int → Int → AS → Option AS} {rSt : Int → Int → Int → Int → Int → Int → Int → AS → Option AS} {k93 : Int → Int → Int → Int → Int → Int → AS → Option AS} {Z : AS → Prop} {nr : Int} (hu : nodeAt (run l) u)
    (hSt : ∀ (σ : AS) (c : Int) (L : List (Int → Int)) (e : Int), MS σ0 σ k l m S K ps cs its os M mode env us c L → c ≤ 10000 → edgeAt (run l) e → Okc mode c L (f e) → Wp (rSt 1014 i u r dn e 1 σ) (MP σ0 σ k l m S K ps cs its os M mode env us c L (f e))) :
    ∀ {d Q j : Nat} {σ : AS} {c : Int} {L : List (Int → Int)}, j + d = (outL (run l) u).length → d < Q → MS σ0 σ k l m S K ps cs its os M mode env us c L → Okc mode c L (madd (msum f ((outL (run l) u).drop j)) RB) → ld σ 1002 u = nr → (∀ σ', MP σ0 σ k l m S K ps cs its os M mode env us c L (msum f ((outL (run l) u).drop j)) σ' → Wp (k93 1014 i u r dn nr σ') Z) → Wp (b_X6_steps_46 n rA rSt k93 Q 1014 i u r dn nr j σ) Z
  | d, 0, j, σ, c, L, _, hQ, _, _, _, _ => absurd hQ (by omega)
  | 0, Q + 1, j, σ, c, L, hd, _, h, hO, hnr, hZ => by
    obtain ⟨g1, g2, g3, g4⟩ := h.1.gv.2.1 u hu
    rw [hnr] at g1 g3
    unfold b_X6_steps_46
    refine wp_gd g1 (wp_gd g3.1 (wp_pos (by rw [g3.2.2.1]; omega) (hZ σ ?_)))
    rw [List.drop_of_length_le (by omega)]
    exact MP.stay h hO.2.1
  | d + 1, Q + 1, j, σ, c, L, hd, hQ, h, hO, hnr, hZ => by
    obtain ⟨g1, g2, g3, g4⟩ := h.1.gv.2.1 u hu
    rw [hnr] at g1 g3
    have hj : j < (outL (run l) u).length := by omega
    have hdr : (outL (run l) u).drop j = (outL (run l) u)[j] :: (outL (run l) u).drop (j + 1) := List.drop_eq_getElem_cons hj
    have hget := g3.2.2.2.2.2 j hj
    rw [List.getD_eq_getElem?_getD, List.getElem?_eq_getElem hj] at hget
    have hmem : (outL (run l) u)[j] ∈ outL (run l) u := List.getElem_mem hj
    generalize (outL (run l) u)[j] = e at *
    have hed : edgeAt (run l) e := by
      have := mem_outL.mp hmem
      exact ⟨this.1.1, this.1.2, this.2.1⟩
    have k14 := h.1.2.2.2.1.1.2.2.2.2.2.1
    have hOj := hO.up.1
    unfold b_X6_steps_46
    refine wp_gd g1 (wp_gd g3.1 (wp_neg (by rw [g3.2.2.1]; omega) (wp_gd k14 (wp_c1e (isFull_eq h) ?_))))
    by_cases hf : c ≤ 10000
    · rw [if_pos hf]
      refine wp_pos rfl (wp_gd g1 (wp_gd g3.1 (wp_gd ⟨g3.2.1, by omega, by have := g3.2.2.2.1; omega⟩ (wp_gd k14 ?_))))
      have hget' : ld σ (ld σ (ld σ nr 2) 0) j = e := hget
      rw [hget']
      rw [hdr] at hO hZ
      have hm : msum f (e :: (outL (run l) u).drop (j + 1)) = madd (f e) (msum f ((outL (run l) u).drop (j + 1))) := rfl
      rw [hm] at hO hZ
      rw [madd_assoc] at hO
      obtain ⟨hO1, hO2⟩ := hO.up
      refine wp_c0 (wp_mono (hSt σ c L e h hf hed hO1) fun σ1 h1 => ?_)
      rw [gI_pos (by have h9 := outL_len (G := run l) (u := u); omega), nm_eq]
      have e1 : (j : Int) + 1 = ((j + 1 : Nat) : Int) := by omega
      rw [e1]
      refine out_loop hu hSt (d := d) (Q := Q) (j := j + 1) (σ := σ1) (by omega) (by omega) h1.1 hO2 ((node_ref h.1 h1.2 u).trans hnr) fun σ2 h2 => hZ σ2 (h1.trans' h2)
    · rw [if_neg hf]
      exact wp_neg (by decide) (hZ σ (MP.full h hOj hf))
theorem in_loop {f : Int → MR} {rA : Int → Int → Int → AS → Option AS} {rSt : Int → Int → Int → Int → Int → Int → Int → AS → Option AS} {nr : Int} (hu : nodeAt (run l) u)
    (hSt : ∀ (σ : AS) (c : Int) (L : List (Int → Int)) (e : Int), MS σ0 σ k l m S K ps cs its os M mode env us c L → c ≤ 10000 → edgeAt (run l) e → Okc mode c L (f e) → Wp (rSt 1014 i u r dn e 0 σ) (MP σ0 σ k l m S K ps cs its os M mode env us c L (f e))) :
    ∀ {d Q j : Nat} {σ : AS} {c : Int} {L : List (Int → Int)}, j + d = (inL (run l) u).length → d < Q → MS σ0 σ k l m S K ps cs its os M mode env us c L → Okc mode c L (msum f ((inL (run l) u).drop j)) → ld σ 1002 u = nr → Wp (b_X6_steps_103 n rA rSt Q 1014 i u r dn nr j σ) (MP σ0 σ k l m S K ps cs its os M mode env us c L (msum f ((inL (run l) u).drop j)))
  | d, 0, j, σ, c, L, _, hQ, _, _, _ => absurd hQ (by omega)
  | 0, Q + 1, j, σ, c, L, hd, _, h, hO, hnr => by
    obtain ⟨g1, g2, g4, g3⟩ := h.1.gv.2.1 u hu
    rw [hnr] at g1 g3
    unfold b_X6_steps_103
    refine wp_gd g1 (wp_gd g3.1 (wp_pos (by rw [g3.2.2.1]; omega) (wp_ok ?_)))
    rw [List.drop_of_length_le (by omega)]
    exact MP.stay h hO.2.1
  | d + 1, Q + 1, j, σ, c, L, hd, hQ, h, hO, hnr => by
    obtain ⟨g1, g2, g4, g3⟩ := h.1.gv.2.1 u hu
    rw [hnr] at g1 g3
    have hj : j < (inL (run l) u).length := by omega
    have hdr : (inL (run l) u).drop j = (inL (run l) u)[j] :: (inL (run l) u).drop (j + 1) := List.drop_eq_getElem_cons hj
    have hget := g3.2.2.2.2.2 j hj
    rw [List.getD_eq_getElem?_getD, List.getElem?_eq_getElem hj] at hget
    have hmem : (inL (run l) u)[j] ∈ inL (run l) u := List.getElem_mem hj
    generalize (inL (run l) u)[j] = e at *
    have hed : edgeAt (run l) e := by
      have := mem_inL.mp hmem
      exact ⟨this.1.1, this.1.2, this.2.1⟩
    have k14 := h.1.2.2.2.1.1.2.2.2.2.2.1
    unfold b_X6_steps_103
    refine wp_gd g1 (wp_gd g3.1 (wp_neg (by rw [g3.2.2.1]; omega) (wp_gd k14 (wp_c1e (isFull_eq h) ?_))))
    by_cases hf : c ≤ 10000
    · rw [if_pos hf]
      refine wp_pos rfl (wp_gd g1 (wp_gd g3.1 (wp_gd ⟨g3.2.1, by omega, by have := g3.2.2.2.1; omega⟩ (wp_gd k14 ?_))))
      have hget' : ld σ (ld σ (ld σ nr 3) 0) j = e := hget
      rw [hget', hdr]
      rw [hdr] at hO
      have hm : msum f (e :: (inL (run l) u).drop (j + 1)) = madd (f e) (msum f ((inL (run l) u).drop (j + 1))) := rfl
      rw [hm] at hO ⊢
      obtain ⟨hO1, hO2⟩ := hO.up
      refine wp_c0 (wp_mono (hSt σ c L e h hf hed hO1) fun σ1 h1 => ?_)
      rw [gI_pos (by have h9 := inL_len (G := run l) (u := u); omega), nm_eq]
      have e1 : (j : Int) + 1 = ((j + 1 : Nat) : Int) := by omega
      rw [e1]
      refine wp_mono (in_loop hu hSt (d := d) (Q := Q) (j := j + 1) (σ := σ1) (by omega) (by omega) h1.1 hO2 ((node_ref h.1 h1.2 u).trans hnr)) fun σ2 h2 => h1.trans' h2
    · rw [if_neg hf]
      exact wp_neg (by decide) (wp_ok (MP.full h hO hf))
/-- a name's validity along the steps -/
def Ve (G : Gr) (p : Part) (env0 : Int → Int) (done : Nat) (env : Int → Int) : Prop := (pE p = -1 ∧ env = env0) ∨ (pE p ≠ -1 ∧ pLo p = 1 ∧ pHi p = 1 ∧ ((done = 0 ∧ env = env0) ∨ (done = 1 ∧ ∃ e, edgeAt G e ∧ env = bnd env0 (pE p) e)))
/-- what stands behind the arrival -/
def stT (G : Gr) (p : Part) (A : MK) (done : Nat) (u : Int) (env : Int → Int) (us : List Int) : Nat → MR
  | 0 => m0
  | h' + 1 => madd (if 0 ≤ pW p then msum (stepC G p (stepsC G p A h' (done + 1)) true env us) (outL G u) else m0) (if pW p ≤ 0 then msum (stepC G p (stepsC G p A h' (done + 1)) false env us) (inL G u) else m0)
theorem lk_steps {A : MK} {env0 : Int → Int} {rA : Int → Int → Int → AS → Option AS} (hn : 1000000 ≤ n) (hi : i < ps.length) (hp : ps.getD i p0 = p) (hr : (S.2 1).getD i 0 = r) (hHp : pH p ≠ 0) (hM8 : M ≤ 8) (hm : mode = 1 ∨ mode = 0) (hhi : pHi p ≤ 4) (hlo : 1 ≤ pLo p)
    (hE0 : pE p ≠ -1 → (0 ≤ pE p ∧ pE p < M) ∧ env0 (pE p) = -1)
    (hA : ∀ (σ : AS) (env : Int → Int) (us : List Int) (c : Int) (L : List (Int → Int)) (x : Int) (done : Nat), MS σ0 σ k l m S K ps cs its os M mode env us c L → Okc mode c L (A x env us) → nodeAt (run l) x → Ve (run l) p env0 done env → pLo p ≤ done → Wp (rA 1014 i x σ) (MP σ0 σ k l m S K ps cs its os M mode env us c L (A x env us))) :
    ∀ {h done fuel : Nat} {σ : AS} {env : Int → Int} {us : List Int} {c : Int} {L : List (Int → Int)} {u : Int}, h < fuel → done + h = pHi p → Ve (run l) p env0 done env → MS σ0 σ k l m S K ps cs its os M mode env us c L → nodeAt (run l) u → Okc mode c L (stepsC (run l) p A h done u env us) → Wp (f_X6_steps n rA fuel 1014 i u r done σ) (MP σ0 σ k l m S K ps cs its os M mode env us c L (stepsC (run l) p A h done u env us))
  | h, done, 0, σ, env, us, c, L, u, hf, _, _, _, _, _ => absurd hf (by omega)
  | h, done, fuel + 1, σ, env, us, c, L, u, hf, hdn, hve, hs, hu, hO => by
    -- what stands behind the arrival
    have part2 : ∀ (σ1 : AS) (c1' : Int) (L1 : List (Int → Int)) (B : MR), MS σ0 σ1 k l m S K ps cs its os M mode env us c1' L1 → Okc mode c1' L1 B → B = (stT (run l) p A done u env us h) → Wp (b_X6_steps_15 n rA (b_X6_step n (f_X6_steps n rA fuel)) 1014 i u r done σ1) (MP σ0 σ1 k l m S K ps cs its os M mode env us c1' L1 B) := fun σ1 c1' L1 B s1 hOB hB => by
      obtain ⟨r14, rE, rT, rW, rLo, rHi⟩ := s1.1.ed hi hp hr hHp
      have kd1 := s1.1.2.2.2.1
      have fd1 := s1.1.2.2.2.2.1
      have gv1 := s1.1.gv
      have eH : f_X20_high r σ1 = some ((pHi p : Int), σ1) := by unfold f_X20_high; rw [gd_pos r14, rHi]
      have eW : ∀ σ', MQs σ0 σ' k l m S K ps cs its os M → kd σ' r = 14 ∧ f_X20_way r σ' = some (pW p, σ') := fun σ' h' => by
        obtain ⟨q14, -, -, qW, -⟩ := h'.ed hi hp hr hHp
        exact ⟨q14, by unfold f_X20_way; rw [gd_pos q14, qW]⟩
      unfold b_X6_steps_15
      refine wp_gd r14 (wp_c1e eH ?_)
      cases h with
      | zero =>
        refine wp_pos (by omega) (wp_ok ?_)
        have hB0 : B = m0 := hB
        rw [hB0] at hOB ⊢
        exact MP.stay s1 hOB.2.1
      | succ h' =>
        have hB' : B = madd (if 0 ≤ pW p then msum (stepC (run l) p (stepsC (run l) p A h' (done + 1)) true env us) (outL (run l) u) else m0) (if pW p ≤ 0 then msum (stepC (run l) p (stepsC (run l) p A h' (done + 1)) false env us) (inL (run l) u) else m0) := hB
        have hE : pE p = -1 ∨ ((0 ≤ pE p ∧ pE p < M) ∧ env (pE p) = -1) := by
          rcases hve with ⟨a, b⟩ | ⟨a, b1, b2, ⟨b3, b4⟩ | ⟨b3, b4⟩⟩
          · exact Or.inl a
          · exact Or.inr (by rw [b4]; exact hE0 a)
          · omega
        have hveN : ∀ e, edgeAt (run l) e → Ve (run l) p env0 (done + 1) (bnd env (pE p) e) := fun e he => by
          rcases hve with ⟨a, b⟩ | ⟨a, b1, b2, ⟨b3, b4⟩ | ⟨b3, b4⟩⟩
          · refine Or.inl ⟨a, ?_⟩
            unfold bnd
            rw [if_pos a]; exact b
          · exact Or.inr ⟨a, b1, b2, Or.inr ⟨by omega, e, he, by rw [b4]⟩⟩
          · omega
        have hStep : ∀ (forth : Bool) (σ : AS) (c : Int) (L : List (Int → Int)) (e : Int), MS σ0 σ k l m S K ps cs its os M mode env us c L → c ≤ 10000 → edgeAt (run l) e → Okc mode c L (stepC (run l) p (stepsC (run l) p A h' (done + 1)) forth env us e) → Wp (b_X6_step n (f_X6_steps n rA fuel) 1014 i u r done e (if forth = true then 1 else 0) σ) (MP σ0 σ k l m S K ps cs its os M mode env us c L (stepC (run l) p (stepsC (run l) p A h' (done + 1)) forth env us e)) := fun forth σ2 c2 L2 e s2 hf2 he hO2 => by
          refine lk_step (Vs := fun _ env' => env' = bnd env (pE p) e) hi hp hr hHp hM8 hm (by omega) hE (fun σ3 env3 us3 c3 L3 x s3 hO3 hx hv3 => ?_) s2 hf2 he (fun _ => rfl) hO2
          have e1 : (done : Int) + 1 = ((done + 1 : Nat) : Int) := by omega
          rw [e1]
          exact lk_steps hn hi hp hr hHp hM8 hm hhi hlo hE0 hA (h := h') (done := done + 1) (fuel := fuel) (by omega) (by omega) (by rw [hv3]; exact hveN e he) s3 hx hO3
        refine wp_neg (by omega) (wp_gd kd1.1.2.2.2.2.2.1 ?_)
        rw [fd1.1.1]
        refine wp_gd gv1.1.2.2.1 ?_
        rw [gv1.1.2.2.2.1]
        refine wp_gd ⟨gv1.1.2.2.2.2.2.1, hu.1, by rw [gv1.1.2.2.2.2.2.2.1]; exact hu.2.1⟩ (wp_nm0 (wp_gd r14 (wp_c1e (eW σ1 s1.1).2 ?_)))
        have h9o := outL_len (G := run l) (u := u)
        have h9i := inL_len (G := run l) (u := u)
        have inP : ∀ (σ2 : AS) (c2 : Int) (L2 : List (Int → Int)), MS σ0 σ2 k l m S K ps cs its os M mode env us c2 L2 → ld σ2 1002 u = ld σ1 1002 u → Okc mode c2 L2 (if pW p ≤ 0 then msum (stepC (run l) p (stepsC (run l) p A h' (done + 1)) false env us) (inL (run l) u) else m0) → Wp (b_X6_steps_93 n rA (b_X6_step n (f_X6_steps n rA fuel)) 1014 i u r done (ld σ1 1002 u) σ2) (MP σ0 σ2 k l m S K ps cs its os M mode env us c2 L2 (if pW p ≤ 0 then msum (stepC (run l) p (stepsC (run l) p A h' (done + 1)) false env us) (inL (run l) u) else m0)) := fun σ2 c2 L2 s2 hnr hO2 => by
          unfold b_X6_steps_93
          refine wp_gd (eW σ2 s2.1).1 (wp_c1e (eW σ2 s2.1).2 ?_)
          by_cases cw : 0 < pW p
          · rw [if_neg (show ¬ pW p ≤ 0 by omega)] at hO2 ⊢
            exact wp_pos cw (wp_ok (MP.stay s2 hO2.2.1))
          · rw [if_pos (show pW p ≤ 0 by omega)] at hO2 ⊢
            refine wp_neg cw ?_
            have := in_loop (n := n) (rA := rA) (f := stepC (run l) p (stepsC (run l) p A h' (done + 1)) false env us) (rSt := b_X6_step n (f_X6_steps n rA fuel)) hu (fun σ c L e a b c' d => hStep false σ c L e a b c' d) (d := (inL (run l) u).length) (Q := n) (j := 0) (by omega) (by omega) s2 hO2 hnr
            exact this
        rw [hB'] at hOB ⊢
        by_cases cw : pW p < 0
        · rw [if_neg (show ¬ 0 ≤ pW p by omega), zero_madd] at hOB ⊢
          exact wp_pos cw (inP σ1 c1' L1 s1 rfl hOB)
        · rw [if_pos (show 0 ≤ pW p by omega)] at hOB ⊢
          refine wp_neg cw ?_
          have hOB2 := hOB.up.2
          refine out_loop (n := n) (f := stepC (run l) p (stepsC (run l) p A h' (done + 1)) true env us) hu (fun σ c L e a b c' d => hStep true σ c L e a b c' d) (d := (outL (run l) u).length) (Q := n) (j := 0) (by omega) (by omega) s1 hOB rfl fun σ2 h2 => ?_
          refine wp_mono (inP σ2 _ _ h2.1 (node_ref s1.1 h2.2 u) hOB2) fun σ3 h3 => h2.trans' h3
    have eS : stepsC (run l) p A h done u env us = madd (if pLo p ≤ done then A u env us else m0) (stT (run l) p A done u env us h) := by
      cases h with
      | zero =>
        show (if pLo p ≤ done then A u env us else m0) = madd _ m0
        rw [madd_zero]
      | succ h' => rfl
    rw [eS] at hO ⊢
    obtain ⟨hO1, hO2⟩ := hO.up
    obtain ⟨r14, rE, rT, rW, rLo, rHi⟩ := hs.1.ed hi hp hr hHp
    have eLo : f_X20_low r σ = some ((pLo p : Int), σ) := by unfold f_X20_low; rw [gd_pos r14, rLo]
    show Wp (b_X6_steps n rA (b_X6_step n (f_X6_steps n rA fuel)) 1014 i u r done σ) _
    unfold b_X6_steps
    refine wp_gd r14 (wp_c1e eLo ?_)
    by_cases cl : pLo p ≤ done
    · rw [if_pos cl] at hO1 hO2 ⊢
      refine wp_neg (by omega) (wp_gd hs.1.2.2.2.1.1.2.2.2.2.2.1 (wp_c0 (wp_mono (hA σ env us c L u done hs hO1 hu hve cl) fun σ1 h1 => ?_)))
      exact wp_mono (part2 σ1 _ _ _ h1.1 hO2 rfl) fun σ2 h2 => h1.trans' h2
    · rw [if_neg cl] at hO1 hO2 ⊢
      rw [cU_m0 hO1.2.1, LU_m0] at hO2
      rw [zero_madd]
      exact wp_pos (by omega) (part2 σ c L _ hs hO2 rfl)
end MH2
