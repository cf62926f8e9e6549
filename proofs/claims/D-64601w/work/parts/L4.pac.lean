/-! PATTERNS, side by side: all of them -/
set_option maxRecDepth 100000
/-- what the component reads behind the patterns -/
noncomputable def rdRest (n : Nat) (σ91 : AS) : Option (Int × AS) :=
  gd (kd σ91 1007 = 18) <|
      gd (kd σ91 (ld σ91 1007 1) = 12) <|
      gd (kd σ91 (ld σ91 (ld σ91 1007 1) 2) = 32) <|
      c1 (f_J33_size (ld σ91 (ld σ91 1007 1) 2) σ91) fun v97 σ98 =>
      gd (kd σ98 1007 = 18) <|
      c1 (f_X3_takes n 1007 39 σ98) fun v101 σ102 =>
      if v101 = 0 then (
        f_X3_read_80 n 1007 v97 σ102)
      else (
        gd (kd σ102 1007 = 18) <|
        c0 (f_X3_conditions n 1007 v97 σ102) fun σ107 =>
        f_X3_read_80 n 1007 v97 σ107)
theorem read_39_eq {n Q : Nat} {σ : AS} : f_X3_read_39 n (Q + 1) 1007 σ = gd (kd σ 1007 = 18) (c1 (f_X3_takes n 1007 37 σ) fun v90 σ91 => if v90 = 0 then rdRest n σ91 else gd (kd σ91 1007 = 18) (c0 (f_X3_pattern n 1007 σ91) fun σ111 => f_X3_read_39 n Q 1007 σ111)) := rfl
/-- what the twin does behind a pattern -/
noncomputable def twMore (n Q : Nat) (τ : TT) : Option (Int × TT) := if τ 1022 19 = 34 then g_X7_patternTexts_29 n (g_X7_patternTexts_2 n Q) 1022 1 τ else g_X7_patternTexts_29 n (g_X7_patternTexts_2 n Q) 1022 0 τ
theorem texts_2_eq {n Q : Nat} {τ : TT} : g_X7_patternTexts_2 n (Q + 1) 1022 1 τ = t1 (g_X7_pattern n 1022 τ) fun v17 τ18 => if v17 = 0 then some (0, τ18) else twMore n Q τ18 := by
  unfold g_X7_patternTexts_2
  rw [if_neg (by decide)]
  rfl
section PV
variable {σ σ0 σ' : AS} {τ τ0 τ' : TT} {n : Nat} {N0 U0 z z' k q q0 q' c p v l r C l1 l2 l3 l4 l5 l6 s0 e var x : Int} {T : List Int} {S : PS} {ps : List Part} {ops eo : List Op} {tl : Tl} {lo hi : Nat}
theorem lk_pattern (hn : 1000000 ≤ n) (hb : BtOk T) (h : ShP T N0 U0 σ 0 k q S) (hO : OPE T N0 σ τ q S ps ops [] 0 tl0) : Wp (f_X3_pattern n 1007 σ) fun σ' => Wp (g_X7_pattern n 1022 τ) fun w => PP T N0 U0 k σ τ q (ps ++ [p0]) σ' w := by
  have h7 := h.2.2.2.2.1
  have o1 := hO.1.1.1.1
  unfold f_X3_pattern g_X7_pattern
  refine wp_gd h7.1 (wp_pos o1 (wp_gd h7.1 ?_))
  have J : Wp (f_X3_node n 1007 0 σ) fun σ' => Wp (g_X7_nodeText n 1022 1 τ) fun w' => NP T N0 U0 0 k σ τ q ps σ' w' := lk_node (b := 1) hn hb h hO ⟨fun w => absurd w (by decide), fun w => absurd rfl w⟩ rfl
  refine wp_join0 J fun σ3 w3 h3 => ?_
  obtain ⟨g1, g2, g3⟩ := h3
  rcases g3 with ⟨x1, q2, S2, ps2, ops2, x2, x3, x4, x5⟩ | ⟨x1, S2, x2⟩
  · refine wp_swap (wp_neg (by omega) (wp_swap ?_))
    have c30 := x5.1.2.2.2.1.2
    refine wp_mono (lk_pat12 (m := 9) (Q := n) (Q' := n) hn hb (fun w => by rw [w] at x3; simp at x3) (by omega) (by omega) (by omega) (x4.mono (k' := k) (by omega)) x5) fun σ4 h4 => wp_mono h4 fun w4 hw4 => ?_
    obtain ⟨v1, v2, v3⟩ := hw4
    refine ⟨g1.v.trans v1, g2.trans v2, ?_⟩
    rcases v3 with ⟨y1, q3, S3, ps3, ops3, y2, y3, y4, y5⟩ | v3
    · exact Or.inl ⟨y1, q3, S3, ps3, ops3, by omega, by simp; omega, y4, y5⟩
    · exact Or.inr v3
  · refine wp_swap (wp_pos x1 (wp_ok ?_))
    obtain ⟨Q, hQ⟩ : ∃ Q, n = Q + 1 := ⟨n - 1, by omega⟩
    have e := x2.pat12 hn hb (Q := Q)
    rw [← hQ] at e
    exact wp_of_eq e ⟨g1.v, g2, Or.inr ⟨rfl, S2, x2.mono (by omega)⟩⟩
theorem FlR.read39 (hn : 1000000 ≤ n) (hb : BtOk T) (h : FlR T N0 U0 z k S σ τ) {Q : Nat} : f_X3_read_39 n (Q + 1) 1007 σ = rdRest n σ := by
  rw [read_39_eq, gd_pos h.g, h.takes hn hb (r := 37) (C := 34) (by decide) (by unfold spC; omega), c1_at, if_pos rfl]
theorem lk_more (hn : 1000000 ≤ n) (hb : BtOk T) {Kt : Int → TT → Option (Int × TT)} {R : Int × AS → Int × TT → Prop}
    (hk : ∀ σ' τ' q' S' ps' ops', ps' ≠ [] → ShP T N0 U0 σ' 0 k q' S' → OPE T N0 σ' τ' q' S' ps' ops' [] 0 tl0 → q0 ≤ q' → EfV N0 σ0 σ' → PtF τ0 τ' → Wp (rdRest n σ') fun a => Wp (Kt 1 τ') fun b => R a b)
    (hf : ∀ σ' τ' S', FlR T N0 U0 1 (k + 1) S' σ' τ' → EfV N0 σ0 σ' → PtF τ0 τ' → Wp (rdRest n σ') fun a => Wp (Kt 0 τ') fun b => R a b) :
    ∀ {m Q Q' : Nat} {σ : AS} {τ : TT} {q : Int} {S : PS} {ps : List Part} {ops : List Op}, ps ≠ [] → 13 - ps.length ≤ m → m < Q → m < Q' → ShP T N0 U0 σ 0 k q S → OPE T N0 σ τ q S ps ops [] 0 tl0 → q0 ≤ q → EfV N0 σ0 σ → PtF τ0 τ → Wp (f_X3_read_39 n Q 1007 σ) fun a => Wp (t1 (twMore n Q' τ) Kt) fun b => R a b
  | 0, _, _, σ, τ, q, S, ps, ops, _, hm, _, _, _, hO, _, _, _ => by have := hO.1.2.2.1; omega
  | m + 1, Q + 1, Q' + 1, σ, τ, q, S, ps, ops, hne, hm, hQ, hQ', h, hO, hq, hE, hF => by
    have h7 := h.2.2.2.2.1
    have o1 := hO.1.1.1.1
    have o2 := hO.1.1.1.2.1
    have hqn := nxq_le h
    rw [read_39_eq]
    unfold twMore g_X7_patternTexts_29
    refine wp_gd h7.1 ?_
    by_cases c : tkC T q = 34
    · refine wp_c1 (wp_mono (takes_yes hn hb h (r := 37) (C := 34) (by decide) (by unfold spC; omega) o1 c) fun y hy => ?_)
      obtain ⟨y1, y2, y3, y4⟩ := hy
      refine wp_neg (by omega) (wp_gd y2.2.2.2.2.1.1 ?_)
      rw [if_pos (by rw [o2.2.1]; exact c), if_neg (by decide)]
      refine wp_swap (wp_t1 (wp_t1 (wp_mono (ok_next hn hb h hO.1.1.1 y2 y4) fun w hw => ?_)))
      obtain ⟨w1, w2⟩ := hw
      rcases w2 with ⟨u1, u2⟩ | ⟨u1, u2⟩
      · refine wp_neg (by omega) ?_
        rw [texts_2_eq]
        refine wp_t1r (wp_swap ?_)
        have hO1 : OPE T N0 y.2 w.2 (nxq T q) S ps ops [] 0 tl0 := by
          obtain ⟨⟨hOA, hP, hl, h30, hS⟩, hT, hOps, hE', he, hlen, hW, hH⟩ := hO
          have kk : ∀ j, w.2 1036 j = τ 1036 j := fun j => w1 _ _ (by omega)
          have e30 : w.2 1022 30 = τ 1022 30 := w1 _ _ (by omega)
          refine ⟨⟨⟨u2, hOA.2.congr y3.2.1 kk⟩, hP.pf y3.1, ⟨hl.1, by rw [w1 _ _ (by omega)]; exact hl.2⟩, ⟨by rw [y4, e30]; exact h30.1, by rw [e30]; exact h30.2⟩, hS⟩, hT.congr (w1 _ _ (by omega)) fun j => w1 _ _ (by omega), hOps, hE'.pf y3.1, he.frame y3.1.1, by rw [e30]; exact hlen, fun h5 => ?_, hH⟩
          rw [y4] at h5
          simp only [kk]
          exact hW h5
        have J : Wp (f_X3_pattern n 1007 y.2) fun σ' => Wp (g_X7_pattern n 1022 w.2) fun w' => PP T N0 U0 k y.2 w.2 (nxq T q) (ps ++ [p0]) σ' w' := lk_pattern hn hb y2 hO1
        have hE1 := hE.trans y3.v
        have hF1 := hF.trans w1.pt
        have J2 : Wp (c0 (f_X3_pattern n 1007 y.2) fun σ111 => f_X3_read_39 n Q 1007 σ111) fun a => Wp (t1 (g_X7_pattern n 1022 w.2) fun v17 τ18 => if v17 = 0 then Kt 0 τ18 else t1 (twMore n Q' τ18) Kt) fun b => R a b := by
          refine wp_join0 J fun σ3 w3 h3 => ?_
          obtain ⟨v1, v2, v3⟩ := h3
          rcases v3 with ⟨x1, q3, S3, ps3, ops3, x2, x3, x4, x5⟩ | ⟨x1, S3, x2⟩
          · refine wp_swap (wp_neg (by omega) (wp_swap ?_))
            refine lk_more hn hb hk hf (m := m) (fun w => by rw [w] at x3; simp at x3) ?_ (by omega) (by omega) x4 x5 (by omega) (hE1.trans v1) (hF1.trans v2)
            simp at x3
            omega
          · refine wp_swap (wp_pos x1 (wp_swap ?_))
            obtain ⟨Q1, hQ1⟩ : ∃ Q1, Q = Q1 + 1 := ⟨Q - 1, by omega⟩
            subst hQ1
            rw [x2.read39 hn hb]
            exact hf σ3 w3.2 S3 x2 (hE1.trans v1) (hF1.trans v2)
        -- the twin's text, its cases within the continuation
        refine wp_mono J2 fun a ha => ?_
        obtain ⟨b, hb1, hb2⟩ := ha
        obtain ⟨v, s, e1, e2⟩ := t1_some hb1
        by_cases cv : v = 0
        · rw [if_pos cv] at e2
          exact ⟨b, by rw [e1, t1_at, if_pos cv, t1_at]; exact e2, hb2⟩
        · rw [if_neg cv] at e2
          exact ⟨b, by rw [e1, t1_at, if_neg cv]; exact e2, hb2⟩
      · refine wp_pos u1 (wp_ok ?_)
        refine wp_swap (wp_c0 (wp_mono (u2.pattern hn hb (by decide)) fun σ3 h3 => ?_))
        obtain ⟨⟨S3, f3⟩, E3⟩ := h3
        obtain ⟨Q1, hQ1⟩ : ∃ Q1, Q = Q1 + 1 := ⟨Q - 1, by omega⟩
        subst hQ1
        rw [f3.read39 hn hb]
        exact hf σ3 w.2 S3 (f3.mono (by omega)) (hE.trans (y3.trans E3).v) (hF.trans w1.pt)
    · rw [if_neg (by rw [o2.2.1]; exact c), if_pos rfl]
      refine wp_c1e (takes_no hn hb h (r := 37) (C := 34) (by decide) (by unfold spC; omega) fun _ => c) (wp_pos rfl ?_)
      have e : g_X7_patternTexts_2 n (Q' + 1) 1022 0 τ = some (1, τ) := by
        unfold g_X7_patternTexts_2
        rw [if_pos rfl]
      rw [e, t1_at]
      exact hk σ τ q S ps ops hne h hO hq hE hF
end PV
