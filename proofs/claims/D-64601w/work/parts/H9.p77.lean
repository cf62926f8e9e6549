/-! THE COMPONENT'S LEXER: words, numbers, blanks, the next token -/
set_option maxRecDepth 100000
section CU
variable {σ σ0 : AS} {n : Nat} {x a b c d s q e p : Int} {l m T : List Int}
/-- only numbers of x were written -/
def OnX (σ0 σ : AS) (x : Int) : Prop := Fr (fun r => r = x) σ0 σ ∧ nx σ = nx σ0 ∧ us σ = us σ0
theorem OnX.rf : OnX σ σ x := ⟨Fr.rf, rfl, rfl⟩
theorem OnX.w {j v : Int} (h : OnX σ0 σ x) : OnX σ0 (wr σ x j v) x := ⟨h.1.trans (Fr.wr rfl), h.2.1, h.2.2⟩
theorem NxC.pre {σ' : AS} (h : NxC σ x T q σ') (hO : OnX σ0 σ x) : NxC σ0 x T q σ' := by
  obtain ⟨a1, a2, a3, a4, a5⟩ := h
  obtain ⟨o1, o2, o3⟩ := hO
  exact ⟨a1, o1.trans a2, by omega, by omega, fun z1 z2 z3 => by have := a5 z1 z2 z3; omega⟩
theorem c_word_loop (hn : 1000000 ≤ n) (hb : BtOk T) (hK : KS σ0) (hx : 1000 ≤ x) (h0 : 0 ≤ q ∧ q < T.length) (hs : isSm (bt T q) = true) : ∀ (m : Nat) (p : Int) (f : Nat) (σ : AS), m < f → p + m = wdE T q → q + 1 ≤ p → TxOk σ x T → ld σ x 2 = q → ld σ x 3 = p → OnX σ0 σ x → Wp (f_X4_next_146 n f x σ) (NxC σ0 x T q)
  | m, p, 0, σ, hf, _, _, _, _, _, _ => absurd hf (by omega)
  | m, p, f + 1, σ, hf, hm, hp, hT, hq, he, hO => by
    have hl := hb.1
    have hle := wdE_le h0.2
    have hin : ∀ i, q + 1 ≤ i → i < wdE T q → isWd (bt T i) = true := fun i a b => adv_in (P := fun i => isWd (bt T i)) a b
    unfold f_X4_next_146
    refine wp_gd hT.1 (wp_gd hT.1 ?_)
    rw [he]
    refine wp_c1e (c_at_eq hT (by omega)) (wp_c1e c_isSmall_eq ?_)
    have step : p < wdE T q → Wp (f_X4_next_174 n (f_X4_next_146 n f) x σ) (NxC σ0 x T q) := fun z => by
      cases m with
      | zero => omega
      | succ m =>
        unfold f_X4_next_174
        rw [he]
        exact wp_gd hT.1 (wp_gI (by omega) (wp_gd hT.1 (wp_nm0 (c_word_loop hn hb hK hx h0 hs m (p + 1) f _ (by omega) (by omega) (by omega) (hT.sw (by decide)) (by rw [ld_wr, if_neg (by omega)]; exact hq) (by rw [ld_wr, if_pos ⟨rfl, rfl⟩]) hO.w))))
    have stop : isWd (bt T p) ≠ true → p = wdE T q := fun z => by
      apply Classical.byContradiction
      intro w
      exact z (hin p hp (by omega))
    have go : isWd (bt T p) = true → p < wdE T q := fun z => by
      apply Classical.byContradiction
      intro w
      have e : p = wdE T q := by omega
      by_cases c : wdE T q < T.length
      · exact advT_out (P := fun i => isWd (bt T i)) (L := T.length) (p := q + 1) (by omega) c (by show isWd (bt T (wdE T q)) = true; rw [← e]; exact z)
      · rw [e, bt_out (by omega)] at z; exact absurd z (by decide)
    by_cases c1 : isSm (bt T p) = true
    · rw [if_pos c1]
      exact wp_neg (by decide) (step (go (by unfold isWd; rw [c1]; rfl)))
    · rw [if_neg c1]
      refine wp_pos rfl (wp_gd hT.1 (wp_gd hT.1 ?_))
      rw [he]
      refine wp_c1e (c_at_eq hT (by omega)) (wp_c1e c_isDigit_eq ?_)
      by_cases c2 : isDg (bt T p) = true
      · rw [if_pos c2]
        exact wp_neg (by decide) (step (go (by unfold isWd; rw [c2, Bool.or_true])))
      · rw [if_neg c2]
        have e := stop (by unfold isWd; rw [ne_eq, Bool.or_eq_true]; exact fun z => z.elim c1 c2)
        have hw : ∀ i, q ≤ i → i < wdE T q → 0 ≤ bt T i := fun i a b => by
          by_cases z : i = q
          · have := isSm_iff.mp hs; rw [z]; omega
          · have := isWd_iff.mp (hin i (by omega) b); omega
        have eC : tkC T q = wcode (slc T q (wdE T q)) := by
          unfold tkC; rw [if_neg (by omega), if_pos hs]
        have eE : tkE T q = wdE T q := by
          unfold tkE; rw [if_neg (by omega), if_pos hs]
        refine wp_pos rfl (wp_gd hT.1 (wp_c1 (wp_mono (piece_wp hn hb (e := wdE T q) ⟨h0.1, by omega⟩ hle.2 hw hT hq (by rw [he, e])) fun y hy => ?_)))
        obtain ⟨⟨p1, p2, p3, p4, p5, p6⟩, p7⟩ := hy
        obtain ⟨o1, o2, o3⟩ := hO
        have hxn := hT.2.2.2.2.2.1
        have hT2 : TxOk y.2 x T := hT.al (T := T) (S := fun _ => False) p6
        refine wp_gd hT2.1 (wp_nm0 ?_)
        generalize hσ3 : wr y.2 x 5 y.1 = σ3
        have hT3 : TxOk σ3 x T := by rw [← hσ3]; exact hT2.sw (by decide)
        have F3 : Fr (fun r => r = x) σ0 σ3 := by
          rw [← hσ3]
          exact (o1.trans (p6.sub fun _ _ z => absurd z id)).trans (Fr.wr rfl)
        have r2 : ld σ3 x 2 = q := by rw [← hσ3, ld_wr, if_neg (by omega), p6.ld hxn (fun z => z)]; exact hq
        have r3 : ld σ3 x 3 = wdE T q := by rw [← hσ3, ld_wr, if_neg (by omega), p6.ld hxn (fun z => z)]; omega
        have r5 : ld σ3 x 5 = y.1 := by rw [← hσ3, ld_wr, if_pos ⟨rfl, rfl⟩]
        have n3 : nx σ3 = nx y.2 := by rw [← hσ3]; rfl
        have u3 : us σ3 = us y.2 := by rw [← hσ3]; rfl
        have str : StrN σ3 y.1 (slc T q (wdE T q)) := by
          rw [← hσ3]
          have hn1 := hT.2.2.2.2.2.1
          exact p7.frame (S := fun r => r = x) (Fr.wr rfl) p2 (by omega) (by omega)
        have K3 : KS σ3 := hK.frame F3 (fun r hr z => by omega)
        refine wp_gd hT3.1 ?_
        rw [r5]
        have hlen : ((slc T q (wdE T q)).length : Int) = wdE T q - q := slc_len h0.1 (by omega) hle.2
        refine wp_c1e (c_isWord_eq hn K3 str.1 str.2.1.1 (by omega)) ?_
        rw [← eC]
        have rng : tkC T q = 1 ∨ (10 ≤ tkC T q ∧ tkC T q ≤ 20) := by rw [eC]; exact wcode_rng
        have fin : ∀ v, v = kdOf (tkC T q) → NxC σ0 x T q (wr σ3 x 4 v) := fun v hv => by
          refine ⟨⟨hT3.sw (by decide), ?_, ?_, ?_, fun z => by omega, fun z1 z2 z3 => ⟨?_, ?_⟩, h0.1, by omega⟩, F3.trans (Fr.wr rfl), ?_, ?_, fun _ _ _ => ?_⟩
          · rw [ld_wr, if_neg (by omega)]; exact r2
          · rw [ld_wr, if_neg (by omega), eE]; exact r3
          · rw [ld_wr, if_pos ⟨rfl, rfl⟩]; exact hv
          · rw [ld_wr, if_neg (by omega), r5, eE]
            exact (str.frame (S := fun r => r = x) (Fr.wr rfl) (by omega) (by omega) (by omega)).h
          · show ld (wr σ3 x 4 v) x 5 + 1 < nx σ3
            rw [ld_wr, if_neg (by omega), r5]; omega
          · show nx σ3 ≤ _; omega
          · show us σ3 ≤ _; omega
          · rw [ld_wr, if_neg (by omega), r5]; omega
        by_cases cw : tkC T q = 1
        · rw [if_pos cw]
          refine wp_pos rfl (wp_gd hT3.1 (wp_nm0 (wp_ok (fin _ ?_))))
          rw [cw]; rfl
        · rw [if_neg cw]
          refine wp_neg (by decide) (wp_gd hT3.1 (wp_nm0 (wp_ok (fin _ ?_))))
          unfold kdOf
          rw [if_neg (by omega), if_neg cw, if_neg (by omega), if_neg (by omega), if_pos (by omega)]
theorem c_num_291 {neg : Int} (hn : 1000000 ≤ n) (hb : BtOk T) (hx : 1000 ≤ x) (hT : TxOk σ x T) (h0 : 0 ≤ q ∧ q < T.length) (hN : nmB T q = true) (hsm : isSm (bt T q) ≠ true) (h2 : ld σ x 2 = q) (h3 : ld σ x 3 = nmE T q) (hneg : neg = if bt T q = 45 then 1 else 0) (hO : OnX σ0 σ x) : Wp (f_X4_next_291 n x x neg σ) (NxC σ0 x T q) := by
  have hle := nmE_le h0.2
  have eC : tkC T q = if -2147483648 ≤ nmA T q ∧ nmA T q ≤ 2147483647 then 2 else 50 := by
    unfold tkC; rw [if_neg (by omega), if_neg hsm, if_pos hN]
  have eE : tkE T q = nmE T q := by
    unfold tkE; rw [if_neg (by omega), if_neg hsm, if_pos hN]
  unfold f_X4_next_291
  refine wp_gd hT.1 (wp_c1 (wp_mono (readNumber_wp hn hb hT h0 hN h2 h3 hneg) fun y hy => ?_))
  obtain ⟨y1, y2, y3, y4, y5, y6⟩ := hy
  obtain ⟨o1, o2, o3⟩ := hO
  have hT2 : TxOk y.2 x T := hT.keep y3 (fun j hj => y6 j (by omega)) (fun z => hT.2.2.2.2.2.2.2.2 z)
  have fin : y.1 = kdOf (tkC T q) → (tkC T q = 2 → ld y.2 x 6 = nmA T q) → (tkC T q = 2 ∨ tkC T q = 50) → Wp (some (wr y.2 x 4 y.1)) (NxC σ0 x T q) := fun z1 z2 z3 => by
    refine wp_ok ⟨⟨hT2.sw (by decide), ?_, ?_, ?_, fun z => ?_, fun w1 w2 w3 => by omega, h0.1, by omega⟩, (o1.trans y3).trans (Fr.wr rfl), ?_, ?_, fun w1 w2 w3 => by omega⟩
    · rw [ld_wr, if_neg (by omega), y6 2 (by decide)]; exact h2
    · rw [ld_wr, if_neg (by omega), y6 3 (by decide), eE]; exact h3
    · rw [ld_wr, if_pos ⟨rfl, rfl⟩]; exact z1
    · rw [ld_wr, if_neg (by omega)]; exact z2 z
    · show nx y.2 ≤ _; omega
    · show us y.2 ≤ _; omega
  refine wp_gd hT2.1 (wp_nm0 ?_)
  by_cases ok : nmOk (nmA T q)
  · have e2 : tkC T q = 2 := by rw [eC]; exact if_pos ok
    exact fin (by rw [e2, (y1 ok).1]; rfl) (fun _ => (y1 ok).2) (Or.inl e2)
  · have e2 : tkC T q = 50 := by rw [eC]; exact if_neg ok
    exact fin (by rw [e2, y2 ok]; rfl) (fun z => by omega) (Or.inr e2)
theorem c_num_loop (hn : 1000000 ≤ n) (hb : BtOk T) (hx : 1000 ≤ x) (h0 : 0 ≤ q ∧ q < T.length) (hN : nmB T q = true) (hsm : isSm (bt T q) ≠ true) : ∀ (m : Nat) (p : Int) (f : Nat) (σ : AS), m < f → p + m = nmE T q → q + 1 ≤ p → TxOk σ x T → ld σ x 2 = q → ld σ x 3 = p → OnX σ0 σ x → Wp (f_X4_next_251 n f x (bt T q) σ) (NxC σ0 x T q)
  | m, p, 0, σ, hf, _, _, _, _, _, _ => absurd hf (by omega)
  | m, p, f + 1, σ, hf, hm, hp, hT, hq, he, hO => by
    have hl := hb.1
    have hle := nmE_le h0.2
    have hin : ∀ i, q + 1 ≤ i → i < nmE T q → isDg (bt T i) = true := fun i a b => adv_in (P := fun i => isDg (bt T i)) a b
    unfold f_X4_next_251
    refine wp_gd hT.1 (wp_gd hT.1 ?_)
    rw [he]
    refine wp_c1e (c_at_eq hT (by omega)) (wp_c1e c_isDigit_eq ?_)
    by_cases c1 : isDg (bt T p) = true
    · rw [if_pos c1]
      refine wp_neg (by decide) ?_
      have hlt : p < nmE T q := by
        apply Classical.byContradiction
        intro w
        have e : p = nmE T q := by omega
        by_cases c : nmE T q < T.length
        · exact advT_out (P := fun i => isDg (bt T i)) (L := T.length) (p := q + 1) (by omega) c (by show isDg (bt T (nmE T q)) = true; rw [← e]; exact c1)
        · rw [e, bt_out (by omega)] at c1; exact absurd c1 (by decide)
      cases m with
      | zero => omega
      | succ m =>
        rw [he]
        exact wp_gd hT.1 (wp_gI (by omega) (wp_gd hT.1 (wp_nm0 (c_num_loop hn hb hx h0 hN hsm m (p + 1) f _ (by omega) (by omega) (by omega) (hT.sw (by decide)) (by rw [ld_wr, if_neg (by omega)]; exact hq) (by rw [ld_wr, if_pos ⟨rfl, rfl⟩]) hO.w))))
    · rw [if_neg c1]
      have e : p = nmE T q := by
        apply Classical.byContradiction
        intro w
        exact c1 (hin p hp (by omega))
      refine wp_pos rfl (wp_ite (fun z => ?_) fun z => ?_)
      · exact c_num_291 hn hb hx hT h0 hN hsm hq (he.trans e) (by rw [if_pos z]) hO
      · exact c_num_291 hn hb hx hT h0 hN hsm hq (he.trans e) (by rw [if_neg z]) hO
theorem c_next_84 (hn : 1000000 ≤ n) (hb : BtOk T) (hK : KS σ0) (hx : 1000 ≤ x) (hT : TxOk σ x T) (h0 : 0 ≤ q ∧ q ≤ T.length) (h2 : ld σ x 2 = q) (hO : OnX σ0 σ x) : Wp (f_X4_next_84 n x σ) (NxC σ0 x T q) := by
  have hl := hb.1
  unfold f_X4_next_84
  refine wp_gd hT.1 (wp_gd hT.1 (wp_nm0 ?_))
  rw [h2]
  refine wp_gd (hT.sw (by decide)).1 (wp_nm0 ?_)
  generalize hσ1 : wr (wr σ x 3 q) x 5 75 = σ1
  have hT1 : TxOk σ1 x T := by rw [← hσ1]; exact (hT.sw (by decide)).sw (by decide)
  have O1 : OnX σ0 σ1 x := by rw [← hσ1]; exact hO.w.w
  have r2 : ld σ1 x 2 = q := by rw [← hσ1, ld_wr, if_neg (by omega), ld_wr, if_neg (by omega)]; exact h2
  have r3 : ld σ1 x 3 = q := by rw [← hσ1, ld_wr, if_neg (by omega), ld_wr, if_pos ⟨rfl, rfl⟩]
  have K1 : KS σ1 := hK.frame O1.1 (fun r hr z => by omega)
  refine wp_gd hT1.1 (wp_gd hT1.1 ?_)
  rw [r2]
  refine wp_c1e (c_at_eq hT1 h0.1) (wp_gd hT1.1 ?_)
  rw [r2]
  refine wp_gI (by omega) (wp_gd hT1.1 (wp_c1e (c_at_eq hT1 (by omega)) (wp_gd hT1.1 (wp_gd hT1.1 ?_))))
  rw [r2, hT1.2.1]
  refine wp_ite (fun hlt => ?_) fun hge => ?_
  · refine wp_c1e c_isSmall_eq ?_
    by_cases cs : isSm (bt T q) = true
    · rw [if_pos cs]
      have hle := wdE_le hlt
      refine wp_neg (by decide) ?_
      have st : Wp (f_X4_next_146 n n x σ1) (NxC σ0 x T q) := by
        obtain ⟨n', rfl⟩ : ∃ z, n = z + 1 := ⟨n - 1, by omega⟩
        unfold f_X4_next_146
        refine wp_gd hT1.1 (wp_gd hT1.1 ?_)
        rw [r3]
        refine wp_c1e (c_at_eq hT1 h0.1) (wp_c1e c_isSmall_eq ?_)
        rw [if_pos cs]
        refine wp_neg (by decide) ?_
        unfold f_X4_next_174
        rw [r3]
        exact wp_gd hT1.1 (wp_gI (by omega) (wp_gd hT1.1 (wp_nm0 (c_word_loop hn hb hK hx ⟨h0.1, hlt⟩ cs (wdE T q - (q + 1)).toNat (q + 1) n' _ (by omega) (by omega) (by omega) (hT1.sw (by decide)) (by rw [ld_wr, if_neg (by omega)]; exact r2) (by rw [ld_wr, if_pos ⟨rfl, rfl⟩]) O1.w))))
      exact st
    rw [if_neg cs]
    refine wp_pos rfl (wp_c1e c_isDigit_eq ?_)
    have figs : nmB T q = true → Wp (f_X4_next_241 n x (bt T q) σ1) (NxC σ0 x T q) := fun hN => by
      have hle := nmE_le hlt
      unfold f_X4_next_241
      rw [r3]
      exact wp_gd hT1.1 (wp_gI (by omega) (wp_gd hT1.1 (wp_nm0 (c_num_loop hn hb hx ⟨h0.1, hlt⟩ hN cs (nmE T q - (q + 1)).toNat (q + 1) n _ (by omega) (by omega) (by omega) (hT1.sw (by decide)) (by rw [ld_wr, if_neg (by omega)]; exact r2) (by rw [ld_wr, if_pos ⟨rfl, rfl⟩]) O1.w))))
    have sgns : nmB T q ≠ true → Wp (f_X4_next_300 n x (bt T q) (bt T (q + 1)) σ1) (NxC σ0 x T q) := fun hN => by
      have eC : tkC T q = sgn (bt T q) (bt T (q + 1)) := by
        unfold tkC; rw [if_neg (by omega), if_neg cs, if_neg hN]
      have eE : tkE T q = if sgn2 (bt T q) (bt T (q + 1)) = 0 then q + 1 else q + 2 := by
        unfold tkE; rw [if_neg (by omega), if_neg cs, if_neg hN]
      unfold f_X4_next_300
      exact wp_gd hT1.1 (wp_c0 (wp_mono (sign_wp hn hb K1 hx hT1 ⟨h0.1, hlt⟩ r2 eC eE) fun σ' h' => wp_ok (h'.pre O1)))
    by_cases cd : isDg (bt T q) = true
    · rw [if_pos cd]
      exact wp_neg (by decide) (figs (by unfold nmB; rw [cd]; rfl))
    rw [if_neg cd]
    refine wp_pos rfl (wp_ite (fun z => ?_) fun z => ?_)
    · refine wp_c1e c_isDigit_eq ?_
      by_cases cd2 : isDg (bt T (q + 1)) = true
      · rw [if_pos cd2]
        exact wp_neg (by decide) (figs (by unfold nmB; rw [Bool.or_eq_true, Bool.and_eq_true, decide_eq_true_iff]; exact Or.inr ⟨z, cd2⟩))
      · rw [if_neg cd2]
        exact wp_pos rfl (sgns (by unfold nmB; rw [ne_eq, Bool.or_eq_true, Bool.and_eq_true]; exact fun w => w.elim cd fun y => cd2 y.2))
    · exact sgns (by unfold nmB; rw [ne_eq, Bool.or_eq_true, Bool.and_eq_true, decide_eq_true_iff]; exact fun w => w.elim cd fun y => z y.1)
  · have eC : tkC T q = 0 := by unfold tkC; rw [if_pos (by omega)]
    have eE : tkE T q = q := by unfold tkE; rw [if_pos (by omega)]
    obtain ⟨o1, o2, o3⟩ := O1
    refine wp_gd hT1.1 (wp_nm0 (wp_ok ⟨⟨hT1.sw (by decide), ?_, ?_, ?_, fun z => by omega, fun z => absurd eC z, h0.1, h0.2⟩, o1.trans (Fr.wr rfl), ?_, ?_, fun z => absurd eC z⟩))
    · rw [ld_wr, if_neg (by omega)]; exact r2
    · rw [ld_wr, if_neg (by omega), eE]; exact r3
    · rw [ld_wr, if_pos ⟨rfl, rfl⟩, eC]; rfl
    · show nx σ1 ≤ _; omega
    · show us σ1 ≤ _; omega
theorem c_skip_loop (hn : 1000000 ≤ n) (hb : BtOk T) (hK : KS σ0) (hx : 1000 ≤ x) (hp : 0 ≤ q) : ∀ (m : Nat) (p : Int) (f : Nat) (σ : AS), m < f → p + m = tkB T q → q ≤ p → p ≤ T.length → tkB T q ≤ T.length → TxOk σ x T → ld σ x 2 = p → OnX σ0 σ x → Wp (f_X4_next_8 n f x σ) (NxC σ0 x T (tkB T q))
  | m, p, 0, σ, hf, _, _, _, _, _, _, _ => absurd hf (by omega)
  | m, p, f + 1, σ, hf, hm, hqp, hpl, hBl, hT, h2, hO => by
    have hl := hb.1
    have hin : ∀ i, q ≤ i → i < tkB T q → isWh (bt T i) = true := fun i a b => adv_in (P := fun i => isWh (bt T i)) a b
    have hout : tkB T q < T.length → isWh (bt T (tkB T q)) ≠ true := fun c => advT_out (P := fun i => isWh (bt T i)) (L := T.length) (p := q) (by omega) c
    unfold f_X4_next_8
    refine wp_gd hT.1 (wp_gd hT.1 ?_)
    rw [hT.2.1, h2]
    by_cases c : (T.length : Int) ≤ p
    · have e : p = tkB T q := by omega
      refine wp_pos c ?_
      rw [← e]
      exact c_next_84 hn hb hK hx hT ⟨by omega, hpl⟩ h2 hO
    have step : isWh (bt T p) = true → Wp (f_X4_next_71 n (f_X4_next_8 n f) x σ) (NxC σ0 x T (tkB T q)) := fun z => by
      cases m with
      | zero =>
        have e : p = tkB T q := by omega
        rw [e] at z
        exact absurd z (hout (by omega))
      | succ m =>
        unfold f_X4_next_71
        rw [h2]
        exact wp_gd hT.1 (wp_gI (by omega) (wp_gd hT.1 (wp_nm0 (c_skip_loop hn hb hK hx hp m (p + 1) f _ (by omega) (by omega) (by omega) (by omega) hBl (hT.sw (by decide)) (by rw [ld_wr, if_pos ⟨rfl, rfl⟩]) hO.w))))
    have at1 := c_at_eq hT (show 0 ≤ p by omega)
    refine wp_neg c (wp_gd hT.1 (wp_gd hT.1 (wp_c1e at1 ?_)))
    refine wp_ite (fun z => step (isWh_iff.mpr (by omega))) fun z1 => wp_gd hT.1 (wp_gd hT.1 ?_)
    rw [h2]
    refine wp_c1e at1 (wp_ite (fun z => step (isWh_iff.mpr (by omega))) fun z2 => wp_gd hT.1 (wp_gd hT.1 ?_))
    rw [h2]
    refine wp_c1e at1 (wp_ite (fun z => step (isWh_iff.mpr (by omega))) fun z3 => wp_gd hT.1 (wp_gd hT.1 ?_))
    rw [h2]
    refine wp_c1e at1 (wp_ite (fun z => step (isWh_iff.mpr (by omega))) fun z4 => ?_)
    have e : p = tkB T q := by
      apply Classical.byContradiction
      intro w
      have := isWh_iff.mp (hin p hqp (by omega))
      omega
    rw [← e]
    exact c_next_84 hn hb hK hx hT ⟨by omega, hpl⟩ h2 hO
theorem c_next (hn : 1000000 ≤ n) (hb : BtOk T) (hK : KS σ) (hx : 1000 ≤ x) (hT : TxOk σ x T) (h3 : ld σ x 3 = p) (h0 : 0 ≤ p ∧ p ≤ T.length) : Wp (f_X4_next n x σ) (NxC σ x T (tkB T p)) := by
  have hl := hb.1
  have hle := tkB_le h0.2
  unfold f_X4_next
  refine wp_gd hT.1 (wp_gd hT.1 (wp_nm0 ?_))
  rw [h3]
  exact c_skip_loop hn hb hK hx h0.1 (tkB T p - p).toNat p n _ (by omega) (by omega) (by omega) h0.2 hle.2 (hT.sw (by decide)) (by rw [ld_wr, if_pos ⟨rfl, rfl⟩]) OnX.rf.w
end CU
