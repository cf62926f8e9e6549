/-! THE MATCHER: a condition -/
set_option maxRecDepth 100000
theorem hc42 : hcode (sp 42) = 61 := by decide
theorem hc43 : hcode (sp 43) = 1084 := by decide
theorem hc44 : hcode (sp 44) = 60 := by decide
theorem hc45 : hcode (sp 45) = 1921 := by decide
theorem hc46 : hcode (sp 46) = 62 := by decide
theorem hc47 : hcode (sp 47) = 1983 := by decide
theorem lcmp_0 {x y : Int} : lcmpW x y = 0 ↔ x = y := by
  unfold lcmpW
  by_cases a : y < x
  · rw [if_pos a]; omega
  · rw [if_neg a]
    by_cases b : x = y
    · rw [if_pos b]; omega
    · rw [if_neg b]; omega
def CnOk (c : Cnd) (M : Nat) : Prop := TrOk c.2.1 M ∧ ((c.1 = 12 ∨ c.1 = 13) ∨ ((42 ≤ c.1 ∧ c.1 ≤ 47) ∧ TrOk c.2.2 M))
section MN
variable {σ σ0 σ1 σ2 σ3 σ' : AS} {n M k : Nat} {l : List Ch} {m N0 r a : Int} {S : PS} {ps : List Part} {cs : List Cnd} {its : List Trm} {os : List Odr} {t : Trm} {c : Cnd} {K : Int → Bool} {env : Int → Int} {G : Gr}
theorem tval_rng (hG : okG G) (hb : bdT env t = true) (hM : M ≤ 8) (hE : ∀ i : Int, 0 ≤ i → i < M → env i ≠ -1 → (K i = true → edgeAt G (env i)) ∧ (K i ≠ true → nodeAt G (env i))) (hok : TrOk t M) (h2 : -2147483648 ≤ t.2.2 ∧ t.2.2 ≤ 2147483647) {v : Int} (hv : tval G K env t = some v) : -2147483648 ≤ v ∧ v ≤ 2147483647 := by
  unfold tval at hv
  unfold bdT at hb
  by_cases c1 : t.1 = -1
  · rw [if_pos c1] at hv
    rw [← Option.some.inj hv]; exact h2
  rw [if_neg c1] at hv
  rw [decide_eq_false c1, Bool.false_or, decide_eq_true_eq] at hb
  rcases hok with hok | ⟨o1, o2, o3⟩
  · exact absurd hok c1
  by_cases c2 : t.2.1 = -1
  · rw [if_pos c2] at hv
    obtain ⟨e1, e2⟩ := hE _ o1 o2 hb
    rw [← Option.some.inj hv]
    by_cases cK : K t.1 = true
    · have := e1 cK
      have := this.1; have := (e1 cK).2.1; omega
    · have := (e2 cK).1; have := (e2 cK).2.1; omega
  · rw [if_neg c2] at hv
    exact lk_int hG hv
theorem nval_min {o : Option Int} (h : ∀ v, o = some v → -2147483648 ≤ v ∧ v ≤ 2147483647) : lcmpW (nval o) (-9223372036854775808) = 0 ↔ o = none := by
  rw [lcmp_0]
  cases o with
  | none => exact ⟨fun _ => rfl, fun _ => rfl⟩
  | some v =>
    have := h v rfl
    refine ⟨fun w => ?_, fun w => by exact absurd w (by simp)⟩
    have w' : v = -9223372036854775808 := w
    omega
theorem isBound_eq (h : MQs σ0 σ k l m S K ps cs its os M) (hE : ∀ i : Int, 0 ≤ i → i < 8 → ld σ 1016 i = env i) (ht : TrAt σ r t) (hok : TrOk t M) : f_X6_isBound 1014 r σ = some (if bdT env t = true then 1 else 0, σ) := by
  obtain ⟨-, -, -, a4, a5, ⟨-, -, -, -, -, qM, -⟩⟩ := h
  obtain ⟨t1, t2, t3, t4, t5⟩ := ht
  have eV : f_X22_variable r σ = some (t.1, σ) := by unfold f_X22_variable; rw [gd_pos t1, t3]
  unfold f_X6_isBound bdT
  rw [if_neg (show ¬ r = 0 by omega), gd_pos t1, eV, c1_at]
  by_cases c1 : t.1 = -1
  · rw [if_pos c1, decide_eq_true c1, Bool.true_or, if_pos rfl]
  rcases hok with hok | ⟨o1, o2, o3⟩
  · exact absurd hok c1
  rw [if_neg c1, decide_eq_false c1, Bool.false_or, gd_pos a4.1.2.2.2.2.2.1, gd_pos t1, eV, c1_at, a5.1.2.2.2.2.1, gd_pos ⟨a4.1.2.2.2.2.2.2.2.1, o1, by rw [a4.2.2.2.2.2.2.1]; omega⟩, hE _ o1 (by omega)]
  by_cases ce : env t.1 = -1
  · rw [if_pos ce, if_neg (by rw [decide_eq_true_eq]; exact fun w => w ce)]
  · rw [if_neg ce, if_pos (by rw [decide_eq_true_eq]; exact ce)]
/-- a hash that is remembered is no harm -/
theorem mfr_hash {s : Int} {w : List Int} (hk : 1054 ≤ N0) (hx : 1054 ≤ nx σ) (hs : StrH σ s w) (hs' : StrH σ' s w) (hN : N0 ≤ s) (hH : HsF σ σ') (hF : Fr (fun r => r = s) σ σ') : MFr N0 σ σ' ∧ ∀ r j, r < 1054 → ld σ' r j = ld σ r j := by
  have o : ∀ r j, r < 1054 → ld σ' r j = ld σ r j := fun r j hr => hF.ld (by omega) (fun w => by have w' : r = s := w; omega) j
  refine ⟨⟨hF.sub fun r _ w => ?_, hH.1, hH.2.1, fun t u a b => a.keep hs hs' hF b, fun j _ => o _ _ (by decide), fun j _ _ => o _ _ (by decide)⟩, o⟩
  have w' : r = s := w
  rw [w']
  exact Or.inr ⟨hN, hs.2.1.1⟩
theorem holds_wp (hn : 1000000 ≤ n) (h : MQs σ0 σ k l m S K ps cs its os M) (hE : EvA σ (run l) K env M) (hc : CdAt (nx σ0) σ r c) (hok : CnOk c M) (hb : bdC env c = true) (hr1 : c.2.1.1 = -1 → -2147483648 ≤ c.2.1.2.2 ∧ c.2.1.2.2 ≤ 2147483647) (hr2 : c.2.2.1 = -1 → -2147483648 ≤ c.2.2.2.2 ∧ c.2.2.2.2 ≤ 2147483647) : Wp (f_X6_holds n 1014 r σ) fun y => y.1 = (if cndB (run l) K env c = true then 1 else 0) ∧ MFr (nx σ0) σ y.2 ∧ ∀ r j, r < 1054 → ld y.2 r j = ld σ r j := by
  have hG := h.gv.2.2.2.2
  obtain ⟨c1, c2, c3, ⟨c4, c4', c4n⟩, c5⟩ := hc
  obtain ⟨b1, b2⟩ := hok
  obtain ⟨⟨-, -, h0⟩, hbase, hKS, a4, -, ⟨⟨-, -, -⟩, -, -, -, -, qM, -⟩⟩ := id h
  have hx := hbase.1
  have k14 := a4.1.2.2.2.2.2.1
  have eL : f_X21_left r σ = some (ld σ r 0, σ) := by unfold f_X21_left; rw [gd_pos c1]
  have eR : f_X21_right r σ = some (ld σ r 2, σ) := by unfold f_X21_right; rw [gd_pos c1]
  have eS : f_X21_sign r σ = some (ld σ r 1, σ) := by unfold f_X21_sign; rw [gd_pos c1]
  unfold bdC at hb
  rw [Bool.and_eq_true] at hb
  obtain ⟨hb1, hb2⟩ := hb
  have e1 := mvalue_eq hn h hE c3 b1 hb1
  have rngT : ∀ t : Trm, TrOk t M → bdT env t = true → (t.1 = -1 → -2147483648 ≤ t.2.2 ∧ t.2.2 ≤ 2147483647) → ∀ v, tval (run l) K env t = some v → -2147483648 ≤ v ∧ v ≤ 2147483647 := fun t ht hbt hr v hv => by
    by_cases cm : t.1 = -1
    · exact tval_rng hG hbt qM hE.2 ht (hr cm) hv
    · have : tval (run l) K env t = tval (run l) K env (t.1, t.2.1, 0) := by
        unfold tval
        rw [if_neg cm, if_neg cm]
      rw [this] at hv
      have hbt' : bdT env (t.1, t.2.1, 0) = true := hbt
      have ht' : TrOk (t.1, t.2.1, 0) M := ht
      exact tval_rng hG hbt' qM hE.2 ht' ⟨by show (-2147483648 : Int) ≤ 0; decide, by show (0 : Int) ≤ 2147483647; decide⟩ hv
  have n1 := nval_min (rngT _ b1 hb1 hr1)
  have kstr : kd σ (ld σ r 1) = 24 := c4.2.1.1
  have lsp : (sp c.1).length ≤ 2000 := by
    have hcc : c.1 = 12 ∨ c.1 = 13 ∨ c.1 = 42 ∨ c.1 = 43 ∨ c.1 = 44 ∨ c.1 = 45 ∨ c.1 = 46 ∨ c.1 = 47 := by
      rcases c5 with ⟨cc, -⟩ | ⟨cc, -, -⟩ <;> omega
    rcases hcc with e | e | e | e | e | e | e | e <;> (rw [e]; decide)
  unfold f_X6_holds
  refine wp_gd c1 (wp_c1e eL (wp_gd k14 (wp_c1e e1 (wp_gd c1 (wp_c1e eR ?_)))))
  rcases c5 with ⟨cc, cr⟩ | ⟨cc, cr, cr0⟩
  · refine wp_pos cr ?_
    have e29 : ∀ s : Int, f_X6_holds_29 n r s σ = some (if s = (if sp c.1 = wNo then 1 else 0) then 1 else 0, σ) := fun s => by
      unfold f_X6_holds_29
      rw [gd_pos c1, eS, c1_at, gd_pos (Or.inl kstr), eq_const hn hKS c4.1 kstr lsp (r := 101) (w := wNo) (by decide), c1_at]
      by_cases cs : s = (if sp c.1 = wNo then 1 else 0)
      · rw [if_pos cs, if_pos cs]
      · rw [if_neg cs, if_neg cs]
    rw [e29, e29]
    have fin : ∀ s : Int, (s = 1 ↔ tval (run l) K env c.2.1 = none) → (s = 0 ∨ s = 1) → Wp (some (if s = (if sp c.1 = wNo then (1 : Int) else 0) then (1 : Int) else 0, σ)) fun y => y.1 = (if cndB (run l) K env c = true then 1 else 0) ∧ MFr (nx σ0) σ y.2 ∧ ∀ r j, r < 1054 → ld y.2 r j = ld σ r j := fun s hs hs2 => by
      refine wp_ok ⟨?_, MFr.rf, fun _ _ _ => rfl⟩
      unfold cndB
      rcases cc with cc | cc
      · rw [cc, if_neg (show ¬ sp 12 = wNo by decide), if_pos (show (12 : Int) = 12 from rfl)]
        cases htv : tval (run l) K env c.2.1 with
        | none => rw [hs.mpr htv]; rfl
        | some v =>
          have : s = 0 := by
            rcases hs2 with w | w
            · exact w
            · rw [hs.mp w] at htv; exact absurd htv (by simp)
          rw [this]; rfl
      · rw [cc, if_pos (show sp 13 = wNo by decide), if_neg (show ¬ (13 : Int) = 12 by decide), if_pos (show (13 : Int) = 13 from rfl)]
        cases htv : tval (run l) K env c.2.1 with
        | none => rw [hs.mpr htv]; rfl
        | some v =>
          have : s = 0 := by
            rcases hs2 with w | w
            · exact w
            · rw [hs.mp w] at htv; exact absurd htv (by simp)
          rw [this]; rfl
    refine wp_ite (fun w => fin 1 ⟨fun _ => n1.mp w, fun _ => rfl⟩ (Or.inr rfl)) fun w => fin 0 ⟨fun u => absurd u (by decide), fun u => absurd (n1.mpr u) w⟩ (Or.inl rfl)
  · rcases b2 with b2 | ⟨b2, b3⟩
    · omega
    have hb3 : bdT env c.2.2 = true := by
      rw [decide_eq_false (by omega), Bool.false_or] at hb2
      exact hb2
    have e2 := mvalue_eq hn h hE cr b3 hb3
    have n2 := nval_min (rngT _ b3 hb3 hr2)
    refine wp_neg (by omega) (wp_gd c1 (wp_c1e eR (wp_gd k14 (wp_c1e e2 ?_))))
    have cN : cndB (run l) K env c = cmp2 c.1 (tval (run l) K env c.2.1) (tval (run l) K env c.2.2) := by
      unfold cndB
      rw [if_neg (by omega), if_neg (by omega)]
    rw [cN]
    refine wp_ite (fun w => ?_) fun w => ?_
    · rw [n1.mp w]
      exact wp_ok ⟨rfl, MFr.rf, fun _ _ _ => rfl⟩
    refine wp_ite (fun w2 => ?_) fun w2 => ?_
    · rw [n2.mp w2]
      refine wp_ok ⟨?_, MFr.rf, fun _ _ _ => rfl⟩
      cases tval (run l) K env c.2.1 <;> rfl
    obtain ⟨v1, hv1⟩ : ∃ v, tval (run l) K env c.2.1 = some v := by
      cases htv : tval (run l) K env c.2.1 with
      | none => exact absurd (n1.mpr htv) w
      | some v => exact ⟨v, rfl⟩
    obtain ⟨v2, hv2⟩ : ∃ v, tval (run l) K env c.2.2 = some v := by
      cases htv : tval (run l) K env c.2.2 with
      | none => exact absurd (n2.mpr htv) w2
      | some v => exact ⟨v, rfl⟩
    rw [hv1, hv2]
    show Wp _ fun (y : Int × AS) => y.1 = (if cmpB c.1 v1 v2 = true then 1 else 0) ∧ _
    have g1 : nval (some v1) = v1 := rfl
    have g2 : nval (some v2) = v2 := rfl
    rw [g1, g2]
    refine wp_gd c1 (wp_c1e eS (wp_gd (Or.inl kstr) (wp_c1 (wp_mono (str_hash hn c4 lsp) fun y hy => ?_))))
    obtain ⟨y1, y2, y3, y4⟩ := hy
    obtain ⟨mf, mo⟩ := mfr_hash h0 (by omega) c4 y2 c4n y3 y4
    have kstr2 : kd y.2 (ld σ r 1) = 24 := y2.2.1.1
    have hKS2 : KS y.2 := hKS.frame y4 fun r' _ w => by have w' : r' = ld σ r 1 := w; omega
    have eC : ∀ (q : Int) (w : List Int), (q, w) ∈ cstr → sp c.1 = w → f_J15_equals n (ld σ r 1) q y.2 = some (1, y.2) := fun q w hq hw => by
      have := eq_const hn hKS2 y2.1 kstr2 lsp hq
      rw [if_pos hw] at this
      exact this
    have e217 : ∀ o : Int, f_X6_holds_217 n v1 v2 o y.2 = some (if (if o = 0 then decide (v1 = v2) else if o = 1 then decide (v1 ≠ v2) else if o = 2 then decide (v1 < v2) else if o = 3 then decide (v1 ≤ v2) else if o = 4 then decide (v2 < v1) else decide (v2 ≤ v1)) = true then 1 else 0, y.2) := fun o => by
      have q0 := lcmp_0 (x := v1) (y := v2)
      have q1 := lcmp_lt (x := v1) (y := v2)
      have q2 := lcmp_le (x := v1) (y := v2)
      unfold f_X6_holds_217
      by_cases o0 : o = 0
      · rw [if_pos o0, if_pos o0]
        by_cases d : v1 = v2
        · rw [if_pos (q0.mpr d), if_pos (decide_eq_true d)]
        · rw [if_neg (fun u => d (q0.mp u)), if_neg (by rw [decide_eq_true_eq]; exact d)]
      rw [if_neg o0, if_neg o0]
      by_cases o1 : o = 1
      · rw [if_pos o1, if_pos o1]
        by_cases d : v1 = v2
        · rw [if_pos (q0.mpr d), if_neg (by rw [decide_eq_true_eq]; exact fun u => u d)]
        · rw [if_neg (fun u => d (q0.mp u)), if_pos (decide_eq_true d)]
      rw [if_neg o1, if_neg o1]
      by_cases o2 : o = 2
      · rw [if_pos o2, if_pos o2]
        by_cases d : v1 < v2
        · rw [if_neg (by have := q1.mpr d; omega), if_pos (decide_eq_true d)]
        · rw [if_pos (by have := fun u => d (q1.mp u); omega), if_neg (by rw [decide_eq_true_eq]; exact d)]
      rw [if_neg o2, if_neg o2]
      by_cases o3 : o = 3
      · rw [if_pos o3, if_pos o3]
        by_cases d : v1 ≤ v2
        · rw [if_neg (by have := q2.mpr d; omega), if_pos (decide_eq_true d)]
        · rw [if_pos (by have := fun u => d (q2.mp u); omega), if_neg (by rw [decide_eq_true_eq]; exact d)]
      rw [if_neg o3, if_neg o3]
      by_cases o4 : o = 4
      · rw [if_pos o4, if_pos o4]
        by_cases d : v2 < v1
        · rw [if_neg (fun u => by have := q2.mp u; omega), if_pos (decide_eq_true d)]
        · rw [if_pos (q2.mpr (by omega)), if_neg (by rw [decide_eq_true_eq]; exact d)]
      rw [if_neg o4, if_neg o4]
      by_cases d : v2 ≤ v1
      · rw [if_neg (fun u => by have := q1.mp u; omega), if_pos (decide_eq_true d)]
      · rw [if_pos (q1.mpr (by omega)), if_neg (by rw [decide_eq_true_eq]; exact d)]
    rw [y1]
    have done : ∀ o : Int, cmpB c.1 v1 v2 = (if o = 0 then decide (v1 = v2) else if o = 1 then decide (v1 ≠ v2) else if o = 2 then decide (v1 < v2) else if o = 3 then decide (v1 ≤ v2) else if o = 4 then decide (v2 < v1) else decide (v2 ≤ v1)) → Wp (f_X6_holds_217 n v1 v2 o y.2) fun y' => y'.1 = (if cmpB c.1 v1 v2 = true then 1 else 0) ∧ MFr (nx σ0) σ y'.2 ∧ ∀ r j, r < 1054 → ld y'.2 r j = ld σ r j := fun o ho => by
      rw [e217, ← ho]
      exact wp_ok ⟨rfl, mf, mo⟩
    obtain e | e | e | e | e | e : c.1 = 42 ∨ c.1 = 43 ∨ c.1 = 44 ∨ c.1 = 45 ∨ c.1 = 46 ∨ c.1 = 47 := by omega
    · rw [e, hc42]
      refine wp_neg (by decide) (wp_pos rfl (wp_gd (Or.inl kstr2) (wp_c1e (eC 103 (sp 42) (by decide) (by rw [e])) ?_)))
      exact wp_neg (by decide) (by have := done 0 (by rw [e]; rfl); rw [e] at this; exact this)
    · rw [e, hc43]
      refine wp_neg (by decide) (wp_neg (by decide) (wp_neg (by decide) (wp_pos rfl (wp_gd (Or.inl kstr2) (wp_c1e (eC 105 (sp 43) (by decide) (by rw [e])) ?_)))))
      exact wp_neg (by decide) (by have := done 1 (by rw [e]; rfl); rw [e] at this; exact this)
    · rw [e, hc44]
      refine wp_pos rfl (wp_gd (Or.inl kstr2) (wp_c1e (eC 107 (sp 44) (by decide) (by rw [e])) ?_))
      exact wp_neg (by decide) (by have := done 2 (by rw [e]; rfl); rw [e] at this; exact this)
    · rw [e, hc45]
      refine wp_neg (by decide) (wp_neg (by decide) (wp_neg (by decide) (wp_neg (by decide) (wp_pos rfl (wp_gd (Or.inl kstr2) (wp_c1e (eC 109 (sp 45) (by decide) (by rw [e])) ?_))))))
      exact wp_neg (by decide) (by have := done 3 (by rw [e]; rfl); rw [e] at this; exact this)
    · rw [e, hc46]
      refine wp_neg (by decide) (wp_neg (by decide) (wp_pos rfl (wp_gd (Or.inl kstr2) (wp_c1e (eC 111 (sp 46) (by decide) (by rw [e])) ?_))))
      exact wp_neg (by decide) (by have := done 4 (by rw [e]; rfl); rw [e] at this; exact this)
    · rw [e, hc47]
      refine wp_neg (by decide) (wp_neg (by decide) (wp_neg (by decide) (wp_neg (by decide) (wp_neg (by decide) ?_))))
      have := done (-1) (by rw [e]; rfl)
      rw [e] at this; exact this
end MN
