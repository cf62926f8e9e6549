/-! THE COMPONENT'S LEXER: the next token -/
set_option maxRecDepth 100000
def kdOf (C : Int) : Int := if C = 0 then 124 else if C = 1 then 125 else if C = 2 then 126 else if C = 50 then 123 else if C < 30 then 127 else 128
/-- the component's lexer x stands at the token that begins at q -/
def LxC (σ : AS) (x : Int) (T : List Int) (q : Int) : Prop := TxOk σ x T ∧ ld σ x 2 = q ∧ ld σ x 3 = tkE T q ∧ ld σ x 4 = kdOf (tkC T q) ∧ (tkC T q = 2 → ld σ x 6 = nmA T q) ∧ (tkC T q ≠ 0 → tkC T q ≠ 2 → tkC T q ≠ 50 → StrH σ (ld σ x 5) (slc T q (tkE T q)) ∧ ld σ x 5 + 1 < nx σ) ∧ 0 ≤ q ∧ q ≤ T.length
section CT
variable {σ σ0 : AS} {n : Nat} {x a b c d s q e p : Int} {l m T : List Int}
/-- what the next token costs and changes; the string is new -/
def NxC (σ0 : AS) (x : Int) (T : List Int) (q : Int) (σ' : AS) : Prop := LxC σ' x T q ∧ Fr (fun r => r = x) σ0 σ' ∧ nx σ' ≤ nx σ0 + 5 * (tkE T q - q) ∧ us σ' ≤ us σ0 + 60 * (tkE T q - q) ∧ (tkC T q ≠ 0 → tkC T q ≠ 2 → tkC T q ≠ 50 → nx σ0 ≤ ld σ' x 5)
theorem StrN.frame {S : Int → Prop} {σ' : AS} (h : StrN σ s l) (hF : Fr S σ σ') (h1 : s + 1 < nx σ) (h3 : ¬ S s) (h4 : ¬ S (s + 1)) : StrN σ' s l := by
  obtain ⟨a1, a2, a3, a4, a5⟩ := h
  exact ⟨a1.frame hF (by omega) (by omega) h3 (by rw [a3]; exact h4), by rw [hF.kd (by omega), hF.kd (by omega)]; exact a2, by rw [hF.ld (by omega) h3]; exact a3, by rw [hF.ld (by omega) h3]; exact a4, by rw [hF.ld (by omega) h3]; exact a5⟩
theorem sgn2_slc (h0 : 0 ≤ q ∧ q < T.length) (hb : BtOk T) (h : sgn2 (bt T q) (bt T (q + 1)) ≠ 0) : 0 ≤ bt T q ∧ 0 ≤ bt T (q + 1) ∧ q + 2 ≤ T.length := by
  have h2 := sgn2_ne h
  have h3 : q + 1 < T.length := by
    apply Classical.byContradiction
    intro w
    exact h2 (bt_out (by omega))
  refine ⟨?_, ?_, by omega⟩
  · apply Classical.byContradiction
    intro w
    apply h
    unfold sgn2
    rw [if_neg (by omega), if_neg (by omega), if_neg (by omega), if_neg (by omega), if_neg (by omega), if_neg (by omega)]
  · apply Classical.byContradiction
    intro w
    apply h
    unfold sgn2
    rw [if_neg (by omega), if_neg (by omega), if_neg (by omega), if_neg (by omega), if_neg (by omega), if_neg (by omega)]
/-- a sign of length w -/
theorem sign_86 {w l3 : Int} (hn : 1000000 ≤ n) (hb : BtOk T) (hK : KS σ) (hx : 1000 ≤ x) (hT : TxOk σ x T) (h0 : 0 ≤ q ∧ q < T.length) (h2 : ld σ x 2 = q) (hC : tkC T q = sgn (bt T q) (bt T (q + 1))) (hE : tkE T q = if sgn2 (bt T q) (bt T (q + 1)) = 0 then q + 1 else q + 2) (hw : (sgn2 (bt T q) (bt T (q + 1)) = 0 ∧ w = 1 ∧ l3 = 0) ∨ (sgn2 (bt T q) (bt T (q + 1)) ≠ 0 ∧ w = 2 ∧ l3 = 1)) : Wp (f_X4_sign_86 n x (bt T q) l3 x q w σ) (NxC σ x T q) := by
  have hbl := hb.1
  have hEw : tkE T q = q + w := by
    rw [hE]
    rcases hw with ⟨z1, z2, z3⟩ | ⟨z1, z2, z3⟩
    · rw [if_pos z1, z2]
    · rw [if_neg z1, z2]
  unfold f_X4_sign_86
  have e3 : ld (wr σ x 3 (q + w)) x 3 = q + w := by rw [ld_wr, if_pos ⟨rfl, rfl⟩]
  have e2 : ld (wr σ x 3 (q + w)) x 2 = q := by rw [ld_wr, if_neg (by omega)]; exact h2
  have hT1 : TxOk (wr σ x 3 (q + w)) x T := hT.sw (by decide)
  have pc : Wp (f_X4_piece n x (wr σ x 3 (q + w))) fun y => PcQ (wr σ x 3 (q + w)) w y ∧ (0 ≤ bt T q → StrN y.2 y.1 (slc T q (tkE T q))) := by
    by_cases z : 0 ≤ bt T q
    · have : ∀ i, q ≤ i → i < q + w → 0 ≤ bt T i := fun i a b => by
        by_cases y : i = q
        · rw [y]; exact z
        · rcases hw with ⟨z1, z2, z3⟩ | ⟨z1, z2, z3⟩
          · omega
          · have := (sgn2_slc h0 hb z1).2.1
            rw [show i = q + 1 by omega]; exact this
      have hqw : q + w ≤ T.length := by
        rcases hw with ⟨z1, z2, z3⟩ | ⟨z1, z2, z3⟩
        · omega
        · have := (sgn2_slc h0 hb z1).2.2; omega
      refine wp_mono (piece_wp hn hb (e := q + w) ⟨h0.1, by omega⟩ hqw this hT1 e2 e3) fun y hy => ⟨?_, fun _ => ?_⟩
      · have := hy.1
        rw [show q + w - q = w by omega] at this
        exact this
      · rw [hEw]; exact hy.2
    · have hw1 : w = 1 := by
        rcases hw with ⟨z1, z2, z3⟩ | ⟨z1, z2, z3⟩
        · exact z2
        · exact absurd (sgn2_slc h0 hb z1).1 z
      subst hw1
      exact wp_mono (piece_neg hn hb h0 (by omega) hT1 e2 e3) fun y hy => ⟨hy, fun y => absurd y z⟩
  refine wp_gI (by omega) (wp_gd hT.1 (wp_nm0 (wp_gd hT.1 (wp_c1 (wp_mono pc fun y hy => ?_)))))
  obtain ⟨⟨p1, p2, p3, p4, p5, p6⟩, p7⟩ := hy
  have hxn := hT.2.2.2.2.2.1
  have hT2 : TxOk y.2 x T := hT1.al (T := T) (S := fun _ => False) p6
  have q2 : ld y.2 x 2 = q := by rw [p6.ld hxn (fun z => z)]; exact e2
  have q3 : ld y.2 x 3 = q + w := by rw [p6.ld hxn (fun z => z)]; exact e3
  refine wp_gd hT2.1 (wp_nm0 ?_)
  generalize hσ3 : wr y.2 x 5 y.1 = σ3
  have hT3 : TxOk σ3 x T := by rw [← hσ3]; exact hT2.sw (by decide)
  have F3 : Fr (fun r => r = x) σ σ3 := by
    rw [← hσ3]
    have g1 : Fr (fun r => r = x) σ (wr σ x 3 (q + w)) := Fr.wr rfl
    exact (g1.trans (p6.sub fun _ _ z => absurd z id)).trans (Fr.wr rfl)
  have r2 : ld σ3 x 2 = q := by rw [← hσ3, ld_wr, if_neg (by omega)]; exact q2
  have r3 : ld σ3 x 3 = q + w := by rw [← hσ3, ld_wr, if_neg (by omega)]; exact q3
  have r5 : ld σ3 x 5 = y.1 := by rw [← hσ3, ld_wr, if_pos ⟨rfl, rfl⟩]
  have n3 : nx σ3 = nx y.2 := by rw [← hσ3]; rfl
  have u3 : us σ3 = us y.2 := by rw [← hσ3]; rfl
  have n1 : nx (wr σ x 3 (q + w)) = nx σ := rfl
  have u1 : us (wr σ x 3 (q + w)) = us σ := rfl
  have str : 0 ≤ bt T q → StrN σ3 (ld σ3 x 5) (slc T q (tkE T q)) := fun z => by
    rw [r5, ← hσ3]
    exact (p7 z).frame (S := fun r => r = x) (Fr.wr rfl) p2 (by omega) (by omega)
  have fin : ∀ v, v = kdOf (tkC T q) → NxC σ x T q (wr σ3 x 4 v) := fun v hv => by
    refine ⟨⟨hT3.sw (by decide), ?_, ?_, ?_, fun z => ?_, fun z1 z2 z3 => ⟨?_, ?_⟩, h0.1, by omega⟩, F3.trans (Fr.wr rfl), ?_, ?_, fun _ _ _ => ?_⟩
    · rw [ld_wr, if_neg (by omega)]; exact r2
    · rw [ld_wr, if_neg (by omega), hEw]; exact r3
    · rw [ld_wr, if_pos ⟨rfl, rfl⟩]; exact hv
    · rw [hC] at z; exact absurd z sgn_rng.1
    · have hpos : 0 ≤ bt T q := by
        apply Classical.byContradiction
        intro w'
        apply z3
        rw [hC]
        unfold sgn
        by_cases y0 : sgn2 (bt T q) (bt T (q + 1)) = 0
        · rw [if_pos y0]
          unfold sgn1
          rw [if_neg (by omega), if_neg (by omega), if_neg (by omega), if_neg (by omega), if_neg (by omega), if_neg (by omega), if_neg (by omega), if_neg (by omega), if_neg (by omega), if_neg (by omega), if_neg (by omega), if_neg (by omega)]
        · exact absurd (sgn2_slc h0 hb y0).1 w'
      have e5 : ld (wr σ3 x 4 v) x 5 = ld σ3 x 5 := by rw [ld_wr, if_neg (by omega)]
      rw [e5]
      exact ((str hpos).frame (S := fun r => r = x) (Fr.wr rfl) (by omega) (by omega) (by omega)).h
    · show ld (wr σ3 x 4 v) x 5 + 1 < nx σ3
      rw [ld_wr, if_neg (by omega), r5]; omega
    · show nx σ3 ≤ _
      rcases hw with ⟨z1, z2, z3⟩ | ⟨z1, z2, z3⟩ <;> omega
    · show us σ3 ≤ _
      rcases hw with ⟨z1, z2, z3⟩ | ⟨z1, z2, z3⟩ <;> omega
    · rw [ld_wr, if_neg (by omega), r5]; omega
  have K3 : KS σ3 := hK.frame F3 (fun r hr z => by omega)
  rcases hw with ⟨z1, z2, z3⟩ | ⟨z1, z2, z3⟩
  · have eC : tkC T q = sgn1 (bt T q) := by rw [hC]; unfold sgn; rw [if_pos z1]
    refine wp_pos z3 (wp_gd (Or.inr (K3.str (r := 99) (l := wSigns) (by decide)).2) ?_)
    obtain ⟨v, e1, e4⟩ := indexOf_eq (n := n) (c := bt T q) hn K3 (hb.2 q)
    refine wp_c1e e1 ?_
    refine wp_ite (fun y1 => wp_gd hT3.1 (wp_nm0 (wp_ok (fin _ ?_)))) fun y1 => wp_gd hT3.1 (wp_nm0 (wp_ok (fin _ ?_)))
    · rw [eC, e4.mp y1]; rfl
    · have o := sgn1_ok (c := bt T q)
      have o1 : sgn1 (bt T q) ≠ 50 := fun z => y1 (e4.mpr z)
      unfold sOk at o
      rw [eC]
      unfold kdOf
      rw [if_neg (by omega), if_neg (by omega), if_neg (by omega), if_neg o1, if_neg (by omega)]
  · refine wp_neg (by omega) (wp_gd hT3.1 (wp_nm0 (wp_ok (fin _ ?_))))
    have ht := sgn_two.mpr z1
    unfold two at ht
    rw [hC]
    unfold kdOf
    rw [if_neg (by omega), if_neg (by omega), if_neg (by omega), if_neg (by omega), if_neg (by omega)]
theorem sign_wp (hn : 1000000 ≤ n) (hb : BtOk T) (hK : KS σ) (hx : 1000 ≤ x) (hT : TxOk σ x T) (h0 : 0 ≤ q ∧ q < T.length) (h2 : ld σ x 2 = q) (hC : tkC T q = sgn (bt T q) (bt T (q + 1))) (hE : tkE T q = if sgn2 (bt T q) (bt T (q + 1)) = 0 then q + 1 else q + 2) : Wp (f_X4_sign n x (bt T q) (bt T (q + 1)) σ) (NxC σ x T q) := by
  have A0 : sgn2 (bt T q) (bt T (q + 1)) = 0 → Wp (f_X4_sign_71 n x (bt T q) 0 σ) (NxC σ x T q) := fun z => by
    unfold f_X4_sign_71
    rw [h2]
    exact wp_gd hT.1 (wp_pos rfl (sign_86 hn hb hK hx hT h0 h2 hC hE (Or.inl ⟨z, rfl, rfl⟩)))
  have A1 : sgn2 (bt T q) (bt T (q + 1)) ≠ 0 → Wp (f_X4_sign_71 n x (bt T q) 1 σ) (NxC σ x T q) := fun z => by
    unfold f_X4_sign_71
    rw [h2]
    exact wp_gd hT.1 (wp_neg (by decide) (sign_86 hn hb hK hx hT h0 h2 hC hE (Or.inr ⟨z, rfl, rfl⟩)))
  generalize bt T q = c at *
  generalize bt T (q + 1) = d at *
  have B1 : sgn2 c d ≠ 0 → Wp (f_X4_sign_66 n (f_X4_sign_71 n) x c σ) (NxC σ x T q) := fun z => A1 z
  have G1 : sgn2 c d = 0 → Wp (f_X4_sign_70 n (f_X4_sign_71 n) x c σ) (NxC σ x T q) := fun z => A0 z
  have e54 : ¬ (c = 46 ∧ d = 46) → ¬ (c = 45 ∧ d = 62) → ¬ (c = 60 ∧ d = 45) → ¬ (c = 60 ∧ d = 61) → ¬ (c = 62 ∧ d = 61) → Wp (f_X4_sign_54 n (f_X4_sign_71 n) (f_X4_sign_66 n (f_X4_sign_71 n)) x c d σ) (NxC σ x T q) := fun n1 n2 n3 n4 n5 => by
    have zero : ¬ (c = 33 ∧ d = 61) → sgn2 c d = 0 := fun n6 => by
      unfold sgn2
      rw [if_neg n1, if_neg n2, if_neg n3, if_neg n4, if_neg n5, if_neg n6]
    unfold f_X4_sign_54
    refine wp_ite (fun z => wp_ite (fun w => B1 ?_) fun w => G1 (zero fun y => w y.2)) fun z => G1 (zero fun y => z y.1)
    subst z; subst w; decide
  have e42 : ¬ (c = 46 ∧ d = 46) → ¬ (c = 45 ∧ d = 62) → ¬ (c = 60 ∧ d = 45) → ¬ (c = 60 ∧ d = 61) → Wp (f_X4_sign_42 n (f_X4_sign_71 n) (f_X4_sign_66 n (f_X4_sign_71 n)) x c d σ) (NxC σ x T q) := fun n1 n2 n3 n4 => by
    unfold f_X4_sign_42
    refine wp_ite (fun z => wp_ite (fun w => B1 ?_) fun w => e54 n1 n2 n3 n4 fun y => w y.2) fun z => e54 n1 n2 n3 n4 fun y => z y.1
    subst z; subst w; decide
  have e24 : ¬ (c = 46 ∧ d = 46) → ¬ (c = 45 ∧ d = 62) → Wp (f_X4_sign_24 n (f_X4_sign_71 n) (f_X4_sign_66 n (f_X4_sign_71 n)) x c d σ) (NxC σ x T q) := fun n1 n2 => by
    unfold f_X4_sign_24
    refine wp_ite (fun z => wp_ite (fun w => B1 ?_) fun w => wp_ite (fun w2 => B1 ?_) fun w2 => e42 n1 n2 (fun y => w y.2) fun y => w2 y.2) fun z => e42 n1 n2 (fun y => z y.1) fun y => z y.1
    · subst z; subst w; decide
    · subst z; subst w2; decide
  have e12 : ¬ (c = 46 ∧ d = 46) → Wp (f_X4_sign_12 n (f_X4_sign_71 n) (f_X4_sign_66 n (f_X4_sign_71 n)) x c d σ) (NxC σ x T q) := fun n1 => by
    unfold f_X4_sign_12
    refine wp_ite (fun z => wp_ite (fun w => B1 ?_) fun w => e24 n1 fun y => w y.2) fun z => e24 n1 fun y => z y.1
    subst z; subst w; decide
  unfold f_X4_sign
  refine wp_ite (fun z => wp_ite (fun w => B1 ?_) fun w => e12 fun y => w y.2) fun z => e12 fun y => z y.1
  subst z; subst w; decide
end CT
