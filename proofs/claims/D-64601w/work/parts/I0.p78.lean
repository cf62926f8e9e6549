/-! WHICH TOKEN: is -/
set_option maxRecDepth 100000
theorem sp_inj : ∀ a b : Fin 48, ((10 ≤ a.1 ∧ a.1 ≤ 20) ∨ (30 ≤ a.1 ∧ a.1 ≤ 47)) → ((10 ≤ b.1 ∧ b.1 ≤ 20) ∨ (30 ≤ b.1 ∧ b.1 ≤ 47)) → sp (a.1 : Int) = sp (b.1 : Int) → a = b := by decide +kernel
/-- codes that have a spelling -/
def spC (C : Int) : Prop := (10 ≤ C ∧ C ≤ 20) ∨ (30 ≤ C ∧ C ≤ 47)
theorem sp_inj' {C D : Int} (h : spC C) (h' : spC D) (e : sp C = sp D) : C = D := by
  unfold spC at h h'
  have := sp_inj ⟨C.toNat, by omega⟩ ⟨D.toNat, by omega⟩ (by show (10 ≤ C.toNat ∧ C.toNat ≤ 20) ∨ _; show _ ∨ (30 ≤ C.toNat ∧ C.toNat ≤ 47); omega) (by show (10 ≤ D.toNat ∧ D.toNat ≤ 20) ∨ (30 ≤ D.toNat ∧ D.toNat ≤ 47); omega) (by show sp ((C.toNat : Nat) : Int) = sp ((D.toNat : Nat) : Int); rw [show ((C.toNat : Nat) : Int) = C by omega, show ((D.toNat : Nat) : Int) = D by omega]; exact e)
  have := Fin.mk.inj this
  omega
def wsp (w : List Int) (x : Int) : Prop := x = 1 ∨ w = sp x
theorem wcode_sp {w : List Int} : wsp w (wcode w) := by
  unfold wcode
  have step : ∀ {v : List Int} {k y : Int}, sp k = v → (w ≠ v → wsp w y) → wsp w (if w = v then k else y) := fun {v k y} e h => by
    by_cases c : w = v
    · rw [if_pos c]; exact Or.inr (c.trans e.symm)
    · rw [if_neg c]; exact h c
  exact step rfl fun _ => step rfl fun _ => step rfl fun _ => step rfl fun _ => step rfl fun _ => step rfl fun _ => step rfl fun _ => step rfl fun _ => step rfl fun _ => step rfl fun _ => step rfl fun _ => Or.inl rfl
def s1p (c x : Int) : Prop := x = 50 ∨ [c] = sp x
theorem sgn1_sp {c : Int} : s1p c (sgn1 c) := by
  unfold sgn1
  have step : ∀ {v k y : Int}, [v] = sp k → s1p c y → s1p c (if c = v then k else y) := fun {v k y} e h => by
    by_cases z : c = v
    · rw [if_pos z, z]; exact Or.inr e
    · rw [if_neg z]; exact h
  exact step rfl (step rfl (step rfl (step rfl (step rfl (step rfl (step rfl (step rfl (step rfl (step rfl (step rfl (step rfl (Or.inl rfl))))))))))))
def s2p (c d x : Int) : Prop := x = 0 ∨ [c, d] = sp x
theorem sgn2_sp {c d : Int} : s2p c d (sgn2 c d) := by
  unfold sgn2
  have step : ∀ {v w k y : Int}, [v, w] = sp k → s2p c d y → s2p c d (if c = v ∧ d = w then k else y) := fun {v w k y} e h => by
    by_cases z : c = v ∧ d = w
    · rw [if_pos z, z.1, z.2]; exact Or.inr e
    · rw [if_neg z]; exact h
  exact step rfl (step rfl (step rfl (step rfl (step rfl (step rfl (Or.inl rfl))))))
section IS
variable {σ σ0 : AS} {n : Nat} {x q r C : Int} {T : List Int}
theorem tkC_rng (h : 0 ≤ q) : tkC T q = 0 ∨ tkC T q = 1 ∨ tkC T q = 2 ∨ tkC T q = 50 ∨ spC (tkC T q) := by
  unfold tkC
  by_cases c1 : (T.length : Int) ≤ q
  · rw [if_pos c1]; exact Or.inl rfl
  rw [if_neg c1]
  by_cases c2 : isSm (bt T q) = true
  · rw [if_pos c2]
    have := wcode_rng (w := slc T q (wdE T q))
    unfold spC; omega
  rw [if_neg c2]
  by_cases c3 : nmB T q = true
  · rw [if_pos c3]
    by_cases c4 : -2147483648 ≤ nmA T q ∧ nmA T q ≤ 2147483647
    · rw [if_pos c4]; exact Or.inr (Or.inr (Or.inl rfl))
    · rw [if_neg c4]; exact Or.inr (Or.inr (Or.inr (Or.inl rfl)))
  rw [if_neg c3]
  have h1 := sgn1_ok (c := bt T q)
  have h2 := sgn2_ok (c := bt T q) (d := bt T (q + 1))
  unfold sgn
  unfold sOk at h1
  unfold dOk two at h2
  unfold spC
  by_cases z : sgn2 (bt T q) (bt T (q + 1)) = 0
  · rw [if_pos z]; generalize sgn1 (bt T q) = s at *; omega
  · rw [if_neg z]; generalize sgn2 (bt T q) (bt T (q + 1)) = s at *; omega
/-- a word or a sign is spelt as its code says -/
theorem tk_sp (hb : BtOk T) (h0 : 0 ≤ q ∧ q ≤ T.length) (h : spC (tkC T q)) : slc T q (tkE T q) = sp (tkC T q) := by
  unfold spC at h
  have hlt : q < T.length := by
    apply Classical.byContradiction
    intro w
    unfold tkC at h
    rw [if_pos (by omega)] at h
    omega
  by_cases c2 : isSm (bt T q) = true
  · have eC : tkC T q = wcode (slc T q (wdE T q)) := by unfold tkC; rw [if_neg (by omega), if_pos c2]
    have eE : tkE T q = wdE T q := by unfold tkE; rw [if_neg (by omega), if_pos c2]
    rw [eE, eC]
    rw [eC] at h
    exact (wcode_sp (w := slc T q (wdE T q))).resolve_left (fun z => by rw [z] at h; omega)
  by_cases c3 : nmB T q = true
  · exfalso
    unfold tkC at h
    rw [if_neg (by omega), if_neg c2, if_pos c3] at h
    by_cases c4 : -2147483648 ≤ nmA T q ∧ nmA T q ≤ 2147483647
    · rw [if_pos c4] at h; omega
    · rw [if_neg c4] at h; omega
  have eC : tkC T q = sgn (bt T q) (bt T (q + 1)) := by unfold tkC; rw [if_neg (by omega), if_neg c2, if_neg c3]
  have eE : tkE T q = if sgn2 (bt T q) (bt T (q + 1)) = 0 then q + 1 else q + 2 := by unfold tkE; rw [if_neg (by omega), if_neg c2, if_neg c3]
  by_cases z : sgn2 (bt T q) (bt T (q + 1)) = 0
  · rw [if_pos z] at eE
    have eC1 : tkC T q = sgn1 (bt T q) := by rw [eC]; unfold sgn; rw [if_pos z]
    rw [eE, eC1]
    rw [eC1] at h
    rw [← (sgn1_sp (c := bt T q)).resolve_left (fun z => by rw [z] at h; omega)]
    have hl : ((slc T q (q + 1)).length : Int) = 1 := by rw [slc_len h0.1 (by omega) (by omega)]; omega
    refine list_ext (by show _ = 1; omega) fun i hi => ?_
    have : i = 0 := by omega
    subst this
    rw [slc_at h0.1 (by omega), show q + ((0 : Nat) : Int) = q by omega]
    rfl
  · rw [if_neg z] at eE
    have hs := (sgn2_slc ⟨h0.1, hlt⟩ hb z).2.2
    have eC1 : tkC T q = sgn2 (bt T q) (bt T (q + 1)) := by rw [eC]; unfold sgn; rw [if_neg z]
    rw [eE, eC1]
    rw [← (sgn2_sp (c := bt T q) (d := bt T (q + 1))).resolve_left z]
    have hl : ((slc T q (q + 2)).length : Int) = 2 := by rw [slc_len h0.1 (by omega) (by omega)]; omega
    refine list_ext (by show _ = 2; omega) fun i hi => ?_
    obtain y | y : i = 0 ∨ i = 1 := by omega
    · subst y
      rw [slc_at h0.1 (by omega), show q + ((0 : Nat) : Int) = q by omega]
      rfl
    · subst y
      rw [slc_at h0.1 (by omega)]
      rfl
theorem kdOf_at : kdOf 0 = 124 ∧ kdOf 1 = 125 ∧ kdOf 2 = 126 ∧ kdOf 50 = 123 := ⟨rfl, rfl, rfl, rfl⟩
theorem kdOf_sp (h : spC C) : (kdOf C = 127 ∨ kdOf C = 128) ∧ 123 ≤ kdOf C ∧ kdOf C ≤ 128 := by
  unfold spC at h
  unfold kdOf
  rw [if_neg (by omega), if_neg (by omega), if_neg (by omega), if_neg (by omega)]
  by_cases c : C < 30
  · rw [if_pos c]; omega
  · rw [if_neg c]; omega
theorem kdOf_rng (h : 0 ≤ q) : 123 ≤ kdOf (tkC T q) ∧ kdOf (tkC T q) ≤ 128 := by
  rcases tkC_rng (T := T) h with e | e | e | e | e
  · rw [e]; decide
  · rw [e]; decide
  · rw [e]; decide
  · rw [e]; decide
  · exact (kdOf_sp e).2
theorem cmp_kinds (hK : KS σ) (h : LxC σ x T q) {k : Int} (hk : 123 ≤ k ∧ k ≤ 128) : cmpOk σ (ld σ x 4) k := by
  rw [h.2.2.2.1]
  have := kdOf_rng (T := T) h.2.2.2.2.2.2.1
  refine Or.inr (Or.inr (Or.inr ⟨?_, ?_, ?_⟩))
  · rw [hK.2.1 _ this.1 this.2]; decide
  · rw [hK.2.1 _ hk.1 hk.2]; decide
  · rw [hK.2.1 _ this.1 this.2, hK.2.1 _ hk.1 hk.2]; exact Or.inr (Or.inr ⟨by decide, by decide⟩)
theorem is_eq (hn : 1000000 ≤ n) (hb : BtOk T) (hK : KS σ) (h : LxC σ x T q) (hm : (r, sp C) ∈ cstr) (hC : spC C) : f_X4_is n x r σ = some (if tkC T q = C then 1 else 0, σ) := by
  have hl := hb.1
  obtain ⟨h1, h2, h3, h4, h5, h6, h7, h8⟩ := id h
  have k20 : spC (tkC T q) → f_X4_is_20 n x r σ = some (if tkC T q = C then 1 else 0, σ) := fun z => by
    have z' := z
    unfold spC at z'
    obtain ⟨s1, s2⟩ := h6 (by omega) (by omega) (by omega)
    unfold f_X4_is_20
    have hle := tkE_le (T := T) h8
    have hln : ((slc T q (tkE T q)).length : Int) = tkE T q - q := slc_len h7 (by omega) (by omega)
    rw [gd_pos h1.1, gd_pos (Or.inl s1.2.1.1), eq_const hn hK s1.1 s1.2.1.1 (by omega) hm, c1_at, tk_sp hb ⟨h7, h8⟩ z]
    by_cases c : tkC T q = C
    · rw [if_pos c, c, if_pos rfl, if_neg (by decide)]
    · rw [if_neg c, if_neg (fun w => c (sp_inj' z hC w)), if_pos rfl]
  unfold f_X4_is
  rw [gd_pos h1.1, gdc_pos (cmp_kinds hK h (by decide)), h4]
  have oth : ∀ D, tkC T q = D → ¬ spC D → kdOf D ≠ 128 → kdOf D ≠ 127 → (if kdOf (tkC T q) = 128 then f_X4_is_20 n x r σ else gd (kd σ x = 19) (gdc (cmpOk σ (kdOf (tkC T q)) 127) (if kdOf (tkC T q) = 127 then f_X4_is_20 n x r σ else some (0, σ)))) = some (if tkC T q = C then 1 else 0, σ) := fun D e z1 z2 z3 => by
    have hc := cmp_kinds hK h (k := 127) (by decide)
    rw [h4] at hc
    rw [gdc_pos hc, gd_pos h1.1, e, if_neg z2, if_neg z3, if_neg (fun w => z1 (by rw [w]; exact hC))]
  rcases tkC_rng (T := T) h7 with e | e | e | e | e
  · exact oth 0 e (by unfold spC; omega) (by decide) (by decide)
  · exact oth 1 e (by unfold spC; omega) (by decide) (by decide)
  · exact oth 2 e (by unfold spC; omega) (by decide) (by decide)
  · exact oth 50 e (by unfold spC; omega) (by decide) (by decide)
  · rcases (kdOf_sp e).1 with k | k
    · have hc := cmp_kinds hK h (k := 127) (by decide)
      rw [h4] at hc
      rw [k] at hc ⊢
      rw [if_neg (by decide), gd_pos h1.1, gdc_pos hc, if_pos rfl, k20 e]
    · rw [k, if_pos rfl, k20 e]
end IS
