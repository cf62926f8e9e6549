/-! THE COMPONENT'S LEXER: constants, words, numbers -/
set_option maxRecDepth 100000
def sp (C : Int) : List Int :=
  if C = 10 then wWhere else if C = 11 then wAnd else if C = 12 then wHas else if C = 13 then wNo else if C = 14 then wReturn else if C = 15 then wCount else if C = 16 then wOrder else if C = 17 then wBy else if C = 18 then wDesc else if C = 19 then wLimit else if C = 20 then wDistinct else if C = 30 then [40] else if C = 31 then [41] else if C = 32 then [91] else if C = 33 then [93] else if C = 34 then [44] else if C = 35 then [58] else if C = 36 then [46] else if C = 37 then [42] else if C = 38 then [46, 46] else if C = 39 then [45] else if C = 40 then [45, 62] else if C = 41 then [60, 45] else if C = 42 then [61] else if C = 43 then [33, 61] else if C = 44 then [60] else if C = 45 then [60, 61] else if C = 46 then [62] else if C = 47 then [62, 61] else []
def wSigns : List Int := [40, 41, 91, 93, 44, 58, 46, 42, 45, 61, 60, 62]
/-- the string constants: where, and what -/
def cstr : List (Int × List Int) := [(17, sp 30), (19, sp 35), (21, sp 31), (23, sp 39), (25, sp 41), (27, sp 32), (29, sp 37), (31, sp 38), (33, sp 33), (35, sp 40), (37, sp 34), (39, wWhere), (41, wHas), (43, wNo), (45, sp 36), (47, sp 42), (49, sp 43), (51, sp 44), (53, sp 45), (55, sp 46), (57, sp 47), (59, wAnd), (61, wReturn), (63, wDistinct), (65, wCount), (67, wOrder), (69, wBy), (71, wDesc), (73, wLimit), (75, []), (77, wWhere), (79, wAnd), (81, wHas), (83, wNo), (85, wReturn), (87, wCount), (89, wOrder), (91, wBy), (93, wDesc), (95, wLimit), (97, wDistinct), (99, wSigns), (101, wNo), (103, sp 42), (105, sp 43), (107, sp 44), (109, sp 45), (111, sp 46)]
def KS (σ : AS) : Prop := 130 < nx σ ∧ (∀ r, 123 ≤ r → r ≤ 128 → kd σ r = 2099) ∧ ∀ p ∈ cstr, kd σ p.1 = 1024 ∧ ld σ p.1 0 = p.1 + 1 ∧ ld σ p.1 1 = 0 ∧ kd σ (p.1 + 1) = 1102 ∧ ln σ (p.1 + 1) = p.2.length ∧ ∀ i : Nat, i < p.2.length → ld σ (p.1 + 1) i = p.2.getD i 0
theorem cstr_rng : ∀ p ∈ cstr, 17 ≤ p.1 ∧ p.1 ≤ 111 := by decide +kernel
theorem KS.str {σ : AS} (h : KS σ) {r : Int} {l : List Int} (hm : (r, l) ∈ cstr) : StrAt σ r l ∧ kd σ r = 1024 := by
  obtain ⟨a1, a2, a3, a4, a5, a6⟩ := h.2.2 _ hm
  have a2' : ld σ r 0 = r + 1 := a2
  refine ⟨⟨Or.inr a1, a3, Or.inr ?_, ?_, fun i hi => ?_⟩, a1⟩
  · rw [a2']; exact a4
  · rw [a2']; exact a5
  · rw [a2']; exact a6 i hi
theorem KS.frame {σ σ' : AS} {S : Int → Prop} (h : KS σ) (hF : Fr S σ σ') (hS : ∀ r, r ≤ 130 → ¬ S r) : KS σ' := by
  have hn := hF.1
  refine ⟨by have := h.1; omega, fun r h1 h2 => by rw [hF.kd (by have := h.1; omega)]; exact h.2.1 r h1 h2, fun p hp => ?_⟩
  have hr := cstr_rng p hp
  have h0 := h.1
  obtain ⟨a1, a2, a3, a4, a5, a6⟩ := h.2.2 p hp
  refine ⟨by rw [hF.kd (by omega)]; exact a1, by rw [hF.ld (by omega) (hS _ (by omega))]; exact a2, by rw [hF.ld (by omega) (hS _ (by omega))]; exact a3, by rw [hF.kd (by omega)]; exact a4, by rw [hF.ln (by omega)]; exact a5, fun i hi => ?_⟩
  rw [hF.ld (by omega) (hS _ (by omega))]; exact a6 i hi
section CL
variable {σ σ0 : AS} {n : Nat} {x a b c s q e p : Int} {l m T : List Int}
theorem cmp_kc (hK : KS σ) (h : kd σ s = 24) {r : Int} {l : List Int} (hm : (r, l) ∈ cstr) : cmpOk σ s r := by
  have := (hK.str hm).2
  exact Or.inr (Or.inr (Or.inr ⟨by rw [h]; decide, by rw [this]; decide, by rw [h, this]; exact Or.inl (by decide)⟩))
theorem eq_const (hn : 1000000 ≤ n) (hK : KS σ) (hs : StrAt σ s l) (hk : kd σ s = 24) (hl : l.length ≤ 2000) {r : Int} {w : List Int} (hm : (r, w) ∈ cstr) : f_J15_equals n s r σ = some (if l = w then 1 else 0, σ) := str_equals_eq hn hl hs (hK.str hm).1 (cmp_kc hK hk hm)
theorem c_at_eq (hT : TxOk σ x T) (h0 : 0 ≤ p) : f_X4_at x p σ = some (bt T p, σ) := by
  unfold f_X4_at
  rw [gd_pos hT.1, hT.2.1]
  by_cases c : (T.length : Int) ≤ p
  · rw [if_pos c, bt_out c]
  · have := hT.2.2.2.1
    rw [if_neg c, gd_pos hT.1, gd_pos ⟨Or.inl hT.2.2.1, h0, by omega⟩, hT.2.2.2.2.1 p h0 (by omega)]
theorem c_isSmall_eq : f_X4_isSmall c σ = some (if isSm c = true then 1 else 0, σ) := by
  unfold f_X4_isSmall
  by_cases z : isSm c = true
  · rw [if_pos z]; rw [isSm_iff] at z
    rw [if_neg (by omega), if_neg (by omega)]
  · rw [if_neg z]; rw [isSm_iff] at z
    by_cases w : c < 97
    · rw [if_pos w]
    · rw [if_neg w, if_pos (by omega)]
theorem c_isDigit_eq : f_X4_isDigit c σ = some (if isDg c = true then 1 else 0, σ) := by
  unfold f_X4_isDigit
  by_cases z : isDg c = true
  · rw [if_pos z]; rw [isDg_iff] at z
    rw [if_neg (by omega), if_neg (by omega)]
  · rw [if_neg z]; rw [isDg_iff] at z
    by_cases w : c < 48
    · rw [if_pos w]
    · rw [if_neg w, if_pos (by omega)]
theorem c_isWord_eq (hn : 1000000 ≤ n) (hK : KS σ) (hs : StrAt σ s l) (hk : kd σ s = 24) (hl : l.length ≤ 2000) : f_X4_isWord n s σ = some (if wcode l = 1 then 0 else 1, σ) := by
  have hg : kd σ s = 24 ∨ kd σ s = 1024 := Or.inl hk
  have E : ∀ {r : Int} {w : List Int}, (r, w) ∈ cstr → f_J15_equals n s r σ = some (if l = w then 1 else 0, σ) := fun hm => eq_const hn hK hs hk hl hm
  unfold f_X4_isWord f_X4_isWord_54 f_X4_isWord_59
  have hone : (1 : Int) ≠ 0 := by decide
  rw [gd_pos hg, E (r := 77) (w := wWhere) (by decide), c1_at]
  by_cases c0 : l = wWhere
  · have : wcode l ≠ 1 := by rw [c0]; decide
    rw [if_pos c0, if_neg (by decide), if_neg this]
    rw [if_neg hone]
  rw [if_neg c0, if_pos rfl]
  rw [gd_pos hg, E (r := 79) (w := wAnd) (by decide), c1_at]
  by_cases c1 : l = wAnd
  · have : wcode l ≠ 1 := by rw [c1]; decide
    rw [if_pos c1, if_neg (by decide), if_neg this]
    rw [if_neg hone]
  rw [if_neg c1, if_pos rfl]
  rw [gd_pos hg, E (r := 81) (w := wHas) (by decide), c1_at]
  by_cases c2 : l = wHas
  · have : wcode l ≠ 1 := by rw [c2]; decide
    rw [if_pos c2, if_neg (by decide), if_neg this]
    rw [if_neg hone]
  rw [if_neg c2, if_pos rfl]
  rw [gd_pos hg, E (r := 83) (w := wNo) (by decide), c1_at]
  by_cases c3 : l = wNo
  · have : wcode l ≠ 1 := by rw [c3]; decide
    rw [if_pos c3, if_neg (by decide), if_neg this]
    rw [if_neg hone]
  rw [if_neg c3, if_pos rfl]
  rw [gd_pos hg, E (r := 85) (w := wReturn) (by decide), c1_at]
  by_cases c4 : l = wReturn
  · have : wcode l ≠ 1 := by rw [c4]; decide
    rw [if_pos c4, if_neg (by decide), if_neg this]
    rw [if_neg hone]
  rw [if_neg c4, if_pos rfl]
  rw [gd_pos hg, E (r := 87) (w := wCount) (by decide), c1_at]
  by_cases c5 : l = wCount
  · have : wcode l ≠ 1 := by rw [c5]; decide
    rw [if_pos c5, if_neg (by decide), if_neg this]
    rw [if_neg hone]
  rw [if_neg c5, if_pos rfl]
  rw [if_pos rfl]
  rw [gd_pos hg, E (r := 89) (w := wOrder) (by decide), c1_at]
  by_cases c6 : l = wOrder
  · have : wcode l ≠ 1 := by rw [c6]; decide
    rw [if_pos c6, if_neg (by decide), if_neg this]
  rw [if_neg c6, if_pos rfl]
  rw [gd_pos hg, E (r := 91) (w := wBy) (by decide), c1_at]
  by_cases c7 : l = wBy
  · have : wcode l ≠ 1 := by rw [c7]; decide
    rw [if_pos c7, if_neg (by decide), if_neg this]
  rw [if_neg c7, if_pos rfl]
  rw [gd_pos hg, E (r := 93) (w := wDesc) (by decide), c1_at]
  by_cases c8 : l = wDesc
  · have : wcode l ≠ 1 := by rw [c8]; decide
    rw [if_pos c8, if_neg (by decide), if_neg this]
  rw [if_neg c8, if_pos rfl]
  rw [gd_pos hg, E (r := 95) (w := wLimit) (by decide), c1_at]
  by_cases c9 : l = wLimit
  · have : wcode l ≠ 1 := by rw [c9]; decide
    rw [if_pos c9, if_neg (by decide), if_neg this]
  rw [if_neg c9, if_pos rfl]
  rw [gd_pos hg, E (r := 97) (w := wDistinct) (by decide), c1_at]
  by_cases c10 : l = wDistinct
  · have : wcode l ≠ 1 := by rw [c10]; decide
    rw [if_pos c10, if_neg (by decide), if_neg this]
  rw [if_neg c10, if_pos rfl]
  have : wcode l = 1 := by
    unfold wcode
    rw [if_neg c0, if_neg c1, if_neg c2, if_neg c3, if_neg c4, if_neg c5, if_neg c6, if_neg c7, if_neg c8, if_neg c9, if_neg c10]
  rw [if_pos this]
end CL
