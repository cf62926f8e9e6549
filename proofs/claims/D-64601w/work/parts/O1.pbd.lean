/-! MATCHES: what terms and conditions are worth, in plain Lean -/
set_option maxRecDepth 100000
def tval (G : Gr) (K : Int → Bool) (env : Int → Int) (t : Trm) : Option Int :=
  if t.1 = -1 then some t.2.2 else if t.2.1 = -1 then some (env t.1) else lk (if K t.1 = true then 1 else 0) (env t.1) t.2.1 (gp G)
def cmpB (o a b : Int) : Bool := if o = 42 then decide (a = b) else if o = 43 then decide (a ≠ b) else if o = 44 then decide (a < b) else if o = 45 then decide (a ≤ b) else if o = 46 then decide (b < a) else decide (b ≤ a)
def cmp2 (o : Int) : Option Int → Option Int → Bool
  | some a, some b => cmpB o a b
  | _, _ => false
def cndB (G : Gr) (K : Int → Bool) (env : Int → Int) (c : Cnd) : Bool :=
  if c.1 = 12 then (tval G K env c.2.1).isSome else if c.1 = 13 then (tval G K env c.2.1).isNone else
  cmp2 c.1 (tval G K env c.2.1) (tval G K env c.2.2)
def bdT (env : Int → Int) (t : Trm) : Bool := decide (t.1 = -1) || decide (env t.1 ≠ -1)
def bdC (env : Int → Int) (c : Cnd) : Bool := bdT env c.2.1 && (decide (c.1 = 12 ∨ c.1 = 13) || bdT env c.2.2)
def cH (G : Gr) (K : Int → Bool) (cs : List Cnd) (env : Int → Int) : Bool := cs.all fun c => !bdC env c || cndB G K env c
/-- all conditions hold -/
def aH (G : Gr) (K : Int → Bool) (cs : List Cnd) (env : Int → Int) : Bool := cs.all fun c => cndB G K env c
section CH
variable {G : Gr} {K : Int → Bool} {env env' : Int → Int} {t : Trm} {c : Cnd} {cs : List Cnd} {M : Nat}
theorem tval_ext (h : Ext env env') (hb : bdT env t = true) : tval G K env' t = tval G K env t ∧ bdT env' t = true := by
  unfold bdT at *
  unfold tval
  by_cases c1 : t.1 = -1
  · rw [if_pos c1, if_pos c1]
    exact ⟨rfl, by rw [decide_eq_true c1]; rfl⟩
  · rw [decide_eq_false c1, Bool.false_or, decide_eq_true_eq] at hb
    have e := h _ hb
    rw [if_neg c1, if_neg c1, e]
    exact ⟨rfl, by rw [decide_eq_true hb, Bool.or_true]⟩
theorem cnd_ext (h : Ext env env') (hb : bdC env c = true) : cndB G K env' c = cndB G K env c ∧ bdC env' c = true := by
  unfold bdC at *
  rw [Bool.and_eq_true] at hb
  obtain ⟨h1, h2⟩ := hb
  obtain ⟨e1, b1⟩ := tval_ext (G := G) (K := K) h h1
  rw [b1, Bool.true_and]
  unfold cndB
  rw [e1]
  by_cases c12 : c.1 = 12
  · rw [if_pos c12, if_pos c12, decide_eq_true (Or.inl c12)]
    exact ⟨rfl, rfl⟩
  by_cases c13 : c.1 = 13
  · rw [if_neg c12, if_pos c13, if_neg c12, if_pos c13, decide_eq_true (Or.inr c13)]
    exact ⟨rfl, rfl⟩
  · rw [decide_eq_false (fun w => w.elim c12 c13), Bool.false_or] at h2
    obtain ⟨e2, b2⟩ := tval_ext (G := G) (K := K) h h2
    rw [e2, b2, Bool.or_true]
    exact ⟨rfl, rfl⟩
/-- the pruning's law -/
theorem cH_ext (h : Ext env env') (hf : cH G K cs env = false) : cH G K cs env' = false := by
  unfold cH at *
  rw [List.all_eq_false] at *
  obtain ⟨c, hc, hn⟩ := hf
  refine ⟨c, hc, ?_⟩
  by_cases hb : bdC env c = true
  · obtain ⟨e, b⟩ := cnd_ext (G := G) (K := K) h hb
    rw [e, b]
    rw [hb] at hn
    exact hn
  · rw [Bool.not_eq_true] at hb
    rw [hb] at hn
    exact absurd rfl hn
/-- where all names have values, both are the same -/
theorem cH_aH (hE : ∀ k : Int, 0 ≤ k → k < M → env k ≠ -1) (hV : ∀ c, c ∈ cs → CdV M c ∧ (c.2.1.1 = -1 ∨ 0 ≤ c.2.1.1) ∧ ((c.1 = 12 ∨ c.1 = 13) ∨ (42 ≤ c.1 ∧ (c.2.2.1 = -1 ∨ 0 ≤ c.2.2.1)))) : cH G K cs env = aH G K cs env := by
  unfold cH aH
  have hbt : ∀ t : Trm, (t.1 = -1 ∨ 0 ≤ t.1) → t.1 < M → bdT env t = true := fun t h1 h2 => by
    unfold bdT
    rcases h1 with h1 | h1
    · rw [decide_eq_true h1]; rfl
    · rw [decide_eq_true (hE _ h1 h2), Bool.or_true]
  have : ∀ c, c ∈ cs → (!bdC env c || cndB G K env c) = cndB G K env c := fun c hc => by
    obtain ⟨⟨v1, v2⟩, v3, v4⟩ := hV c hc
    have hb : bdC env c = true := by
      unfold bdC
      rw [hbt _ v3 v1, Bool.true_and]
      rcases v4 with v4 | ⟨v4, v5⟩
      · rw [decide_eq_true v4]; rfl
      · rw [hbt _ v5 (v2 v4), Bool.or_true]
    rw [hb]
    rfl
  induction cs with
  | nil => rfl
  | cons c cs ih =>
    rw [List.all_cons, List.all_cons, this c (by simp), ih (fun c hc => hV c (by simp [hc])) (fun c hc => this c (by simp [hc]))]
end CH
