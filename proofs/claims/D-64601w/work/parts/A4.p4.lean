/-! PURE: ways and what they cost -/
set_option maxRecDepth 100000
/-- edge e leads from u to v and weighs w -/
def EdgeW (G : Gr) (key e u v w : Int) : Prop := edgeAt G e ∧ gf G e = u ∧ go G e = v ∧ lk 1 e key (gp G) = some w ∧ 0 ≤ w
def Pth (G : Gr) (key fr : Int) : Nat → Int → Int → Prop
  | 0, v, c => v = fr ∧ c = 0
  | k + 1, v, c => ∃ e u c' w, Pth G key fr k u c' ∧ EdgeW G key e u v w ∧ c = c' + w
theorem Pth.nonneg {G : Gr} {key fr : Int} : ∀ {k : Nat} {v c : Int}, Pth G key fr k v c → 0 ≤ c
  | 0, v, c, h => by rw [h.2]; exact Int.le_refl 0
  | k + 1, v, c, h => by
    obtain ⟨e, u, c', w, h1, h2, h3⟩ := h
    have := h1.nonneg
    have := h2.2.2.2.2
    omega
def IsCost (G : Gr) (key fr to r : Int) : Prop := (r = -1 ∧ ∀ k c, ¬ Pth G key fr k to c) ∨ (0 ≤ r ∧ (∃ k, Pth G key fr k to r) ∧ ∀ k c, Pth G key fr k to c → r ≤ c)
theorem IsCost.unique {G : Gr} {key fr to r r' : Int} (h : IsCost G key fr to r) (h' : IsCost G key fr to r') : r = r' := by
  rcases h with ⟨h1, h2⟩ | ⟨h1, ⟨k, h2⟩, h3⟩ <;> rcases h' with ⟨g1, g2⟩ | ⟨g1, ⟨j, g2⟩, g3⟩
  · rw [h1, g1]
  · exact absurd g2 (h2 j r')
  · exact absurd h2 (g2 k r)
  · have := h3 j r' g2
    have := g3 k r h2
    omega
/-- costs that no edge makes less -/
theorem cost_fix {G : Gr} {key fr : Int} {f : Int → Int} (h0 : f fr = 0) (h1 : ∀ v, f v ≠ -1 → 0 ≤ f v ∧ ∃ k, Pth G key fr k v (f v)) (h2 : ∀ e u v w, EdgeW G key e u v w → f u ≠ -1 → f v ≠ -1 ∧ f v ≤ f u + w) (to : Int) : IsCost G key fr to (f to) := by
  have key2 : ∀ k v c, Pth G key fr k v c → f v ≠ -1 ∧ f v ≤ c := by
    intro k
    induction k with
    | zero => intro v c h; rw [h.1, h.2, h0]; exact ⟨by decide, Int.le_refl 0⟩
    | succ k ih =>
      intro v c h
      obtain ⟨e, u, c', w, a1, a2, a3⟩ := h
      obtain ⟨b1, b2⟩ := ih u c' a1
      obtain ⟨d1, d2⟩ := h2 e u v w a2 b1
      exact ⟨d1, by omega⟩
  by_cases h : f to = -1
  · exact Or.inl ⟨h, fun k c hp => (key2 k to c hp).1 h⟩
  · obtain ⟨a1, a2⟩ := h1 to h
    exact Or.inr ⟨a1, a2, fun k c hp => (key2 k to c hp).2⟩
/-- nodes that are done, at dl; what waits: cost and node; edges that aren't looked at yet -/
def DjI (G : Gr) (key fr : Int) (dn : Int → Prop) (dl : Int → Int) (W : List (Int × Int)) (pend : Int → Prop) : Prop :=
  (∀ p ∈ W, 0 ≤ p.1 ∧ ∃ k, Pth G key fr k p.2 p.1) ∧
  ((dn fr ∧ dl fr ≤ 0) ∨ ∃ p ∈ W, p.2 = fr ∧ p.1 ≤ 0) ∧
  (∀ e u v w, dn u → EdgeW G key e u v w → ¬ pend e → (dn v ∧ dl v ≤ dl u + w) ∨ ∃ p ∈ W, p.2 = v ∧ p.1 ≤ dl u + w) ∧
  (∀ u, dn u → ∀ p ∈ W, dl u ≤ p.1) ∧
  (∀ u, dn u → 0 ≤ dl u ∧ ∃ k, Pth G key fr k u (dl u))
section DJ
variable {G : Gr} {key fr to : Int} {dn : Int → Prop} {dl : Int → Int} {W W' : List (Int × Int)} {pend : Int → Prop} {c u : Int}
theorem DjI.start : DjI G key fr (fun _ => False) dl [(0, fr)] (fun _ => False) := by
  refine ⟨fun p hp => ?_, Or.inr ⟨(0, fr), List.mem_singleton.mpr rfl, rfl, Int.le_refl 0⟩, fun _ _ _ _ h => h.elim, fun _ h => h.elim, fun _ h => h.elim⟩
  rw [List.mem_singleton.mp hp]
  exact ⟨Int.le_refl 0, 0, rfl, rfl⟩
theorem DjI.way (h : DjI G key fr dn dl W (fun _ => False)) : ∀ {k : Nat} {v c : Int}, Pth G key fr k v c → (dn v ∧ dl v ≤ c) ∨ ∃ p ∈ W, p.1 ≤ c
  | 0, v, c, hp => by
    obtain ⟨e1, e2⟩ := hp
    rw [e1, e2]
    rcases h.2.1 with q | ⟨p, p1, p2, p3⟩
    · exact Or.inl q
    · exact Or.inr ⟨p, p1, p3⟩
  | k + 1, v, c, hp => by
    obtain ⟨e, u, c', w, a1, a2, a3⟩ := hp
    have hw := a2.2.2.2.2
    rcases h.way a1 with ⟨q1, q2⟩ | ⟨p, p1, p2⟩
    · rcases h.2.2.1 e u v w q1 a2 (fun z => z) with ⟨r1, r2⟩ | ⟨p, p1, p2, p3⟩
      · exact Or.inl ⟨r1, by omega⟩
      · exact Or.inr ⟨p, p1, by omega⟩
    · exact Or.inr ⟨p, p1, by omega⟩
theorem DjI.found (h : DjI G key fr dn dl W (fun _ => False)) (hn : ¬ dn to) (hp : (c, to) ∈ W) (hm : ∀ p ∈ W, c ≤ p.1) : IsCost G key fr to c := by
  obtain ⟨a1, a2⟩ := h.1 _ hp
  refine Or.inr ⟨a1, a2, fun k c' q => ?_⟩
  rcases h.way q with ⟨r, _⟩ | ⟨p, p1, p2⟩
  · exact absurd r hn
  · have := hm p p1
    omega
theorem DjI.empty (h : DjI G key fr dn dl [] (fun _ => False)) (hn : ¬ dn to) : IsCost G key fr to (-1) := by
  refine Or.inl ⟨rfl, fun k c q => ?_⟩
  rcases h.way q with ⟨r, _⟩ | ⟨p, p1, p2⟩
  · exact hn r
  · cases p1
/-- the least one is taken: its node is done already -/
theorem DjI.skip (h : DjI G key fr dn dl W (fun _ => False)) (hu : dn u) (hW : W.Perm ((c, u) :: W')) : DjI G key fr dn dl W' (fun _ => False) := by
  obtain ⟨h1, h2, h3, h4, h5⟩ := h
  have m : ∀ p, p ∈ W' → p ∈ W := fun p hp => hW.mem_iff.mpr (List.mem_cons_of_mem _ hp)
  have mc : (c, u) ∈ W := hW.mem_iff.mpr List.mem_cons_self
  have m' : ∀ p, p ∈ W → p = (c, u) ∨ p ∈ W' := fun p hp => List.mem_cons.mp (hW.mem_iff.mp hp)
  refine ⟨fun p hp => h1 p (m p hp), ?_, fun e x v w q1 q2 q3 => ?_, fun x hx p hp => h4 x hx p (m p hp), h5⟩
  · rcases h2 with q | ⟨p, p1, p2, p3⟩
    · exact Or.inl q
    · rcases m' p p1 with e | e
      · subst e
        change u = fr at p2
        change c ≤ 0 at p3
        have := h4 u hu _ mc
        change dl u ≤ c at this
        rw [p2] at hu this
        exact Or.inl ⟨hu, by omega⟩
      · exact Or.inr ⟨p, e, p2, p3⟩
  · rcases h3 e x v w q1 q2 q3 with q | ⟨p, p1, p2, p3⟩
    · exact Or.inl q
    · rcases m' p p1 with e2 | e2
      · subst e2
        change u = v at p2
        change c ≤ dl x + w at p3
        have := h4 u hu _ mc
        change dl u ≤ c at this
        rw [p2] at hu this
        exact Or.inl ⟨hu, by omega⟩
      · exact Or.inr ⟨p, e2, p2, p3⟩
/-- .. it gets done now: its edges are pending -/
theorem DjI.take (h : DjI G key fr dn dl W (fun _ => False)) (hu : ¬ dn u) (hW : W.Perm ((c, u) :: W')) (hm : ∀ p ∈ W, c ≤ p.1) : DjI G key fr (fun x => x = u ∨ dn x) (ud dl u c) W' (fun e => gf G e = u) := by
  obtain ⟨h1, h2, h3, h4, h5⟩ := h
  have m : ∀ p, p ∈ W' → p ∈ W := fun p hp => hW.mem_iff.mpr (List.mem_cons_of_mem _ hp)
  have mc : (c, u) ∈ W := hW.mem_iff.mpr List.mem_cons_self
  have m' : ∀ p, p ∈ W → p = (c, u) ∨ p ∈ W' := fun p hp => List.mem_cons.mp (hW.mem_iff.mp hp)
  have dne : ∀ x, dn x → ud dl u c x = dl x := fun x hx => ud_ne (fun e => hu (e ▸ hx))
  have due : ud dl u c u = c := ud_eq
  refine ⟨fun p hp => h1 p (m p hp), ?_, fun e x v w q1 q2 q3 => ?_, fun x hx p hp => ?_, fun x hx => ?_⟩
  · rcases h2 with ⟨q1, q2⟩ | ⟨p, p1, p2, p3⟩
    · exact Or.inl ⟨Or.inr q1, by rw [dne _ q1]; exact q2⟩
    · rcases m' p p1 with e | e
      · subst e
        change u = fr at p2
        change c ≤ 0 at p3
        refine Or.inl ⟨Or.inl p2.symm, ?_⟩
        rw [← p2, due]
        exact p3
      · exact Or.inr ⟨p, e, p2, p3⟩
  · rcases q1 with q1 | q1
    · exact absurd (q2.2.1.trans q1) q3
    · rw [dne _ q1]
      rcases h3 e x v w q1 q2 (fun z => z) with ⟨r1, r2⟩ | ⟨p, p1, p2, p3⟩
      · exact Or.inl ⟨Or.inr r1, by rw [dne _ r1]; exact r2⟩
      · rcases m' p p1 with e2 | e2
        · subst e2
          change u = v at p2
          change c ≤ dl x + w at p3
          refine Or.inl ⟨Or.inl p2.symm, ?_⟩
          rw [← p2, due]
          exact p3
        · exact Or.inr ⟨p, e2, p2, p3⟩
  · rcases hx with hx | hx
    · rw [hx, due]; exact hm p (m p hp)
    · rw [dne _ hx]; exact h4 x hx p (m p hp)
  · rcases hx with hx | hx
    · rw [hx, due]; exact h1 _ mc
    · rw [dne _ hx]; exact h5 x hx
/-- an edge is looked at: nothing to add -/
theorem DjI.pass {pend' : Int → Prop} {e : Int} (h : DjI G key fr dn dl W pend) (hp : ∀ x, pend x → x = e ∨ pend' x) (he : ∀ u v w, dn u → EdgeW G key e u v w → dn v ∧ dl v ≤ dl u + w) : DjI G key fr dn dl W pend' := by
  obtain ⟨h1, h2, h3, h4, h5⟩ := h
  refine ⟨h1, h2, fun e' x v w q1 q2 q3 => ?_, h4, h5⟩
  by_cases z : pend e'
  · rcases hp e' z with y | y
    · subst y; exact Or.inl (he x v w q1 q2)
    · exact absurd y q3
  · exact h3 e' x v w q1 q2 z
/-- .. its end waits now -/
theorem DjI.push {pend' : Int → Prop} {e v w : Int} (h : DjI G key fr dn dl W pend) (hp : ∀ x, pend x → x = e ∨ pend' x) (hu : dn u) (he : EdgeW G key e u v w) (hm : ∀ x, dn x → dl x ≤ dl u) (hW : W'.Perm ((dl u + w, v) :: W)) : DjI G key fr dn dl W' pend' := by
  obtain ⟨h1, h2, h3, h4, h5⟩ := h
  have m : ∀ p, p ∈ W → p ∈ W' := fun p hp => hW.mem_iff.mpr (List.mem_cons_of_mem _ hp)
  have mc : (dl u + w, v) ∈ W' := hW.mem_iff.mpr List.mem_cons_self
  have m' : ∀ p, p ∈ W' → p = (dl u + w, v) ∨ p ∈ W := fun p hp => List.mem_cons.mp (hW.mem_iff.mp hp)
  obtain ⟨k0, k1, hk⟩ := h5 u hu
  have hw := he.2.2.2.2
  refine ⟨fun p q => ?_, h2.imp id fun ⟨p, p1, p2⟩ => ⟨p, m p p1, p2⟩, fun e' x v' w' q1 q2 q3 => ?_, fun x hx p q => ?_, h5⟩
  · rcases m' p q with y | y
    · subst y
      exact ⟨by show 0 ≤ dl u + w; omega, k1 + 1, e, u, dl u, w, hk, he, rfl⟩
    · exact h1 p y
  · by_cases z : pend e'
    · rcases hp e' z with y | y
      · subst y
        have a1 : x = u := q2.2.1.symm.trans he.2.1
        have a2 : v' = v := q2.2.2.1.symm.trans he.2.2.1
        have a3 : w' = w := Option.some.inj (q2.2.2.2.1.symm.trans he.2.2.2.1)
        rw [a1, a2, a3]
        exact Or.inr ⟨_, mc, rfl, Int.le_refl _⟩
      · exact absurd y q3
    · exact (h3 e' x v' w' q1 q2 z).imp id fun ⟨p, p1, p2⟩ => ⟨p, m p p1, p2⟩
  · rcases m' p q with y | y
    · subst y
      have := hm x hx
      show dl x ≤ dl u + w
      omega
    · exact h4 x hx p y
end DJ
