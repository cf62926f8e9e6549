/-! SNAPSHOTS: the graph's references against the plain graph; what the stack of changes leads back to -/
set_option maxRecDepth 100000
/-- nodes and edges by number, maps by thing -/
abbrev Sn : Type := F1 × F1 × (Int → F1)
def pv (σ : AS) (r : Int) : Option Int := if r = 0 then none else some (ld σ r 0)
/-- the plain graph G is what S is -/
def LK (σ : AS) (ty fr too : F1) (S : Sn) (G : Gr) : Prop :=
  (∀ i, S.1 i ≠ 0 ↔ gl G i ≠ -1) ∧ (∀ i, S.2.1 i ≠ 0 ↔ gt G i ≠ -1) ∧
  (∀ i, S.1 i ≠ 0 → ty (S.1 i) = gl G i ∧ ∀ k, pv σ (S.2.2 (S.1 i) k) = lk 0 i k (gp G)) ∧
  (∀ i, S.2.1 i ≠ 0 → (ty (S.2.1 i) = gt G i ∧ fr (S.2.1 i) = gf G i ∧ too (S.2.1 i) = go G i) ∧ ∀ k, pv σ (S.2.2 (S.2.1 i) k) = lk 1 i k (gp G))
/-- S before the change of record r -/
def und (σ : AS) (r : Int) (S : Sn) : Sn :=
  if kd σ r = 6 then (ud S.1 (ld σ r 0) 0, S.2)
  else if kd σ r = 7 then (S.1, ud S.2.1 (ld σ r 0) 0, S.2.2)
  else if kd σ r = 8 then (ud S.1 (ld σ r 0) (ld σ r 1), S.2)
  else if kd σ r = 9 then (S.1, ud S.2.1 (ld σ r 0) (ld σ r 1), S.2.2)
  else (S.1, S.2.1, fun q => if q = ld σ r 0 then ud (S.2.2 q) (ld σ r 1) (ld σ r 2) else S.2.2 q)
/-- the record's change can be taken back from S -/
def RecC (σ : AS) (Ow : F1) (TH : Int → Prop) (fr too : F1) (r : Int) (S : Sn) : Prop :=
  (kd σ r = 6 ∧ S.1 (ld σ r 0) ≠ 0 ∧ ∀ e, S.2.1 e ≠ 0 → fr (S.2.1 e) ≠ ld σ r 0 ∧ too (S.2.1 e) ≠ ld σ r 0) ∨
  (kd σ r = 7 ∧ S.2.1 (ld σ r 0) ≠ 0) ∨
  (kd σ r = 8 ∧ (0 ≤ ld σ r 0 ∧ ld σ r 0 < 400) ∧ S.1 (ld σ r 0) = 0 ∧ TH (ld σ r 1) ∧ kd σ (ld σ r 1) = 4 ∧ ∀ i, S.1 i ≠ ld σ r 1) ∨
  (kd σ r = 9 ∧ (0 ≤ ld σ r 0 ∧ ld σ r 0 < 1000) ∧ S.2.1 (ld σ r 0) = 0 ∧ TH (ld σ r 1) ∧ kd σ (ld σ r 1) = 5 ∧ (∀ i, S.2.1 i ≠ ld σ r 1) ∧ S.1 (fr (ld σ r 1)) ≠ 0 ∧ S.1 (too (ld σ r 1)) ≠ 0) ∨
  (kd σ r = 10 ∧ TH (ld σ r 0) ∧ (0 ≤ ld σ r 1 ∧ ld σ r 1 < 32) ∧ (ld σ r 2 = 0 ∨ Box σ Ow (ld σ r 2)) ∧ ((∃ i, S.1 i = ld σ r 0) ∨ ∃ i, S.2.1 i = ld σ r 0))
/-- L leads S back, change by change, to the graph that all but the last so many changes of l make -/
def Hist (σ : AS) (Ow : F1) (TH : Int → Prop) (ty fr too : F1) : List Int → Sn → List Ch → Prop
  | [], S, l => LK σ ty fr too S (run l)
  | r :: L, S, l => LK σ ty fr too S (run l) ∧ ∃ l0 c, l = l0 ++ [c] ∧ RecC σ Ow TH fr too r S ∧ Hist σ Ow TH ty fr too L (und σ r S) l0
def SnOk (σ : AS) (Ow : F1) (TH : Int → Prop) (S : Sn) : Prop := (∀ i, S.1 i ≠ 0 → TH (S.1 i)) ∧ (∀ i, S.2.1 i ≠ 0 → TH (S.2.1 i)) ∧ ∀ q, TH q → ∀ k, S.2.2 q k ≠ 0 → Box σ Ow (S.2.2 q k)
section HI
variable {σ σ' : AS} {Ow Ow' : F1} {TH TH' : Int → Prop} {ty fr too ty' fr' too' : F1} {S S' : Sn} {L : List Int} {l : List Ch} {G : Gr} {r : Int}
theorem Hist.lk (h : Hist σ Ow TH ty fr too L S l) : LK σ ty fr too S (run l) := by
  cases L with
  | nil => exact h
  | cons r L => exact h.1
theorem Hist.len : ∀ {L : List Int} {S : Sn} {l : List Ch}, Hist σ Ow TH ty fr too L S l → L.length ≤ l.length
  | [], _, _, _ => Nat.zero_le _
  | r :: L, S, l, h => by
    obtain ⟨_, l0, c, e, _, h2⟩ := h
    have := Hist.len h2
    rw [e]
    simp only [List.length_append, List.length_cons, List.length_nil]
    omega
/-- what a store must keep of another -/
def Kp (σ : AS) (Ow : F1) (TH : Int → Prop) (ty fr too : F1) (σ' : AS) (Ow' : F1) (TH' : Int → Prop) (ty' fr' too' : F1) : Prop :=
  (∀ q, Box σ Ow q → Box σ' Ow' q ∧ ld σ' q 0 = ld σ q 0) ∧ ∀ q, TH q → TH' q ∧ kd σ' q = kd σ q ∧ ty' q = ty q ∧ fr' q = fr q ∧ too' q = too q
def SnEq (TH : Int → Prop) (S S' : Sn) : Prop := S'.1 = S.1 ∧ S'.2.1 = S.2.1 ∧ ∀ q, TH q → S'.2.2 q = S.2.2 q
theorem LK.keep (hk : Kp σ Ow TH ty fr too σ' Ow' TH' ty' fr' too') (hS : SnOk σ Ow TH S) (he : SnEq TH S S') (h : LK σ ty fr too S G) : LK σ' ty' fr' too' S' G := by
  obtain ⟨e1, e2, e3⟩ := he
  obtain ⟨h1, h2, h3, h4⟩ := h
  obtain ⟨s1, s2, s3⟩ := hS
  have epv : ∀ q, TH q → ∀ k, pv σ' (S'.2.2 q k) = pv σ (S.2.2 q k) := fun q hq k => by
    rw [e3 q hq]
    unfold pv
    by_cases c : S.2.2 q k = 0
    · rw [if_pos c, if_pos c]
    · rw [if_neg c, if_neg c, (hk.1 _ (s3 q hq k c)).2]
  refine ⟨fun i => by rw [e1]; exact h1 i, fun i => by rw [e2]; exact h2 i, fun i hi => ?_, fun i hi => ?_⟩
  · rw [e1] at hi ⊢
    have ht := s1 i hi
    obtain ⟨a1, a2⟩ := h3 i hi
    exact ⟨by rw [(hk.2 _ ht).2.2.1]; exact a1, fun k => by rw [epv _ ht]; exact a2 k⟩
  · rw [e2] at hi ⊢
    have ht := s2 i hi
    obtain ⟨⟨a1, a2, a3⟩, a4⟩ := h4 i hi
    obtain ⟨_, _, b1, b2, b3⟩ := hk.2 _ ht
    exact ⟨⟨by rw [b1]; exact a1, by rw [b2]; exact a2, by rw [b3]; exact a3⟩, fun k => by rw [epv _ ht]; exact a4 k⟩
theorem und_eq (k : kd σ' r = kd σ r) (l : ∀ j, ld σ' r j = ld σ r j) : und σ' r S = und σ r S := by
  unfold und
  rw [k, l 0, l 1, l 2]
theorem SnOk.undo (hS : SnOk σ Ow TH S) (hr : RecC σ Ow TH fr too r S) : SnOk σ Ow TH (und σ r S) := by
  obtain ⟨s1, s2, s3⟩ := hS
  unfold und
  rcases hr with ⟨k, a1, a2⟩ | ⟨k, a1⟩ | ⟨k, a1, a2, a3, a4, a5⟩ | ⟨k, a1, a2, a3, a4, a5, a6, a7⟩ | ⟨k, a1, a2, a3, _⟩
  · rw [if_pos k]
    refine ⟨fun i hi => ?_, s2, s3⟩
    change ud S.1 (ld σ r 0) 0 i ≠ 0 at hi
    show TH (ud S.1 (ld σ r 0) 0 i)
    rw [ud_at] at hi ⊢
    by_cases c : i = ld σ r 0
    · rw [if_pos c] at hi; exact absurd rfl hi
    · rw [if_neg c] at hi ⊢; exact s1 i hi
  · rw [if_neg (by omega), if_pos k]
    refine ⟨s1, fun i hi => ?_, s3⟩
    change ud S.2.1 (ld σ r 0) 0 i ≠ 0 at hi
    show TH (ud S.2.1 (ld σ r 0) 0 i)
    rw [ud_at] at hi ⊢
    by_cases c : i = ld σ r 0
    · rw [if_pos c] at hi; exact absurd rfl hi
    · rw [if_neg c] at hi ⊢; exact s2 i hi
  · rw [if_neg (by omega), if_neg (by omega), if_pos k]
    refine ⟨fun i hi => ?_, s2, s3⟩
    change ud S.1 (ld σ r 0) (ld σ r 1) i ≠ 0 at hi
    show TH (ud S.1 (ld σ r 0) (ld σ r 1) i)
    rw [ud_at] at hi ⊢
    by_cases c : i = ld σ r 0
    · rw [if_pos c]; exact a3
    · rw [if_neg c] at hi ⊢; exact s1 i hi
  · rw [if_neg (by omega), if_neg (by omega), if_neg (by omega), if_pos k]
    refine ⟨s1, fun i hi => ?_, s3⟩
    change ud S.2.1 (ld σ r 0) (ld σ r 1) i ≠ 0 at hi
    show TH (ud S.2.1 (ld σ r 0) (ld σ r 1) i)
    rw [ud_at] at hi ⊢
    by_cases c : i = ld σ r 0
    · rw [if_pos c]; exact a3
    · rw [if_neg c] at hi ⊢; exact s2 i hi
  · rw [if_neg (by omega), if_neg (by omega), if_neg (by omega), if_neg (by omega)]
    refine ⟨s1, s2, fun q hq k2 hi => ?_⟩
    change (if q = ld σ r 0 then ud (S.2.2 q) (ld σ r 1) (ld σ r 2) else S.2.2 q) k2 ≠ 0 at hi
    show Box σ Ow ((if q = ld σ r 0 then ud (S.2.2 q) (ld σ r 1) (ld σ r 2) else S.2.2 q) k2)
    by_cases c : q = ld σ r 0
    · rw [if_pos c, ud_at] at hi ⊢
      by_cases c2 : k2 = ld σ r 1
      · rw [if_pos c2] at hi ⊢; exact a3.resolve_left hi
      · rw [if_neg c2] at hi ⊢; exact s3 q hq k2 hi
    · rw [if_neg c] at hi ⊢; exact s3 q hq k2 hi
theorem RecC.keep (hk : Kp σ Ow TH ty fr too σ' Ow' TH' ty' fr' too') (hS : SnOk σ Ow TH S) (he : SnEq TH S S') (k : kd σ' r = kd σ r) (l : ∀ j, ld σ' r j = ld σ r j) (h : RecC σ Ow TH fr too r S) : RecC σ' Ow' TH' fr' too' r S' := by
  obtain ⟨e1, e2, e3⟩ := he
  obtain ⟨s1, s2, s3⟩ := hS
  unfold RecC at h ⊢
  rw [k, l 0, l 1, l 2, e1, e2]
  rcases h with ⟨z, a1, a2⟩ | ⟨z, a1⟩ | ⟨z, a1, a2, a3, a4, a5⟩ | ⟨z, a1, a2, a3, a4, a5, a6, a7⟩ | ⟨z, a1, a2, a3, a4⟩
  · refine Or.inl ⟨z, a1, fun e he => ?_⟩
    obtain ⟨_, _, _, b2, b3⟩ := hk.2 _ (s2 e he)
    rw [b2, b3]
    exact a2 e he
  · exact Or.inr (Or.inl ⟨z, a1⟩)
  · obtain ⟨b0, b1, _⟩ := hk.2 _ a3
    exact Or.inr (Or.inr (Or.inl ⟨z, a1, a2, b0, by rw [b1]; exact a4, a5⟩))
  · obtain ⟨b0, b1, _, b2, b3⟩ := hk.2 _ a3
    exact Or.inr (Or.inr (Or.inr (Or.inl ⟨z, a1, a2, b0, by rw [b1]; exact a4, a5, by rw [b2]; exact a6, by rw [b3]; exact a7⟩)))
  · exact Or.inr (Or.inr (Or.inr (Or.inr ⟨z, (hk.2 _ a1).1, a2, a3.imp id fun q => (hk.1 _ q).1, a4⟩)))
theorem SnEq.undo (he : SnEq TH S S') : SnEq TH (und σ r S) (und σ r S') := by
  obtain ⟨e1, e2, e3⟩ := he
  obtain ⟨a, b, c⟩ := S
  obtain ⟨a', b', c'⟩ := S'
  change a' = a at e1
  change b' = b at e2
  change ∀ q, TH q → c' q = c q at e3
  subst e1 e2
  unfold und
  by_cases k6 : kd σ r = 6
  · rw [if_pos k6, if_pos k6]; exact ⟨rfl, rfl, e3⟩
  rw [if_neg k6, if_neg k6]
  by_cases k7 : kd σ r = 7
  · rw [if_pos k7, if_pos k7]; exact ⟨rfl, rfl, e3⟩
  rw [if_neg k7, if_neg k7]
  by_cases k8 : kd σ r = 8
  · rw [if_pos k8, if_pos k8]; exact ⟨rfl, rfl, e3⟩
  rw [if_neg k8, if_neg k8]
  by_cases k9 : kd σ r = 9
  · rw [if_pos k9, if_pos k9]; exact ⟨rfl, rfl, e3⟩
  rw [if_neg k9, if_neg k9]
  refine ⟨rfl, rfl, fun q hq => ?_⟩
  show (if q = ld σ r 0 then ud (c' q) (ld σ r 1) (ld σ r 2) else c' q) = (if q = ld σ r 0 then ud (c q) (ld σ r 1) (ld σ r 2) else c q)
  rw [e3 q hq]
theorem Hist.keep (hk : Kp σ Ow TH ty fr too σ' Ow' TH' ty' fr' too') : ∀ {L : List Int} {S S' : Sn} {l : List Ch}, (∀ r ∈ L, kd σ' r = kd σ r ∧ ∀ j, ld σ' r j = ld σ r j) → SnOk σ Ow TH S → SnEq TH S S' → Hist σ Ow TH ty fr too L S l → Hist σ' Ow' TH' ty' fr' too' L S' l
  | [], S, S', l, _, hS, he, h => LK.keep hk hS he h
  | r :: L, S, S', l, hL, hS, he, h => by
    obtain ⟨h1, l0, c, e, h2, h3⟩ := h
    obtain ⟨k, ll⟩ := hL r List.mem_cons_self
    refine ⟨LK.keep hk hS he h1, l0, c, e, RecC.keep hk hS he k ll h2, ?_⟩
    rw [und_eq k ll]
    exact Hist.keep hk (fun q hq => hL q (List.mem_cons_of_mem _ hq)) (hS.undo h2) he.undo h3
end HI
