/-! PURE: the graph: labels, types, ends, properties; changes -/
set_option maxRecDepth 100000
/-- a property: 1 for an edge, number, key, value -/
abbrev Pr : Type := Int × Int × Int × Int
abbrev Gr : Type := (Int → Int) × (Int → Int) × (Int → Int) × (Int → Int) × List Pr
/-- a change: sort and four numbers -/
abbrev Ch : Type := Int × Int × Int × Int × Int
def gl (G : Gr) : Int → Int := G.1
def gt (G : Gr) : Int → Int := G.2.1
def gf (G : Gr) : Int → Int := G.2.2.1
def go (G : Gr) : Int → Int := G.2.2.2.1
def gp (G : Gr) : List Pr := G.2.2.2.2
def G0 : Gr := (fun _ => -1, fun _ => -1, fun _ => 0, fun _ => 0, [])
/-- the first free place, from k on, m places are looked at -/
def ff (f : Int → Int) : Nat → Nat → Nat
  | 0, k => k
  | m + 1, k => if f (k : Int) = -1 then k else ff f m (k + 1)
theorem ff_ge {f : Int → Int} : ∀ {m k : Nat}, k ≤ ff f m k
  | 0, k => Nat.le_refl k
  | m + 1, k => by
    unfold ff
    by_cases h : f (k : Int) = -1
    · rw [if_pos h]; exact Nat.le_refl k
    · rw [if_neg h]
      have := ff_ge (f := f) (m := m) (k := k + 1)
      omega
theorem ff_le {f : Int → Int} : ∀ {m k : Nat}, ff f m k ≤ k + m
  | 0, k => Nat.le_refl k
  | m + 1, k => by
    unfold ff
    by_cases h : f (k : Int) = -1
    · rw [if_pos h]; omega
    · rw [if_neg h]
      have := ff_le (f := f) (m := m) (k := k + 1)
      omega
theorem ff_free {f : Int → Int} : ∀ {m k j : Nat}, k ≤ j → j < k + m → f (j : Int) = -1 → ff f m k ≤ j ∧ f (ff f m k : Int) = -1
  | 0, k, j, h1, h2, _ => by omega
  | m + 1, k, j, h1, h2, h3 => by
    unfold ff
    by_cases h : f (k : Int) = -1
    · rw [if_pos h]; exact ⟨h1, h⟩
    · rw [if_neg h]
      have : j ≠ k := fun e => h (e ▸ h3)
      exact ff_free (by omega) (by omega) h3
theorem ff_before {f : Int → Int} : ∀ {m k j : Nat}, k ≤ j → j < ff f m k → f (j : Int) ≠ -1
  | 0, k, j, h1, h2 => by unfold ff at h2; omega
  | m + 1, k, j, h1, h2 => by
    unfold ff at h2
    by_cases h : f (k : Int) = -1
    · rw [if_pos h] at h2; omega
    · rw [if_neg h] at h2
      by_cases e : j = k
      · rw [e]; exact h
      · exact ff_before (by omega) h2
/-- a property of this thing and key -/
def isP (s b k : Int) (x : Pr) : Prop := x.1 = s ∧ x.2.1 = b ∧ x.2.2.1 = k
def isT (s b : Int) (x : Pr) : Prop := x.1 = s ∧ x.2.1 = b
def lk (s b k : Int) : List Pr → Option Int
  | [] => none
  | x :: L => if x.1 = s ∧ x.2.1 = b ∧ x.2.2.1 = k then some x.2.2.2 else lk s b k L
def setP (s b k d : Int) : List Pr → List Pr
  | [] => [(s, b, k, d)]
  | x :: L => if x.1 = s ∧ x.2.1 = b ∧ x.2.2.1 = k then (s, b, k, d) :: L else x :: setP s b k d L
def remP (s b k : Int) : List Pr → List Pr
  | [] => []
  | x :: L => if x.1 = s ∧ x.2.1 = b ∧ x.2.2.1 = k then L else x :: remP s b k L
def remA (s b : Int) : List Pr → List Pr
  | [] => []
  | x :: L => if x.1 = s ∧ x.2.1 = b then remA s b L else x :: remA s b L
def actG (G : Gr) (c : Ch) : Gr :=
  if c.1 = 0 then (ud (gl G) (ff (gl G) 400 0) c.2.1, gt G, gf G, go G, gp G)
  else if c.1 = 1 then (gl G, ud (gt G) (ff (gt G) 1000 0) c.2.2.2.1, ud (gf G) (ff (gt G) 1000 0) c.2.1, ud (go G) (ff (gt G) 1000 0) c.2.2.1, gp G)
  else if c.1 = 2 then (ud (gl G) c.2.1 (-1), gt G, gf G, go G, remA 0 c.2.1 (gp G))
  else if c.1 = 3 then (gl G, ud (gt G) c.2.1 (-1), ud (gf G) c.2.1 0, ud (go G) c.2.1 0, remA 1 c.2.1 (gp G))
  else if c.1 = 5 then (gl G, gt G, gf G, go G, remP c.2.1 c.2.2.1 c.2.2.2.1 (gp G))
  else (gl G, gt G, gf G, go G, setP c.2.1 c.2.2.1 c.2.2.2.1 c.2.2.2.2 (gp G))
def run (l : List Ch) : Gr := l.foldl actG G0
theorem run_nil : run [] = G0 := rfl
theorem run_snoc {l : List Ch} {c : Ch} : run (l ++ [c]) = actG (run l) c := by
  unfold run
  rw [List.foldl_append]
  rfl
/-- a node, an edge is there -/
def nodeAt (G : Gr) (n : Int) : Prop := 0 ≤ n ∧ n < 400 ∧ gl G n ≠ -1
def edgeAt (G : Gr) (e : Int) : Prop := 0 ≤ e ∧ e < 1000 ∧ gt G e ≠ -1
def small (x : Int) : Prop := 0 ≤ x ∧ x < 32
def thingAt (G : Gr) (s b : Int) : Prop := (s = 0 ∧ nodeAt G b) ∨ (s = 1 ∧ edgeAt G b)
/-- what holds of every graph that changes make -/
def okG (G : Gr) : Prop :=
  (∀ n, gl G n ≠ -1 → 0 ≤ n ∧ n < 400 ∧ small (gl G n)) ∧
  (∀ e, gt G e ≠ -1 → 0 ≤ e ∧ e < 1000 ∧ small (gt G e) ∧ nodeAt G (gf G e) ∧ nodeAt G (go G e)) ∧
  (∀ e, gt G e = -1 → gf G e = 0 ∧ go G e = 0) ∧
  (∀ x ∈ gp G, thingAt G x.1 x.2.1 ∧ small x.2.2.1 ∧ -2147483648 ≤ x.2.2.2 ∧ x.2.2.2 ≤ 2147483647) ∧
  (gp G).Pairwise (fun x y => ¬ (x.1 = y.1 ∧ x.2.1 = y.2.1 ∧ x.2.2.1 = y.2.2.1))
/-- a change that may be done -/
def okC (G : Gr) (c : Ch) : Prop :=
  (c.1 = 0 ∧ small c.2.1 ∧ ff (gl G) 400 0 < 400) ∨
  (c.1 = 1 ∧ nodeAt G c.2.1 ∧ nodeAt G c.2.2.1 ∧ small c.2.2.2.1 ∧ ff (gt G) 1000 0 < 1000) ∨
  (c.1 = 2 ∧ nodeAt G c.2.1 ∧ ∀ e, gt G e ≠ -1 → gf G e ≠ c.2.1 ∧ go G e ≠ c.2.1) ∨
  (c.1 = 3 ∧ edgeAt G c.2.1) ∨
  (c.1 = 4 ∧ thingAt G c.2.1 c.2.2.1 ∧ small c.2.2.2.1 ∧ -2147483648 ≤ c.2.2.2.2 ∧ c.2.2.2.2 ≤ 2147483647) ∨
  (c.1 = 5 ∧ thingAt G c.2.1 c.2.2.1 ∧ small c.2.2.2.1 ∧ lk c.2.1 c.2.2.1 c.2.2.2.1 (gp G) ≠ none)
theorem lk_setP {s b k d s' b' k' : Int} : ∀ {L : List Pr}, lk s' b' k' (setP s b k d L) = if s' = s ∧ b' = b ∧ k' = k then some d else lk s' b' k' L
  | [] => by
    unfold setP lk
    by_cases h : s' = s ∧ b' = b ∧ k' = k
    · obtain ⟨rfl, rfl, rfl⟩ := h
      simp
    · rw [if_neg h, if_neg (fun q : s = s' ∧ b = b' ∧ k = k' => h ⟨q.1.symm, q.2.1.symm, q.2.2.symm⟩)]
      rfl
  | x :: L => by
    unfold setP
    by_cases hx : x.1 = s ∧ x.2.1 = b ∧ x.2.2.1 = k
    · rw [if_pos hx]
      unfold lk
      by_cases h : s' = s ∧ b' = b ∧ k' = k
      · obtain ⟨rfl, rfl, rfl⟩ := h
        simp
      · rw [if_neg h, if_neg (fun q : s = s' ∧ b = b' ∧ k = k' => h ⟨q.1.symm, q.2.1.symm, q.2.2.symm⟩)]
        rw [if_neg (fun q : x.1 = s' ∧ x.2.1 = b' ∧ x.2.2.1 = k' => h ⟨q.1.symm.trans hx.1, q.2.1.symm.trans hx.2.1, q.2.2.symm.trans hx.2.2⟩)]
    · rw [if_neg hx]
      unfold lk
      rw [lk_setP]
      by_cases hx2 : x.1 = s' ∧ x.2.1 = b' ∧ x.2.2.1 = k'
      · rw [if_pos hx2, if_pos hx2]
        rw [if_neg (fun q : s' = s ∧ b' = b ∧ k' = k => hx ⟨hx2.1.trans q.1, hx2.2.1.trans q.2.1, hx2.2.2.trans q.2.2⟩)]
      · rw [if_neg hx2, if_neg hx2]
theorem lk_none {s b k : Int} : ∀ {L : List Pr}, lk s b k L = none ↔ ∀ x ∈ L, ¬ (x.1 = s ∧ x.2.1 = b ∧ x.2.2.1 = k)
  | [] => by simp [lk]
  | x :: L => by
    unfold lk
    by_cases hx : x.1 = s ∧ x.2.1 = b ∧ x.2.2.1 = k
    · rw [if_pos hx]
      exact ⟨fun (h : some x.2.2.2 = none) => by simp at h, fun h => absurd hx (h x List.mem_cons_self)⟩
    · rw [if_neg hx, lk_none]
      exact ⟨fun h y hy => (List.mem_cons.mp hy).elim (fun e => e ▸ hx) (h y), fun h y hy => h y (List.mem_cons_of_mem _ hy)⟩
theorem lk_remP {s b k s' b' k' : Int} : ∀ {L : List Pr}, L.Pairwise (fun x y => ¬ (x.1 = y.1 ∧ x.2.1 = y.2.1 ∧ x.2.2.1 = y.2.2.1)) → lk s' b' k' (remP s b k L) = if s' = s ∧ b' = b ∧ k' = k then none else lk s' b' k' L
  | [], _ => by
    unfold remP lk
    rw [ite_self]
  | x :: L, hp => by
    rw [List.pairwise_cons] at hp
    unfold remP
    by_cases hx : x.1 = s ∧ x.2.1 = b ∧ x.2.2.1 = k
    · rw [if_pos hx]
      by_cases h : s' = s ∧ b' = b ∧ k' = k
      · rw [if_pos h, lk_none]
        intro y hy q
        exact hp.1 y hy ⟨hx.1.trans (h.1.symm.trans q.1.symm), hx.2.1.trans (h.2.1.symm.trans q.2.1.symm), hx.2.2.trans (h.2.2.symm.trans q.2.2.symm)⟩
      · rw [if_neg h]
        conv => rhs; unfold lk
        rw [if_neg (fun q : x.1 = s' ∧ x.2.1 = b' ∧ x.2.2.1 = k' => h ⟨q.1.symm.trans hx.1, q.2.1.symm.trans hx.2.1, q.2.2.symm.trans hx.2.2⟩)]
    · rw [if_neg hx]
      unfold lk
      rw [lk_remP hp.2]
      by_cases hx2 : x.1 = s' ∧ x.2.1 = b' ∧ x.2.2.1 = k'
      · rw [if_pos hx2, if_pos hx2]
        rw [if_neg (fun q : s' = s ∧ b' = b ∧ k' = k => hx ⟨hx2.1.trans q.1, hx2.2.1.trans q.2.1, hx2.2.2.trans q.2.2⟩)]
      · rw [if_neg hx2, if_neg hx2]
theorem lk_remA {s b s' b' k' : Int} : ∀ {L : List Pr}, lk s' b' k' (remA s b L) = if s' = s ∧ b' = b then none else lk s' b' k' L
  | [] => by
    unfold remA lk
    rw [ite_self]
  | x :: L => by
    unfold remA
    by_cases hx : x.1 = s ∧ x.2.1 = b
    · rw [if_pos hx, lk_remA]
      by_cases h : s' = s ∧ b' = b
      · rw [if_pos h, if_pos h]
      · rw [if_neg h, if_neg h]
        conv => rhs; unfold lk
        rw [if_neg (fun q : x.1 = s' ∧ x.2.1 = b' ∧ x.2.2.1 = k' => h ⟨q.1.symm.trans hx.1, q.2.1.symm.trans hx.2⟩)]
    · rw [if_neg hx]
      unfold lk
      rw [lk_remA]
      by_cases hx2 : x.1 = s' ∧ x.2.1 = b' ∧ x.2.2.1 = k'
      · rw [if_pos hx2, if_pos hx2]
        rw [if_neg (fun q : s' = s ∧ b' = b => hx ⟨hx2.1.trans q.1, hx2.2.1.trans q.2⟩)]
      · rw [if_neg hx2, if_neg hx2]
theorem mem_setP {s b k d : Int} {x : Pr} : ∀ {L : List Pr}, x ∈ setP s b k d L → x = (s, b, k, d) ∨ x ∈ L
  | [], h => Or.inl (List.mem_singleton.mp h)
  | y :: L, h => by
    unfold setP at h
    by_cases hy : y.1 = s ∧ y.2.1 = b ∧ y.2.2.1 = k
    · rw [if_pos hy] at h
      exact (List.mem_cons.mp h).imp id (List.mem_cons_of_mem _)
    · rw [if_neg hy] at h
      rcases List.mem_cons.mp h with e | e
      · exact Or.inr (e ▸ List.mem_cons_self)
      · exact (mem_setP e).imp id (List.mem_cons_of_mem _)
theorem mem_remP {s b k : Int} {x : Pr} : ∀ {L : List Pr}, x ∈ remP s b k L → x ∈ L
  | [], h => h
  | y :: L, h => by
    unfold remP at h
    by_cases hy : y.1 = s ∧ y.2.1 = b ∧ y.2.2.1 = k
    · rw [if_pos hy] at h
      exact List.mem_cons_of_mem _ h
    · rw [if_neg hy] at h
      rcases List.mem_cons.mp h with e | e
      · exact e ▸ List.mem_cons_self
      · exact List.mem_cons_of_mem _ (mem_remP e)
theorem mem_remA {s b : Int} {x : Pr} : ∀ {L : List Pr}, x ∈ remA s b L ↔ x ∈ L ∧ ¬ (x.1 = s ∧ x.2.1 = b)
  | [] => by simp [remA]
  | y :: L => by
    unfold remA
    by_cases hy : y.1 = s ∧ y.2.1 = b
    · rw [if_pos hy, mem_remA, List.mem_cons]
      exact ⟨fun h => ⟨Or.inr h.1, h.2⟩, fun h => ⟨h.1.elim (fun e => absurd hy (e ▸ h.2)) id, h.2⟩⟩
    · rw [if_neg hy, List.mem_cons, mem_remA, List.mem_cons]
      exact ⟨fun h => h.elim (fun e => ⟨Or.inl e, e ▸ hy⟩) (fun q => ⟨Or.inr q.1, q.2⟩), fun h => h.1.elim Or.inl (fun q => Or.inr ⟨q, h.2⟩)⟩
def apart (x y : Pr) : Prop := ¬ (x.1 = y.1 ∧ x.2.1 = y.2.1 ∧ x.2.2.1 = y.2.2.1)
theorem pw_setP {s b k d : Int} : ∀ {L : List Pr}, L.Pairwise apart → (setP s b k d L).Pairwise apart
  | [], _ => List.pairwise_singleton _ _
  | y :: L, h => by
    rw [List.pairwise_cons] at h
    unfold setP
    by_cases hy : y.1 = s ∧ y.2.1 = b ∧ y.2.2.1 = k
    · rw [if_pos hy, List.pairwise_cons]
      exact ⟨fun z hz q => h.1 z hz ⟨hy.1.trans q.1, hy.2.1.trans q.2.1, hy.2.2.trans q.2.2⟩, h.2⟩
    · rw [if_neg hy, List.pairwise_cons]
      refine ⟨fun z hz => ?_, pw_setP h.2⟩
      rcases mem_setP hz with e | e
      · rw [e]; exact hy
      · exact h.1 z e
theorem pw_remP {s b k : Int} : ∀ {L : List Pr}, L.Pairwise apart → (remP s b k L).Pairwise apart
  | [], h => h
  | y :: L, h => by
    rw [List.pairwise_cons] at h
    unfold remP
    by_cases hy : y.1 = s ∧ y.2.1 = b ∧ y.2.2.1 = k
    · rw [if_pos hy]; exact h.2
    · rw [if_neg hy, List.pairwise_cons]
      exact ⟨fun z hz => h.1 z (mem_remP hz), pw_remP h.2⟩
theorem pw_remA {s b : Int} : ∀ {L : List Pr}, L.Pairwise apart → (remA s b L).Pairwise apart
  | [], h => h
  | y :: L, h => by
    rw [List.pairwise_cons] at h
    unfold remA
    by_cases hy : y.1 = s ∧ y.2.1 = b
    · rw [if_pos hy]; exact pw_remA h.2
    · rw [if_neg hy, List.pairwise_cons]
      exact ⟨fun z hz => h.1 z (mem_remA.mp hz).1, pw_remA h.2⟩
