/-! PURE: search trees: rotation to the right, a new leaf, a node goes, labels change -/
set_option maxRecDepth 100000
section RR
variable {N : Int → Prop} {k l r p lo hi ow : F1} {rt x y b g : Int}
def rrL (l r p : F1) (x y g : Int) : F1 := fun q => if q = x then r y else if q = g ∧ r g ≠ x then y else l q
def rrR (r : F1) (x y g : Int) : F1 := fun q => if q = y then x else if q = g ∧ r g = x then y else r q
def rrP (r p : F1) (x y g : Int) : F1 := fun q => if q = x then y else if q = y then g else if q = r y ∧ r y ≠ 0 then x else p q
theorem rr_1 (h : Tree N k l r p lo hi ow rt) (hx : N x) (hy : y = l x) (h0 : l x ≠ 0) (hg : g = p x) : TrB N k (fun q => if q = x then k y else lo q) (fun q => if q = y then hi x else hi q) := by
  obtain ⟨h1, h2, h3, h4, h5, h6, h7, h8, h9⟩ := h
  unfold TrB TrL TrR at *
  grind
theorem rr_2 (h : Tree N k l r p lo hi ow rt) (hx : N x) (hy : y = l x) (h0 : l x ≠ 0) (hg : g = p x) : TrL N k (rrL l r p x y g) (rrP r p x y g) (fun q => if q = x then k y else lo q) (fun q => if q = y then hi x else hi q) := by
  obtain ⟨h1, h2, h3, h4, h5, h6, h7, h8, h9⟩ := h
  unfold TrB TrL TrR TrH TrI rrL rrP at *
  grind
theorem rr_3 (h : Tree N k l r p lo hi ow rt) (hx : N x) (hy : y = l x) (h0 : l x ≠ 0) (hg : g = p x) : TrR N k (rrR r x y g) (rrP r p x y g) (fun q => if q = x then k y else lo q) (fun q => if q = y then hi x else hi q) := by
  obtain ⟨h1, h2, h3, h4, h5, h6, h7, h8, h9⟩ := h
  unfold TrB TrL TrR TrH TrI rrR rrP at *
  grind
theorem rr_4 (h : Tree N k l r p lo hi ow rt) (hx : N x) (hy : y = l x) (h0 : l x ≠ 0) (hg : g = p x) : TrE N k (rrL l r p x y g) (fun q => if q = x then k y else lo q) (fun i => if r y = 0 ∧ k y < i ∧ i < k x then x else ow i) := by
  obtain ⟨h1, h2, h3, h4, h5, h6, h7, h8, h9⟩ := h
  unfold TrB TrL TrR TrE TrF TrG TrH TrI rrL at *
  grind
theorem rr_5 (h : Tree N k l r p lo hi ow rt) (hx : N x) (hy : y = l x) (h0 : l x ≠ 0) (hg : g = p x) : TrF N k (rrR r x y g) (fun q => if q = y then hi x else hi q) (fun i => if r y = 0 ∧ k y < i ∧ i < k x then x else ow i) := by
  obtain ⟨h1, h2, h3, h4, h5, h6, h7, h8, h9⟩ := h
  unfold TrB TrL TrR TrE TrF TrG TrH TrI rrR at *
  grind
theorem rr_6 (h : Tree N k l r p lo hi ow rt) (hx : N x) (hy : y = l x) (h0 : l x ≠ 0) : TrG N k (fun i => if r y = 0 ∧ k y < i ∧ i < k x then x else ow i) := by
  obtain ⟨h1, h2, h3, h4, h5, h6, h7, h8, h9⟩ := h
  intro q hq
  subst hy
  obtain ⟨a1, a2, a3, a4⟩ := h2 x hx h0
  show (if r (l x) = 0 ∧ k (l x) < k q ∧ k q < k x then x else ow (k q)) = q
  by_cases c : r (l x) = 0 ∧ k (l x) < k q ∧ k q < k x
  · have e := h5 (l x) a1 c.1 (k q) c.2.1 (by omega)
    rw [h6 q hq] at e
    rw [e] at c
    omega
  · rw [if_neg c]
    exact h6 q hq
theorem rr_7 (h : Tree N k l r p lo hi ow rt) (hx : N x) (hy : y = l x) (h0 : l x ≠ 0) : TrS N k (fun q => if q = x then k y else lo q) (fun q => if q = y then hi x else hi q) := by
  obtain ⟨h1, h2, h3, h4, h5, h6, h7, h8, h9⟩ := h
  unfold TrS TrL at *
  grind
theorem rr_8 (h : Tree N k l r p lo hi ow rt) (hx : N x) (hy : y = l x) (h0 : l x ≠ 0) (hg : g = p x) : TrH N (rrL l r p x y g) (rrR r x y g) (rrP r p x y g) (if g = 0 then y else rt) := by
  obtain ⟨h1, h2, h3, h4, h5, h6, h7, h8, h9⟩ := h
  unfold TrB TrL TrR TrH TrI rrL rrR rrP at *
  grind
theorem rr_9 (h : Tree N k l r p lo hi ow rt) (hx : N x) (hy : y = l x) (h0 : l x ≠ 0) (hg : g = p x) : TrI N (rrP r p x y g) (fun q => if q = x then k y else lo q) (fun q => if q = y then hi x else hi q) (if g = 0 then y else rt) := by
  obtain ⟨h1, h2, h3, h4, h5, h6, h7, h8, h9⟩ := h
  unfold TrB TrL TrR TrH TrI rrP at *
  grind
theorem rr_all (h : Tree N k l r p lo hi ow rt) (hx : N x) (hy : y = l x) (h0 : l x ≠ 0) (hg : g = p x) : Tree N k (rrL l r p x y g) (rrR r x y g) (rrP r p x y g) (fun q => if q = x then k y else lo q) (fun q => if q = y then hi x else hi q) (fun i => if r y = 0 ∧ k y < i ∧ i < k x then x else ow i) (if g = 0 then y else rt) :=
  ⟨rr_1 h hx hy h0 hg, rr_2 h hx hy h0 hg, rr_3 h hx hy h0 hg, rr_4 h hx hy h0 hg, rr_5 h hx hy h0 hg, rr_6 h hx hy h0, rr_7 h hx hy h0, rr_8 h hx hy h0 hg, rr_9 h hx hy h0 hg⟩
end RR
section TL
variable {N : Int → Prop} {k l r p lo hi ow : F1} {rt x y z c e g i : Int}
/-- a leaf e of label i comes to the left of x -/
theorem tree_leafL (h : Tree N k l r p lo hi ow rt) (hx : N x) (h0 : l x = 0) (he : ¬ N e) (he0 : e ≠ 0) (hi1 : lo x < i) (hi2 : i < k x) (hev : ∃ j, i = 2 * j) : Tree (fun q => N q ∨ q = e) (fun q => if q = e then i else k q) (fun q => if q = x then e else if q = e then 0 else l q) (fun q => if q = e then 0 else r q) (fun q => if q = e then x else p q) (fun q => if q = e then lo x else lo q) (fun q => if q = e then k x else hi q) (fun j => if lo x < j ∧ j < k x then e else ow j) rt := by
  obtain ⟨h1, h2, h3, h4, h5, h6, h7, h8, h9⟩ := h
  refine ⟨?_, ?_, ?_, ?_, ?_, ?_, ?_, ?_, ?_⟩
  · unfold TrB TrL TrR TrE at *; grind
  · unfold TrB TrL TrR TrE at *; grind
  · unfold TrB TrL TrR TrE at *; grind
  · unfold TrB TrE at *; grind
  · unfold TrB TrE TrF at *; grind
  · unfold TrB TrE TrG at *; grind
  · unfold TrS TrB at *; grind
  · unfold TrH TrI TrB at *; grind
  · unfold TrH TrI TrB at *; grind
theorem tree_leafR (h : Tree N k l r p lo hi ow rt) (hx : N x) (h0 : r x = 0) (he : ¬ N e) (he0 : e ≠ 0) (hi1 : k x < i) (hi2 : i < hi x) (hev : ∃ j, i = 2 * j) : Tree (fun q => N q ∨ q = e) (fun q => if q = e then i else k q) (fun q => if q = e then 0 else l q) (fun q => if q = x then e else if q = e then 0 else r q) (fun q => if q = e then x else p q) (fun q => if q = e then k x else lo q) (fun q => if q = e then hi x else hi q) (fun j => if k x < j ∧ j < hi x then e else ow j) rt := by
  obtain ⟨h1, h2, h3, h4, h5, h6, h7, h8, h9⟩ := h
  refine ⟨?_, ?_, ?_, ?_, ?_, ?_, ?_, ?_, ?_⟩
  · unfold TrB TrL TrR TrE at *; grind
  · unfold TrB TrL TrR TrE at *; grind
  · unfold TrB TrL TrR TrE at *; grind
  · unfold TrB TrE TrF at *; grind
  · unfold TrB TrF at *; grind
  · unfold TrB TrF TrG at *; grind
  · unfold TrS TrB at *; grind
  · unfold TrH TrI TrB at *; grind
  · unfold TrH TrI TrB at *; grind
/-- no interval ends at a node without a left child -/
theorem tree_nohi (h : Tree N k l r p lo hi ow rt) (hz : N z) (h0 : l z = 0) : ∀ (n : Nat) (q : Int), N q → hi q = k z → (k z - k q).toNat ≤ n → False := by
  obtain ⟨h1, h2, h3, h4, h5, h6, h7, h8, h9⟩ := h
  intro n
  induction n with
  | zero =>
    intro q hq e hn
    have := h1 q hq
    omega
  | succ n ih =>
    intro q hq e hn
    have bq := h1 q hq
    have bz := h1 z hz
    have pz := h7 z hz
    have pq := h7 q hq
    have key : ¬ (lo z < k q ∧ k q < k z) := fun c => by
      have a := h4 z hz h0 (k q) c.1 c.2
      rw [h6 q hq] at a
      rw [a] at c
      omega
    obtain ⟨⟨jz, ejz⟩, -, -⟩ := pz
    have ev : ∃ j, lo z = 2 * j := by
      rcases (h7 z hz).2.2.1 with a | ⟨s, s1, s2⟩
      · exact ⟨-1, by omega⟩
      · obtain ⟨j, ej⟩ := (h7 s s1).1
        exact ⟨j, by omega⟩
    obtain ⟨jl, ejl⟩ := ev
    by_cases hr : r q = 0
    · have a := h5 q hq hr (k z - 1) (by omega) (by omega)
      have b := h4 z hz h0 (k z - 1) (by omega) (by omega)
      rw [a] at b
      rw [b] at bq e
      omega
    · obtain ⟨c1, c2, c3, c4⟩ := h3 q hq hr
      have bc := h1 (r q) c1
      have e2 : hi (r q) = k z := c4.trans e
      clear pq
      exact ih (r q) c1 e2 (by omega)
theorem tree_nolo (h : Tree N k l r p lo hi ow rt) (hz : N z) (h0 : r z = 0) : ∀ (n : Nat) (q : Int), N q → lo q = k z → (k q - k z).toNat ≤ n → False := by
  obtain ⟨h1, h2, h3, h4, h5, h6, h7, h8, h9⟩ := h
  intro n
  induction n with
  | zero =>
    intro q hq e hn
    have := h1 q hq
    omega
  | succ n ih =>
    intro q hq e hn
    have bq := h1 q hq
    have bz := h1 z hz
    have key : ¬ (k z < k q ∧ k q < hi z) := fun c => by
      have a := h5 z hz h0 (k q) c.1 c.2
      rw [h6 q hq] at a
      rw [a] at c
      omega
    obtain ⟨⟨jz, ejz⟩, ⟨jl, ejl⟩, -⟩ := h7 z hz
    by_cases hl : l q = 0
    · have a := h4 q hq hl (k z + 1) (by omega) (by omega)
      have b := h5 z hz h0 (k z + 1) (by omega) (by omega)
      rw [a] at b
      rw [b] at bq e
      omega
    · obtain ⟨c1, c2, c3, c4⟩ := h2 q hq hl
      have bc := h1 (l q) c1
      exact ih (l q) c1 (by omega) (by omega)
/-- a node z with no left child goes: its right child c takes its place -/
theorem tree_outR (h : Tree N k l r p lo hi ow rt) (hz : N z) (h0 : l z = 0) (hc : c = r z) (hr : r z ≠ 0) (hg : g = p z) : Tree (fun q => N q ∧ q ≠ z) k (fun q => if q = g ∧ l g = z then c else l q) (fun q => if q = g ∧ l g ≠ z then c else r q) (fun q => if q = c then g else p q) (fun q => if lo q = k z then lo z else lo q) hi (fun j => if lo z < j ∧ j ≤ k z then ow (k z + 1) else ow j) (if g = 0 then c else rt) := by
  have nh := fun q hq e => tree_nohi h hz h0 _ q hq e (Nat.le_refl _)
  obtain ⟨h1, h2, h3, h4, h5, h6, h7, h8, h9⟩ := h
  refine ⟨?_, ?_, ?_, ?_, ?_, ?_, ?_, ?_, ?_⟩
  · unfold TrB TrL TrR TrE at *; grind
  · unfold TrB TrL TrR TrE TrG TrH TrI at *; grind
  · unfold TrB TrL TrR TrE TrG TrH TrI at *; grind
  · intro q hq hl i b1 b2
    dsimp only at hl b1 ⊢
    have hl0 : l q = 0 := by
      by_cases c9 : q = g ∧ l g = z
      · rw [if_pos c9] at hl; exact absurd (hc ▸ hl) hr
      · rw [if_neg c9] at hl; exact hl
    have bz := h1 z hz
    have bq := h1 q hq.1
    obtain ⟨⟨jz, ejz⟩, -, -⟩ := h7 z hz
    obtain ⟨⟨jq, ejq⟩, -, -⟩ := h7 q hq.1
    have gz := h6 z hz
    by_cases c1 : lo q = k z
    · rw [if_pos c1] at b1
      by_cases c2 : lo z < i ∧ i ≤ k z
      · rw [if_pos c2]
        exact h4 q hq.1 hl0 _ (by omega) (by omega)
      · rw [if_neg c2]
        exact h4 q hq.1 hl0 _ (by omega) (by omega)
    · rw [if_neg c1] at b1
      have e := h4 q hq.1 hl0 i b1 b2
      by_cases c2 : lo z < i ∧ i ≤ k z
      · exfalso
        apply hq.2
        by_cases c3 : i = k z
        · rw [← e, c3, gz]
        · rw [← e, h4 z hz h0 i c2.1 (by omega)]
      · rw [if_neg c2]; exact e
  · unfold TrB TrL TrR TrE TrF TrG TrH TrI TrS at *; grind
  · unfold TrB TrE TrG TrS at *; grind
  · unfold TrS TrB at *; grind
  · unfold TrH TrI TrB TrL TrR at *; grind
  · unfold TrH TrI TrB TrL TrR at *; grind
theorem tree_outL (h : Tree N k l r p lo hi ow rt) (hz : N z) (h0 : r z = 0) (hc : c = l z) (hr : l z ≠ 0) (hg : g = p z) : Tree (fun q => N q ∧ q ≠ z) k (fun q => if q = g ∧ l g = z then c else l q) (fun q => if q = g ∧ l g ≠ z then c else r q) (fun q => if q = c then g else p q) lo (fun q => if hi q = k z then hi z else hi q) (fun j => if k z ≤ j ∧ j < hi z then ow (k z - 1) else ow j) (if g = 0 then c else rt) := by
  have nh := fun q hq e => tree_nolo h hz h0 _ q hq e (Nat.le_refl _)
  obtain ⟨h1, h2, h3, h4, h5, h6, h7, h8, h9⟩ := h
  refine ⟨?_, ?_, ?_, ?_, ?_, ?_, ?_, ?_, ?_⟩
  · unfold TrB TrL TrR TrE at *; grind
  · unfold TrB TrL TrR TrE TrG TrH TrI at *; grind
  · unfold TrB TrL TrR TrE TrG TrH TrI at *; grind
  · unfold TrB TrL TrR TrE TrF TrG TrH TrI TrS at *; grind
  · intro q hq hl i b1 b2
    dsimp only at hl b2 ⊢
    have hl0 : r q = 0 := by
      by_cases c9 : q = g ∧ l g ≠ z
      · rw [if_pos c9] at hl; exact absurd (hc ▸ hl) hr
      · rw [if_neg c9] at hl; exact hl
    have bz := h1 z hz
    have bq := h1 q hq.1
    obtain ⟨⟨jz, ejz⟩, -, -⟩ := h7 z hz
    obtain ⟨⟨jq, ejq⟩, -, -⟩ := h7 q hq.1
    have gz := h6 z hz
    by_cases c1 : hi q = k z
    · rw [if_pos c1] at b2
      by_cases c2 : k z ≤ i ∧ i < hi z
      · rw [if_pos c2]
        exact h5 q hq.1 hl0 _ (by omega) (by omega)
      · rw [if_neg c2]
        exact h5 q hq.1 hl0 _ (by omega) (by omega)
    · rw [if_neg c1] at b2
      have e := h5 q hq.1 hl0 i b1 b2
      by_cases c2 : k z ≤ i ∧ i < hi z
      · exfalso
        apply hq.2
        by_cases c3 : i = k z
        · rw [← e, c3, gz]
        · rw [← e, h5 z hz h0 i (by omega) c2.2]
      · rw [if_neg c2]; exact e
  · unfold TrB TrF TrG TrS at *; grind
  · unfold TrS TrB at *; grind
  · unfold TrH TrI TrB TrL TrR at *; grind
  · unfold TrH TrI TrB TrL TrR at *; grind
/-- a leaf z, not the root, goes -/
theorem tree_outZ (h : Tree N k l r p lo hi ow rt) (hz : N z) (h0 : l z = 0) (hr : r z = 0) (hg : g = p z) (hg0 : g ≠ 0) : Tree (fun q => N q ∧ q ≠ z) k (fun q => if q = g ∧ l g = z then 0 else l q) (fun q => if q = g ∧ l g ≠ z then 0 else r q) p lo hi (fun j => if lo z < j ∧ j < hi z then g else ow j) rt := by
  have nh := fun q hq e => tree_nohi h hz h0 _ q hq e (Nat.le_refl _)
  have nl := fun q hq e => tree_nolo h hz hr _ q hq e (Nat.le_refl _)
  obtain ⟨h1, h2, h3, h4, h5, h6, h7, h8, h9⟩ := h
  refine ⟨?_, ?_, ?_, ?_, ?_, ?_, ?_, ?_, ?_⟩
  · unfold TrB TrL TrR TrE at *; grind
  · unfold TrB TrL TrR TrE TrG TrH TrI at *; grind
  · unfold TrB TrL TrR TrE TrG TrH TrI at *; grind
  · unfold TrB TrL TrR TrE TrF TrG TrH TrI TrS at *; grind
  · unfold TrB TrL TrR TrE TrF TrG TrH TrI TrS at *; grind
  · unfold TrB TrE TrF TrG TrS at *; grind
  · unfold TrS TrB at *; grind
  · unfold TrH TrI TrB TrL TrR at *; grind
  · unfold TrH TrI TrB TrL TrR at *; grind
/-- the label a of node x becomes b, no label lies between -/
theorem tree_label {a b : Int} (h : Tree N k l r p lo hi ow rt) (hx : N x) (ha : k x = a) (hab : a < b) (hb : ∃ j, b = 2 * j) (hb64 : b < 64) (hno : ∀ q, N q → ¬ (a < k q ∧ k q ≤ b)) : Tree N (fun q => if k q = a then b else k q) l r p (fun q => if lo q = a then b else lo q) (fun q => if hi q = a then b else hi q) (fun j => if a ≤ j ∧ j < b then ow (a - 1) else if j = b then x else ow j) rt := by
  obtain ⟨h1, h2, h3, h4, h5, h6, h7, h8, h9⟩ := h
  have hbx : b < hi x := by
    have bx := h1 x hx
    rcases (h7 x hx).2.2.2 with c | ⟨s, s1, s2⟩
    · omega
    · have := hno s s1
      omega
  refine ⟨?_, ?_, ?_, ?_, ?_, ?_, ?_, ?_, ?_⟩
  · unfold TrB TrG at *; grind
  · unfold TrB TrL at *; grind
  · unfold TrB TrR at *; grind
  · intro q hq hl i b1 b2
    dsimp only at b1 b2 ⊢
    have bx := h1 x hx
    have bq := h1 q hq
    have gx := h6 x hx
    have gq := h6 q hq
    have nq := hno q hq
    obtain ⟨⟨jx, ejx⟩, -, lx, -⟩ := h7 x hx
    obtain ⟨⟨jq, ejq⟩, -, lq, -⟩ := h7 q hq
    have evx : ∃ j, lo x = 2 * j := by
      rcases lx with a | ⟨s, s1, s2⟩
      · exact ⟨-1, by omega⟩
      · obtain ⟨⟨j, ej⟩, _⟩ := h7 s s1
        exact ⟨j, by omega⟩
    obtain ⟨jl, ejl⟩ := evx
    by_cases c1 : q = x
    · subst c1
      rw [if_pos ha] at b2
      rw [if_neg (by omega)] at b1
      by_cases c2 : a ≤ i ∧ i < b
      · rw [if_pos c2]; exact h4 q hq hl _ (by omega) (by omega)
      · rw [if_neg c2, if_neg (by omega)]; exact h4 q hq hl _ (by omega) (by omega)
    · have c3 : k q ≠ a := fun e => c1 (by rw [← gq, ← gx, e, ha])
      rw [if_neg c3] at b2
      by_cases c4 : lo q = a
      · rw [if_pos c4] at b1
        rw [if_neg (by omega), if_neg (by omega)]
        exact h4 q hq hl _ (by omega) (by omega)
      · rw [if_neg c4] at b1
        have e := h4 q hq hl i b1 b2
        have c5 : ¬ (a ≤ i ∧ i ≤ b) := by
          intro c5
          by_cases c6 : lo q < a
          · have := h4 q hq hl a c6 (by omega)
            rw [← ha, gx] at this
            exact c1 this.symm
          · rcases lq with d | ⟨s, s1, s2⟩
            · omega
            · exact hno s s1 (by omega)
        rw [if_neg (by omega), if_neg (by omega)]
        exact e
  · intro q hq hl i b1 b2
    dsimp only at b1 b2 ⊢
    have bx := h1 x hx
    have bq := h1 q hq
    have gx := h6 x hx
    have gq := h6 q hq
    have nq := hno q hq
    obtain ⟨⟨jx, ejx⟩, -, -⟩ := h7 x hx
    obtain ⟨⟨jq, ejq⟩, -, -⟩ := h7 q hq
    by_cases c1 : q = x
    · subst c1
      rw [if_pos ha] at b1
      rw [if_neg (by omega)] at b2
      rw [if_neg (by omega), if_neg (by omega)]
      exact h5 q hq hl _ (by omega) (by omega)
    · have c3 : k q ≠ a := fun e => c1 (by rw [← gq, ← gx, e, ha])
      rw [if_neg c3] at b1
      by_cases c4 : hi q = a
      · rw [if_pos c4] at b2
        by_cases c2 : a ≤ i ∧ i < b
        · rw [if_pos c2]; exact h5 q hq hl _ (by omega) (by omega)
        · rw [if_neg c2, if_neg (by omega)]; exact h5 q hq hl _ (by omega) (by omega)
      · rw [if_neg c4] at b2
        have e := h5 q hq hl i b1 b2
        have c5 : ¬ (a ≤ i ∧ i ≤ b) := by
          intro c5
          have := h5 q hq hl a (by omega) (by omega)
          rw [← ha, gx] at this
          exact c1 this.symm
        rw [if_neg (by omega), if_neg (by omega)]
        exact e
  · unfold TrB TrG TrS at *; grind
  · unfold TrS TrB at *; grind
  · unfold TrH at *; grind
  · unfold TrI TrB at *; grind
end TL
