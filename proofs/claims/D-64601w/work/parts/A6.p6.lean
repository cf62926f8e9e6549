/-! PURE: search trees by local conditions: N nodes; k labels; l r p links; lo hi the label's interval; ow: where a label's way ends -/
set_option maxRecDepth 100000
abbrev F1 : Type := Int → Int
def TrB (N : Int → Prop) (k lo hi : F1) : Prop := ∀ q, N q → q ≠ 0 ∧ lo q < k q ∧ k q < hi q ∧ -2 ≤ lo q ∧ hi q ≤ 64
def TrL (N : Int → Prop) (k l p lo hi : F1) : Prop := ∀ q, N q → l q ≠ 0 → N (l q) ∧ p (l q) = q ∧ lo (l q) = lo q ∧ hi (l q) = k q
def TrR (N : Int → Prop) (k r p lo hi : F1) : Prop := ∀ q, N q → r q ≠ 0 → N (r q) ∧ p (r q) = q ∧ lo (r q) = k q ∧ hi (r q) = hi q
def TrE (N : Int → Prop) (k l lo ow : F1) : Prop := ∀ q, N q → l q = 0 → ∀ i, lo q < i → i < k q → ow i = q
def TrF (N : Int → Prop) (k r hi ow : F1) : Prop := ∀ q, N q → r q = 0 → ∀ i, k q < i → i < hi q → ow i = q
def TrG (N : Int → Prop) (k ow : F1) : Prop := ∀ q, N q → ow (k q) = q
def TrS (N : Int → Prop) (k lo hi : F1) : Prop := ∀ q, N q → (∃ j, k q = 2 * j) ∧ (∃ j, hi q = 2 * j) ∧ (lo q = -2 ∨ ∃ s, N s ∧ k s = lo q) ∧ (hi q = 64 ∨ ∃ s, N s ∧ k s = hi q)
def TrH (N : Int → Prop) (l r p : F1) (rt : Int) : Prop := ∀ q, N q → q ≠ rt → N (p q) ∧ (l (p q) = q ∨ r (p q) = q)
def TrI (N : Int → Prop) (p lo hi : F1) (rt : Int) : Prop := N rt ∧ p rt = 0 ∧ lo rt = -2 ∧ hi rt = 64
def Tree (N : Int → Prop) (k l r p lo hi ow : F1) (rt : Int) : Prop := TrB N k lo hi ∧ TrL N k l p lo hi ∧ TrR N k r p lo hi ∧ TrE N k l lo ow ∧ TrF N k r hi ow ∧ TrG N k ow ∧ TrS N k lo hi ∧ TrH N l r p rt ∧ TrI N p lo hi rt
theorem tree_congr {N N' : Int → Prop} {k k' l l' r r' p p' lo lo' hi hi' ow ow' : F1} {rt : Int} (h : Tree N k l r p lo hi ow rt) (hN : ∀ q, N' q ↔ N q) (e : ∀ q, N q → k' q = k q ∧ l' q = l q ∧ r' q = r q ∧ p' q = p q ∧ lo' q = lo q ∧ hi' q = hi q) (eo : ∀ i, ow' i = ow i) : Tree N' k' l' r' p' lo' hi' ow' rt := by
  obtain ⟨h1, h2, h3, h4, h5, h6, h7, h8, h9⟩ := h
  refine ⟨?_, ?_, ?_, ?_, ?_, ?_, ?_, ?_, ?_⟩
  · unfold TrB at *; grind
  · unfold TrL at *; grind
  · unfold TrR at *; grind
  · unfold TrE at *; grind
  · unfold TrF at *; grind
  · unfold TrG at *; grind
  · unfold TrS at *; grind
  · unfold TrH at *; grind
  · unfold TrI at *; grind
section RL
variable {N : Int → Prop} {k l r p lo hi ow : F1} {rt x y b g : Int}
/-- what a rotation to the left makes of the links: x's right child y goes up -/
def rlR (r : F1) (l p : F1) (x y g : Int) : F1 := fun q => if q = x then l y else if q = g ∧ l g ≠ x then y else r q
def rlL (l : F1) (x y g : Int) : F1 := fun q => if q = y then x else if q = g ∧ l g = x then y else l q
def rlP (l p : F1) (x y g : Int) : F1 := fun q => if q = x then y else if q = y then g else if q = l y ∧ l y ≠ 0 then x else p q
theorem rl_1 (h : Tree N k l r p lo hi ow rt) (hx : N x) (hy : y = r x) (h0 : r x ≠ 0) (hg : g = p x) : TrB N k (fun q => if q = y then lo x else lo q) (fun q => if q = x then k y else hi q) := by
  obtain ⟨h1, h2, h3, h4, h5, h6, h7, h8, h9⟩ := h
  unfold TrB TrL TrR at *
  grind
theorem rl_2 (h : Tree N k l r p lo hi ow rt) (hx : N x) (hy : y = r x) (h0 : r x ≠ 0) (hg : g = p x) : TrL N k (rlL l x y g) (rlP l p x y g) (fun q => if q = y then lo x else lo q) (fun q => if q = x then k y else hi q) := by
  obtain ⟨h1, h2, h3, h4, h5, h6, h7, h8, h9⟩ := h
  unfold TrB TrL TrR TrH TrI rlL rlP at *
  grind
theorem rl_3 (h : Tree N k l r p lo hi ow rt) (hx : N x) (hy : y = r x) (h0 : r x ≠ 0) (hg : g = p x) : TrR N k (rlR r l p x y g) (rlP l p x y g) (fun q => if q = y then lo x else lo q) (fun q => if q = x then k y else hi q) := by
  obtain ⟨h1, h2, h3, h4, h5, h6, h7, h8, h9⟩ := h
  unfold TrB TrL TrR TrH TrI rlR rlP at *
  grind
theorem rl_4 (h : Tree N k l r p lo hi ow rt) (hx : N x) (hy : y = r x) (h0 : r x ≠ 0) (hg : g = p x) : TrE N k (rlL l x y g) (fun q => if q = y then lo x else lo q) (fun i => if l y = 0 ∧ k x < i ∧ i < k y then x else ow i) := by
  obtain ⟨h1, h2, h3, h4, h5, h6, h7, h8, h9⟩ := h
  unfold TrB TrL TrR TrE TrF TrG TrH TrI rlL at *
  grind
theorem rl_5 (h : Tree N k l r p lo hi ow rt) (hx : N x) (hy : y = r x) (h0 : r x ≠ 0) (hg : g = p x) : TrF N k (rlR r l p x y g) (fun q => if q = x then k y else hi q) (fun i => if l y = 0 ∧ k x < i ∧ i < k y then x else ow i) := by
  obtain ⟨h1, h2, h3, h4, h5, h6, h7, h8, h9⟩ := h
  unfold TrB TrL TrR TrE TrF TrG TrH TrI rlR at *
  grind
theorem rl_6 (h : Tree N k l r p lo hi ow rt) (hx : N x) (hy : y = r x) (h0 : r x ≠ 0) : TrG N k (fun i => if l y = 0 ∧ k x < i ∧ i < k y then x else ow i) := by
  obtain ⟨h1, h2, h3, h4, h5, h6, h7, h8, h9⟩ := h
  intro q hq
  subst hy
  obtain ⟨a1, a2, a3, a4⟩ := h3 x hx h0
  show (if l (r x) = 0 ∧ k x < k q ∧ k q < k (r x) then x else ow (k q)) = q
  by_cases c : l (r x) = 0 ∧ k x < k q ∧ k q < k (r x)
  · have e := h4 (r x) a1 c.1 (k q) (by omega) c.2.2
    rw [h6 q hq] at e
    rw [e] at c
    omega
  · rw [if_neg c]
    exact h6 q hq
theorem rl_7 (h : Tree N k l r p lo hi ow rt) (hx : N x) (hy : y = r x) (h0 : r x ≠ 0) : TrS N k (fun q => if q = y then lo x else lo q) (fun q => if q = x then k y else hi q) := by
  obtain ⟨h1, h2, h3, h4, h5, h6, h7, h8, h9⟩ := h
  unfold TrS TrR at *
  grind
theorem rl_8 (h : Tree N k l r p lo hi ow rt) (hx : N x) (hy : y = r x) (h0 : r x ≠ 0) (hg : g = p x) : TrH N (rlL l x y g) (rlR r l p x y g) (rlP l p x y g) (if g = 0 then y else rt) := by
  obtain ⟨h1, h2, h3, h4, h5, h6, h7, h8, h9⟩ := h
  unfold TrB TrL TrR TrH TrI rlL rlR rlP at *
  grind
theorem rl_9 (h : Tree N k l r p lo hi ow rt) (hx : N x) (hy : y = r x) (h0 : r x ≠ 0) (hg : g = p x) : TrI N (rlP l p x y g) (fun q => if q = y then lo x else lo q) (fun q => if q = x then k y else hi q) (if g = 0 then y else rt) := by
  obtain ⟨h1, h2, h3, h4, h5, h6, h7, h8, h9⟩ := h
  unfold TrB TrL TrR TrH TrI rlP at *
  grind
theorem rl_all (h : Tree N k l r p lo hi ow rt) (hx : N x) (hy : y = r x) (h0 : r x ≠ 0) (hg : g = p x) : Tree N k (rlL l x y g) (rlR r l p x y g) (rlP l p x y g) (fun q => if q = y then lo x else lo q) (fun q => if q = x then k y else hi q) (fun i => if l y = 0 ∧ k x < i ∧ i < k y then x else ow i) (if g = 0 then y else rt) :=
  ⟨rl_1 h hx hy h0 hg, rl_2 h hx hy h0 hg, rl_3 h hx hy h0 hg, rl_4 h hx hy h0 hg, rl_5 h hx hy h0 hg, rl_6 h hx hy h0, rl_7 h hx hy h0, rl_8 h hx hy h0 hg, rl_9 h hx hy h0 hg⟩
end RL
