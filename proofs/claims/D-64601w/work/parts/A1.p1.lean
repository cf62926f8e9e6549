/-! PURE: arrays as functions, counts, heaps -/
set_option maxRecDepth 100000
def ud (f : Int → Int) (i v : Int) : Int → Int := fun j => if j = i then v else f j
theorem ud_eq {f : Int → Int} {i v : Int} : ud f i v i = v := if_pos rfl
theorem ud_ne {f : Int → Int} {i v j : Int} (h : j ≠ i) : ud f i v j = f j := if_neg h
theorem ud_at {f : Int → Int} {i v j : Int} : ud f i v j = if j = i then v else f j := rfl
theorem ud_self {f : Int → Int} {i : Int} : ud f i (f i) = f := by
  funext j
  by_cases h : j = i
  · rw [h, ud_eq]
  · rw [ud_ne h]
theorem ud_upd {f : Int → Int} {i v w : Int} : ud (ud f i v) i w = ud f i w := by
  funext j
  by_cases h : j = i
  · rw [h, ud_eq, ud_eq]
  · rw [ud_ne h, ud_ne h, ud_ne h]
/-- how often x stands in the first n places -/
def cn (f : Int → Int) (x : Int) : Nat → Nat
  | 0 => 0
  | n + 1 => cn f x n + if f (n : Int) = x then 1 else 0
theorem cn_congr {f g : Int → Int} {x : Int} : ∀ {n : Nat}, (∀ i : Nat, i < n → f i = g i) → cn f x n = cn g x n
  | 0, _ => rfl
  | n + 1, h => by
    unfold cn
    rw [cn_congr (n := n) (fun i hi => h i (by omega)), h n (by omega)]
theorem cn_upd {f : Int → Int} {x v : Int} : ∀ {n i : Nat}, i < n → cn (ud f i v) x n + (if f i = x then 1 else 0) = cn f x n + (if v = x then 1 else 0)
  | 0, i, h => by omega
  | n + 1, i, h => by
    unfold cn
    by_cases e : i = n
    · subst e
      rw [ud_eq, cn_congr (f := ud f i v) (g := f) (fun j hj => ud_ne (by omega))]
      omega
    · have := cn_upd (f := f) (x := x) (v := v) (n := n) (i := i) (by omega)
      rw [ud_ne (f := f) (i := (i : Int)) (j := (n : Int)) (by omega)]
      omega
/-- the hole at k (v is to stand there) moves to c -/
theorem cn_hole {f : Int → Int} {x v : Int} {n k c : Nat} (hk : k < n) (hc : c < n) (h : c ≠ k) : cn (ud (ud f k (f c)) c v) x n = cn (ud f k v) x n := by
  have e1 := cn_upd (f := f) (x := x) (v := v) hk
  have e2 := cn_upd (f := f) (x := x) (v := f c) hk
  have e3 := cn_upd (f := ud f k (f c)) (x := x) (v := v) hc
  rw [ud_ne (f := f) (i := (k : Int)) (j := (c : Int)) (by omega)] at e3
  omega
theorem cn_swap {f : Int → Int} {x : Int} {n k c : Nat} (hk : k < n) (hc : c < n) : cn (ud (ud f k (f c)) c (f k)) x n = cn f x n := by
  by_cases h : c = k
  · subst h
    rw [ud_upd, ud_self]
  · have := cn_hole (f := f) (x := x) (v := f k) hk hc h
    rw [this, ud_self]
def fl (f : Int → Int) (n : Nat) : List Int := (List.range n).map fun (i : Nat) => f (i : Int)
theorem fl_len {f : Int → Int} {n : Nat} : (fl f n).length = n := by simp [fl]
theorem fl_succ {f : Int → Int} {n : Nat} : fl f (n + 1) = fl f n ++ [f n] := by simp [fl, List.range_succ]
theorem fl_get {f : Int → Int} {n i : Nat} (h : i < n) : (fl f n)[i]? = some (f i) := by
  simp [fl, h]
theorem fl_mem {f : Int → Int} {n : Nat} {x : Int} : x ∈ fl f n ↔ ∃ i : Nat, i < n ∧ f i = x := by
  simp [fl]
theorem fl_count {f : Int → Int} {x : Int} : ∀ {n : Nat}, (fl f n).count x = cn f x n
  | 0 => rfl
  | n + 1 => by
    rw [fl_succ, List.count_append, fl_count]
    show _ + List.count x [f n] = cn f x n + _
    rw [List.count_singleton]
    by_cases h : f (n : Int) = x <;> simp [h]
theorem fl_perm {f g : Int → Int} {n : Nat} (h : ∀ x, cn f x n = cn g x n) : (fl f n).Perm (fl g n) := by
  rw [List.perm_iff_count]
  intro a
  rw [fl_count, fl_count, h]
theorem fl_congr {f g : Int → Int} {n : Nat} (h : ∀ i : Nat, i < n → f i = g i) : fl f n = fl g n := by
  unfold fl
  refine List.map_congr_left fun i hi => h i ?_
  exact List.mem_range.mp hi
theorem fl_pairwise {R : Int → Int → Prop} {f : Int → Int} : ∀ {n : Nat}, (∀ i j : Nat, i < j → j < n → R (f i) (f j)) → (fl f n).Pairwise R
  | 0, _ => List.Pairwise.nil
  | n + 1, h => by
    rw [fl_succ, List.pairwise_append]
    refine ⟨fl_pairwise fun i j a b => h i j a (by omega), List.pairwise_singleton _ _, fun a ha b hb => ?_⟩
    obtain ⟨i, hi, rfl⟩ := fl_mem.mp ha
    rw [List.mem_singleton.mp hb]
    exact h i n hi (by omega)
/-! heaps: ge a b: a stands above b -/
section HP
variable {ge : Int → Int → Prop}
def swp (b : Int → Int) (k c : Int) : Int → Int := ud (ud b k (b c)) c (b k)
def HeapI (ge : Int → Int → Prop) (b : Int → Int) (fr en : Int) : Prop := ∀ i : Int, 1 ≤ i → i < en → fr ≤ (i - 1) / 2 → ge (b ((i - 1) / 2)) (b i)
def HoleI (ge : Int → Int → Prop) (b : Int → Int) (fr en k : Int) : Prop := (∀ i : Int, 1 ≤ i → i < en → fr ≤ (i - 1) / 2 → (i - 1) / 2 ≠ k → ge (b ((i - 1) / 2)) (b i)) ∧ ∀ i : Int, 1 ≤ i → i < en → (i - 1) / 2 = k → 1 ≤ k → fr ≤ (k - 1) / 2 → ge (b ((k - 1) / 2)) (b i)
theorem hole_start {b : Int → Int} {fr en : Int} (h0 : 0 ≤ fr) (h : HeapI ge b (fr + 1) en) : HoleI ge b fr en fr := by
  refine ⟨fun i h1 h2 h3 h4 => h i h1 h2 (by omega), fun i h1 h2 h3 h4 h5 => ?_⟩
  omega
theorem hole_end {b : Int → Int} {fr en k : Int} (h : HoleI ge b fr en k) (hk : ∀ i : Int, 1 ≤ i → i < en → (i - 1) / 2 = k → ge (b k) (b i)) : HeapI ge b fr en := by
  intro i h1 h2 h3
  by_cases e : (i - 1) / 2 = k
  · rw [e]; exact hk i h1 h2 e
  · exact h.1 i h1 h2 h3 e
theorem hole_step {b : Int → Int} {fr en k c : Int} (h : HoleI ge b fr en k) (h0 : 0 ≤ k) (hc : c = 2 * k + 1 ∨ c = 2 * k + 2) (hce : c < en) (ho : ∀ i : Int, 1 ≤ i → i < en → (i - 1) / 2 = k → ge (b c) (b i)) (hv : ge (b c) (b k)) : HoleI ge (swp b k c) fr en c := by
  have hck : c ≠ k := by omega
  have s1 : swp b k c k = b c := by unfold swp; rw [ud_ne (by omega), ud_eq]
  have s2 : swp b k c c = b k := by unfold swp; rw [ud_eq]
  have s3 : ∀ j, j ≠ k → j ≠ c → swp b k c j = b j := fun j a b => by unfold swp; rw [ud_ne b, ud_ne a]
  refine ⟨fun i h1 h2 h3 h4 => ?_, fun i h1 h2 h3 h4 h5 => ?_⟩
  · by_cases e : (i - 1) / 2 = k
    · rw [e, s1]
      by_cases e2 : i = c
      · rw [e2, s2]; exact hv
      · rw [s3 i (by omega) e2]; exact ho i h1 h2 e
    · rw [s3 _ e h4]
      by_cases e2 : i = k
      · subst e2
        rw [s1]
        exact h.2 c (by omega) hce (by omega) h1 h3
      · rw [s3 i e2 (by omega)]
        exact h.1 i h1 h2 h3 e
  · have e : (c - 1) / 2 = k := by omega
    rw [e, s1, s3 i (by omega) (by omega)]
    have := h.1 i h1 h2 (by omega) (by omega)
    rw [h3] at this
    exact this
theorem heap_root {b : Int → Int} {en : Int} (rf : ∀ x, ge x x) (tr : ∀ x y z, ge x y → ge y z → ge x z) (h : HeapI ge b 0 en) : ∀ (n : Nat) (i : Int), i.toNat ≤ n → 0 ≤ i → i < en → ge (b 0) (b i) := by
  intro n
  induction n with
  | zero =>
    intro i h1 h2 h3
    have : i = 0 := by omega
    subst this
    exact rf _
  | succ n ih =>
    intro i h1 h2 h3
    by_cases e : i = 0
    · subst e; exact rf _
    · exact tr _ _ _ (ih ((i - 1) / 2) (by omega) (by omega) (by omega)) (h i (by omega) h3 (by omega))
theorem swp_hole {a : Int → Int} {k c v : Int} (h : c ≠ k) : ud (ud a k (a c)) c v = swp (ud a k v) k c := by
  funext j
  unfold swp
  simp only [ud_at]
  by_cases e1 : j = c <;> by_cases e2 : j = k <;> simp [e1, e2, h]
end HP
