/-! TreeMap: what it holds; search -/
set_option maxRecDepth 100000
/-- the numbers that were made ahead -/
def IntC (σ : AS) : Prop := kd σ 120 = 1109 ∧ ln σ 120 = 256 ∧ ∀ j, 0 ≤ j → j < 256 → ld σ 120 j = 200 + j ∧ kd σ (200 + j) = 1025 ∧ ld σ (200 + j) 0 = j - 128
def has (f : Int → Int) : Int → Nat := fun i => if f i = 0 then 0 else 1
theorem sm_ud {f : Int → Int} {v : Int} : ∀ {n a : Nat}, a < n → sm (has (ud f a v)) n + (if f a = 0 then 0 else 1) = sm (has f) n + (if v = 0 then 0 else 1)
  | 0, a, h => by omega
  | n + 1, a, h => by
    show sm (has (ud f a v)) n + has (ud f a v) n + _ = sm (has f) n + has f n + _
    by_cases e : a = n
    · subst e
      have e1 : sm (has (ud f a v)) a = sm (has f) a := by
        have key : ∀ m : Nat, m ≤ a → sm (has (ud f a v)) m = sm (has f) m := by
          intro m
          induction m with
          | zero => intro _; rfl
          | succ m ih =>
            intro hm
            show sm (has (ud f a v)) m + has (ud f a v) m = sm (has f) m + has f m
            rw [ih (by omega)]
            unfold has
            rw [ud_ne (by omega)]
        exact key a (Nat.le_refl a)
      rw [e1]
      unfold has
      rw [ud_eq]
      omega
    · have := sm_ud (f := f) (v := v) (n := n) (a := a) (by omega)
      have e2 : has (ud f a v) n = has f n := by unfold has; rw [ud_ne (by omega)]
      omega
def MapOk (σ : AS) (t : Int) (D : Int → Prop) (f : Int → Int) (mc : Int) : Prop :=
  kd σ t = 26 ∧ ld σ t 2 = 0 ∧ (0 ≤ ld σ t 5 ∧ ld σ t 5 ≤ mc) ∧ ld σ t 4 = sm (has f) 32 ∧ (∀ i, f i ≠ 0 → 0 ≤ i ∧ i < 32) ∧
  ((ld σ t 3 = 0 ∧ ∀ i, f i = 0) ∨ ∃ (N : Int → Prop) (k lo hi ow : F1), MapN σ N ∧ MapT σ t N k lo hi ow ∧ (∀ q, N q → D q ∧ q < nx σ ∧ ld σ q 0 = 328 + k q / 2 ∧ ld σ q 1 = f (k q / 2) ∧ f (k q / 2) ≠ 0) ∧ ∀ i, f i ≠ 0 → ∃ q, N q ∧ k q = 2 * i)
/-- it looks at no more than D and itself -/
theorem MapOk.frame {σ σ' : AS} {t : Int} {D D' : Int → Prop} {f : Int → Int} {mc mc' : Int} (h : MapOk σ t D f mc) (hm : mc ≤ mc') (hn : nx σ ≤ nx σ') (ht : kd σ' t = kd σ t ∧ ∀ j, ld σ' t j = ld σ t j) (hD : ∀ q, D q → q < nx σ → D' q ∧ kd σ' q = kd σ q ∧ ∀ j, ld σ' q j = ld σ q j) : MapOk σ' t D' f mc' := by
  obtain ⟨h1, h2, h3, h4, h5, h6⟩ := h
  refine ⟨ht.1.trans h1, (ht.2 2).trans h2, by rw [ht.2 5]; omega, by rw [ht.2 4]; exact h4, h5, ?_⟩
  rcases h6 with ⟨a, b⟩ | ⟨N, k, lo, hi, ow, a1, a2, a3, a4⟩
  · exact Or.inl ⟨(ht.2 3).trans a, b⟩
  · have key : ∀ q, N q → D' q ∧ kd σ' q = kd σ q ∧ ∀ j, ld σ' q j = ld σ q j := fun q hq => hD q (a3 q hq).1 (a3 q hq).2.1
    refine Or.inr ⟨N, k, lo, hi, ow, fun q hq => ?_, ?_, fun q hq => ?_, a4⟩
    · obtain ⟨_, b1, b2⟩ := key q hq
      rw [b1, b2]
      exact a1 q hq
    · unfold MapT
      rw [ht.2 3]
      exact tree_congr a2 (fun q => Iff.rfl) (fun q hq => ⟨rfl, (key q hq).2.2 2, (key q hq).2.2 3, (key q hq).2.2 4, rfl, rfl⟩) fun i => rfl
    · obtain ⟨b0, b1, b2⟩ := key q hq
      obtain ⟨c1, c2, c3, c4, c5⟩ := a3 q hq
      exact ⟨b0, by omega, (b2 0).trans c3, (b2 1).trans c4, c5⟩
section SE
variable {N : Int → Prop} {k lo hi ow : F1} {t x c v : Int} {σ : AS}
theorem valueOf_eq (hI : IntC σ) (h1 : -128 ≤ v) (h2 : v ≤ 127) : f_J17_valueOf v σ = some (328 + v, σ) := by
  unfold f_J17_valueOf
  rw [if_neg (by omega), if_neg (by omega), gI_pos (by omega), gd_pos ⟨hI.1, by omega, by rw [hI.2.1]; omega⟩, (hI.2.2 (v + 128) (by omega) (by omega)).1]
  have : 200 + (v + 128) = 328 + v := by omega
  rw [this]
theorem int_at (hI : IntC σ) (h1 : -128 ≤ v) (h2 : v ≤ 127) : kd σ (328 + v) = 1025 ∧ ld σ (328 + v) 0 = v := by
  have := hI.2.2 (v + 128) (by omega) (by omega)
  have e : 200 + (v + 128) = 328 + v := by omega
  rw [e] at this
  exact ⟨this.2.1, by omega⟩
theorem compareTo_eq {a b : Int} (ha : kd σ a = 25 ∨ kd σ a = 1025) (hb : kd σ b = 25 ∨ kd σ b = 1025) : f_J17_compareTo a b σ = some (if ld σ a 0 < ld σ b 0 then -1 else if ld σ a 0 = ld σ b 0 then 0 else 1, σ) := by
  unfold f_J17_compareTo f_J17_compareTo_2 f_J17_compare
  rw [gd_pos (Or.inr hb), gd_pos ha, gd_pos ha, gd_pos hb]
  by_cases c1 : ld σ a 0 < ld σ b 0
  · rw [if_neg (by omega), if_pos c1]; rfl
  · rw [if_pos (by omega), if_neg c1]
    by_cases c2 : ld σ a 0 = ld σ b 0
    · rw [if_pos c2, if_pos c2]; rfl
    · rw [if_neg c2, if_neg c2]; rfl
/-- a search from x on: where label 2 v ends -/
theorem find_eq {n : Nat} (hI : IntC σ) (hv : 0 ≤ v ∧ v < 32) (hN : MapN σ N) (hT : MapT σ t N k lo hi ow) (hk : ∀ q, N q → ld σ q 0 = 328 + k q / 2) : ∀ (m q : Nat) (x : Int), N x → (hi x - lo x).toNat < m → m + 1 ≤ q → lo x < 2 * v → 2 * v < hi x → f_J8_getEntry_28 n q (328 + v) x σ = some (if k (ow (2 * v)) = 2 * v then ow (2 * v) else 0, σ) ∧ N (ow (2 * v)) := by
  intro m
  induction m with
  | zero => intro q x _ h; omega
  | succ m ih =>
    intro q x hx hm hq h1 h2
    obtain ⟨q, rfl⟩ : ∃ z, q = z + 2 := ⟨q - 2, by omega⟩
    have bx := hT.1 x hx
    obtain ⟨j, ej⟩ := (hT.2.2.2.2.2.2.1 x hx).1
    have iv := int_at hI (v := v) (by omega) (by omega)
    have ek : ld σ x 0 = 328 + j := by rw [hk x hx, ej]; omega
    have ij := int_at hI (v := j) (by omega) (by omega)
    unfold f_J8_getEntry_28
    rw [if_neg bx.1, gd_pos (hN x hx).1, gd_pos (Or.inr iv.1), ek, compareTo_eq (Or.inr iv.1) (Or.inr ij.1), iv.2, ij.2, c1_at]
    by_cases c1 : v < j
    · rw [if_pos c1, if_neg (by decide), gd_pos (hN x hx).1]
      show f_J8_getEntry_72 n (f_J8_getEntry_28 n (q + 1)) (328 + v) (ld σ x 2) σ = _ ∧ _
      unfold f_J8_getEntry_72
      by_cases c2 : ld σ x 2 = 0
      · have e : ow (2 * v) = x := hT.2.2.2.1 x hx c2 (2 * v) h1 (by omega)
        rw [c2, e, if_neg (by omega)]
        unfold f_J8_getEntry_28
        rw [if_pos rfl]
        exact ⟨rfl, hx⟩
      · obtain ⟨a1, a2, a3, a4⟩ := hT.2.1 x hx c2
        dsimp only at a1 a2 a3 a4
        exact ih (q + 1) (ld σ x 2) a1 (by rw [a3, a4]; omega) (by omega) (by omega) (by omega)
    · rw [if_neg c1]
      by_cases c3 : v = j
      · rw [if_pos c3, if_pos (by decide), if_pos (by decide)]
        have e : ow (k x) = x := hT.2.2.2.2.2.1 x hx
        have e2 : k x = 2 * v := by omega
        rw [e2] at e
        rw [e, if_pos e2]
        exact ⟨rfl, hx⟩
      · rw [if_neg c3, if_pos (by decide), if_neg (by decide), gd_pos (hN x hx).1]
        show f_J8_getEntry_72 n (f_J8_getEntry_28 n (q + 1)) (328 + v) (ld σ x 3) σ = _ ∧ _
        unfold f_J8_getEntry_72
        by_cases c2 : ld σ x 3 = 0
        · have e : ow (2 * v) = x := hT.2.2.2.2.1 x hx c2 (2 * v) (by omega) h2
          rw [c2, e, if_neg (by omega)]
          unfold f_J8_getEntry_28
          rw [if_pos rfl]
          exact ⟨rfl, hx⟩
        · obtain ⟨a1, a2, a3, a4⟩ := hT.2.2.1 x hx c2
          dsimp only at a1 a2 a3 a4
          exact ih (q + 1) (ld σ x 3) a1 (by rw [a3, a4]; omega) (by omega) (by omega) (by omega)
end SE
/-- the entry of a key -/
theorem getEntry_eq {σ : AS} {t v mc : Int} {D : Int → Prop} {f : Int → Int} {n : Nat} (hI : IntC σ) (hn : 100 ≤ n) (hv : 0 ≤ v ∧ v < 32) (h : MapOk σ t D f mc) : ∃ e, f_J8_getEntry n t (328 + v) σ = some (e, σ) ∧ ((f v = 0 ∧ e = 0) ∨ (f v ≠ 0 ∧ e ≠ 0 ∧ kd σ e = 27 ∧ ld σ e 1 = f v)) := by
  obtain ⟨h1, h2, h3, h4, h5, h6⟩ := h
  have iv := int_at hI (v := v) (by omega) (by omega)
  unfold f_J8_getEntry f_J18_requireNonNull
  rw [gd_pos h1, if_pos h2, if_neg (by omega), c1_at, gd_pos (Or.inr (Or.inr iv.1)), gd_pos h1]
  show ∃ e, f_J8_getEntry_28 n n (328 + v) (ld σ t 3) σ = some (e, σ) ∧ _
  rcases h6 with ⟨a, b⟩ | ⟨N, k, lo, hi, ow, a1, a2, a3, a4⟩
  · rw [a]
    obtain ⟨m, rfl⟩ : ∃ z, n = z + 1 := ⟨n - 1, by omega⟩
    refine ⟨0, ?_, Or.inl ⟨b v, rfl⟩⟩
    unfold f_J8_getEntry_28
    rw [if_pos rfl]
  · obtain ⟨r1, r2, r3, r4⟩ := a2.2.2.2.2.2.2.2.2
    have hf := find_eq (n := n) hI hv a1 a2 (fun q hq => (a3 q hq).2.2.1) 67 n (ld σ t 3) r1 (by omega) (by omega) (by omega) (by omega)
    rw [hf.1]
    refine ⟨_, rfl, ?_⟩
    by_cases c : f v = 0
    · refine Or.inl ⟨c, ?_⟩
      by_cases z : k (ow (2 * v)) = 2 * v
      · have := a3 _ hf.2
        rw [z] at this
        have e2 : 2 * v / 2 = v := by omega
        rw [e2] at this
        exact absurd c this.2.2.2.2
      · rw [if_neg z]
    · obtain ⟨q, q1, q2⟩ := a4 v c
      have e : ow (k q) = q := a2.2.2.2.2.2.1 q q1
      rw [q2] at e
      rw [e, if_pos q2]
      have := a3 q q1
      rw [q2] at this
      have e2 : 2 * v / 2 = v := by omega
      rw [e2] at this
      exact Or.inr ⟨c, (a2.1 q q1).1, (a1 q q1).1, this.2.2.2.1⟩
theorem containsKey_eq {σ : AS} {t v mc : Int} {D : Int → Prop} {f : Int → Int} {n : Nat} (hI : IntC σ) (hn : 100 ≤ n) (hv : 0 ≤ v ∧ v < 32) (h : MapOk σ t D f mc) : f_J8_containsKey n t (328 + v) σ = some (if f v = 0 then 0 else 1, σ) := by
  obtain ⟨e, e1, e2⟩ := getEntry_eq (n := n) hI hn hv h
  unfold f_J8_containsKey
  rw [gd_pos h.1, e1, c1_at]
  rcases e2 with ⟨a, b⟩ | ⟨a, b, _⟩
  · rw [if_pos b, if_pos a]
  · rw [if_neg b, if_neg a]
theorem mapGet_eq {σ : AS} {t v mc : Int} {D : Int → Prop} {f : Int → Int} {n : Nat} (hI : IntC σ) (hn : 100 ≤ n) (hv : 0 ≤ v ∧ v < 32) (h : MapOk σ t D f mc) : f_J8_get n t (328 + v) σ = some (f v, σ) := by
  obtain ⟨e, e1, e2⟩ := getEntry_eq (n := n) hI hn hv h
  unfold f_J8_get
  rw [gd_pos h.1, e1, c1_at]
  rcases e2 with ⟨a, b⟩ | ⟨a, b, c, d⟩
  · rw [if_pos b, a]
  · rw [if_neg b, gd_pos c, d]
theorem mapSize_eq {σ : AS} {t mc : Int} {D : Int → Prop} {f : Int → Int} (h : MapOk σ t D f mc) : f_J8_size t σ = some (((sm (has f) 32 : Nat) : Int), σ) := by
  unfold f_J8_size
  rw [gd_pos h.1, h.2.2.2.1]
