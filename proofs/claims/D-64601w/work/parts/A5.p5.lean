/-! PURE: hops -/
set_option maxRecDepth 100000
def Walks (G : Gr) (ty e : Int) : Prop := edgeAt G e ∧ (ty = -1 ∨ gt G e = ty)
/-- hops, one level more, along the edges of P -/
noncomputable def mid (G : Gr) (ty : Int) (d : Int → Int) (h : Int) (P : Int → Prop) : Int → Int := fun n => by
  classical
  exact if d n ≠ -1 then d n else if ∃ e, P e ∧ Walks G ty e ∧ d (gf G e) = h ∧ go G e = n then h + 1 else -1
section MID
variable {G : Gr} {ty h : Int} {d : Int → Int} {P P' : Int → Prop} {n : Int}
theorem mid_old (q : d n ≠ -1) : mid G ty d h P n = d n := by
  unfold mid
  rw [if_pos q]
theorem mid_new (q : d n = -1) (k : ∃ e, P e ∧ Walks G ty e ∧ d (gf G e) = h ∧ go G e = n) : mid G ty d h P n = h + 1 := by
  unfold mid
  rw [if_neg (fun z => z q), if_pos k]
theorem mid_none (q : d n = -1) (k : ¬ ∃ e, P e ∧ Walks G ty e ∧ d (gf G e) = h ∧ go G e = n) : mid G ty d h P n = -1 := by
  unfold mid
  rw [if_neg (fun z => z q), if_neg k]
theorem mid_empty : mid G ty d h (fun _ => False) = d := by
  funext n
  by_cases q : d n = -1
  · rw [mid_none q (fun ⟨_, z, _⟩ => z), q]
  · exact mid_old q
theorem mid_congr (k : ∀ e, Walks G ty e → d (gf G e) = h → (P e ↔ P' e)) : mid G ty d h P = mid G ty d h P' := by
  funext n
  by_cases q : d n = -1
  · by_cases z : ∃ e, P e ∧ Walks G ty e ∧ d (gf G e) = h ∧ go G e = n
    · rw [mid_new q z]
      obtain ⟨e, z1, z2, z3, z4⟩ := z
      rw [mid_new q ⟨e, (k e z2 z3).mp z1, z2, z3, z4⟩]
    · rw [mid_none q z, mid_none q (fun ⟨e, z1, z2, z3, z4⟩ => z ⟨e, (k e z2 z3).mpr z1, z2, z3, z4⟩)]
  · rw [mid_old q, mid_old q]
/-- an edge more -/
theorem mid_step {e : Int} (hh : h + 1 ≠ -1) : mid G ty d h (fun x => P x ∨ x = e) = (by classical exact if Walks G ty e ∧ d (gf G e) = h ∧ mid G ty d h P (go G e) = -1 then ud (mid G ty d h P) (go G e) (h + 1) else mid G ty d h P) := by
  by_cases c : Walks G ty e ∧ d (gf G e) = h ∧ mid G ty d h P (go G e) = -1
  · rw [if_pos c]
    funext n
    by_cases q : d n = -1
    · by_cases z : n = go G e
      · subst z
        rw [ud_eq, mid_new q ⟨e, Or.inr rfl, c.1, c.2.1, rfl⟩]
      · rw [ud_ne z]
        by_cases y : ∃ e, P e ∧ Walks G ty e ∧ d (gf G e) = h ∧ go G e = n
        · rw [mid_new q y]
          obtain ⟨x, y1, y2⟩ := y
          rw [mid_new q ⟨x, Or.inl y1, y2⟩]
        · rw [mid_none q y, mid_none q]
          rintro ⟨x, y1 | y1, y2, y3, y4⟩
          · exact y ⟨x, y1, y2, y3, y4⟩
          · exact z (by rw [← y4, y1])
    · rw [mid_old q]
      by_cases z : n = go G e
      · subst z
        rw [mid_old q] at c
        exact absurd c.2.2 q
      · rw [ud_ne z, mid_old q]
  · rw [if_neg c]
    funext n
    by_cases q : d n = -1
    · by_cases y : ∃ e, P e ∧ Walks G ty e ∧ d (gf G e) = h ∧ go G e = n
      · rw [mid_new q y]
        obtain ⟨x, y1, y2⟩ := y
        rw [mid_new q ⟨x, Or.inl y1, y2⟩]
      · rw [mid_none q y, mid_none q]
        rintro ⟨x, y1 | y1, y2, y3, y4⟩
        · exact y ⟨x, y1, y2, y3, y4⟩
        · subst y1
          refine c ⟨y2, y3, ?_⟩
          rw [y4]
          exact mid_none q y
    · rw [mid_old q, mid_old q]
end MID
noncomputable def lev (G : Gr) (ty fr : Int) : Nat → Int → Int
  | 0 => fun n => if n = fr then 0 else -1
  | h + 1 => mid G ty (lev G ty fr h) h (fun _ => True)
section LEV
variable {G : Gr} {ty fr : Int}
theorem lev_zero {n : Int} : lev G ty fr 0 n = if n = fr then 0 else -1 := rfl
theorem lev_succ {h : Nat} : lev G ty fr (h + 1) = mid G ty (lev G ty fr h) h (fun _ => True) := rfl
theorem lev_range : ∀ {h : Nat} {n : Int}, lev G ty fr h n = -1 ∨ (0 ≤ lev G ty fr h n ∧ lev G ty fr h n ≤ h)
  | 0, n => by
    rw [lev_zero]
    by_cases q : n = fr
    · rw [if_pos q]; exact Or.inr ⟨Int.le_refl 0, Int.le_refl 0⟩
    · rw [if_neg q]; exact Or.inl rfl
  | h + 1, n => by
    have ih := lev_range (h := h) (n := n)
    rw [lev_succ]
    by_cases q : lev G ty fr h n = -1
    · by_cases z : ∃ e, True ∧ Walks G ty e ∧ lev G ty fr h (gf G e) = h ∧ go G e = n
      · rw [mid_new q z]; exact Or.inr ⟨by omega, by omega⟩
      · rw [mid_none q z]; exact Or.inl rfl
    · rw [mid_old q]
      exact Or.inr ⟨by omega, by omega⟩
theorem lev_stay {h : Nat} {n : Int} (q : lev G ty fr h n ≠ -1) : ∀ {j : Nat}, h ≤ j → lev G ty fr j n = lev G ty fr h n := by
  intro j
  induction j with
  | zero => intro hj; have : h = 0 := by omega
            rw [this]
  | succ j ih =>
    intro hj
    by_cases e : h = j + 1
    · rw [e]
    · have := ih (by omega)
      rw [lev_succ, mid_old (by rw [this]; exact q), this]
theorem lev_at {j n : Int} : ∀ {h : Nat}, 0 ≤ j → j ≤ h → (lev G ty fr h n = j ↔ lev G ty fr j.toNat n = j)
  | 0, h0, hj => by
    have : j.toNat = 0 := by omega
    rw [this]
  | h + 1, h0, hj => by
    by_cases e : j = h + 1
    · have : j.toNat = h + 1 := by omega
      rw [this]
    · rw [← lev_at (h := h) h0 (by omega)]
      by_cases q : lev G ty fr h n = -1
      · rw [q]
        rw [lev_succ]
        by_cases z : ∃ e, True ∧ Walks G ty e ∧ lev G ty fr h (gf G e) = h ∧ go G e = n
        · rw [mid_new q z]; omega
        · rw [mid_none q z]
      · rw [lev_stay q (Nat.le_succ h)]
theorem lev_alive (hf : nodeAt G fr) (hG : okG G) : ∀ {h : Nat} {n : Int}, lev G ty fr h n ≠ -1 → nodeAt G n
  | 0, n, q => by
    rw [lev_zero] at q
    by_cases z : n = fr
    · rw [z]; exact hf
    · rw [if_neg z] at q; exact absurd rfl q
  | h + 1, n, q => by
    rw [lev_succ] at q
    by_cases z : lev G ty fr h n = -1
    · by_cases y : ∃ e, True ∧ Walks G ty e ∧ lev G ty fr h (gf G e) = h ∧ go G e = n
      · obtain ⟨e, _, y1, _, y2⟩ := y
        rw [← y2]
        exact (hG.2.1 e y1.1.2.2).2.2.2.2
      · rw [mid_none z y] at q; exact absurd rfl q
    · exact lev_alive hf hG z
theorem lev_empty {h : Nat} (q : ∀ n, lev G ty fr h n ≠ h) (n : Int) : lev G ty fr (h + 1) n ≠ (h + 1 : Nat) := by
  rw [lev_succ]
  by_cases z : lev G ty fr h n = -1
  · rw [mid_none z (fun ⟨e, _, _, y, _⟩ => q _ y)]; omega
  · rw [mid_old z]
    have := lev_range (G := G) (ty := ty) (fr := fr) (h := h) (n := n)
    omega
theorem lev_empty' {h : Nat} (q : ∀ n, lev G ty fr h n ≠ h) : ∀ (j : Nat), h ≤ j → ∀ n, lev G ty fr j n ≠ j := by
  intro j
  induction j with
  | zero => intro hj n; have : h = 0 := by omega
            rw [this] at q; exact q n
  | succ j ih =>
    intro hj n
    by_cases e : h = j + 1
    · rw [e] at q; exact q n
    · exact lev_empty (ih (by omega)) n
end LEV
/-! what a walk tells -/
def wlv (D : Int → Int) (h : Int) : Nat → List (Int × Int)
  | 0 => []
  | n + 1 => wlv D h n ++ (if D (n : Int) = h then [((n : Int), h)] else [])
def wls (D : Int → Int) : Nat → List (Int × Int)
  | 0 => []
  | h + 1 => wls D h ++ wlv D h 400
def sm (f : Int → Nat) : Nat → Nat
  | 0 => 0
  | n + 1 => sm f n + f n
theorem sm_add {f g : Int → Nat} : ∀ {n : Nat}, sm f n + sm g n = sm (fun x => f x + g x) n
  | 0 => rfl
  | n + 1 => by
    have := sm_add (f := f) (g := g) (n := n)
    unfold sm
    omega
theorem sm_congr {f g : Int → Nat} (h : ∀ x, f x = g x) : ∀ {n : Nat}, sm f n = sm g n
  | 0 => rfl
  | n + 1 => by
    unfold sm
    rw [sm_congr h, h]
theorem sm_le {f : Int → Nat} (h : ∀ x, f x ≤ 1) : ∀ {n : Nat}, sm f n ≤ n
  | 0 => Nat.le_refl 0
  | n + 1 => by
    have := sm_le h (n := n)
    have := h n
    unfold sm
    omega
theorem sm_mono {f : Int → Nat} : ∀ {n m : Nat}, n ≤ m → sm f n ≤ sm f m
  | n, 0, h => by
    have : n = 0 := by omega
    rw [this]; exact Nat.le_refl _
  | n, m + 1, h => by
    by_cases e : n = m + 1
    · rw [e]; exact Nat.le_refl _
    · have := sm_mono (f := f) (n := n) (m := m) (by omega)
      show sm f n ≤ sm f m + f m
      omega
theorem len_wlv {D : Int → Int} {h : Int} : ∀ {n : Nat}, (wlv D h n).length = sm (fun x => if D x = h then 1 else 0) n
  | 0 => rfl
  | n + 1 => by
    unfold wlv sm
    rw [List.length_append, len_wlv]
    by_cases q : D (n : Int) = h
    · rw [if_pos q, if_pos q]; rfl
    · rw [if_neg q, if_neg q]; rfl
theorem len_wls {D : Int → Int} : ∀ {h : Nat}, (wls D h).length = sm (fun x => if 0 ≤ D x ∧ D x < h then 1 else 0) 400
  | 0 => by
    show 0 = _
    rw [sm_congr (g := fun _ => 0) (fun x => if_neg (by omega))]
    rfl
  | h + 1 => by
    show (wls D h ++ wlv D h 400).length = _
    rw [List.length_append, len_wls, len_wlv, sm_add]
    refine sm_congr fun x => ?_
    by_cases q : D x = h
    · rw [if_pos q, if_neg (by omega), if_pos (by omega)]
    · rw [if_neg q]
      by_cases z : 0 ≤ D x ∧ D x < h
      · rw [if_pos z, if_pos (by omega)]
      · rw [if_neg z, if_neg (by omega)]
theorem wls_le {D : Int → Int} {h : Nat} : (wls D h).length ≤ 400 := by
  rw [len_wls]
  refine sm_le fun x => ?_
  by_cases z : 0 ≤ D x ∧ D x < h
  · rw [if_pos z]; exact Nat.le_refl 1
  · rw [if_neg z]; exact Nat.zero_le 1
theorem wlv_le {D : Int → Int} {h m : Nat} (hm : m ≤ 400) : (wls D h ++ wlv D h m).length ≤ 400 := by
  have h1 := wls_le (D := D) (h := h + 1)
  change (wls D h ++ wlv D h 400).length ≤ 400 at h1
  rw [List.length_append] at h1 ⊢
  have : (wlv D h m).length ≤ (wlv D (h : Int) 400).length := by rw [len_wlv, len_wlv]; exact sm_mono hm
  omega
theorem wlv_none {D : Int → Int} {h : Int} : ∀ {n : Nat}, (∀ x : Nat, x < n → D x ≠ h) → wlv D h n = []
  | 0, _ => rfl
  | n + 1, q => by
    unfold wlv
    rw [wlv_none (fun x hx => q x (by omega)), if_neg (q n (by omega))]
    rfl
theorem wls_stop {D : Int → Int} {a : Nat} : ∀ {b : Nat}, a ≤ b → (∀ j : Nat, a ≤ j → j < b → ∀ n, D n ≠ j) → wls D b = wls D a
  | 0, h, _ => by
    have : a = 0 := by omega
    rw [this]
  | b + 1, h, q => by
    by_cases e : a = b + 1
    · rw [e]
    · show wls D b ++ wlv D b 400 = _
      rw [wls_stop (a := a) (b := b) (by omega) (fun j h1 h2 => q j h1 (by omega)), wlv_none (fun x _ => q b (by omega) (by omega) x), List.append_nil]
/-- levels that aren't empty are at most 400 -/
theorem wls_many {D : Int → Int} : ∀ {h : Nat}, (∀ j : Nat, j < h → ∃ n : Nat, n < 400 ∧ D n = j) → h ≤ (wls D h).length
  | 0, _ => Nat.zero_le _
  | h + 1, q => by
    have ih := wls_many (h := h) (fun j hj => q j (by omega))
    obtain ⟨n, hn, hd⟩ := q h (by omega)
    show h + 1 ≤ (wls D h ++ wlv D h 400).length
    rw [List.length_append]
    have : 0 < (wlv D (h : Int) 400).length := by
      rw [len_wlv]
      have h1 := sm_mono (f := fun x => if D x = h then 1 else 0) (n := n + 1) (m := 400) hn
      have h2 : sm (fun x => if D x = (h : Int) then 1 else 0) (n + 1) = sm (fun x => if D x = (h : Int) then 1 else 0) n + 1 := by
        show sm (fun x => if D x = (h : Int) then 1 else 0) n + (if D n = h then 1 else 0) = _
        rw [if_pos hd]
      omega
    omega
