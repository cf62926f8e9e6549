/-! Numbers in rising order: what they hold
-/
set_option maxRecDepth 100000
theorem f_X10_add_wp2 {n : Nat} {p v : Int} {L : List Int} {σ : AS} {S : Int → Prop} (hSp : S p) (hSc : S (ld σ p 0)) (hn : 1000000 ≤ n) (hp : p < nx σ) (hc : ld σ p 0 < nx σ) (h : NumOk σ p L) (hL : L.length ≤ 2048) (h5 : ln σ (ld σ p 0) ≤ 4096) :
    Wp (f_X10_add n p v σ) fun σ' => Fr S σ σ' ∧ nx σ' ≤ nx σ + 1 ∧ us σ' ≤ us σ + 2 * L.length ∧ ∃ j : Nat, j ≤ L.length ∧ (j = 0 ∨ L.getD (j - 1) 0 ≤ v) ∧ (∀ i : Nat, j ≤ i → i < L.length → v < L.getD i 0) ∧ NumOk σ' p (insAt L j v) ∧ ln σ' (ld σ' p 0) ≤ 4096 ∧ (ld σ' p 0 = ld σ p 0 ∨ (ld σ' p 0 = nx σ ∧ nx σ' = nx σ + 1)) := by
  obtain ⟨h1, h3, h7, h4, h6, h8⟩ := h
  have hpc : ld σ p 0 ≠ p := fun e => by rw [e, h1] at h3; cases h3
  unfold f_X10_add
  refine wp_gd h1 ?_
  refine wp_gd h1 ?_
  refine wp_gd h3 ?_
  rw [h7]
  refine wp_ite (fun hc1 => ?_) (fun hc1 => ?_)
  · refine wp_gd h1 ?_
    refine wp_gI (by omega) ?_
    refine wp_gd ⟨by omega, by omega⟩ ?_
    refine wp_nm (fun r er => ?_)
    subst er
    refine wp_nm (fun σ1 e1 => ?_)
    have a0 : ∀ a, a ≠ nx σ → kd σ1 a = kd σ a ∧ ln σ1 a = ln σ a ∧ ∀ j, ld σ1 a j = ld σ a j := fun a ha => by
      rw [e1]
      exact ⟨by rw [kd_al, if_neg ha], by rw [ln_al, if_neg ha], fun j => by rw [ld_al, if_neg ha]⟩
    obtain ⟨p1, p2, p3⟩ := a0 p (by omega)
    obtain ⟨q1, q2, q3⟩ := a0 (ld σ p 0) (by omega)
    have r1 : kd σ1 (nx σ) = 100 := by rw [e1, kd_al, if_pos rfl]
    have r2 : ln σ1 (nx σ) = 2 * (L.length : Int) := by rw [e1, ln_al, if_pos rfl]
    have n1 : nx σ1 = nx σ + 1 := by rw [e1, nx_al]
    have u1 : us σ1 = us σ + 2 * (L.length : Int) := by rw [e1, us_al]
    refine wp_gd (p1.trans h1) ?_
    refine wp_gd (p1.trans h1) ?_
    rw [p3, p3, h7]
    refine wp_gd ⟨Or.inl (q1.trans h3), r1, by omega, by omega, by omega, by rw [q2]; omega, by rw [r2]; omega⟩ ?_
    refine wp_nm0 ?_
    refine wp_gd (by rw [kd_cpy]; exact p1.trans h1) ?_
    refine wp_nm0 ?_
    refine wp_mono (f_X10_add_40_wp (S := fun r => S r ∨ r = nx σ) (L := L) (c := nx σ) (Or.inl hSp) (Or.inr rfl) hn (p1.trans h1) (by rw [ld_wr, if_pos ⟨rfl, rfl⟩]) r1 (by show (L.length : Int) < ln σ1 (nx σ); omega) (by show ln σ1 (nx σ) ≤ 1048576; omega) (by omega) (by show 4 ≤ ln σ1 (nx σ); omega) (by rw [ld_wr, if_neg (fun e => by omega), ld_cpy, if_neg (fun e => by omega), p3]; exact h7) (fun i hi => ?_)) fun σ' hq => ?_
    · rw [ld_wr, if_neg (fun e => by omega), ld_cpy, if_pos ⟨rfl, by omega, by omega⟩, q3]
      have e : (0 : Int) + ((i : Int) - 0) = (i : Int) := by omega
      rw [e]
      exact h8 i hi
    · obtain ⟨g1, g2, g3, j, g4, g5, g6, g7, g8⟩ := hq
      rw [nx_wr, nx_cpy] at g2
      rw [us_wr, us_cpy] at g3
      refine ⟨⟨by omega, by omega, fun r hr => ?_, fun r hr hs j => ?_⟩, by omega, by omega, j, g4, g5, g6, g7, ?_, Or.inr ⟨g8, by omega⟩⟩
      · have b := a0 r (by omega)
        have a := g1.2.2.1 r (by rw [nx_wr, nx_cpy]; omega)
        exact ⟨a.1.trans b.1, a.2.trans b.2.1⟩
      · have hrp : r ≠ p := fun e => hs (e ▸ hSp)
        rw [g1.2.2.2 r (by rw [nx_wr, nx_cpy]; omega) (fun e => e.elim hs (fun e => by omega)), ld_wr, if_neg (fun e => hrp e.1), ld_cpy, if_neg (fun e => by omega)]
        exact (a0 r (by omega)).2.2 j
      · rw [g8, g1.ln (by rw [nx_wr, nx_cpy]; omega)]
        show ln σ1 (nx σ) ≤ 4096
        omega
  · refine wp_mono (f_X10_add_40_wp (S := S) (L := L) (c := ld σ p 0) hSp hSc hn h1 rfl h3 (by omega) (by omega) (by omega) h6 h7 h8) fun σ' hq => ?_
    obtain ⟨g1, g2, g3, j, g4, g5, g6, g7, g8⟩ := hq
    exact ⟨g1, by omega, by omega, j, g4, g5, g6, g7, by rw [g8, g1.ln hc]; exact h5, Or.inl g8⟩
theorem gD_get {L : List Int} {i : Nat} (h : i < L.length) : L.getD i 0 = L[i] := by
  rw [List.getD_eq_getElem?_getD, List.getElem?_eq_getElem h]
  rfl
theorem rise_iff {L : List Int} : L.Pairwise (· < ·) ↔ ∀ i j : Nat, i < j → j < L.length → L.getD i 0 < L.getD j 0 := by
  rw [List.pairwise_iff_getElem]
  refine ⟨fun h i j a b => ?_, fun h i j a b c => ?_⟩
  · rw [gD_get (by omega : i < L.length), gD_get b]
    exact h i j (by omega) b a
  · have := h i j c b
    rw [gD_get a, gD_get b] at this
    exact this
theorem mem_gD {L : List Int} {x : Int} : x ∈ L ↔ ∃ i : Nat, i < L.length ∧ L.getD i 0 = x := by
  rw [List.mem_iff_getElem]
  refine ⟨fun ⟨i, h, e⟩ => ⟨i, h, by rw [gD_get h]; exact e⟩, fun ⟨i, h, e⟩ => ⟨i, h, by rw [← gD_get h]; exact e⟩⟩
theorem rise_len {M : Int} : ∀ {L : List Int} {a : Int}, L.Pairwise (· < ·) → (∀ x ∈ L, a ≤ x ∧ x < M) → L = [] ∨ (L.length : Int) ≤ M - a
  | [], _, _, _ => Or.inl rfl
  | x :: L, a, h, k => by
    right
    rw [List.pairwise_cons] at h
    have hx := k x List.mem_cons_self
    have := rise_len (M := M) (L := L) (a := a + 1) h.2 (fun y hy => by have h1 : x < y := h.1 y hy; have := k y (List.mem_cons_of_mem _ hy); omega)
    rcases this with e | e
    · rw [e]; simp; omega
    · simp only [List.length_cons]; omega
section NA
variable {σ : AS} {Ow : F1} {o t1 t2 e M : Int} {P : Int → Prop}
theorem NumAt.len (h : NumAt σ Ow o t1 t2 P) (hb : ∀ x, P x → 0 ≤ x ∧ x < M) (hM : 0 ≤ M) : ∃ L, NumOk σ o L ∧ L.Pairwise (· < ·) ∧ (∀ e, e ∈ L ↔ P e) ∧ (L.length : Int) ≤ M := by
  obtain ⟨h1, h2, h3, h4, h5, h6, h7, L, h8, h9, h10⟩ := h
  refine ⟨L, h8, h9, h10, ?_⟩
  rcases rise_len (L := L) (a := 0) (M := M) h9 (fun x hx => hb x ((h10 x).mp hx)) with q | q
  · rw [q]; simpa using hM
  · omega
/-- what a change of these numbers leaves -/
def NumC (σ : AS) (Ow : F1) (o t1 t2 : Int) (P' : Int → Prop) (c : Int) (σ' : AS) : Prop := ∃ Ow' : F1, NumAt σ' Ow' o t1 t2 P' ∧ Fr (fun r => 1054 ≤ r ∧ (Ow r = t1 ∨ Ow r = t2)) σ σ' ∧ (∀ r, r < nx σ → Ow' r = Ow r) ∧ (∀ r, nx σ ≤ r → r < nx σ' → Ow' r = t2) ∧ nx σ' ≤ nx σ + 1 ∧ us σ' ≤ us σ + c
theorem NumAt.add {n : Nat} (hn : 1000000 ≤ n) (hx : 1054 ≤ nx σ) (h : NumAt σ Ow o t1 t2 P) (hb : ∀ x, P x → 0 ≤ x ∧ x < M) (hM : 0 ≤ M ∧ M ≤ 1000) (hnew : ¬ P e) : Wp (f_X10_add n o e σ) (NumC σ Ow o t1 t2 (fun x => P x ∨ x = e) (2 * M)) := by
  obtain ⟨L, l1, l2, l3, l4⟩ := h.len hb hM.1
  obtain ⟨h1, h2, h3, h4, h5, h6, h7, _⟩ := h
  refine wp_mono (f_X10_add_wp2 (S := fun r => 1054 ≤ r ∧ (Ow r = t1 ∨ Ow r = t2)) ⟨h1, Or.inl h3⟩ ⟨h4, Or.inr h6⟩ hn h2 h5 l1 (by omega) h7) fun σ' hq => ?_
  obtain ⟨g1, g2, g3, j, g4, g5, g6, g7, g8, g9⟩ := hq
  have n1 := g1.1
  have eL : ∀ i : Nat, i < L.length → L.getD i 0 ≠ e := fun i hi z => hnew ((l3 e).mp (mem_gD.mpr ⟨i, hi, z⟩))
  have r2 := rise_iff.mp l2
  refine ⟨fun r => if nx σ ≤ r ∧ r < nx σ' then t2 else Ow r, ⟨h1, by omega, ?_, ?_, ?_, ?_, g8, insAt L j e, g7, ?_, fun x => ?_⟩, g1, fun r hr => if_neg (by omega), fun r a b => if_pos ⟨a, b⟩, g2, by omega⟩
  · show (if nx σ ≤ o ∧ o < nx σ' then t2 else Ow o) = t1
    rw [if_neg (by omega)]; exact h3
  · rcases g9 with q | q
    · rw [q]; exact h4
    · rw [q.1]; exact hx
  · rcases g9 with q | q
    · rw [q]; omega
    · rw [q.1]; omega
  · show (if nx σ ≤ ld σ' o 0 ∧ ld σ' o 0 < nx σ' then t2 else Ow (ld σ' o 0)) = t2
    rcases g9 with q | q
    · rw [q, if_neg (by omega)]; exact h6
    · rw [q.1, if_pos (by omega)]
  · rw [rise_iff]
    intro a b hab hbl
    rw [insAt_len g4] at hbl
    rw [insAt_get g4, insAt_get g4]
    have q1 := eL
    by_cases c1 : a < j
    · rw [if_pos c1]
      have e1 : L.getD a 0 < e := by
        rcases g5 with z | z
        · omega
        · have y := eL a (by omega)
          by_cases w : a = j - 1
          · rw [w] at y ⊢; omega
          · have := r2 a (j - 1) (by omega) (by omega)
            omega
      by_cases c2 : b < j
      · rw [if_pos c2]; exact r2 a b hab (by omega)
      · rw [if_neg c2]
        by_cases c3 : b = j
        · rw [if_pos c3]; exact e1
        · rw [if_neg c3]; exact r2 a (b - 1) (by omega) (by omega)
    · rw [if_neg c1, if_neg (by omega : ¬ b < j), if_neg (by omega : ¬ b = j)]
      by_cases c2 : a = j
      · rw [if_pos c2]; exact g6 (b - 1) (by omega) (by omega)
      · rw [if_neg c2]; exact r2 (a - 1) (b - 1) (by omega) (by omega)
  · show x ∈ insAt L j e ↔ P x ∨ x = e
    rw [← l3 x]
    unfold insAt
    rw [List.mem_append, List.mem_cons]
    have : x ∈ L ↔ x ∈ L.take j ∨ x ∈ L.drop j := by
      rw [← List.mem_append, List.take_append_drop]
    rw [this]
    constructor
    · rintro (q | q | q)
      · exact Or.inl (Or.inl q)
      · exact Or.inr q
      · exact Or.inl (Or.inr q)
    · rintro ((q | q) | q)
      · exact Or.inl q
      · exact Or.inr (Or.inr q)
      · exact Or.inr (Or.inl q)
theorem NumAt.del {n : Nat} (hn : 1000000 ≤ n) (h : NumAt σ Ow o t1 t2 P) (he : P e) : Wp (f_X10_remove n o e σ) (NumC σ Ow o t1 t2 (fun x => P x ∧ x ≠ e) 0) := by
  obtain ⟨h1, h2, h3, h4, h5, h6, h7, L, l1, l2, l3⟩ := h
  have r2 := rise_iff.mp l2
  obtain ⟨j, j1, j2⟩ := mem_gD.mp ((l3 e).mpr he)
  refine wp_mono (f_X10_remove_wp (S := fun r => 1054 ≤ r ∧ (Ow r = t1 ∨ Ow r = t2)) ⟨h1, Or.inl h3⟩ ⟨h4, Or.inr h6⟩ hn l1 h7 j1 j2 (fun i hi => ?_)) fun σ' hq => ?_
  · have := r2 i j hi j1
    omega
  · obtain ⟨g1, g2, g3, g4, g5, g6⟩ := hq
    have dl := delAt_len j1
    refine ⟨Ow, ⟨h1, by omega, h3, by rw [g6]; exact h4, by rw [g6]; omega, by rw [g6]; exact h6, g5, delAt L j, g4, ?_, fun x => ?_⟩, g1, fun r _ => rfl, fun r a b => by omega, by omega, by omega⟩
    · rw [rise_iff]
      intro a b hab hbl
      rw [delAt_get j1, delAt_get j1]
      by_cases c1 : a < j
      · rw [if_pos c1]
        by_cases c2 : b < j
        · rw [if_pos c2]; exact r2 a b hab (by omega)
        · rw [if_neg c2]; exact r2 a (b + 1) (by omega) (by omega)
      · rw [if_neg c1, if_neg (by omega : ¬ b < j)]
        exact r2 (a + 1) (b + 1) (by omega) (by omega)
    · show x ∈ delAt L j ↔ P x ∧ x ≠ e
      rw [← l3 x, mem_gD, mem_gD]
      constructor
      · rintro ⟨i, i1, i2⟩
        rw [delAt_get j1] at i2
        by_cases c : i < j
        · rw [if_pos c] at i2
          exact ⟨⟨i, by omega, i2⟩, by have := r2 i j c j1; omega⟩
        · rw [if_neg c] at i2
          exact ⟨⟨i + 1, by omega, i2⟩, by have := r2 j (i + 1) (by omega) (by omega); omega⟩
      · rintro ⟨⟨i, i1, i2⟩, ne⟩
        by_cases c : i < j
        · exact ⟨i, by omega, by rw [delAt_get j1, if_pos c]; exact i2⟩
        · have c2 : i ≠ j := fun z => by rw [z] at i2; omega
          obtain ⟨d, rfl⟩ : ∃ d, i = d + 1 := ⟨i - 1, by omega⟩
          exact ⟨d, by omega, by rw [delAt_get j1, if_neg (by omega)]; exact i2⟩
end NA
