/-! TreeMap: rotations -/
set_option maxRecDepth 100000
section WT
variable {α β : Type}
theorem wp_t1 {m : Option (Int × TT)} {k : Int → TT → Option β} {Q : β → Prop} (h : Wp m fun p => Wp (k p.1 p.2) Q) : Wp (t1 m k) Q := by
  obtain ⟨⟨a, s⟩, e, q⟩ := h
  rw [e]; exact q
theorem wp_t0 {m : Option TT} {k : TT → Option β} {Q : β → Prop} (h : Wp m fun s => Wp (k s) Q) : Wp (t0 m k) Q := by
  obtain ⟨s, e, q⟩ := h
  rw [e]; exact q
theorem wp_t1e {m : Option (Int × TT)} {a : Int} {s : TT} {k : Int → TT → Option β} {Q : β → Prop} (e : m = some (a, s)) (h : Wp (k a s) Q) : Wp (t1 m k) Q := by
  rw [e]; exact h
theorem wp_t0e {m : Option TT} {s : TT} {k : TT → Option β} {Q : β → Prop} (e : m = some s) (h : Wp (k s) Q) : Wp (t0 m k) Q := by
  rw [e]; exact h
theorem wp_c1e {m : Option (Int × AS)} {a : Int} {s : AS} {k : Int → AS → Option β} {Q : β → Prop} (e : m = some (a, s)) (h : Wp (k a s) Q) : Wp (c1 m k) Q := by
  rw [e]; exact h
theorem wp_c0e {m : Option AS} {s : AS} {k : AS → Option β} {Q : β → Prop} (e : m = some s) (h : Wp (k s) Q) : Wp (c0 m k) Q := by
  rw [e]; exact h
end WT
/-- entries of a map -/
def MapN (σ : AS) (N : Int → Prop) : Prop := ∀ q, N q → kd σ q = 27 ∧ 0 ≤ ld σ q 5 ∧ ld σ q 5 ≤ 1
def MapT (σ : AS) (t : Int) (N : Int → Prop) (k lo hi ow : F1) : Prop := Tree N k (fun q => ld σ q 2) (fun q => ld σ q 3) (fun q => ld σ q 4) lo hi ow (ld σ t 3)
def SameK (σ σ' : AS) : Prop := σ'.1 = σ.1 ∧ σ'.2.1 = σ.2.1 ∧ nx σ' = nx σ ∧ us σ' = us σ
theorem cmpA {σ : AS} {x y : Int} (hx : x = 0 ∨ (kd σ x ≠ 0 ∧ kd σ x < 1000)) (hy : y = 0 ∨ kd σ y ≠ 0) : cmpOk σ x y := by
  unfold cmpOk sole
  rcases hx with hx | hx
  · exact Or.inl hx
  · rcases hy with hy | hy
    · exact Or.inr (Or.inl hy)
    · exact Or.inr (Or.inr (Or.inr ⟨hx.1, hy, Or.inl hx.2⟩))
section RO
variable {N : Int → Prop} {k lo hi ow : F1} {t x : Int} {σ : AS}
theorem tree_farL {l r p ow : F1} {rt : Int} (h : Tree N k l r p lo hi ow rt) (hx : N x) (h0 : r x ≠ 0) : N (r x) ∧ (l (r x) ≠ 0 → N (l (r x))) ∧ (p x ≠ 0 → N (p x)) ∧ x ≠ r x ∧ l (r x) ≠ x ∧ l (r x) ≠ r x ∧ p x ≠ x ∧ p x ≠ r x ∧ x ≠ 0 ∧ (p x ≠ 0 → l (r x) ≠ p x) := by
  obtain ⟨h1, h2, h3, h4, h5, h6, h7, h8, h9⟩ := h
  have a1 := h1 x hx
  have a3 := h3 x hx h0
  have a2 := h2 x hx
  have b1 := h1 (r x) a3.1
  have b2 := h2 (r x) a3.1
  have b3 := h3 (r x) a3.1
  have a8 := h8 x hx
  have c1 := h1 (p x)
  have c2 := h2 (p x)
  have c3 := h3 (p x)
  have r9 : p rt = 0 := h9.2.1
  have z1 : ∀ q, N q → q ≠ 0 := fun q hq => (h1 q hq).1
  clear h1 h2 h3 h4 h5 h6 h7 h8 h9
  have y1 : x ≠ r x := fun e => by rw [← e] at a3; omega
  have y2 : p x ≠ 0 → N (p x) ∧ (l (p x) = x ∨ r (p x) = x) := fun e => a8 (fun q => e (by rw [q]; exact r9))
  clear a8
  grind
theorem rotL_far (hT : MapT σ t N k lo hi ow) (hx : N x) (h0 : ld σ x 3 ≠ 0) : N (ld σ x 3) ∧ (ld σ (ld σ x 3) 2 ≠ 0 → N (ld σ (ld σ x 3) 2)) ∧ (ld σ x 4 ≠ 0 → N (ld σ x 4)) ∧ x ≠ ld σ x 3 ∧ ld σ (ld σ x 3) 2 ≠ x ∧ ld σ (ld σ x 3) 2 ≠ ld σ x 3 ∧ ld σ x 4 ≠ x ∧ ld σ x 4 ≠ ld σ x 3 ∧ x ≠ 0 ∧ (ld σ x 4 ≠ 0 → ld σ (ld σ x 3) 2 ≠ ld σ x 4) := tree_farL hT hx h0
theorem rotL_wp (ht : kd σ t = 26) (hN : MapN σ N) (hT : MapT σ t N k lo hi ow) (hx : N x) (h0 : ld σ x 3 ≠ 0) : Wp (f_J8_rotateLeft t x σ) fun σ' => SameK σ σ' ∧ (∀ q, ¬ N q → q ≠ t → ∀ j, ld σ' q j = ld σ q j) ∧ (∀ j, j ≠ 3 → ld σ' t j = ld σ t j) ∧ (∀ q j, N q → j ≠ 2 → j ≠ 3 → j ≠ 4 → ld σ' q j = ld σ q j) ∧ (∀ q, N q → ld σ' q 2 = rlL (fun q => ld σ q 2) x (ld σ x 3) (ld σ x 4) q ∧ ld σ' q 3 = rlR (fun q => ld σ q 3) (fun q => ld σ q 2) (fun q => ld σ q 4) x (ld σ x 3) (ld σ x 4) q ∧ ld σ' q 4 = rlP (fun q => ld σ q 2) (fun q => ld σ q 4) x (ld σ x 3) (ld σ x 4) q) ∧ ld σ' t 3 = if ld σ x 4 = 0 then ld σ x 3 else ld σ t 3 := by
  obtain ⟨a1, a2, a3, a4, a5, a6, a7, a8, a9, a10⟩ := rotL_far hT hx h0
  have kx := (hN x hx).1
  have ky := (hN _ a1).1
  have nt : ∀ q, N q → q ≠ t := fun q hq e => by rw [e] at hq; have := (hN t hq).1; omega
  have NG : ∀ q, N q → q ≠ 0 := hT.1 |> fun h q hq => (h q hq).1
  have H8 : ld σ x 4 ≠ 0 → ld σ (ld σ x 4) 2 = x ∨ ld σ (ld σ x 4) 3 = x := fun e => (hT.2.2.2.2.2.2.2.1 x hx (fun q => e (by rw [q]; exact hT.2.2.2.2.2.2.2.2.2.1))).2
  have H7 : ld σ x 4 ≠ 0 → ¬ (ld σ (ld σ x 4) 2 = x ∧ ld σ (ld σ x 4) 3 = x) := fun e c => by
    have q1 := hT.2.1 _ (a3 e) (by show ld σ (ld σ x 4) 2 ≠ 0; rw [c.1]; exact a9)
    have q2 := hT.2.2.1 _ (a3 e) (by show ld σ (ld σ x 4) 3 ≠ 0; rw [c.2]; exact a9)
    have q3 := hT.1 _ (a3 e)
    dsimp only at q1 q2
    rw [c.1] at q1
    rw [c.2] at q2
    omega
  have kN : ∀ q, N q → kd σ q = 27 := fun q hq => (hN q hq).1
  have KG : ld σ x 4 ≠ 0 → (ld σ (ld σ x 4) 2 = 0 ∨ kd σ (ld σ (ld σ x 4) 2) = 27) ∧ (ld σ (ld σ x 4) 3 = 0 ∨ kd σ (ld σ (ld σ x 4) 3) = 27) := fun e => by
    refine ⟨?_, ?_⟩
    · by_cases c : ld σ (ld σ x 4) 2 = 0
      · exact Or.inl c
      · exact Or.inr (kN _ (hT.2.1 _ (a3 e) c).1)
    · by_cases c : ld σ (ld σ x 4) 3 = 0
      · exact Or.inl c
      · exact Or.inr (kN _ (hT.2.2.1 _ (a3 e) c).1)
  clear hT hN
  generalize hy : ld σ x 3 = y at *
  generalize hb : ld σ y 2 = b at *
  generalize hg : ld σ x 4 = g at *
  have kb : b ≠ 0 → kd σ b = 27 := fun e => kN b (a2 e)
  have kg : g ≠ 0 → kd σ g = 27 := fun e => kN g (a3 e)
  have xt := nt x hx
  have yt := nt y a1
  unfold f_J8_rotateLeft
  refine wp_neg a9 ?_
  refine wp_gd kx ?_
  refine wp_nm0 ?_
  rw [hy]
  refine wp_gd ky ?_
  refine wp_gd kx ?_
  refine wp_nm0 ?_
  refine wp_gd ky ?_
  have e1 : ld (wr σ x 3 (ld σ y 2)) y 2 = b := by rw [ld_wr, if_neg (fun e => a4 e.1.symm), hb]
  rw [e1, hb]
  unfold f_J8_rotateLeft_32 f_J8_rotateLeft_85
  by_cases c1 : b = 0
  · rw [if_pos c1]
    refine wp_gd (by grind [kd_wr]) ?_
    refine wp_gd (by grind [kd_wr]) ?_
    refine wp_nm0 ?_
    refine wp_gd (by grind [kd_wr]) ?_
    by_cases c2 : g = 0
    · refine wp_pos (by grind [ld_wr]) ?_
      refine wp_gd (by grind [kd_wr]) ?_
      refine wp_nm0 ?_
      refine wp_gd (by grind [kd_wr]) ?_
      refine wp_nm0 ?_
      refine wp_gd (by grind [kd_wr]) ?_
      refine wp_nm0 ?_
      refine wp_ok ⟨⟨rfl, rfl, rfl, rfl⟩, ?_, ?_, ?_, ?_, ?_⟩
      · grind [ld_wr]
      · grind [ld_wr]
      · grind [ld_wr]
      · unfold rlL rlR rlP; grind [ld_wr]
      · grind [ld_wr]
    · have c3 := a3 c2
      refine wp_neg (by grind [ld_wr]) ?_
      refine wp_gd (by grind [kd_wr]) ?_
      refine wp_gd (by grind [kd_wr, ld_wr]) ?_
      refine wp_gdc (cmpA ?_ (Or.inr (by grind [kd_wr]))) ?_
      · grind [kd_wr, ld_wr]
      · by_cases c4 : ld σ g 2 = x
        · refine wp_pos (by grind [ld_wr]) ?_
          refine wp_gd (by grind [kd_wr]) ?_
          refine wp_gd (by grind [kd_wr, ld_wr]) ?_
          refine wp_nm0 ?_
          refine wp_gd (by grind [kd_wr]) ?_
          refine wp_nm0 ?_
          refine wp_gd (by grind [kd_wr]) ?_
          refine wp_nm0 ?_
          refine wp_ok ⟨⟨rfl, rfl, rfl, rfl⟩, ?_, ?_, ?_, ?_, ?_⟩
          · grind [ld_wr]
          · grind [ld_wr]
          · grind [ld_wr]
          · unfold rlL rlR rlP; grind [ld_wr]
          · grind [ld_wr]
        · refine wp_neg (by grind [ld_wr]) ?_
          refine wp_gd (by grind [kd_wr]) ?_
          refine wp_gd (by grind [kd_wr, ld_wr]) ?_
          refine wp_nm0 ?_
          refine wp_gd (by grind [kd_wr]) ?_
          refine wp_nm0 ?_
          refine wp_gd (by grind [kd_wr]) ?_
          refine wp_nm0 ?_
          refine wp_ok ⟨⟨rfl, rfl, rfl, rfl⟩, ?_, ?_, ?_, ?_, ?_⟩
          · grind [ld_wr]
          · grind [ld_wr]
          · grind [ld_wr]
          · unfold rlL rlR rlP; grind [ld_wr]
          · grind [ld_wr]
  · have c9 := a2 c1
    have c8 := kb c1
    rw [if_neg c1]
    refine wp_gd (by grind [kd_wr]) ?_
    refine wp_gd (by grind [kd_wr, ld_wr]) ?_
    refine wp_nm0 ?_
    refine wp_gd (by grind [kd_wr]) ?_
    refine wp_gd (by grind [kd_wr]) ?_
    refine wp_nm0 ?_
    refine wp_gd (by grind [kd_wr]) ?_
    by_cases c2 : g = 0
    · refine wp_pos (by grind [ld_wr]) ?_
      refine wp_gd (by grind [kd_wr]) ?_
      refine wp_nm0 ?_
      refine wp_gd (by grind [kd_wr]) ?_
      refine wp_nm0 ?_
      refine wp_gd (by grind [kd_wr]) ?_
      refine wp_nm0 ?_
      refine wp_ok ⟨⟨rfl, rfl, rfl, rfl⟩, ?_, ?_, ?_, ?_, ?_⟩
      · grind [ld_wr]
      · grind [ld_wr]
      · grind [ld_wr]
      · unfold rlL rlR rlP; grind [ld_wr]
      · grind [ld_wr]
    · have c3 := a3 c2
      refine wp_neg (by grind [ld_wr]) ?_
      refine wp_gd (by grind [kd_wr]) ?_
      refine wp_gd (by grind [kd_wr, ld_wr]) ?_
      refine wp_gdc (cmpA ?_ (Or.inr (by grind [kd_wr]))) ?_
      · grind [kd_wr, ld_wr]
      · by_cases c4 : ld σ g 2 = x
        · refine wp_pos (by grind [ld_wr]) ?_
          refine wp_gd (by grind [kd_wr]) ?_
          refine wp_gd (by grind [kd_wr, ld_wr]) ?_
          refine wp_nm0 ?_
          refine wp_gd (by grind [kd_wr]) ?_
          refine wp_nm0 ?_
          refine wp_gd (by grind [kd_wr]) ?_
          refine wp_nm0 ?_
          refine wp_ok ⟨⟨rfl, rfl, rfl, rfl⟩, ?_, ?_, ?_, ?_, ?_⟩
          · grind [ld_wr]
          · grind [ld_wr]
          · grind [ld_wr]
          · unfold rlL rlR rlP; grind [ld_wr]
          · grind [ld_wr]
        · refine wp_neg (by grind [ld_wr]) ?_
          refine wp_gd (by grind [kd_wr]) ?_
          refine wp_gd (by grind [kd_wr, ld_wr]) ?_
          refine wp_nm0 ?_
          refine wp_gd (by grind [kd_wr]) ?_
          refine wp_nm0 ?_
          refine wp_gd (by grind [kd_wr]) ?_
          refine wp_nm0 ?_
          refine wp_ok ⟨⟨rfl, rfl, rfl, rfl⟩, ?_, ?_, ?_, ?_, ?_⟩
          · grind [ld_wr]
          · grind [ld_wr]
          · grind [ld_wr]
          · unfold rlL rlR rlP; grind [ld_wr]
          · grind [ld_wr]
theorem tree_farR {l r p ow : F1} {rt : Int} (h : Tree N k l r p lo hi ow rt) (hx : N x) (h0 : l x ≠ 0) : N (l x) ∧ (r (l x) ≠ 0 → N (r (l x))) ∧ (p x ≠ 0 → N (p x)) ∧ x ≠ l x ∧ r (l x) ≠ x ∧ r (l x) ≠ l x ∧ p x ≠ x ∧ p x ≠ l x ∧ x ≠ 0 ∧ (p x ≠ 0 → r (l x) ≠ p x) := by
  obtain ⟨h1, h2, h3, h4, h5, h6, h7, h8, h9⟩ := h
  have a1 := h1 x hx
  have a3 := h2 x hx h0
  have a2 := h3 x hx
  have b1 := h1 (l x) a3.1
  have b2 := h3 (l x) a3.1
  have b3 := h2 (l x) a3.1
  have a8 := h8 x hx
  have c1 := h1 (p x)
  have c2 := h2 (p x)
  have c3 := h3 (p x)
  have r9 : p rt = 0 := h9.2.1
  have z1 : ∀ q, N q → q ≠ 0 := fun q hq => (h1 q hq).1
  clear h1 h2 h3 h4 h5 h6 h7 h8 h9
  have y1 : x ≠ l x := fun e => by rw [← e] at a3; omega
  have y2 : p x ≠ 0 → N (p x) ∧ (l (p x) = x ∨ r (p x) = x) := fun e => a8 (fun q => e (by rw [q]; exact r9))
  clear a8
  grind
theorem rotR_far (hT : MapT σ t N k lo hi ow) (hx : N x) (h0 : ld σ x 2 ≠ 0) : N (ld σ x 2) ∧ (ld σ (ld σ x 2) 3 ≠ 0 → N (ld σ (ld σ x 2) 3)) ∧ (ld σ x 4 ≠ 0 → N (ld σ x 4)) ∧ x ≠ ld σ x 2 ∧ ld σ (ld σ x 2) 3 ≠ x ∧ ld σ (ld σ x 2) 3 ≠ ld σ x 2 ∧ ld σ x 4 ≠ x ∧ ld σ x 4 ≠ ld σ x 2 ∧ x ≠ 0 ∧ (ld σ x 4 ≠ 0 → ld σ (ld σ x 2) 3 ≠ ld σ x 4) := tree_farR hT hx h0
theorem rotR_wp (ht : kd σ t = 26) (hN : MapN σ N) (hT : MapT σ t N k lo hi ow) (hx : N x) (h0 : ld σ x 2 ≠ 0) : Wp (f_J8_rotateRight t x σ) fun σ' => SameK σ σ' ∧ (∀ q, ¬ N q → q ≠ t → ∀ j, ld σ' q j = ld σ q j) ∧ (∀ j, j ≠ 3 → ld σ' t j = ld σ t j) ∧ (∀ q j, N q → j ≠ 2 → j ≠ 3 → j ≠ 4 → ld σ' q j = ld σ q j) ∧ (∀ q, N q → ld σ' q 2 = rrL (fun q => ld σ q 2) (fun q => ld σ q 3) (fun q => ld σ q 4) x (ld σ x 2) (ld σ x 4) q ∧ ld σ' q 3 = rrR (fun q => ld σ q 3) x (ld σ x 2) (ld σ x 4) q ∧ ld σ' q 4 = rrP (fun q => ld σ q 3) (fun q => ld σ q 4) x (ld σ x 2) (ld σ x 4) q) ∧ ld σ' t 3 = if ld σ x 4 = 0 then ld σ x 2 else ld σ t 3 := by
  obtain ⟨a1, a2, a3, a4, a5, a6, a7, a8, a9, a10⟩ := rotR_far hT hx h0
  have kx := (hN x hx).1
  have ky := (hN _ a1).1
  have nt : ∀ q, N q → q ≠ t := fun q hq e => by rw [e] at hq; have := (hN t hq).1; omega
  have NG : ∀ q, N q → q ≠ 0 := hT.1 |> fun h q hq => (h q hq).1
  have H8 : ld σ x 4 ≠ 0 → ld σ (ld σ x 4) 2 = x ∨ ld σ (ld σ x 4) 3 = x := fun e => (hT.2.2.2.2.2.2.2.1 x hx (fun q => e (by rw [q]; exact hT.2.2.2.2.2.2.2.2.2.1))).2
  have H7 : ld σ x 4 ≠ 0 → ¬ (ld σ (ld σ x 4) 2 = x ∧ ld σ (ld σ x 4) 3 = x) := fun e c => by
    have q1 := hT.2.1 _ (a3 e) (by show ld σ (ld σ x 4) 2 ≠ 0; rw [c.1]; exact a9)
    have q2 := hT.2.2.1 _ (a3 e) (by show ld σ (ld σ x 4) 3 ≠ 0; rw [c.2]; exact a9)
    have q3 := hT.1 _ (a3 e)
    dsimp only at q1 q2
    rw [c.1] at q1
    rw [c.2] at q2
    omega
  have kN : ∀ q, N q → kd σ q = 27 := fun q hq => (hN q hq).1
  have KG : ld σ x 4 ≠ 0 → (ld σ (ld σ x 4) 2 = 0 ∨ kd σ (ld σ (ld σ x 4) 2) = 27) ∧ (ld σ (ld σ x 4) 3 = 0 ∨ kd σ (ld σ (ld σ x 4) 3) = 27) := fun e => by
    refine ⟨?_, ?_⟩
    · by_cases c : ld σ (ld σ x 4) 2 = 0
      · exact Or.inl c
      · exact Or.inr (kN _ (hT.2.1 _ (a3 e) c).1)
    · by_cases c : ld σ (ld σ x 4) 3 = 0
      · exact Or.inl c
      · exact Or.inr (kN _ (hT.2.2.1 _ (a3 e) c).1)
  clear hT hN
  generalize hy : ld σ x 2 = y at *
  generalize hb : ld σ y 3 = b at *
  generalize hg : ld σ x 4 = g at *
  have kb : b ≠ 0 → kd σ b = 27 := fun e => kN b (a2 e)
  have kg : g ≠ 0 → kd σ g = 27 := fun e => kN g (a3 e)
  have xt := nt x hx
  have yt := nt y a1
  unfold f_J8_rotateRight
  refine wp_neg a9 ?_
  refine wp_gd kx ?_
  refine wp_nm0 ?_
  rw [hy]
  refine wp_gd ky ?_
  refine wp_gd kx ?_
  refine wp_nm0 ?_
  refine wp_gd ky ?_
  have e1 : ld (wr σ x 2 (ld σ y 3)) y 3 = b := by rw [ld_wr, if_neg (fun e => a4 e.1.symm), hb]
  rw [e1, hb]
  unfold f_J8_rotateRight_32 f_J8_rotateRight_85
  by_cases c1 : b = 0
  · rw [if_pos c1]
    refine wp_gd (by grind [kd_wr]) ?_
    refine wp_gd (by grind [kd_wr]) ?_
    refine wp_nm0 ?_
    refine wp_gd (by grind [kd_wr]) ?_
    by_cases c2 : g = 0
    · refine wp_pos (by grind [ld_wr]) ?_
      refine wp_gd (by grind [kd_wr]) ?_
      refine wp_nm0 ?_
      refine wp_gd (by grind [kd_wr]) ?_
      refine wp_nm0 ?_
      refine wp_gd (by grind [kd_wr]) ?_
      refine wp_nm0 ?_
      refine wp_ok ⟨⟨rfl, rfl, rfl, rfl⟩, ?_, ?_, ?_, ?_, ?_⟩
      · grind [ld_wr]
      · grind [ld_wr]
      · grind [ld_wr]
      · unfold rrL rrR rrP; grind [ld_wr]
      · grind [ld_wr]
    · have c3 := a3 c2
      refine wp_neg (by grind [ld_wr]) ?_
      refine wp_gd (by grind [kd_wr]) ?_
      refine wp_gd (by grind [kd_wr, ld_wr]) ?_
      refine wp_gdc (cmpA ?_ (Or.inr (by grind [kd_wr]))) ?_
      · grind [kd_wr, ld_wr]
      · by_cases c4 : ld σ g 3 = x
        · refine wp_pos (by grind [ld_wr]) ?_
          refine wp_gd (by grind [kd_wr]) ?_
          refine wp_gd (by grind [kd_wr, ld_wr]) ?_
          refine wp_nm0 ?_
          refine wp_gd (by grind [kd_wr]) ?_
          refine wp_nm0 ?_
          refine wp_gd (by grind [kd_wr]) ?_
          refine wp_nm0 ?_
          refine wp_ok ⟨⟨rfl, rfl, rfl, rfl⟩, ?_, ?_, ?_, ?_, ?_⟩
          · grind [ld_wr]
          · grind [ld_wr]
          · grind [ld_wr]
          · unfold rrL rrR rrP; grind [ld_wr]
          · grind [ld_wr]
        · refine wp_neg (by grind [ld_wr]) ?_
          refine wp_gd (by grind [kd_wr]) ?_
          refine wp_gd (by grind [kd_wr, ld_wr]) ?_
          refine wp_nm0 ?_
          refine wp_gd (by grind [kd_wr]) ?_
          refine wp_nm0 ?_
          refine wp_gd (by grind [kd_wr]) ?_
          refine wp_nm0 ?_
          refine wp_ok ⟨⟨rfl, rfl, rfl, rfl⟩, ?_, ?_, ?_, ?_, ?_⟩
          · grind [ld_wr]
          · grind [ld_wr]
          · grind [ld_wr]
          · unfold rrL rrR rrP; grind [ld_wr]
          · grind [ld_wr]
  · have c9 := a2 c1
    have c8 := kb c1
    rw [if_neg c1]
    refine wp_gd (by grind [kd_wr]) ?_
    refine wp_gd (by grind [kd_wr, ld_wr]) ?_
    refine wp_nm0 ?_
    refine wp_gd (by grind [kd_wr]) ?_
    refine wp_gd (by grind [kd_wr]) ?_
    refine wp_nm0 ?_
    refine wp_gd (by grind [kd_wr]) ?_
    by_cases c2 : g = 0
    · refine wp_pos (by grind [ld_wr]) ?_
      refine wp_gd (by grind [kd_wr]) ?_
      refine wp_nm0 ?_
      refine wp_gd (by grind [kd_wr]) ?_
      refine wp_nm0 ?_
      refine wp_gd (by grind [kd_wr]) ?_
      refine wp_nm0 ?_
      refine wp_ok ⟨⟨rfl, rfl, rfl, rfl⟩, ?_, ?_, ?_, ?_, ?_⟩
      · grind [ld_wr]
      · grind [ld_wr]
      · grind [ld_wr]
      · unfold rrL rrR rrP; grind [ld_wr]
      · grind [ld_wr]
    · have c3 := a3 c2
      refine wp_neg (by grind [ld_wr]) ?_
      refine wp_gd (by grind [kd_wr]) ?_
      refine wp_gd (by grind [kd_wr, ld_wr]) ?_
      refine wp_gdc (cmpA ?_ (Or.inr (by grind [kd_wr]))) ?_
      · grind [kd_wr, ld_wr]
      · by_cases c4 : ld σ g 3 = x
        · refine wp_pos (by grind [ld_wr]) ?_
          refine wp_gd (by grind [kd_wr]) ?_
          refine wp_gd (by grind [kd_wr, ld_wr]) ?_
          refine wp_nm0 ?_
          refine wp_gd (by grind [kd_wr]) ?_
          refine wp_nm0 ?_
          refine wp_gd (by grind [kd_wr]) ?_
          refine wp_nm0 ?_
          refine wp_ok ⟨⟨rfl, rfl, rfl, rfl⟩, ?_, ?_, ?_, ?_, ?_⟩
          · grind [ld_wr]
          · grind [ld_wr]
          · grind [ld_wr]
          · unfold rrL rrR rrP; grind [ld_wr]
          · grind [ld_wr]
        · refine wp_neg (by grind [ld_wr]) ?_
          refine wp_gd (by grind [kd_wr]) ?_
          refine wp_gd (by grind [kd_wr, ld_wr]) ?_
          refine wp_nm0 ?_
          refine wp_gd (by grind [kd_wr]) ?_
          refine wp_nm0 ?_
          refine wp_gd (by grind [kd_wr]) ?_
          refine wp_nm0 ?_
          refine wp_ok ⟨⟨rfl, rfl, rfl, rfl⟩, ?_, ?_, ?_, ?_, ?_⟩
          · grind [ld_wr]
          · grind [ld_wr]
          · grind [ld_wr]
          · unfold rrL rrR rrP; grind [ld_wr]
          · grind [ld_wr]
end RO
