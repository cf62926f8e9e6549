/-! BITS of a long; heaps from below -/
set_option maxRecDepth 100000
/-- the bit of a number below 64 -/
def bitB (v : Int) : Int64 := Int64.ofInt 1 <<< ((Int32.ofInt v).toInt64 &&& 63)
theorem bitB_ne : ∀ u v : Fin 64, (bitB ((u : Nat) : Int) &&& bitB ((v : Nat) : Int) = 0) = (u ≠ v) := by
  have h : ∀ u v : Fin 64, decide (bitB ((u : Nat) : Int) &&& bitB ((v : Nat) : Int) = 0) = decide (u ≠ v) := by decide +kernel
  intro u v
  have := h u v
  by_cases c : u ≠ v
  · rw [decide_eq_true c] at this
    exact propext ⟨fun _ => c, fun _ => of_decide_eq_true this⟩
  · rw [decide_eq_false c] at this
    exact propext ⟨fun z => absurd z (of_decide_eq_false this), fun z => absurd z c⟩
theorem bitB_nat {u v : Nat} (hu : u < 64) (hv : v < 64) : bitB (u : Int) &&& bitB (v : Int) = 0 ↔ u ≠ v := by
  have := bitB_ne ⟨u, hu⟩ ⟨v, hv⟩
  have e : ((⟨u, hu⟩ : Fin 64) ≠ ⟨v, hv⟩) = (u ≠ v) := by
    exact propext ⟨fun z w => z (Fin.ext w), fun z w => z (Fin.mk.inj w)⟩
  rw [e] at this
  exact Iff.of_eq this
theorem or_zero64 {x y : Int64} : x ||| y = 0 ↔ x = 0 ∧ y = 0 := by
  rw [← Int64.toBitVec_inj, ← Int64.toBitVec_inj, ← Int64.toBitVec_inj, Int64.toBitVec_or]
  exact BitVec.or_eq_zero_iff
theorem and_or64 {x y z : Int64} : (x ||| y) &&& z = (x &&& z) ||| (y &&& z) := by
  rw [← Int64.toBitVec_inj]
  simp only [Int64.toBitVec_or, Int64.toBitVec_and]
  ext i hi
  simp only [BitVec.getElem_and, BitVec.getElem_or]
  cases x.toBitVec[i] <;> cases y.toBitVec[i] <;> cases z.toBitVec[i] <;> rfl
/-- a word has a bit -/
def hasB (w v : Int) : Prop := landW w (lshlW 1 v) ≠ 0
theorem hasB_iff {w v : Int} : hasB w v ↔ Int64.ofInt w &&& bitB v ≠ 0 := by
  unfold hasB landW lshlW
  rw [Int64.ofInt_toInt]
  have e : Int64.ofInt 1 <<< ((Int32.ofInt v).toInt64 &&& 63) = bitB v := rfl
  rw [e]
  refine not_congr ?_
  constructor
  · intro h
    have : (Int64.ofInt w &&& bitB v).toInt = (0 : Int64).toInt := h
    exact Int64.toInt_inj.mp this
  · intro h
    rw [h]; rfl
theorem hasB_or {w v u : Int} (hv : 0 ≤ v ∧ v < 64) (hu : 0 ≤ u ∧ u < 64) : hasB (lorW w (lshlW 1 v)) u ↔ u = v ∨ hasB w u := by
  rw [hasB_iff, hasB_iff]
  unfold lorW lshlW
  rw [Int64.ofInt_toInt, Int64.ofInt_toInt]
  have e : Int64.ofInt 1 <<< ((Int32.ofInt v).toInt64 &&& 63) = bitB v := rfl
  rw [e, and_or64, ne_eq, or_zero64]
  obtain ⟨a, rfl⟩ : ∃ a : Nat, v = a := ⟨v.toNat, by omega⟩
  obtain ⟨b, rfl⟩ : ∃ b : Nat, u = b := ⟨u.toNat, by omega⟩
  have hb := bitB_nat (u := a) (v := b) (by omega) (by omega)
  rw [hb]
  constructor
  · intro h
    by_cases c : b = a
    · exact Or.inl (by rw [c])
    · exact Or.inr fun z => h ⟨z, fun w => c w.symm⟩
  · rintro (h | h) ⟨z1, z2⟩
    · exact z2 (by omega)
    · exact h z1
theorem hasB_zero {u : Int} : ¬ hasB 0 u := by
  rw [hasB_iff]
  intro h
  refine h ?_
  rw [← Int64.toBitVec_inj, Int64.toBitVec_and]
  have : (Int64.ofInt 0).toBitVec = 0#64 := rfl
  rw [this, BitVec.zero_and]
  rfl
/-! heaps from below -/
section UP
variable {ge : Int → Int → Prop}
def UpI (ge : Int → Int → Prop) (b : Int → Int) (en k : Int) : Prop := (∀ i : Int, 1 ≤ i → i < en → i ≠ k → ge (b ((i - 1) / 2)) (b i)) ∧ ∀ i : Int, 1 ≤ i → i < en → (i - 1) / 2 = k → 1 ≤ k → ge (b ((k - 1) / 2)) (b i)
theorem up_start {b : Int → Int} {en x : Int} (h : HeapI ge b 0 en) (h0 : 0 ≤ en) : UpI ge (ud b en x) (en + 1) en := by
  refine ⟨fun i h1 h2 h3 => ?_, fun i h1 h2 h3 h4 => by omega⟩
  rw [ud_ne h3, ud_ne (by omega)]
  exact h i h1 (by omega) (by omega)
theorem up_step {b : Int → Int} {en k : Int} (h : UpI ge b en k) (tr : ∀ x y z, ge x y → ge y z → ge x z) (hk : 1 ≤ k) (hke : k < en) (hx : ge (b k) (b ((k - 1) / 2))) : UpI ge (swp b k ((k - 1) / 2)) en ((k - 1) / 2) := by
  generalize hp : (k - 1) / 2 = p at *
  have s1 : swp b k p k = b p := by unfold swp; rw [ud_ne (by omega), ud_eq]
  have s2 : swp b k p p = b k := by unfold swp; rw [ud_eq]
  have s3 : ∀ j, j ≠ k → j ≠ p → swp b k p j = b j := fun j a c => by unfold swp; rw [ud_ne c, ud_ne a]
  refine ⟨fun i h1 h2 h3 => ?_, fun i h1 h2 h3 h4 => ?_⟩
  · by_cases e : i = k
    · rw [e, hp, s1, s2]; exact hx
    · rw [s3 i e h3]
      by_cases e2 : (i - 1) / 2 = k
      · rw [e2, s1]
        have := h.2 i h1 h2 e2 hk
        rw [hp] at this
        exact this
      · by_cases e3 : (i - 1) / 2 = p
        · rw [e3, s2]
          have := h.1 i h1 h2 e
          rw [e3] at this
          exact tr _ _ _ hx this
        · rw [s3 _ e2 e3]
          exact h.1 i h1 h2 e
  · have hpp := h.1 p (by omega) (by omega) (by omega)
    rw [s3 ((p - 1) / 2) (by omega) (by omega)]
    by_cases e : i = k
    · rw [e, s1]; exact hpp
    · rw [s3 i e (by omega)]
      have := h.1 i h1 h2 e
      rw [h3] at this
      exact tr _ _ _ hpp this
theorem up_end {b : Int → Int} {en k : Int} (h : UpI ge b en k) (hk : k ≤ 0 ∨ ge (b ((k - 1) / 2)) (b k)) : HeapI ge b 0 en := by
  intro i h1 h2 h3
  by_cases e : i = k
  · rcases hk with q | q
    · omega
    · rw [e]; exact q
  · exact h.1 i h1 h2 e
end UP
