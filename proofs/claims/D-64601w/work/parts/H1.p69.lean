/-! THE TWIN'S LEXER finds these tokens -/
set_option maxRecDepth 100000
theorem lor_shl {x v : Int} (hx : 0 ≤ x ∧ x < 36028797018963968) (hv : 0 ≤ v ∧ v < 256) : lorW (lshlW x 8) v = x * 256 + v := by
  obtain ⟨a, rfl⟩ : ∃ a : Nat, x = a := ⟨x.toNat, by omega⟩
  obtain ⟨b, rfl⟩ : ∃ b : Nat, v = b := ⟨v.toNat, by omega⟩
  unfold lorW lshlW
  rw [Int64.ofInt_toInt]
  have e : ((Int32.ofInt 8).toInt64 &&& 63) = 8 := rfl
  rw [e]
  have key : (Int64.ofInt (a : Int) <<< (8 : Int64) ||| Int64.ofInt (b : Int)).toBitVec.toNat = a * 256 + b := by
    rw [Int64.toBitVec_or, Int64.toBitVec_shiftLeft, BitVec.toNat_or, BitVec.shiftLeft_eq', BitVec.toNat_shiftLeft]
    have e1 : ((8 : Int64).toBitVec.smod 64).toNat = 8 := rfl
    have e2 : (Int64.ofInt (a : Int)).toBitVec.toNat = a := by
      show (BitVec.ofInt 64 (a : Int)).toNat = a
      rw [BitVec.toNat_ofInt]
      omega
    have e3 : (Int64.ofInt (b : Int)).toBitVec.toNat = b := by
      show (BitVec.ofInt 64 (b : Int)).toNat = b
      rw [BitVec.toNat_ofInt]
      omega
    rw [e1, e2, e3]
    have e4 : a <<< 8 % 2 ^ 64 = a <<< 8 := by
      rw [Nat.shiftLeft_eq]
      omega
    rw [e4, ← Nat.shiftLeft_add_eq_or_of_lt (i := 8) (by omega), Nat.shiftLeft_eq]
  rw [← Int64.toInt_toBitVec, BitVec.toInt_eq_toNat_of_lt (by rw [key]; omega), key]
  omega
/-- an unsigned byte -/
def ub (c : Int) : Int := if c < 0 then c + 256 else c
theorem and255 : ∀ j : Fin 256, iandW ((j : Nat) - 128 : Int) 255 = ub ((j : Nat) - 128 : Int) := by decide +kernel
theorem and_ub {c : Int} (h : -128 ≤ c ∧ c ≤ 127) : iandW c 255 = ub c := by
  have := and255 ⟨(c + 128).toNat, by omega⟩
  rw [show (((⟨(c + 128).toNat, by omega⟩ : Fin 256) : Nat) : Int) - 128 = c by show ((c + 128).toNat : Int) - 128 = c; omega] at this
  exact this
/-- bytes they are, and not too many -/
def BtOk (T : List Int) : Prop := T.length ≤ 1280 ∧ ∀ i : Int, -128 ≤ bt T i ∧ bt T i ≤ 127
section TW
variable {τ : TT} {T : List Int} {n : Nat} {p q : Int}
theorem at_eq (h : TpT τ T) (hb : BtOk T) (h0 : 0 ≤ p) : g_X7_at 1022 p τ = some (ub (bt T p), τ) := by
  unfold g_X7_at
  rw [h.1]
  by_cases c : (T.length : Int) ≤ p
  · rw [if_pos c, bt_out c]; rfl
  · have := hb.1
    have e : τ 1033 p = bt T p := by
      have := h.2 p.toNat (by omega)
      rw [show ((p.toNat : Nat) : Int) = p by omega] at this
      exact this
    rw [if_neg c, gd_pos ⟨h0, by omega⟩, e, and_ub (hb.2 p)]
theorem isLetter_eq {c : Int} (h : -128 ≤ c ∧ c ≤ 127) : g_X7_isLetter (ub c) τ = some (if isSm c = true then 1 else 0, τ) := by
  unfold g_X7_isLetter ub
  by_cases z : isSm c = true
  · rw [if_pos z]; rw [isSm_iff] at z
    rw [if_neg (by omega : ¬ c < 0), if_neg (by omega), if_neg (by omega)]
  · rw [if_neg z]; rw [isSm_iff] at z
    by_cases y : c < 0
    · rw [if_pos y, if_neg (by omega), if_pos (by omega)]
    · rw [if_neg y]
      by_cases w : c < 97
      · rw [if_pos w]
      · rw [if_neg w, if_pos (by omega)]
theorem isDigit_eq {c : Int} (h : -128 ≤ c ∧ c ≤ 127) : g_X7_isDigit (ub c) τ = some (if isDg c = true then 1 else 0, τ) := by
  unfold g_X7_isDigit ub
  by_cases z : isDg c = true
  · rw [if_pos z]; rw [isDg_iff] at z
    rw [if_neg (by omega : ¬ c < 0), if_neg (by omega), if_neg (by omega)]
  · rw [if_neg z]; rw [isDg_iff] at z
    by_cases y : c < 0
    · rw [if_pos y, if_neg (by omega), if_pos (by omega)]
    · rw [if_neg y]
      by_cases w : c < 48
      · rw [if_pos w]
      · rw [if_neg w, if_pos (by omega)]
theorem ub_eq {c d : Int} (h : -128 ≤ c ∧ c ≤ 127) (hd : 0 ≤ d ∧ d ≤ 127) : ub c = d ↔ c = d := by
  unfold ub
  by_cases y : c < 0
  · rw [if_pos y]; omega
  · rw [if_neg y]
end TW
/-! a word as a number -/
def w2 (f : Nat → Int) : Nat → Int
  | 0 => 0
  | k + 1 => w2 f k * 256 + f k
theorem w2_pos {f : Nat → Int} : ∀ {k : Nat}, (∀ i, i < k → 1 ≤ f i ∧ f i ≤ 255) → 0 ≤ w2 f k ∧ (1 ≤ k → 1 ≤ w2 f k)
  | 0, _ => ⟨Int.le_refl 0, fun h => absurd h (by omega)⟩
  | k + 1, h => by
    have := w2_pos (f := f) (k := k) fun i hi => h i (by omega)
    have := h k (by omega)
    show 0 ≤ w2 f k * 256 + f k ∧ (_ → 1 ≤ w2 f k * 256 + f k)
    omega
theorem w2_inj {f g : Nat → Int} : ∀ {k m : Nat}, (∀ i, i < k → 1 ≤ f i ∧ f i ≤ 255) → (∀ i, i < m → 1 ≤ g i ∧ g i ≤ 255) → w2 f k = w2 g m → k = m ∧ ∀ i, i < k → f i = g i
  | 0, 0, _, _, _ => ⟨rfl, fun i h => absurd h (by omega)⟩
  | 0, m + 1, _, hg, e => by
    have := (w2_pos hg).2 (by omega)
    have e' : (0 : Int) = w2 g (m + 1) := e
    omega
  | k + 1, 0, hf, _, e => by
    have := (w2_pos hf).2 (by omega)
    have e' : w2 f (k + 1) = 0 := e
    omega
  | k + 1, m + 1, hf, hg, e => by
    have e' : w2 f k * 256 + f k = w2 g m * 256 + g m := e
    have h1 := hf k (by omega)
    have h2 := hg m (by omega)
    obtain ⟨a, b⟩ := w2_inj (k := k) (m := m) (fun i hi => hf i (by omega)) (fun i hi => hg i (by omega)) (by omega)
    refine ⟨by omega, fun i hi => ?_⟩
    by_cases z : i = k
    · rw [z]; subst a; omega
    · exact b i (by omega)
theorem w2_lt {f : Nat → Int} (h : ∀ i, 0 ≤ f i ∧ f i ≤ 127) : ∀ {k : Nat}, k ≤ 7 → w2 f k < 36028797018963968 := by
  intro k hk
  have a0 := h 0
  have a1 := h 1
  have a2 := h 2
  have a3 := h 3
  have a4 := h 4
  have a5 := h 5
  have a6 := h 6
  obtain c | c | c | c | c | c | c | c : k = 0 ∨ k = 1 ∨ k = 2 ∨ k = 3 ∨ k = 4 ∨ k = 5 ∨ k = 6 ∨ k = 7 := by omega
  all_goals (subst c; simp only [w2]; omega)
theorem list_ext {l m : List Int} (h : l.length = m.length) (h2 : ∀ i, i < l.length → l.getD i 0 = m.getD i 0) : l = m := by
  refine List.ext_getElem h fun i h3 h4 => ?_
  have := h2 i h3
  rw [List.getD_eq_getElem?_getD, List.getD_eq_getElem?_getD, List.getElem?_eq_getElem h3, List.getElem?_eq_getElem h4] at this
  exact this
section TW2
variable {τ : TT} {T : List Int} {n : Nat} {p q e : Int}
theorem isub_small {x y : Int} (h : 0 ≤ x ∧ x ≤ 2000) (h2 : 0 ≤ y ∧ y ≤ 2000) : isubW x y = x - y := by
  unfold isubW
  rw [Int32.toInt_sub, Int32.toInt_ofInt, Int32.toInt_ofInt]
  have e1 : x.bmod Int32.size = x := by apply Int.bmod_eq_of_le <;> simp <;> omega
  have e2 : y.bmod Int32.size = y := by apply Int.bmod_eq_of_le <;> simp <;> omega
  rw [e1, e2]
  apply Int.bmod_eq_of_le <;> simp <;> omega
theorem isWord_loop (h : TpT τ T) (hb : BtOk T) (hq : τ 1022 20 = q) (he : τ 1022 21 = e) (h0 : 0 ≤ q) (h1 : e ≤ T.length) (hw : ∀ i, q ≤ i → i < e → 1 ≤ bt T i ∧ bt T i ≤ 127) {w : List Int} (hwl : w.length ≤ 8) (hw1 : ∀ i, i < w.length → 1 ≤ w.getD i 0 ∧ w.getD i 0 ≤ 127) {C : Int} (hC : w2 (fun i => w.getD i 0) w.length = C) : ∀ (m : Nat) (k : Nat) (v : Int) (f : Nat), m < f → q + k + m = e → (k ≤ 8 → v = w2 (fun i => bt T (q + i)) k) → g_X7_isWord_8 n f 1022 C v (q + k) τ = some (if slc T q e = w then 1 else 0, τ)
  | m, k, v, 0, hf, _, _ => absurd hf (by omega)
  | 0, k, v, f + 1, hf, hm, hv => by
    have hl := hb.1
    unfold g_X7_isWord_8
    have hlen : ((slc T q e).length : Int) = e - q := slc_len h0 (by omega) h1
    rw [he, hq, if_pos (by omega), isub_small (by omega) (by omega)]
    by_cases c : 8 < e - q
    · rw [if_pos c, if_neg (fun z => by rw [z] at hlen; omega)]
    · rw [if_neg c, hv (by omega)]
      have key : w2 (fun i => bt T (q + i)) k = C ↔ slc T q e = w := by
        constructor
        · intro z
          obtain ⟨a, b⟩ := w2_inj (f := fun i => bt T (q + i)) (g := fun i => w.getD i 0) (k := k) (m := w.length) (fun i hi => by have := hw (q + i) (by omega) (by omega); exact ⟨this.1, by have := this.2; show bt T (q + i) ≤ 255; omega⟩) (fun i hi => ⟨(hw1 i hi).1, by have := (hw1 i hi).2; show w.getD i 0 ≤ 255; omega⟩) (z.trans hC.symm)
          refine list_ext (by omega) fun i hi => ?_
          rw [slc_at h0 (by omega)]
          exact b i (by omega)
        · intro z
          have e1 : k = w.length := by rw [← z]; omega
          rw [← hC, ← e1]
          have : ∀ j, j ≤ k → w2 (fun i => bt T (q + i)) j = w2 (fun i => w.getD i 0) j := by
            intro j
            induction j with
            | zero => intro _; rfl
            | succ j ih =>
              intro hj
              show w2 _ j * 256 + bt T (q + j) = w2 _ j * 256 + w.getD j 0
              rw [ih (by omega), ← z, slc_at h0 (by omega)]
          exact this k (Nat.le_refl _)
      unfold lcmpW
      by_cases z : w2 (fun i => bt T (q + i)) k = C
      · rw [if_pos (key.mp z), z, if_neg (by omega : ¬ C < C), if_pos rfl, if_pos rfl]
      · rw [if_neg (fun y => z (key.mpr y)), if_neg z]
        split
        · rw [if_neg (by decide)]
        · rw [if_neg (by decide)]
  | m + 1, k, v, f + 1, hf, hm, hv => by
    have hl := hb.1
    unfold g_X7_isWord_8
    have h3 := hw (q + k) (by omega) (by omega)
    rw [he, if_neg (by omega), at_eq h hb (by omega), t1_at, nm_eq, gI_pos (by omega), nm_eq]
    have e2 : ub (bt T (q + k)) = bt T (q + k) := by unfold ub; rw [if_neg (by omega)]
    rw [e2, show q + (k : Int) + 1 = q + ((k + 1 : Nat) : Int) by omega]
    refine isWord_loop h hb hq he h0 h1 hw hwl hw1 hC m (k + 1) _ f (by omega) (by omega) fun hk => ?_
    have hlt : w2 (fun i => bt T (q + i)) k < 36028797018963968 := by
      have : w2 (fun i => bt T (q + i)) k = w2 (fun i => if i < k then bt T (q + i) else 0) k := by
        have : ∀ j, j ≤ k → w2 (fun i => bt T (q + i)) j = w2 (fun i => if i < k then bt T (q + i) else 0) j := by
          intro j
          induction j with
          | zero => intro _; rfl
          | succ j ih =>
            intro hj
            show w2 _ j * 256 + bt T (q + j) = w2 _ j * 256 + (if j < k then bt T (q + j) else 0)
            rw [ih (by omega), if_pos (by omega)]
        exact this k (Nat.le_refl _)
      rw [this]
      refine w2_lt (fun i => ?_) (by omega)
      show 0 ≤ (if i < k then bt T (q + i) else 0) ∧ (if i < k then bt T (q + i) else 0) ≤ 127
      split
      · have := hw (q + i) (by omega) (by omega); omega
      · omega
    have hpos := (w2_pos (f := fun i => bt T (q + i)) (k := k) (fun i hi => by have := hw (q + i) (by omega) (by omega); exact ⟨this.1, by have := this.2; show bt T (q + i) ≤ 255; omega⟩)).1
    rw [hv (by omega), lor_shl ⟨hpos, hlt⟩ ⟨by omega, by omega⟩]
    rfl
theorem isWord_eq (hn : 1000000 ≤ n) (h : TpT τ T) (hb : BtOk T) (hq : τ 1022 20 = q) (he : τ 1022 21 = e) (h0 : 0 ≤ q ∧ q ≤ e) (h1 : e ≤ T.length) (hw : ∀ i, q ≤ i → i < e → 1 ≤ bt T i ∧ bt T i ≤ 127) (w : List Int) (hwl : w.length ≤ 8) (hw1 : ∀ i, i < w.length → 1 ≤ w.getD i 0 ∧ w.getD i 0 ≤ 127) (C : Int) (hC : w2 (fun i => w.getD i 0) w.length = C) : g_X7_isWord n 1022 C τ = some (if slc T q e = w then 1 else 0, τ) := by
  have hl := hb.1
  unfold g_X7_isWord
  rw [nm_eq, hq]
  have := isWord_loop (n := n) h hb hq he h0.1 h1 hw hwl hw1 hC (e - q).toNat 0 0 n (by omega) (by omega) (fun _ => rfl)
  rw [show q + ((0 : Nat) : Int) = q by omega] at this
  exact this
theorem word_eq (hn : 1000000 ≤ n) (h : TpT τ T) (hb : BtOk T) (hq : τ 1022 20 = q) (he : τ 1022 21 = e) (h0 : 0 ≤ q ∧ q ≤ e) (h1 : e ≤ T.length) (hw : ∀ i, q ≤ i → i < e → 1 ≤ bt T i ∧ bt T i ≤ 127) : g_X7_word n 1022 τ = some (wcode (slc T q e), τ) := by
  have K := isWord_eq hn h hb hq he h0 h1 hw
  unfold g_X7_word wcode
  rw [K wWhere (by decide) (by decide) 512852587109 rfl, t1_at]
  by_cases c_wWhere : slc T q e = wWhere
  · simp only [if_pos c_wWhere]
    rw [if_neg (by decide)]
  rw [if_neg c_wWhere, if_neg c_wWhere, if_pos rfl]
  rw [K wAnd (by decide) (by decide) 6385252 rfl, t1_at]
  by_cases c_wAnd : slc T q e = wAnd
  · simp only [if_pos c_wAnd]
    rw [if_neg (by decide)]
  rw [if_neg c_wAnd, if_neg c_wAnd, if_pos rfl]
  rw [K wHas (by decide) (by decide) 6840691 rfl, t1_at]
  by_cases c_wHas : slc T q e = wHas
  · simp only [if_pos c_wHas]
    rw [if_neg (by decide)]
  rw [if_neg c_wHas, if_neg c_wHas, if_pos rfl]
  rw [K wNo (by decide) (by decide) 28271 rfl, t1_at]
  by_cases c_wNo : slc T q e = wNo
  · simp only [if_pos c_wNo]
    rw [if_neg (by decide)]
  rw [if_neg c_wNo, if_neg c_wNo, if_pos rfl]
  rw [K wReturn (by decide) (by decide) 125780071117422 rfl, t1_at]
  by_cases c_wReturn : slc T q e = wReturn
  · simp only [if_pos c_wReturn]
    rw [if_neg (by decide)]
  rw [if_neg c_wReturn, if_neg c_wReturn, if_pos rfl]
  rw [K wCount (by decide) (by decide) 427071729268 rfl, t1_at]
  by_cases c_wCount : slc T q e = wCount
  · simp only [if_pos c_wCount]
    rw [if_neg (by decide)]
  rw [if_neg c_wCount, if_neg c_wCount, if_pos rfl]
  rw [K wOrder (by decide) (by decide) 478660552050 rfl, t1_at]
  by_cases c_wOrder : slc T q e = wOrder
  · simp only [if_pos c_wOrder]
    rw [if_neg (by decide)]
  rw [if_neg c_wOrder, if_neg c_wOrder, if_pos rfl]
  rw [K wBy (by decide) (by decide) 25209 rfl, t1_at]
  by_cases c_wBy : slc T q e = wBy
  · simp only [if_pos c_wBy]
    rw [if_neg (by decide)]
  rw [if_neg c_wBy, if_neg c_wBy, if_pos rfl]
  rw [K wDesc (by decide) (by decide) 1684370275 rfl, t1_at]
  by_cases c_wDesc : slc T q e = wDesc
  · simp only [if_pos c_wDesc]
    rw [if_neg (by decide)]
  rw [if_neg c_wDesc, if_neg c_wDesc, if_pos rfl]
  rw [K wLimit (by decide) (by decide) 465625246068 rfl, t1_at]
  by_cases c_wLimit : slc T q e = wLimit
  · simp only [if_pos c_wLimit]
    rw [if_neg (by decide)]
  rw [if_neg c_wLimit, if_neg c_wLimit, if_pos rfl]
  rw [K wDistinct (by decide) (by decide) 7235441220169655156 rfl, t1_at]
  by_cases c_wDistinct : slc T q e = wDistinct
  · simp only [if_pos c_wDistinct]
    rw [if_neg (by decide)]
  rw [if_neg c_wDistinct, if_neg c_wDistinct, if_pos rfl]
end TW2
