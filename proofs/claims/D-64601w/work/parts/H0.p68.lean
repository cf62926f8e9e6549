/-! TOKENS, in plain Lean: what both lexers find in the bytes T -/
def bt (T : List Int) (i : Int) : Int := T.getD i.toNat 0
def adv (P : Int → Bool) : Nat → Int → Int
  | 0, p => p
  | m + 1, p => if P p = true then adv P m (p + 1) else p
def advT (P : Int → Bool) (L p : Int) : Int := adv P (L - p).toNat p
theorem adv_step {P : Int → Bool} {L p : Int} (h : p < L) (hP : P p = true) : advT P L p = advT P L (p + 1) := by
  unfold advT
  rw [show (L - p).toNat = (L - (p + 1)).toNat + 1 by omega]
  show (if P p = true then _ else _) = _
  rw [if_pos hP]
theorem adv_stop {P : Int → Bool} {L p : Int} (hP : P p ≠ true) : advT P L p = p := by
  unfold advT
  cases (L - p).toNat with
  | zero => rfl
  | succ m => exact if_neg hP
theorem adv_end {P : Int → Bool} {L p : Int} (h : L ≤ p) : advT P L p = p := by
  unfold advT
  rw [show (L - p).toNat = 0 by omega]
  rfl
theorem adv_le {P : Int → Bool} : ∀ {m : Nat} {p : Int}, p ≤ adv P m p ∧ adv P m p ≤ p + m
  | 0, p => ⟨Int.le_refl _, by show p ≤ _; omega⟩
  | m + 1, p => by
    show p ≤ (if P p = true then adv P m (p + 1) else p) ∧ (if P p = true then adv P m (p + 1) else p) ≤ _
    have := adv_le (P := P) (m := m) (p := p + 1)
    split <;> omega
theorem advT_le {P : Int → Bool} {L p : Int} (h : p ≤ L) : p ≤ advT P L p ∧ advT P L p ≤ L := by
  have := adv_le (P := P) (m := (L - p).toNat) (p := p)
  unfold advT
  omega
theorem adv_in {P : Int → Bool} : ∀ {m : Nat} {p i : Int}, p ≤ i → i < adv P m p → P i = true
  | 0, p, i, h, h' => absurd h' (by show ¬ i < p; omega)
  | m + 1, p, i, h, h' => by
    have h2 : i < (if P p = true then adv P m (p + 1) else p) := h'
    by_cases c : P p = true
    · rw [if_pos c] at h2
      by_cases e : i = p
      · rw [e]; exact c
      · exact adv_in (m := m) (p := p + 1) (by omega) h2
    · rw [if_neg c] at h2; omega
theorem adv_out {P : Int → Bool} : ∀ {m : Nat} {p : Int}, adv P m p < p + m → P (adv P m p) ≠ true
  | 0, p, h => absurd h (by show ¬ p < _; omega)
  | m + 1, p, h => by
    have h2 : (if P p = true then adv P m (p + 1) else p) < p + (m + 1 : Nat) := h
    show P (if P p = true then adv P m (p + 1) else p) ≠ true
    by_cases c : P p = true
    · rw [if_pos c] at h2 ⊢
      exact adv_out (m := m) (p := p + 1) (by omega)
    · rw [if_neg c]; exact c
theorem advT_out {P : Int → Bool} {L p : Int} (h : p ≤ L) (h2 : advT P L p < L) : P (advT P L p) ≠ true := by
  unfold advT at *
  exact adv_out (by omega)
/-- kinds of bytes -/
def isWh (c : Int) : Bool := c = 9 ∨ c = 10 ∨ c = 13 ∨ c = 32
def isSm (c : Int) : Bool := 97 ≤ c ∧ c ≤ 122
def isDg (c : Int) : Bool := 48 ≤ c ∧ c ≤ 57
def isWd (c : Int) : Bool := isSm c || isDg c
theorem isWh_iff {c : Int} : isWh c = true ↔ c = 9 ∨ c = 10 ∨ c = 13 ∨ c = 32 := by unfold isWh; simp
theorem isSm_iff {c : Int} : isSm c = true ↔ 97 ≤ c ∧ c ≤ 122 := by unfold isSm; simp
theorem isDg_iff {c : Int} : isDg c = true ↔ 48 ≤ c ∧ c ≤ 57 := by unfold isDg; simp
theorem isWd_iff {c : Int} : isWd c = true ↔ (97 ≤ c ∧ c ≤ 122) ∨ (48 ≤ c ∧ c ≤ 57) := by unfold isWd; rw [Bool.or_eq_true, isSm_iff, isDg_iff]
theorem bt_out {T : List Int} {i : Int} (h : (T.length : Int) ≤ i) : bt T i = 0 := by
  unfold bt
  rw [List.getD_eq_getElem?_getD, List.getElem?_eq_none (by omega)]
  rfl
/-- a piece of the bytes -/
def slc (T : List Int) (q e : Int) : List Int := (T.drop q.toNat).take (e - q).toNat
theorem slc_len {T : List Int} {q e : Int} (h : 0 ≤ q) (h1 : q ≤ e) (h2 : e ≤ T.length) : ((slc T q e).length : Int) = e - q := by
  unfold slc
  rw [List.length_take, List.length_drop]
  omega
theorem slc_at {T : List Int} {q e : Int} {i : Nat} (h : 0 ≤ q) (h1 : (i : Int) < e - q) : (slc T q e).getD i 0 = bt T (q + i) := by
  unfold slc bt
  rw [List.getD_eq_getElem?_getD, List.getD_eq_getElem?_getD, List.getElem?_take, if_pos (by omega), List.getElem?_drop]
  congr 2
  omega
/-- the words -/
def wWhere : List Int := [119, 104, 101, 114, 101]
def wAnd : List Int := [97, 110, 100]
def wHas : List Int := [104, 97, 115]
def wNo : List Int := [110, 111]
def wReturn : List Int := [114, 101, 116, 117, 114, 110]
def wCount : List Int := [99, 111, 117, 110, 116]
def wOrder : List Int := [111, 114, 100, 101, 114]
def wBy : List Int := [98, 121]
def wDesc : List Int := [100, 101, 115, 99]
def wLimit : List Int := [108, 105, 109, 105, 116]
def wDistinct : List Int := [100, 105, 115, 116, 105, 110, 99, 116]
def wcode (w : List Int) : Int :=
  if w = wWhere then 10 else if w = wAnd then 11 else if w = wHas then 12 else if w = wNo then 13 else if w = wReturn then 14 else if w = wCount then 15 else if w = wOrder then 16 else if w = wBy then 17 else if w = wDesc then 18 else if w = wLimit then 19 else if w = wDistinct then 20 else 1
/-- the signs: code and length -/
def sgn2 (c d : Int) : Int := if c = 46 ∧ d = 46 then 38 else if c = 45 ∧ d = 62 then 40 else if c = 60 ∧ d = 45 then 41 else if c = 60 ∧ d = 61 then 45 else if c = 62 ∧ d = 61 then 47 else if c = 33 ∧ d = 61 then 43 else 0
def sgn1 (c : Int) : Int := if c = 40 then 30 else if c = 41 then 31 else if c = 91 then 32 else if c = 93 then 33 else if c = 44 then 34 else if c = 58 then 35 else if c = 46 then 36 else if c = 42 then 37 else if c = 45 then 39 else if c = 61 then 42 else if c = 60 then 44 else if c = 62 then 46 else 50
def sgn (c d : Int) : Int := if sgn2 c d = 0 then sgn1 c else sgn2 c d
/-- the number that k figures from q on say -/
def nvP (T : List Int) (q : Int) : Nat → Int
  | 0 => 0
  | k + 1 => 10 * nvP T q k + (bt T (q + k) - 48)
def tkB (T : List Int) (p : Int) : Int := advT (fun i => isWh (bt T i)) T.length p
def wdE (T : List Int) (q : Int) : Int := advT (fun i => isWd (bt T i)) T.length (q + 1)
def nmE (T : List Int) (q : Int) : Int := advT (fun i => isDg (bt T i)) T.length (q + 1)
def isNm (T : List Int) (q : Int) : Prop := isDg (bt T q) = true ∨ (bt T q = 45 ∧ isDg (bt T (q + 1)) = true)
def nmB (T : List Int) (q : Int) : Bool := isDg (bt T q) || (decide (bt T q = 45) && isDg (bt T (q + 1)))
/-- a number's amount -/
def nmA (T : List Int) (q : Int) : Int := if bt T q = 45 then - nvP T (q + 1) (nmE T q - (q + 1)).toNat else nvP T q (nmE T q - q).toNat
def nmOk (v : Int) : Prop := -2147483648 ≤ v ∧ v ≤ 2147483647
/-- a token's code: 0 end, 1 name, 2 number, 10.. words, 30.. signs, 50 bad -/
def tkC (T : List Int) (q : Int) : Int :=
  if (T.length : Int) ≤ q then 0 else if isSm (bt T q) = true then wcode (slc T q (wdE T q)) else if nmB T q = true then (if -2147483648 ≤ nmA T q ∧ nmA T q ≤ 2147483647 then 2 else 50) else sgn (bt T q) (bt T (q + 1))
def tkE (T : List Int) (q : Int) : Int :=
  if (T.length : Int) ≤ q then q else if isSm (bt T q) = true then wdE T q else if nmB T q = true then nmE T q else if sgn2 (bt T q) (bt T (q + 1)) = 0 then q + 1 else q + 2
theorem tkB_le {T : List Int} {p : Int} (h : p ≤ T.length) : p ≤ tkB T p ∧ tkB T p ≤ T.length := advT_le h
theorem wdE_le {T : List Int} {q : Int} (h : q < T.length) : q + 1 ≤ wdE T q ∧ wdE T q ≤ T.length := advT_le (by omega)
theorem nmE_le {T : List Int} {q : Int} (h : q < T.length) : q + 1 ≤ nmE T q ∧ nmE T q ≤ T.length := advT_le (by omega)
theorem sgn2_ne {c : Int} {d : Int} (h : sgn2 c d ≠ 0) : d ≠ 0 := by
  intro e
  subst e
  apply h
  unfold sgn2
  simp
theorem tkE_le {T : List Int} {q : Int} (h : q ≤ T.length) : q ≤ tkE T q ∧ tkE T q ≤ T.length ∧ (q < T.length → q + 1 ≤ tkE T q) := by
  unfold tkE
  by_cases c : (T.length : Int) ≤ q
  · rw [if_pos c]; omega
  · rw [if_neg c]
    have h1 := wdE_le (T := T) (q := q) (by omega)
    have h2 := nmE_le (T := T) (q := q) (by omega)
    split
    · omega
    split
    · omega
    split
    · omega
    · rename_i z
      have := sgn2_ne z
      have : q + 1 < T.length := by
        apply Classical.byContradiction
        intro w
        exact this (bt_out (by omega))
      omega
