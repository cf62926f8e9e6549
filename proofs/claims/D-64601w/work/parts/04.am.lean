/-! THE ABSTRACT MACHINE: a store of whole numbers (cells by references, 0 is null), and the judgements R (a point in a method) and M (a method's contract) over the kit's W and vx_Met. -/
set_option maxRecDepth 100000
/-- a value: its sort (0 int, 1 long, 2 reference, 3 float) and its number -/
abbrev AV : Type := Nat × Int
/-- a store: kinds of cells, lengths, contents, the next reference, slots used -/
abbrev AS : Type := (Int → Nat) × (Int → Int) × (Int → Int → Int) × Int × Int
def kd (σ : AS) (r : Int) : Nat := σ.1 r
def ln (σ : AS) (r : Int) : Int := σ.2.1 r
def ld (σ : AS) (r i : Int) : Int := σ.2.2.1 r i
def nx (σ : AS) : Int := σ.2.2.2.1
def us (σ : AS) : Int := σ.2.2.2.2
/-- one number is written -/
def wr (σ : AS) (r i v : Int) : AS := (σ.1, σ.2.1, fun a => if a = r then fun j => if j = i then v else σ.2.2.1 a j else σ.2.2.1 a, σ.2.2.2.1, σ.2.2.2.2)
/-- a new cell of kind k, length n, s slots -/
def al (σ : AS) (k : Nat) (n s : Int) : AS := (fun a => if a = nx σ then k else σ.1 a, fun a => if a = nx σ then n else σ.2.1 a, fun a => if a = nx σ then fun _ => 0 else σ.2.2.1 a, nx σ + 1, us σ + s)
theorem kd_wr {σ : AS} {r i v a : Int} : kd (wr σ r i v) a = kd σ a := rfl
theorem ln_wr {σ : AS} {r i v a : Int} : ln (wr σ r i v) a = ln σ a := rfl
theorem nx_wr {σ : AS} {r i v : Int} : nx (wr σ r i v) = nx σ := rfl
theorem us_wr {σ : AS} {r i v : Int} : us (wr σ r i v) = us σ := rfl
theorem ld_wr {σ : AS} {r i v a j : Int} : ld (wr σ r i v) a j = if a = r ∧ j = i then v else ld σ a j := by
  unfold ld wr
  dsimp only
  by_cases h : a = r
  · rw [if_pos h]
    by_cases h2 : j = i
    · rw [if_pos h2, if_pos ⟨h, h2⟩]
    · rw [if_neg h2, if_neg (fun q => h2 q.2)]
  · rw [if_neg h, if_neg (fun q => h q.1)]
theorem kd_al {σ : AS} {k : Nat} {n s a : Int} : kd (al σ k n s) a = if a = nx σ then k else kd σ a := rfl
theorem ln_al {σ : AS} {k : Nat} {n s a : Int} : ln (al σ k n s) a = if a = nx σ then n else ln σ a := rfl
theorem ld_al {σ : AS} {k : Nat} {n s a j : Int} : ld (al σ k n s) a j = if a = nx σ then 0 else ld σ a j := by
  unfold ld al
  dsimp only
  by_cases h : a = nx σ
  · rw [if_pos h, if_pos h]
  · rw [if_neg h, if_neg h]
theorem nx_al {σ : AS} {k : Nat} {n s : Int} : nx (al σ k n s) = nx σ + 1 := rfl
theorem us_al {σ : AS} {k : Nat} {n s : Int} : us (al σ k n s) = us σ + s := rfl
/-- the machine's value -/
def cv (φ : Int → Nat) : AV → Value
  | (0, x) => .int (Int32.ofInt x)
  | (1, x) => .long (Int64.ofInt x)
  | (2, x) => if x = 0 then .null else .ref (φ x)
  | (_, x) => .float (UInt32.ofNat x.toNat)
/-- in its sort's range; references lie below n -/
def okv (n : Int) : AV → Prop
  | (0, x) => -2147483648 ≤ x ∧ x ≤ 2147483647
  | (1, x) => -9223372036854775808 ≤ x ∧ x ≤ 9223372036854775807
  | (2, x) => 0 ≤ x ∧ x < n
  | (_, x) => 0 ≤ x ∧ x < 4294967296
def tg : FieldType → Nat
  | .long => 1
  | .object _ => 2
  | .array _ => 2
  | .float => 3
  | .double => 4
  | _ => 0
def okt (n : Int) (ty : FieldType) (x : Int) : Prop := match ty with
  | .boolean => 0 ≤ x ∧ x ≤ 1
  | .byte => -128 ≤ x ∧ x ≤ 127
  | .char => 0 ≤ x ∧ x ≤ 65535
  | .short => -32768 ≤ x ∧ x ≤ 32767
  | t => okv n (tg t, x)
theorem okv_mono {n n' : Int} {v : AV} (h : okv n v) (hn : n ≤ n') : okv n' v := by
  obtain ⟨t, x⟩ := v
  match t, h with
  | 0, h => exact h
  | 1, h => exact h
  | 2, h => exact ⟨h.1, by have := h.2; omega⟩
  | t + 3, h => exact h
theorem okt_okv {n : Int} {ty : FieldType} {x : Int} (h : okt n ty x) : okv n (tg ty, x) := by
  cases ty <;> first | exact h | (unfold okt at h; dsimp only at h; unfold tg; exact ⟨by omega, by omega⟩)
theorem okt_mono {n n' : Int} {ty : FieldType} {x : Int} (h : okt n ty x) (hn : n ≤ n') : okt n' ty x := by
  cases ty <;> first | exact h | exact okv_mono (v := (2, x)) h hn
theorem cv_cat {φ : Int → Nat} {v : AV} : (cv φ v).category = if v.1 = 1 then 2 else 1 := by
  obtain ⟨t, x⟩ := v
  match t with
  | 0 => rfl
  | 1 => rfl
  | 2 => show (if x = 0 then Value.null else .ref (φ x)).category = 1; split <;> rfl
  | t + 3 => rfl
theorem cv_agree {φ φ' : Int → Nat} {n : Int} {v : AV} (h : okv n v) (hq : ∀ r, 0 ≤ r → r < n → φ' r = φ r) : cv φ' v = cv φ v := by
  obtain ⟨t, x⟩ := v
  match t, h with
  | 0, h => rfl
  | 1, h => rfl
  | 2, h => show (if x = 0 then Value.null else .ref (φ' x)) = (if x = 0 then Value.null else .ref (φ x)); rw [hq x h.1 h.2]
  | t + 3, h => rfl
theorem i32_toInt {x : Int} (h : -2147483648 ≤ x ∧ x ≤ 2147483647) : (Int32.ofInt x).toInt = x := Int32.toInt_ofInt_of_le h.1 (by omega)
theorem i64_toInt {x : Int} (h : -9223372036854775808 ≤ x ∧ x ≤ 9223372036854775807) : (Int64.ofInt x).toInt = x := Int64.toInt_ofInt_of_le h.1 (by omega)
theorem i32_eq {x y : Int} (hx : -2147483648 ≤ x ∧ x ≤ 2147483647) (hy : -2147483648 ≤ y ∧ y ≤ 2147483647) : Int32.ofInt x = Int32.ofInt y ↔ x = y := by
  rw [← Int32.toInt_inj, i32_toInt hx, i32_toInt hy]
theorem i32_lt {x y : Int} (hx : -2147483648 ≤ x ∧ x ≤ 2147483647) (hy : -2147483648 ≤ y ∧ y ≤ 2147483647) : Int32.ofInt x < Int32.ofInt y ↔ x < y := by
  rw [Int32.lt_iff_toInt_lt, i32_toInt hx, i32_toInt hy]
theorem i32_le {x y : Int} (hx : -2147483648 ≤ x ∧ x ≤ 2147483647) (hy : -2147483648 ≤ y ∧ y ≤ 2147483647) : Int32.ofInt x ≤ Int32.ofInt y ↔ x ≤ y := by
  rw [Int32.le_iff_toInt_le, i32_toInt hx, i32_toInt hy]
theorem i32_ofToInt (v : Int32) : Int32.ofInt v.toInt = v := Int32.ofInt_toInt v
theorem i64_ofToInt (v : Int64) : Int64.ofInt v.toInt = v := Int64.ofInt_toInt v
theorem i32_ok (v : Int32) : -2147483648 ≤ v.toInt ∧ v.toInt ≤ 2147483647 := ⟨Int32.le_toInt v, by have := Int32.toInt_lt v; omega⟩
theorem i64_ok (v : Int64) : -9223372036854775808 ≤ v.toInt ∧ v.toInt ≤ 9223372036854775807 := ⟨Int64.le_toInt v, by have := Int64.toInt_lt v; omega⟩
theorem okt_store {n : Int} {ty : FieldType} {x : Int} {φ : Int → Nat} (h : okt n ty x) (hd : ty ≠ .double) : narrow ty (cv φ (tg ty, x)) = cv φ (tg ty, x) ∧ fits ty (cv φ (tg ty, x)) = true := by
  cases ty with
  | double => exact absurd rfl hd
  | float => exact ⟨rfl, rfl⟩
  | int => exact ⟨rfl, rfl⟩
  | long => exact ⟨rfl, rfl⟩
  | object s => show narrow _ (if x = 0 then Value.null else .ref (φ x)) = (if x = 0 then Value.null else .ref (φ x)) ∧ fits _ (if x = 0 then Value.null else .ref (φ x)) = true; split <;> exact ⟨rfl, rfl⟩
  | array t => show narrow _ (if x = 0 then Value.null else .ref (φ x)) = (if x = 0 then Value.null else .ref (φ x)) ∧ fits _ (if x = 0 then Value.null else .ref (φ x)) = true; split <;> exact ⟨rfl, rfl⟩
  | boolean =>
    have h : 0 ≤ x ∧ x ≤ 1 := h
    have : x = 0 ∨ x = 1 := by omega
    rcases this with rfl | rfl <;> exact ⟨rfl, rfl⟩
  | byte =>
    have h : -128 ≤ x ∧ x ≤ 127 := h
    have e : (Int32.ofInt x).toInt8.toInt32 = Int32.ofInt x := by
      rw [← Int32.toInt_inj]
      simp [Int8.toInt_toInt32, Int32.toInt8_ofInt, i32_toInt (show -2147483648 ≤ x ∧ x ≤ 2147483647 by omega)]
      exact (Int8.toInt_ofInt (n := x)).symm.trans (Int8.toInt_ofInt_of_le (by omega) (by omega))
    have e2 : narrow .byte (.int (Int32.ofInt x)) = .int (Int32.ofInt x) := by
      show Value.int (Int32.ofInt x).toInt8.toInt32 = _
      rw [e]
    exact ⟨e2, by
      show fits .byte (.int (Int32.ofInt x)) = true
      rw [← e]; exact pk_fb _⟩
  | short =>
    have h : -32768 ≤ x ∧ x ≤ 32767 := h
    have e : (Int32.ofInt x).toInt16.toInt32 = Int32.ofInt x := by
      rw [← Int32.toInt_inj]
      simp [Int16.toInt_toInt32, Int32.toInt16_ofInt, i32_toInt (show -2147483648 ≤ x ∧ x ≤ 2147483647 by omega)]
      exact (Int16.toInt_ofInt (n := x)).symm.trans (Int16.toInt_ofInt_of_le (by omega) (by omega))
    exact ⟨by
      show Value.int (Int32.ofInt x).toInt16.toInt32 = _
      rw [e]; rfl, by
      show fits .short (.int (Int32.ofInt x)) = true
      rw [← e]; exact pk_fs _⟩
  | char =>
    have h : 0 ≤ x ∧ x ≤ 65535 := h
    obtain ⟨k, rfl⟩ : ∃ k : Nat, x = (k : Int) := ⟨x.toNat, by omega⟩
    have hk : k < 65536 := by omega
    have e : Int32.ofInt (k : Int) = nI k := rfl
    have := pk_charN hk
    rw [← e] at this
    exact this
