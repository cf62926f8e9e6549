/-! RULES OF R: constants, locals, stack, arithmetic, branches (printed by wip/tools/genrules.py) -/
set_option maxRecDepth 100000
def InI (x : Int) : Prop := -2147483648 ≤ x ∧ x ≤ 2147483647
def InL (x : Int) : Prop := -9223372036854775808 ≤ x ∧ x ≤ 9223372036854775807
/-- int arithmetic as the machine has it, answers as whole numbers -/
def iandW (x y : Int) : Int := (Int32.ofInt x &&& Int32.ofInt y).toInt
def iorW (x y : Int) : Int := (Int32.ofInt x ||| Int32.ofInt y).toInt
def ixorW (x y : Int) : Int := (Int32.ofInt x ^^^ Int32.ofInt y).toInt
def ishlW (x y : Int) : Int := (Int32.ofInt x <<< (Int32.ofInt y &&& 31)).toInt
def ishrW (x y : Int) : Int := (Int32.ofInt x >>> (Int32.ofInt y &&& 31)).toInt
def iushrW (x y : Int) : Int := ((Int32.ofInt x).toUInt32 >>> ((Int32.ofInt y).toUInt32 &&& Int32.toUInt32 31)).toInt32.toInt
def idivW (x y : Int) : Int := (Int32.ofInt x / Int32.ofInt y).toInt
def iremW (x y : Int) : Int := (Int32.ofInt x - Int32.ofInt x / Int32.ofInt y * Int32.ofInt y).toInt
def iaddW (x y : Int) : Int := (Int32.ofInt x + Int32.ofInt y).toInt
def isubW (x y : Int) : Int := (Int32.ofInt x - Int32.ofInt y).toInt
def imulW (x y : Int) : Int := (Int32.ofInt x * Int32.ofInt y).toInt
def landW (x y : Int) : Int := (Int64.ofInt x &&& Int64.ofInt y).toInt
def lorW (x y : Int) : Int := (Int64.ofInt x ||| Int64.ofInt y).toInt
def lxorW (x y : Int) : Int := (Int64.ofInt x ^^^ Int64.ofInt y).toInt
def lshlW (x y : Int) : Int := (Int64.ofInt x <<< ((Int32.ofInt y).toInt64 &&& 63)).toInt
def lshrW (x y : Int) : Int := (Int64.ofInt x >>> ((Int32.ofInt y).toInt64 &&& 63)).toInt
def lushrW (x y : Int) : Int := ((Int64.ofInt x).toUInt64 >>> ((Int32.ofInt y).toInt64.toUInt64 &&& Int64.toUInt64 63)).toInt64.toInt
def i2bW (x : Int) : Int := (Int32.ofInt x).toInt8.toInt32.toInt
def i2cW (x : Int) : Int := ((Int32.ofInt x).toUInt32 % 65536).toInt32.toInt
def l2iW (x : Int) : Int := (Int64.ofInt x).toInt32.toInt
def lcmpW (x y : Int) : Int := if y < x then 1 else if x = y then 0 else -1
theorem lcmp_eq {x y : Int} (hx : InL x) (hy : InL y) : lg_cmp (Int64.ofInt x) (Int64.ofInt y) = Int32.ofInt (lcmpW x y) := by
  unfold lg_cmp lcmpW
  simp only [gt_iff_lt, Int64.lt_iff_toInt_lt, ← Int64.toInt_inj, i64_toInt hx, i64_toInt hy]
  split
  · rfl
  · split <;> rfl
theorem i2l_eq {x : Int} (h : InI x) : (Int32.ofInt x).toInt64 = Int64.ofInt x := by
  rw [← Int64.toInt_inj, Int32.toInt_toInt64, i32_toInt h, i64_toInt ⟨by have := h.1; omega, by have := h.2; omega⟩]
theorem cl_filter {φ : Int → Nat} {ls ls' : List (Nat × AV)} {i : Nat} {v : AV} {f : Nat × AV → Bool} {g : Nat × Value → Bool} (hfg : ∀ q, g (q.1, cv φ q.2) = f q) (h : (i, v) :: ls.filter f = ls') : (i, cv φ v) :: (cl φ ls).filter g = cl φ ls' := by
  subst h
  unfold cl
  rw [List.map_cons, List.filter_map]
  congr 2
  refine List.filter_congr fun q _ => ?_
  exact hfg q
theorem cat2 {φ : Int → Nat} (v : AV) : ((cv φ v).category == 2) = (v.1 == 1) := by
  rw [cv_cat]
  by_cases h : v.1 = 1
  · rw [if_pos h, h]; rfl
  · rw [if_neg h, beq_eq_false_iff_ne.mpr h]; rfl
theorem Ok.store {n : Int} {ls ls' : List (Nat × AV)} {st : List AV} {i : Nat} {v : AV} {f : Nat × AV → Bool} (h : (i, v) :: ls.filter f = ls') (hO : Ok n ls (v :: st)) : Ok n ls' st := by
  subst h
  refine ⟨fun q hq => ?_, hO.pop.2⟩
  rcases List.mem_cons.mp hq with e | e
  · rw [e]; exact hO.top
  · exact hO.1 q (List.mem_filter.mp e).1
section RR1
variable {Z : ZT} {μ : MM} {d pc : Nat} {ls : List (Nat × AV)} {st : List AV} {σ : AS} {o : AO} {σ' : AS}

theorem R_iconst {n : Int} (hd : decode μ.2.1 pc = .ok (.iconst n, 1)) (hv : InI n) (k : R Z μ d (pc + 1) ls ((0, n) :: st) σ o σ') : R Z μ d pc ls (st) σ o σ' :=
  R.pure k (fun h => h.push hv) (fun p e Rm s m args below meth c H locs cells slots Q φ lsM hG hO hC hR hS hl hf hlo kk => lv_iconst hC.1 hC.2.1 hd rfl (kk lsM hl))
theorem R_bipush {n : Int} (hd : decode μ.2.1 pc = .ok (.bipush n, 2)) (h8 : (Int8.ofInt n).toInt32 = Int32.ofInt n) (hv : InI n) (k : R Z μ d (pc + 2) ls ((0, n) :: st) σ o σ') : R Z μ d pc ls (st) σ o σ' :=
  R.pure k (fun h => h.push hv) (fun p e Rm s m args below meth c H locs cells slots Q φ lsM hG hO hC hR hS hl hf hlo kk => lv_bipush hC.1 hC.2.1 hd h8 (kk lsM hl))
theorem R_sipush {n : Int} (hd : decode μ.2.1 pc = .ok (.sipush n, 3)) (h8 : (Int16.ofInt n).toInt32 = Int32.ofInt n) (hv : InI n) (k : R Z μ d (pc + 3) ls ((0, n) :: st) σ o σ') : R Z μ d pc ls (st) σ o σ' :=
  R.pure k (fun h => h.push hv) (fun p e Rm s m args below meth c H locs cells slots Q φ lsM hG hO hC hR hS hl hf hlo kk => lv_sipush hC.1 hC.2.1 hd h8 (kk lsM hl))
theorem R_lconst {n : Fin 2} {x : Int} (hd : decode μ.2.1 pc = .ok (.lconst n, 1)) (h8 : Int64.ofNat (n : Nat) = Int64.ofInt x) (hv : InL x) (k : R Z μ d (pc + 1) ls ((1, x) :: st) σ o σ') : R Z μ d pc ls (st) σ o σ' :=
  R.pure k (fun h => h.push hv) (fun p e Rm s m args below meth c H locs cells slots Q φ lsM hG hO hC hR hS hl hf hlo kk => lv_lconst hC.1 hC.2.1 hd h8 (kk lsM hl))
theorem R_iload_n {q : Fin 4} {i j : Nat} {x : Int} (hd : decode μ.2.1 pc = .ok (.iload_n q, 1)) (hi : (q : Nat) = i) (hj : ls[j]? = some (i, (0, x))) (k : R Z μ d (pc + 1) ls ((0, x) :: st) σ o σ') : R Z μ d pc ls (st) σ o σ' :=
  R.pure k (fun h => h.push (h.at hj)) (fun p e Rm s m args below meth c H locs cells slots Q φ lsM hG hO hC hR hS hl hf hlo kk => lv_iload_n hC.1 hC.2.1 hd hi (lv_at hl j (cl_at hj)) (kk lsM hl))
theorem R_iload {i j : Nat} {x : Int} (hd : decode μ.2.1 pc = .ok (.iload i, 2)) (hj : ls[j]? = some (i, (0, x))) (k : R Z μ d (pc + 2) ls ((0, x) :: st) σ o σ') : R Z μ d pc ls (st) σ o σ' :=
  R.pure k (fun h => h.push (h.at hj)) (fun p e Rm s m args below meth c H locs cells slots Q φ lsM hG hO hC hR hS hl hf hlo kk => lv_iload hC.1 hC.2.1 hd (lv_at hl j (cl_at hj)) (kk lsM hl))
theorem R_lload_n {q : Fin 4} {i j : Nat} {x : Int} (hd : decode μ.2.1 pc = .ok (.lload_n q, 1)) (hi : (q : Nat) = i) (hj : ls[j]? = some (i, (1, x))) (k : R Z μ d (pc + 1) ls ((1, x) :: st) σ o σ') : R Z μ d pc ls (st) σ o σ' :=
  R.pure k (fun h => h.push (h.at hj)) (fun p e Rm s m args below meth c H locs cells slots Q φ lsM hG hO hC hR hS hl hf hlo kk => lv_lload_n hC.1 hC.2.1 hd hi (lv_at hl j (cl_at hj)) (kk lsM hl))
theorem R_lload {i j : Nat} {x : Int} (hd : decode μ.2.1 pc = .ok (.lload i, 2)) (hj : ls[j]? = some (i, (1, x))) (k : R Z μ d (pc + 2) ls ((1, x) :: st) σ o σ') : R Z μ d pc ls (st) σ o σ' :=
  R.pure k (fun h => h.push (h.at hj)) (fun p e Rm s m args below meth c H locs cells slots Q φ lsM hG hO hC hR hS hl hf hlo kk => lv_lload hC.1 hC.2.1 hd (lv_at hl j (cl_at hj)) (kk lsM hl))
theorem R_istore_n {q : Fin 4} {i : Nat} {x : Int} {ls' : List (Nat × AV)} (hd : decode μ.2.1 pc = .ok (.istore_n q, 1)) (hi : (q : Nat) = i) (hn : i < μ.2.2.1) (hs : (i, ((0, x) : AV)) :: ls.filter (fun q => !(q.1 == i) && !(q.1 + 1 == i && q.2.1 == 1)) = ls') (k : R Z μ d (pc + 1) ls' st σ o σ') : R Z μ d pc ls ((0, x) :: st) σ o σ' :=
  R.pure k (fun h => h.store hs) (fun p e Rm s m args below meth c H locs cells slots Q φ lsM hG hO hC hR hS hl hf hlo kk => lv_istore_n hC.1 hC.2.1 hd hi hl hn (cl_filter (φ := φ) (fun q => by simp only [cat2]) hs) (fun ls2 hl2 => kk ls2 hl2))
theorem R_istore {i : Nat} {x : Int} {ls' : List (Nat × AV)} (hd : decode μ.2.1 pc = .ok (.istore i, 2)) (hn : i < μ.2.2.1) (hs : (i, ((0, x) : AV)) :: ls.filter (fun q => !(q.1 == i) && !(q.1 + 1 == i && q.2.1 == 1)) = ls') (k : R Z μ d (pc + 2) ls' st σ o σ') : R Z μ d pc ls ((0, x) :: st) σ o σ' :=
  R.pure k (fun h => h.store hs) (fun p e Rm s m args below meth c H locs cells slots Q φ lsM hG hO hC hR hS hl hf hlo kk => lv_istore hC.1 hC.2.1 hd hl hn (cl_filter (φ := φ) (fun q => by simp only [cat2]) hs) (fun ls2 hl2 => kk ls2 hl2))
theorem R_lstore_n {q : Fin 4} {i : Nat} {x : Int} {ls' : List (Nat × AV)} (hd : decode μ.2.1 pc = .ok (.lstore_n q, 1)) (hi : (q : Nat) = i) (hn : i + 1 < μ.2.2.1) (hs : (i, ((1, x) : AV)) :: ls.filter (fun q => !(q.1 == i) && (!(q.1 == i + 1) && !(q.1 + 1 == i && q.2.1 == 1))) = ls') (k : R Z μ d (pc + 1) ls' st σ o σ') : R Z μ d pc ls ((1, x) :: st) σ o σ' :=
  R.pure k (fun h => h.store hs) (fun p e Rm s m args below meth c H locs cells slots Q φ lsM hG hO hC hR hS hl hf hlo kk => lv_lstore_n hC.1 hC.2.1 hd hi hl hn (cl_filter (φ := φ) (fun q => by simp only [cat2]) hs) (fun ls2 hl2 => kk ls2 hl2))
theorem R_lstore {i : Nat} {x : Int} {ls' : List (Nat × AV)} (hd : decode μ.2.1 pc = .ok (.lstore i, 2)) (hn : i + 1 < μ.2.2.1) (hs : (i, ((1, x) : AV)) :: ls.filter (fun q => !(q.1 == i) && (!(q.1 == i + 1) && !(q.1 + 1 == i && q.2.1 == 1))) = ls') (k : R Z μ d (pc + 2) ls' st σ o σ') : R Z μ d pc ls ((1, x) :: st) σ o σ' :=
  R.pure k (fun h => h.store hs) (fun p e Rm s m args below meth c H locs cells slots Q φ lsM hG hO hC hR hS hl hf hlo kk => lv_lstore hC.1 hC.2.1 hd hl hn (cl_filter (φ := φ) (fun q => by simp only [cat2]) hs) (fun ls2 hl2 => kk ls2 hl2))
theorem R_aload_n {q : Fin 4} {i j : Nat} {x : Int} (hd : decode μ.2.1 pc = .ok (.aload_n q, 1)) (hi : (q : Nat) = i) (hj : ls[j]? = some (i, (2, x))) (k : R Z μ d (pc + 1) ls ((2, x) :: st) σ o σ') : R Z μ d pc ls st σ o σ' :=
  R.pure k (fun h => h.push (h.at hj)) (fun p e Rm s m args below meth c H locs cells slots Q φ lsM hG hO hC hR hS hl hf hlo kk => by
    have hz := lv_at hl j (cl_at (φ := φ) hj)
    have hk := kk lsM hl
    by_cases h : x = 0
    · subst h
      exact lv_aload_nN hC.1 hC.2.1 hd hi hz hk
    · have e : cv φ (2, x) = .ref (φ x) := if_neg h
      rw [e] at hz
      rw [List.map_cons, e] at hk
      exact lv_aload_n hC.1 hC.2.1 hd hi hz hk)
theorem R_aload {i j : Nat} {x : Int} (hd : decode μ.2.1 pc = .ok (.aload i, 2)) (hj : ls[j]? = some (i, (2, x))) (k : R Z μ d (pc + 2) ls ((2, x) :: st) σ o σ') : R Z μ d pc ls st σ o σ' :=
  R.pure k (fun h => h.push (h.at hj)) (fun p e Rm s m args below meth c H locs cells slots Q φ lsM hG hO hC hR hS hl hf hlo kk => by
    have hz := lv_at hl j (cl_at (φ := φ) hj)
    have hk := kk lsM hl
    by_cases h : x = 0
    · subst h
      exact lv_aloadN hC.1 hC.2.1 hd hz hk
    · have e : cv φ (2, x) = .ref (φ x) := if_neg h
      rw [e] at hz
      rw [List.map_cons, e] at hk
      exact lv_aload hC.1 hC.2.1 hd hz hk)
theorem R_astore_n {q : Fin 4} {i : Nat} {x : Int} {ls' : List (Nat × AV)} (hd : decode μ.2.1 pc = .ok (.astore_n q, 1)) (hi : (q : Nat) = i) (hn : i < μ.2.2.1) (hs : (i, ((2, x) : AV)) :: ls.filter (fun q => !(q.1 == i) && !(q.1 + 1 == i && q.2.1 == 1)) = ls') (k : R Z μ d (pc + 1) ls' st σ o σ') : R Z μ d pc ls ((2, x) :: st) σ o σ' :=
  R.pure k (fun h => h.store hs) (fun p e Rm s m args below meth c H locs cells slots Q φ lsM hG hO hC hR hS hl hf hlo kk => by
    have hf := cl_filter (φ := φ) (g := fun q => !(q.1 == i) && !(q.1 + 1 == i && q.2.category == 2)) (fun q => by simp only [cat2]) hs
    by_cases h : x = 0
    · subst h
      exact lv_astore_nN hC.1 hC.2.1 hd hi hl hn hf (fun ls2 hl2 => kk ls2 hl2)
    · have e : cv φ (2, x) = .ref (φ x) := if_neg h
      rw [e] at hf
      rw [List.map_cons, e]
      exact lv_astore_n hC.1 hC.2.1 hd hi hl hn hf (fun ls2 hl2 => kk ls2 hl2))
theorem R_astore {i : Nat} {x : Int} {ls' : List (Nat × AV)} (hd : decode μ.2.1 pc = .ok (.astore i, 2)) (hn : i < μ.2.2.1) (hs : (i, ((2, x) : AV)) :: ls.filter (fun q => !(q.1 == i) && !(q.1 + 1 == i && q.2.1 == 1)) = ls') (k : R Z μ d (pc + 2) ls' st σ o σ') : R Z μ d pc ls ((2, x) :: st) σ o σ' :=
  R.pure k (fun h => h.store hs) (fun p e Rm s m args below meth c H locs cells slots Q φ lsM hG hO hC hR hS hl hf hlo kk => by
    have hf := cl_filter (φ := φ) (g := fun q => !(q.1 == i) && !(q.1 + 1 == i && q.2.category == 2)) (fun q => by simp only [cat2]) hs
    by_cases h : x = 0
    · subst h
      exact lv_astoreN hC.1 hC.2.1 hd hl hn hf (fun ls2 hl2 => kk ls2 hl2)
    · have e : cv φ (2, x) = .ref (φ x) := if_neg h
      rw [e] at hf
      rw [List.map_cons, e]
      exact lv_astore hC.1 hC.2.1 hd hl hn hf (fun ls2 hl2 => kk ls2 hl2))
theorem R_aconst_null (hd : decode μ.2.1 pc = .ok (.aconst_null, 1)) (k : R Z μ d (pc + 1) ls ((2, 0) :: st) σ o σ') : R Z μ d pc ls st σ o σ' := by
  refine ⟨k.1, fun hG hO p e Rm s m args below meth c H locs cells slots mc ms φ0 φ n0 lsM hC hS hR h0 hn hl hf hlo hc1 hc2 hc3 hc4 => ?_⟩
  exact lv_null hC.1 hC.2.1 hd (k.2 hG (hO.push ⟨Int.le_refl 0, hR.1⟩) p e Rm s m args below meth c H locs cells slots mc ms φ0 φ n0 lsM hC hS hR h0 hn hl hf hlo hc1 hc2 hc3 hc4)
theorem R_iinc {i j : Nat} {n x : Int} {ls' : List (Nat × AV)} (hd : decode μ.2.1 pc = .ok (.iinc i n, 3)) (hj : ls[j]? = some (i, (0, x))) (hn : i < μ.2.2.1) (g : InI (x + n)) (hs : (i, ((0, x + n) : AV)) :: ls.filter (fun q => !(q.1 == i) && !(q.1 + 1 == i && q.2.1 == 1)) = ls') (k : R Z μ d (pc + 3) ls' st σ o σ') : R Z μ d pc ls st σ o σ' :=
  R.pure k (fun h => Ok.store (v := (0, x + n)) hs (h.push g)) (fun p e Rm s m args below meth c H locs cells slots Q φ lsM hG hO hC hR hS hl hf hlo kk => lv_iinc hC.1 hC.2.1 hd hl (cl_at (φ := φ) hj) (by rw [← Int32.ofInt_add]) hn (cl_filter (φ := φ) (fun q => by simp only [cat2]) hs) (fun ls2 hl2 => kk ls2 hl2))
theorem R_pop {a : AV} (hd : decode μ.2.1 pc = .ok (.pop, 1)) (ha : ¬ a.1 = 1) (k : R Z μ d (pc + 1) ls (st) σ o σ') : R Z μ d pc ls (a :: st) σ o σ' :=
  R.pure k (fun h => h.pop) (fun p e Rm s m args below meth c H locs cells slots Q φ lsM hG hO hC hR hS hl hf hlo kk => lv_pop hC.1 hC.2.1 hd (by rw [cv_cat, if_neg ha]) (kk lsM hl))
theorem R_dup {a : AV} (hd : decode μ.2.1 pc = .ok (.dup, 1)) (ha : ¬ a.1 = 1) (k : R Z μ d (pc + 1) ls (a :: a :: st) σ o σ') : R Z μ d pc ls (a :: st) σ o σ' :=
  R.pure k (fun h => h.push h.top) (fun p e Rm s m args below meth c H locs cells slots Q φ lsM hG hO hC hR hS hl hf hlo kk => lv_dup hC.1 hC.2.1 hd (by rw [cv_cat, if_neg ha]) (kk lsM hl))
theorem R_dup_x1 {a b : AV} (hd : decode μ.2.1 pc = .ok (.dup_x1, 1)) (ha : ¬ a.1 = 1) (hb : ¬ b.1 = 1) (k : R Z μ d (pc + 1) ls (a :: b :: a :: st) σ o σ') : R Z μ d pc ls (a :: b :: st) σ o σ' :=
  R.pure k (fun h => ((h.pop.pop.push h.top).push h.pop.top).push h.top) (fun p e Rm s m args below meth c H locs cells slots Q φ lsM hG hO hC hR hS hl hf hlo kk => lv_dup_x1 hC.1 hC.2.1 hd (by rw [cv_cat, if_neg ha]) (by rw [cv_cat, if_neg hb]) (kk lsM hl))
theorem R_dup_x2 {a b v : AV} (hd : decode μ.2.1 pc = .ok (.dup_x2, 1)) (ha : ¬ a.1 = 1) (hb : ¬ b.1 = 1) (hv : ¬ v.1 = 1) (k : R Z μ d (pc + 1) ls (a :: b :: v :: a :: st) σ o σ') : R Z μ d pc ls (a :: b :: v :: st) σ o σ' :=
  R.pure k (fun h => (((h.pop.pop.pop.push h.top).push h.pop.pop.top).push h.pop.top).push h.top) (fun p e Rm s m args below meth c H locs cells slots Q φ lsM hG hO hC hR hS hl hf hlo kk => lv_dup_x2 hC.1 hC.2.1 hd (by rw [cv_cat, if_neg ha]) (by rw [cv_cat, if_neg hb]) (by rw [cv_cat, if_neg hv]) (kk lsM hl))
theorem R_dup2 {a b : AV} (hd : decode μ.2.1 pc = .ok (.dup2, 1)) (ha : ¬ a.1 = 1) (hb : ¬ b.1 = 1) (k : R Z μ d (pc + 1) ls (a :: b :: a :: b :: st) σ o σ') : R Z μ d pc ls (a :: b :: st) σ o σ' :=
  R.pure k (fun h => (h.push h.pop.top).push h.top) (fun p e Rm s m args below meth c H locs cells slots Q φ lsM hG hO hC hR hS hl hf hlo kk => lv_dup2_11 hC.1 hC.2.1 hd (by rw [cv_cat, if_neg ha]) (by rw [cv_cat, if_neg hb]) (kk lsM hl))
theorem R_dup2L {a : AV} (hd : decode μ.2.1 pc = .ok (.dup2, 1)) (ha : a.1 = 1) (k : R Z μ d (pc + 1) ls (a :: a :: st) σ o σ') : R Z μ d pc ls (a :: st) σ o σ' :=
  R.pure k (fun h => h.push h.top) (fun p e Rm s m args below meth c H locs cells slots Q φ lsM hG hO hC hR hS hl hf hlo kk => lv_dup2_2 hC.1 hC.2.1 hd (by rw [cv_cat, if_pos ha]) (kk lsM hl))
theorem R_iadd {x y : Int} (hd : decode μ.2.1 pc = .ok (.iadd, 1)) (g : InI (x + y)) (k : R Z μ d (pc + 1) ls ((0, x + y) :: st) σ o σ') : R Z μ d pc ls ((0, y) :: (0, x) :: st) σ o σ' :=
  R.pure k (fun h => h.pop.pop.push g) (fun p e Rm s m args below meth c H locs cells slots Q φ lsM hG hO hC hR hS hl hf hlo kk => lv_iadd hC.1 hC.2.1 hd (by rw [← Int32.ofInt_add]; exact kk lsM hl))
theorem R_isub {x y : Int} (hd : decode μ.2.1 pc = .ok (.isub, 1)) (g : InI (x - y)) (k : R Z μ d (pc + 1) ls ((0, x - y) :: st) σ o σ') : R Z μ d pc ls ((0, y) :: (0, x) :: st) σ o σ' :=
  R.pure k (fun h => h.pop.pop.push g) (fun p e Rm s m args below meth c H locs cells slots Q φ lsM hG hO hC hR hS hl hf hlo kk => lv_isub hC.1 hC.2.1 hd (by rw [← Int32.ofInt_sub]; exact kk lsM hl))
theorem R_imul {x y : Int} (hd : decode μ.2.1 pc = .ok (.imul, 1)) (g : InI (x * y)) (k : R Z μ d (pc + 1) ls ((0, x * y) :: st) σ o σ') : R Z μ d pc ls ((0, y) :: (0, x) :: st) σ o σ' :=
  R.pure k (fun h => h.pop.pop.push g) (fun p e Rm s m args below meth c H locs cells slots Q φ lsM hG hO hC hR hS hl hf hlo kk => lv_imul hC.1 hC.2.1 hd (by rw [← Int32.ofInt_mul]; exact kk lsM hl))
theorem R_ladd {x y : Int} (hd : decode μ.2.1 pc = .ok (.ladd, 1)) (g : InL (x + y)) (k : R Z μ d (pc + 1) ls ((1, x + y) :: st) σ o σ') : R Z μ d pc ls ((1, y) :: (1, x) :: st) σ o σ' :=
  R.pure k (fun h => h.pop.pop.push g) (fun p e Rm s m args below meth c H locs cells slots Q φ lsM hG hO hC hR hS hl hf hlo kk => lv_ladd hC.1 hC.2.1 hd (by rw [← Int64.ofInt_add]; exact kk lsM hl))
theorem R_lsub {x y : Int} (hd : decode μ.2.1 pc = .ok (.lsub, 1)) (g : InL (x - y)) (k : R Z μ d (pc + 1) ls ((1, x - y) :: st) σ o σ') : R Z μ d pc ls ((1, y) :: (1, x) :: st) σ o σ' :=
  R.pure k (fun h => h.pop.pop.push g) (fun p e Rm s m args below meth c H locs cells slots Q φ lsM hG hO hC hR hS hl hf hlo kk => lv_lsub hC.1 hC.2.1 hd (by rw [← Int64.ofInt_sub]; exact kk lsM hl))
theorem R_lmul {x y : Int} (hd : decode μ.2.1 pc = .ok (.lmul, 1)) (g : InL (x * y)) (k : R Z μ d (pc + 1) ls ((1, x * y) :: st) σ o σ') : R Z μ d pc ls ((1, y) :: (1, x) :: st) σ o σ' :=
  R.pure k (fun h => h.pop.pop.push g) (fun p e Rm s m args below meth c H locs cells slots Q φ lsM hG hO hC hR hS hl hf hlo kk => lv_lmul hC.1 hC.2.1 hd (by rw [← Int64.ofInt_mul]; exact kk lsM hl))
theorem R_ineg {x : Int} (hd : decode μ.2.1 pc = .ok (.ineg, 1)) (g : InI (-x)) (k : R Z μ d (pc + 1) ls ((0, -x) :: st) σ o σ') : R Z μ d pc ls ((0, x) :: st) σ o σ' :=
  R.pure k (fun h => h.pop.push g) (fun p e Rm s m args below meth c H locs cells slots Q φ lsM hG hO hC hR hS hl hf hlo kk => lv_ineg hC.1 hC.2.1 hd (by rw [← Int32.ofInt_neg]; exact kk lsM hl))
theorem R_lneg {x : Int} (hd : decode μ.2.1 pc = .ok (.lneg, 1)) (g : InL (-x)) (k : R Z μ d (pc + 1) ls ((1, -x) :: st) σ o σ') : R Z μ d pc ls ((1, x) :: st) σ o σ' :=
  R.pure k (fun h => h.pop.push g) (fun p e Rm s m args below meth c H locs cells slots Q φ lsM hG hO hC hR hS hl hf hlo kk => lv_lneg hC.1 hC.2.1 hd (by rw [← Int64.ofInt_neg]; exact kk lsM hl))
theorem R_iand {x y : Int} (hd : decode μ.2.1 pc = .ok (.iand, 1)) (k : R Z μ d (pc + 1) ls ((0, iandW x y) :: st) σ o σ') : R Z μ d pc ls ((0, y) :: (0, x) :: st) σ o σ' :=
  R.pure k (fun h => h.pop.pop.push (i32_ok _)) (fun p e Rm s m args below meth c H locs cells slots Q φ lsM hG hO hC hR hS hl hf hlo kk => lv_iand hC.1 hC.2.1 hd (by have hk := kk lsM hl; rw [List.map_cons, show cv φ (0, iandW x y) = .int _ from congrArg Value.int (i32_ofToInt _)] at hk; exact hk))
theorem R_ior {x y : Int} (hd : decode μ.2.1 pc = .ok (.ior, 1)) (k : R Z μ d (pc + 1) ls ((0, iorW x y) :: st) σ o σ') : R Z μ d pc ls ((0, y) :: (0, x) :: st) σ o σ' :=
  R.pure k (fun h => h.pop.pop.push (i32_ok _)) (fun p e Rm s m args below meth c H locs cells slots Q φ lsM hG hO hC hR hS hl hf hlo kk => lv_ior hC.1 hC.2.1 hd (by have hk := kk lsM hl; rw [List.map_cons, show cv φ (0, iorW x y) = .int _ from congrArg Value.int (i32_ofToInt _)] at hk; exact hk))
theorem R_ixor {x y : Int} (hd : decode μ.2.1 pc = .ok (.ixor, 1)) (k : R Z μ d (pc + 1) ls ((0, ixorW x y) :: st) σ o σ') : R Z μ d pc ls ((0, y) :: (0, x) :: st) σ o σ' :=
  R.pure k (fun h => h.pop.pop.push (i32_ok _)) (fun p e Rm s m args below meth c H locs cells slots Q φ lsM hG hO hC hR hS hl hf hlo kk => lv_ixor hC.1 hC.2.1 hd (by have hk := kk lsM hl; rw [List.map_cons, show cv φ (0, ixorW x y) = .int _ from congrArg Value.int (i32_ofToInt _)] at hk; exact hk))
theorem R_ishl {x y : Int} (hd : decode μ.2.1 pc = .ok (.ishl, 1)) (k : R Z μ d (pc + 1) ls ((0, ishlW x y) :: st) σ o σ') : R Z μ d pc ls ((0, y) :: (0, x) :: st) σ o σ' :=
  R.pure k (fun h => h.pop.pop.push (i32_ok _)) (fun p e Rm s m args below meth c H locs cells slots Q φ lsM hG hO hC hR hS hl hf hlo kk => lv_ishl hC.1 hC.2.1 hd (by have hk := kk lsM hl; rw [List.map_cons, show cv φ (0, ishlW x y) = .int _ from congrArg Value.int (i32_ofToInt _)] at hk; exact hk))
theorem R_ishr {x y : Int} (hd : decode μ.2.1 pc = .ok (.ishr, 1)) (k : R Z μ d (pc + 1) ls ((0, ishrW x y) :: st) σ o σ') : R Z μ d pc ls ((0, y) :: (0, x) :: st) σ o σ' :=
  R.pure k (fun h => h.pop.pop.push (i32_ok _)) (fun p e Rm s m args below meth c H locs cells slots Q φ lsM hG hO hC hR hS hl hf hlo kk => lv_ishr hC.1 hC.2.1 hd (by have hk := kk lsM hl; rw [List.map_cons, show cv φ (0, ishrW x y) = .int _ from congrArg Value.int (i32_ofToInt _)] at hk; exact hk))
theorem R_iaddW {x y : Int} (hd : decode μ.2.1 pc = .ok (.iadd, 1)) (k : R Z μ d (pc + 1) ls ((0, iaddW x y) :: st) σ o σ') : R Z μ d pc ls ((0, y) :: (0, x) :: st) σ o σ' :=
  R.pure k (fun h => h.pop.pop.push (i32_ok _)) (fun p e Rm s m args below meth c H locs cells slots Q φ lsM hG hO hC hR hS hl hf hlo kk => lv_iadd hC.1 hC.2.1 hd (by have hk := kk lsM hl; rw [List.map_cons, show cv φ (0, iaddW x y) = .int _ from congrArg Value.int (i32_ofToInt _)] at hk; exact hk))
theorem R_isubW {x y : Int} (hd : decode μ.2.1 pc = .ok (.isub, 1)) (k : R Z μ d (pc + 1) ls ((0, isubW x y) :: st) σ o σ') : R Z μ d pc ls ((0, y) :: (0, x) :: st) σ o σ' :=
  R.pure k (fun h => h.pop.pop.push (i32_ok _)) (fun p e Rm s m args below meth c H locs cells slots Q φ lsM hG hO hC hR hS hl hf hlo kk => lv_isub hC.1 hC.2.1 hd (by have hk := kk lsM hl; rw [List.map_cons, show cv φ (0, isubW x y) = .int _ from congrArg Value.int (i32_ofToInt _)] at hk; exact hk))
theorem R_imulW {x y : Int} (hd : decode μ.2.1 pc = .ok (.imul, 1)) (k : R Z μ d (pc + 1) ls ((0, imulW x y) :: st) σ o σ') : R Z μ d pc ls ((0, y) :: (0, x) :: st) σ o σ' :=
  R.pure k (fun h => h.pop.pop.push (i32_ok _)) (fun p e Rm s m args below meth c H locs cells slots Q φ lsM hG hO hC hR hS hl hf hlo kk => lv_imul hC.1 hC.2.1 hd (by have hk := kk lsM hl; rw [List.map_cons, show cv φ (0, imulW x y) = .int _ from congrArg Value.int (i32_ofToInt _)] at hk; exact hk))
theorem R_iushr {x y : Int} (hd : decode μ.2.1 pc = .ok (.iushr, 1)) (k : R Z μ d (pc + 1) ls ((0, iushrW x y) :: st) σ o σ') : R Z μ d pc ls ((0, y) :: (0, x) :: st) σ o σ' :=
  R.pure k (fun h => h.pop.pop.push (i32_ok _)) (fun p e Rm s m args below meth c H locs cells slots Q φ lsM hG hO hC hR hS hl hf hlo kk => lv_iushr hC.1 hC.2.1 hd rfl (by have hk := kk lsM hl; rw [List.map_cons, show cv φ (0, iushrW x y) = .int _ from congrArg Value.int (i32_ofToInt _)] at hk; exact hk))
theorem R_idiv {x y : Int} (hd : decode μ.2.1 pc = .ok (.idiv, 1)) (g : y ≠ 0) (k : R Z μ d (pc + 1) ls ((0, idivW x y) :: st) σ o σ') : R Z μ d pc ls ((0, y) :: (0, x) :: st) σ o σ' :=
  R.pure k (fun h => h.pop.pop.push (i32_ok _)) (fun p e Rm s m args below meth c H locs cells slots Q φ lsM hG hO hC hR hS hl hf hlo kk => lv_idiv hC.1 hC.2.1 hd (fun z => g ((i32_eq hO.top ⟨by decide, by decide⟩).mp z)) (by have hk := kk lsM hl; rw [List.map_cons, show cv φ (0, idivW x y) = .int _ from congrArg Value.int (i32_ofToInt _)] at hk; exact hk))
theorem R_irem {x y : Int} (hd : decode μ.2.1 pc = .ok (.irem, 1)) (g : y ≠ 0) (k : R Z μ d (pc + 1) ls ((0, iremW x y) :: st) σ o σ') : R Z μ d pc ls ((0, y) :: (0, x) :: st) σ o σ' :=
  R.pure k (fun h => h.pop.pop.push (i32_ok _)) (fun p e Rm s m args below meth c H locs cells slots Q φ lsM hG hO hC hR hS hl hf hlo kk => lv_irem hC.1 hC.2.1 hd (fun z => g ((i32_eq hO.top ⟨by decide, by decide⟩).mp z)) (by have hk := kk lsM hl; rw [List.map_cons, show cv φ (0, iremW x y) = .int _ from congrArg Value.int (i32_ofToInt _)] at hk; exact hk))
theorem R_land {x y : Int} (hd : decode μ.2.1 pc = .ok (.land, 1)) (k : R Z μ d (pc + 1) ls ((1, landW x y) :: st) σ o σ') : R Z μ d pc ls ((1, y) :: (1, x) :: st) σ o σ' :=
  R.pure k (fun h => h.pop.pop.push (i64_ok _)) (fun p e Rm s m args below meth c H locs cells slots Q φ lsM hG hO hC hR hS hl hf hlo kk => lv_land hC.1 hC.2.1 hd (by have hk := kk lsM hl; rw [List.map_cons, show cv φ (1, landW x y) = .long _ from congrArg Value.long (i64_ofToInt _)] at hk; exact hk))
theorem R_lor {x y : Int} (hd : decode μ.2.1 pc = .ok (.lor, 1)) (k : R Z μ d (pc + 1) ls ((1, lorW x y) :: st) σ o σ') : R Z μ d pc ls ((1, y) :: (1, x) :: st) σ o σ' :=
  R.pure k (fun h => h.pop.pop.push (i64_ok _)) (fun p e Rm s m args below meth c H locs cells slots Q φ lsM hG hO hC hR hS hl hf hlo kk => lv_lor hC.1 hC.2.1 hd (by have hk := kk lsM hl; rw [List.map_cons, show cv φ (1, lorW x y) = .long _ from congrArg Value.long (i64_ofToInt _)] at hk; exact hk))
theorem R_lxor {x y : Int} (hd : decode μ.2.1 pc = .ok (.lxor, 1)) (k : R Z μ d (pc + 1) ls ((1, lxorW x y) :: st) σ o σ') : R Z μ d pc ls ((1, y) :: (1, x) :: st) σ o σ' :=
  R.pure k (fun h => h.pop.pop.push (i64_ok _)) (fun p e Rm s m args below meth c H locs cells slots Q φ lsM hG hO hC hR hS hl hf hlo kk => lv_lxor hC.1 hC.2.1 hd (by have hk := kk lsM hl; rw [List.map_cons, show cv φ (1, lxorW x y) = .long _ from congrArg Value.long (i64_ofToInt _)] at hk; exact hk))
theorem R_lshl {x y : Int} (hd : decode μ.2.1 pc = .ok (.lshl, 1)) (k : R Z μ d (pc + 1) ls ((1, lshlW x y) :: st) σ o σ') : R Z μ d pc ls ((0, y) :: (1, x) :: st) σ o σ' :=
  R.pure k (fun h => h.pop.pop.push (i64_ok _)) (fun p e Rm s m args below meth c H locs cells slots Q φ lsM hG hO hC hR hS hl hf hlo kk => lv_lshl hC.1 hC.2.1 hd rfl (by have hk := kk lsM hl; rw [List.map_cons, show cv φ (1, lshlW x y) = .long _ from congrArg Value.long (i64_ofToInt _)] at hk; exact hk))
theorem R_lshr {x y : Int} (hd : decode μ.2.1 pc = .ok (.lshr, 1)) (k : R Z μ d (pc + 1) ls ((1, lshrW x y) :: st) σ o σ') : R Z μ d pc ls ((0, y) :: (1, x) :: st) σ o σ' :=
  R.pure k (fun h => h.pop.pop.push (i64_ok _)) (fun p e Rm s m args below meth c H locs cells slots Q φ lsM hG hO hC hR hS hl hf hlo kk => lv_lshr hC.1 hC.2.1 hd rfl (by have hk := kk lsM hl; rw [List.map_cons, show cv φ (1, lshrW x y) = .long _ from congrArg Value.long (i64_ofToInt _)] at hk; exact hk))
theorem R_lushr {x y : Int} (hd : decode μ.2.1 pc = .ok (.lushr, 1)) (k : R Z μ d (pc + 1) ls ((1, lushrW x y) :: st) σ o σ') : R Z μ d pc ls ((0, y) :: (1, x) :: st) σ o σ' :=
  R.pure k (fun h => h.pop.pop.push (i64_ok _)) (fun p e Rm s m args below meth c H locs cells slots Q φ lsM hG hO hC hR hS hl hf hlo kk => lv_lushr hC.1 hC.2.1 hd rfl (by have hk := kk lsM hl; rw [List.map_cons, show cv φ (1, lushrW x y) = .long _ from congrArg Value.long (i64_ofToInt _)] at hk; exact hk))
theorem R_i2b {x : Int} (hd : decode μ.2.1 pc = .ok (.i2b, 1)) (k : R Z μ d (pc + 1) ls ((0, i2bW x) :: st) σ o σ') : R Z μ d pc ls ((0, x) :: st) σ o σ' :=
  R.pure k (fun h => h.pop.push (i32_ok _)) (fun p e Rm s m args below meth c H locs cells slots Q φ lsM hG hO hC hR hS hl hf hlo kk => lv_i2b hC.1 hC.2.1 hd rfl (by have hk := kk lsM hl; rw [List.map_cons, show cv φ (0, i2bW x) = .int _ from congrArg Value.int (i32_ofToInt _)] at hk; exact hk))
theorem R_i2c {x : Int} (hd : decode μ.2.1 pc = .ok (.i2c, 1)) (k : R Z μ d (pc + 1) ls ((0, i2cW x) :: st) σ o σ') : R Z μ d pc ls ((0, x) :: st) σ o σ' :=
  R.pure k (fun h => h.pop.push (i32_ok _)) (fun p e Rm s m args below meth c H locs cells slots Q φ lsM hG hO hC hR hS hl hf hlo kk => lv_i2c hC.1 hC.2.1 hd rfl (by have hk := kk lsM hl; rw [List.map_cons, show cv φ (0, i2cW x) = .int _ from congrArg Value.int (i32_ofToInt _)] at hk; exact hk))
theorem R_l2i {x : Int} (hd : decode μ.2.1 pc = .ok (.l2i, 1)) (k : R Z μ d (pc + 1) ls ((0, l2iW x) :: st) σ o σ') : R Z μ d pc ls ((1, x) :: st) σ o σ' :=
  R.pure k (fun h => h.pop.push (i32_ok _)) (fun p e Rm s m args below meth c H locs cells slots Q φ lsM hG hO hC hR hS hl hf hlo kk => lv_l2i hC.1 hC.2.1 hd rfl (by have hk := kk lsM hl; rw [List.map_cons, show cv φ (0, l2iW x) = .int _ from congrArg Value.int (i32_ofToInt _)] at hk; exact hk))
theorem R_i2l {x : Int} (hd : decode μ.2.1 pc = .ok (.i2l, 1)) (k : R Z μ d (pc + 1) ls ((1, x) :: st) σ o σ') : R Z μ d pc ls ((0, x) :: st) σ o σ' :=
  R.pure k (fun h => h.pop.push ⟨by have h1 : InI x := h.top; have := h1.1; omega, by have h1 : InI x := h.top; have := h1.2; omega⟩) (fun p e Rm s m args below meth c H locs cells slots Q φ lsM hG hO hC hR hS hl hf hlo kk => lv_i2l hC.1 hC.2.1 hd (i2l_eq hO.top) (kk lsM hl))
theorem R_lcmp {x y : Int} (hd : decode μ.2.1 pc = .ok (.lcmp, 1)) (k : R Z μ d (pc + 1) ls ((0, lcmpW x y) :: st) σ o σ') : R Z μ d pc ls ((1, y) :: (1, x) :: st) σ o σ' :=
  R.pure k (fun h => h.pop.pop.push (show InI (lcmpW x y) by unfold lcmpW InI; split; omega; split <;> omega)) (fun p e Rm s m args below meth c H locs cells slots Q φ lsM hG hO hC hR hS hl hf hlo kk => W.lcmp hC.1 hC.2.1 hd (by rw [lcmp_eq hO.pop.top hO.top]; exact kk lsM hl))
theorem R_goto {off : Int} {tgt : Nat} (hd : decode μ.2.1 pc = .ok (.goto off, 3)) (ht : (pc : Int) + off = (tgt : Int)) (k : R Z μ d tgt ls st σ o σ') : R Z μ d pc ls st σ o σ' :=
  R.pure k (fun h => h) (fun p e Rm s m args below meth c H locs cells slots Q φ lsM hG hO hC hR hS hl hf hlo kk => lv_goto hC.1 hC.2.1 hd ht (kk lsM hl))
theorem mt_i {x y : Int32} {X Y : Int} {C : Prop} : C → C := id
theorem R_icmp_eq {x y : Int} {off : Int} {tgt : Nat} (hd : decode μ.2.1 pc = .ok (.if_icmp .eq off, 3)) (ht : (pc : Int) + off = (tgt : Int)) (k1 : x = y → R Z μ d tgt ls st σ o σ') (k2 : ¬ x = y → R Z μ d (pc + 3) ls st σ o σ') : R Z μ d pc ls ((0, y) :: (0, x) :: st) σ o σ' :=
  R.br k1 k2 (fun h => h.pop.pop) (fun p e Rm s m args below meth c H locs cells slots Q φ lsM hG hO hC hR k1 k2 => by
    have hx : InI x := hO.pop.top
    have hy : InI y := hO.top
    exact lv_icmp_eq hC.1 hC.2.1 hd ht (fun z => k1 ((i32_eq hx hy).mp z)) (fun z => k2 (fun w => z ((i32_eq hx hy).mpr w))))
theorem R_if_eq {x : Int} {off : Int} {tgt : Nat} (hd : decode μ.2.1 pc = .ok (.ifCond .eq off, 3)) (ht : (pc : Int) + off = (tgt : Int)) (k1 : x = 0 → R Z μ d tgt ls st σ o σ') (k2 : ¬ x = 0 → R Z μ d (pc + 3) ls st σ o σ') : R Z μ d pc ls ((0, x) :: st) σ o σ' :=
  R.br k1 k2 (fun h => h.pop) (fun p e Rm s m args below meth c H locs cells slots Q φ lsM hG hO hC hR k1 k2 => by
    have hx : InI x := hO.top
    exact lv_if_eq hC.1 hC.2.1 hd ht (fun z => k1 ((i32_eq hx ⟨by decide, by decide⟩).mp z)) (fun z => k2 (fun w => z ((i32_eq hx ⟨by decide, by decide⟩).mpr w))))
theorem R_icmp_lt {x y : Int} {off : Int} {tgt : Nat} (hd : decode μ.2.1 pc = .ok (.if_icmp .lt off, 3)) (ht : (pc : Int) + off = (tgt : Int)) (k1 : x < y → R Z μ d tgt ls st σ o σ') (k2 : ¬ x < y → R Z μ d (pc + 3) ls st σ o σ') : R Z μ d pc ls ((0, y) :: (0, x) :: st) σ o σ' :=
  R.br k1 k2 (fun h => h.pop.pop) (fun p e Rm s m args below meth c H locs cells slots Q φ lsM hG hO hC hR k1 k2 => by
    have hx : InI x := hO.pop.top
    have hy : InI y := hO.top
    exact lv_icmp_lt hC.1 hC.2.1 hd ht (fun z => k1 ((i32_lt hx hy).mp z)) (fun z => k2 (fun w => z ((i32_lt hx hy).mpr w))))
theorem R_if_lt {x : Int} {off : Int} {tgt : Nat} (hd : decode μ.2.1 pc = .ok (.ifCond .lt off, 3)) (ht : (pc : Int) + off = (tgt : Int)) (k1 : x < 0 → R Z μ d tgt ls st σ o σ') (k2 : ¬ x < 0 → R Z μ d (pc + 3) ls st σ o σ') : R Z μ d pc ls ((0, x) :: st) σ o σ' :=
  R.br k1 k2 (fun h => h.pop) (fun p e Rm s m args below meth c H locs cells slots Q φ lsM hG hO hC hR k1 k2 => by
    have hx : InI x := hO.top
    exact lv_if_lt hC.1 hC.2.1 hd ht (fun z => k1 ((i32_lt hx ⟨by decide, by decide⟩).mp z)) (fun z => k2 (fun w => z ((i32_lt hx ⟨by decide, by decide⟩).mpr w))))
theorem R_icmp_ge {x y : Int} {off : Int} {tgt : Nat} (hd : decode μ.2.1 pc = .ok (.if_icmp .ge off, 3)) (ht : (pc : Int) + off = (tgt : Int)) (k1 : y ≤ x → R Z μ d tgt ls st σ o σ') (k2 : ¬ y ≤ x → R Z μ d (pc + 3) ls st σ o σ') : R Z μ d pc ls ((0, y) :: (0, x) :: st) σ o σ' :=
  R.br k1 k2 (fun h => h.pop.pop) (fun p e Rm s m args below meth c H locs cells slots Q φ lsM hG hO hC hR k1 k2 => by
    have hx : InI x := hO.pop.top
    have hy : InI y := hO.top
    exact lv_icmp_ge hC.1 hC.2.1 hd ht (fun z => k1 ((i32_le hy hx).mp z)) (fun z => k2 (fun w => z ((i32_le hy hx).mpr w))))
theorem R_if_ge {x : Int} {off : Int} {tgt : Nat} (hd : decode μ.2.1 pc = .ok (.ifCond .ge off, 3)) (ht : (pc : Int) + off = (tgt : Int)) (k1 : 0 ≤ x → R Z μ d tgt ls st σ o σ') (k2 : ¬ 0 ≤ x → R Z μ d (pc + 3) ls st σ o σ') : R Z μ d pc ls ((0, x) :: st) σ o σ' :=
  R.br k1 k2 (fun h => h.pop) (fun p e Rm s m args below meth c H locs cells slots Q φ lsM hG hO hC hR k1 k2 => by
    have hx : InI x := hO.top
    exact lv_if_ge hC.1 hC.2.1 hd ht (fun z => k1 ((i32_le ⟨by decide, by decide⟩ hx).mp z)) (fun z => k2 (fun w => z ((i32_le ⟨by decide, by decide⟩ hx).mpr w))))
theorem R_icmp_gt {x y : Int} {off : Int} {tgt : Nat} (hd : decode μ.2.1 pc = .ok (.if_icmp .gt off, 3)) (ht : (pc : Int) + off = (tgt : Int)) (k1 : y < x → R Z μ d tgt ls st σ o σ') (k2 : ¬ y < x → R Z μ d (pc + 3) ls st σ o σ') : R Z μ d pc ls ((0, y) :: (0, x) :: st) σ o σ' :=
  R.br k1 k2 (fun h => h.pop.pop) (fun p e Rm s m args below meth c H locs cells slots Q φ lsM hG hO hC hR k1 k2 => by
    have hx : InI x := hO.pop.top
    have hy : InI y := hO.top
    exact lv_icmp_gt hC.1 hC.2.1 hd ht (fun z => k1 ((i32_lt hy hx).mp z)) (fun z => k2 (fun w => z ((i32_lt hy hx).mpr w))))
theorem R_if_gt {x : Int} {off : Int} {tgt : Nat} (hd : decode μ.2.1 pc = .ok (.ifCond .gt off, 3)) (ht : (pc : Int) + off = (tgt : Int)) (k1 : 0 < x → R Z μ d tgt ls st σ o σ') (k2 : ¬ 0 < x → R Z μ d (pc + 3) ls st σ o σ') : R Z μ d pc ls ((0, x) :: st) σ o σ' :=
  R.br k1 k2 (fun h => h.pop) (fun p e Rm s m args below meth c H locs cells slots Q φ lsM hG hO hC hR k1 k2 => by
    have hx : InI x := hO.top
    exact lv_if_gt hC.1 hC.2.1 hd ht (fun z => k1 ((i32_lt ⟨by decide, by decide⟩ hx).mp z)) (fun z => k2 (fun w => z ((i32_lt ⟨by decide, by decide⟩ hx).mpr w))))
theorem R_icmp_le {x y : Int} {off : Int} {tgt : Nat} (hd : decode μ.2.1 pc = .ok (.if_icmp .le off, 3)) (ht : (pc : Int) + off = (tgt : Int)) (k1 : x ≤ y → R Z μ d tgt ls st σ o σ') (k2 : ¬ x ≤ y → R Z μ d (pc + 3) ls st σ o σ') : R Z μ d pc ls ((0, y) :: (0, x) :: st) σ o σ' :=
  R.br k1 k2 (fun h => h.pop.pop) (fun p e Rm s m args below meth c H locs cells slots Q φ lsM hG hO hC hR k1 k2 => by
    have hx : InI x := hO.pop.top
    have hy : InI y := hO.top
    exact lv_icmp_le hC.1 hC.2.1 hd ht (fun z => k1 ((i32_le hx hy).mp z)) (fun z => k2 (fun w => z ((i32_le hx hy).mpr w))))
theorem R_if_le {x : Int} {off : Int} {tgt : Nat} (hd : decode μ.2.1 pc = .ok (.ifCond .le off, 3)) (ht : (pc : Int) + off = (tgt : Int)) (k1 : x ≤ 0 → R Z μ d tgt ls st σ o σ') (k2 : ¬ x ≤ 0 → R Z μ d (pc + 3) ls st σ o σ') : R Z μ d pc ls ((0, x) :: st) σ o σ' :=
  R.br k1 k2 (fun h => h.pop) (fun p e Rm s m args below meth c H locs cells slots Q φ lsM hG hO hC hR k1 k2 => by
    have hx : InI x := hO.top
    exact lv_if_le hC.1 hC.2.1 hd ht (fun z => k1 ((i32_le hx ⟨by decide, by decide⟩).mp z)) (fun z => k2 (fun w => z ((i32_le hx ⟨by decide, by decide⟩).mpr w))))
theorem R_icmp_ne {x y : Int} {off : Int} {tgt : Nat} (hd : decode μ.2.1 pc = .ok (.if_icmp .ne off, 3)) (ht : (pc : Int) + off = (tgt : Int)) (k1 : ¬ x = y → R Z μ d tgt ls st σ o σ') (k2 : x = y → R Z μ d (pc + 3) ls st σ o σ') : R Z μ d pc ls ((0, y) :: (0, x) :: st) σ o σ' :=
  R.br k1 (fun z => k2 (Classical.not_not.mp z)) (fun h => h.pop.pop) (fun p e Rm s m args below meth c H locs cells slots Q φ lsM hG hO hC hR k1 k2 => by
    have hx : InI x := hO.pop.top
    have hy : InI y := hO.top
    exact lv_icmp_ne hC.1 hC.2.1 hd ht (fun z => k1 (fun w => z ((i32_eq hx hy).mpr w))) (fun z => k2 (fun w => w ((i32_eq hx hy).mp z))))
theorem R_if_ne {x : Int} {off : Int} {tgt : Nat} (hd : decode μ.2.1 pc = .ok (.ifCond .ne off, 3)) (ht : (pc : Int) + off = (tgt : Int)) (k1 : ¬ x = 0 → R Z μ d tgt ls st σ o σ') (k2 : x = 0 → R Z μ d (pc + 3) ls st σ o σ') : R Z μ d pc ls ((0, x) :: st) σ o σ' :=
  R.br k1 (fun z => k2 (Classical.not_not.mp z)) (fun h => h.pop) (fun p e Rm s m args below meth c H locs cells slots Q φ lsM hG hO hC hR k1 k2 => by
    have hx : InI x := hO.top
    exact lv_if_ne hC.1 hC.2.1 hd ht (fun z => k1 (fun w => z ((i32_eq hx ⟨by decide, by decide⟩).mpr w))) (fun z => k2 (fun w => w ((i32_eq hx ⟨by decide, by decide⟩).mp z))))
theorem R_ifnull {x : Int} {off : Int} {tgt : Nat} (hd : decode μ.2.1 pc = .ok (.ifnull off, 3)) (ht : (pc : Int) + off = (tgt : Int)) (k1 : x = 0 → R Z μ d tgt ls st σ o σ') (k2 : ¬ x = 0 → R Z μ d (pc + 3) ls st σ o σ') : R Z μ d pc ls ((2, x) :: st) σ o σ' :=
  R.br k1 k2 (fun h => h.pop) (fun p e Rm s m args below meth c H locs cells slots Q φ lsM hG hO hC hR k1 k2 => by
    rw [List.map_cons]
    by_cases h : x = 0
    · rw [show cv φ (2, x) = .null from if_pos h]
      exact lv_ifnullN hC.1 hC.2.1 hd ht (k1 h)
    · rw [show cv φ (2, x) = .ref (φ x) from if_neg h]
      exact lv_ifnull hC.1 hC.2.1 hd (k2 h))
theorem R_ifnonnull {x : Int} {off : Int} {tgt : Nat} (hd : decode μ.2.1 pc = .ok (.ifnonnull off, 3)) (ht : (pc : Int) + off = (tgt : Int)) (k1 : ¬ x = 0 → R Z μ d tgt ls st σ o σ') (k2 : x = 0 → R Z μ d (pc + 3) ls st σ o σ') : R Z μ d pc ls ((2, x) :: st) σ o σ' :=
  R.br k1 (fun z => k2 (Classical.not_not.mp z)) (fun h => h.pop) (fun p e Rm s m args below meth c H locs cells slots Q φ lsM hG hO hC hR k1 k2 => by
    rw [List.map_cons]
    by_cases h : x = 0
    · rw [show cv φ (2, x) = .null from if_pos h]
      exact lv_ifnonnullN hC.1 hC.2.1 hd (k2 (fun w => w h))
    · rw [show cv φ (2, x) = .ref (φ x) from if_neg h]
      exact lv_ifnonnull hC.1 hC.2.1 hd ht (k1 h))
/-- references that can be told apart -/
def cmpOk (σ : AS) (x y : Int) : Prop := x = 0 ∨ y = 0 ∨ x = y ∨ (kd σ x ≠ 0 ∧ kd σ y ≠ 0 ∧ sole (kd σ x) (kd σ y))
theorem cmp_iff {φ : Int → Nat} {H : Heap} {x y : Int} (hR : Rel Z φ σ H) (g : cmpOk σ x y) : va_rf (if x = 0 then none else some (φ x)) = cv φ (2, x) ∧ va_rf (if y = 0 then none else some (φ y)) = cv φ (2, y) ∧ ((if x = 0 then none else some (φ x)) = (if y = 0 then none else some (φ y)) ↔ x = y) := by
  refine ⟨?_, ?_, ?_⟩
  · show _ = (if x = 0 then Value.null else .ref (φ x))
    by_cases h : x = 0
    · rw [if_pos h, if_pos h]; rfl
    · rw [if_neg h, if_neg h]; rfl
  · show _ = (if y = 0 then Value.null else .ref (φ y))
    by_cases h : y = 0
    · rw [if_pos h, if_pos h]; rfl
    · rw [if_neg h, if_neg h]; rfl
  · by_cases hx : x = 0
    · by_cases hy : y = 0
      · rw [if_pos hx, if_pos hy]; exact ⟨fun _ => hx.trans hy.symm, fun _ => rfl⟩
      · rw [if_pos hx, if_neg hy]; exact ⟨fun z => (by cases z), fun z => absurd (z.symm.trans hx) hy⟩
    · by_cases hy : y = 0
      · rw [if_neg hx, if_pos hy]; exact ⟨fun z => (by cases z), fun z => absurd (z.trans hy) hx⟩
      · rw [if_neg hx, if_neg hy]
        refine ⟨fun z => ?_, fun z => by rw [z]⟩
        rcases g with g | g | g | ⟨g1, g2, g3⟩
        · exact absurd g hx
        · exact absurd g hy
        · exact g
        · exact hR.2.2.1 x y g1 g2 g3 (Option.some.inj z)
theorem R_acmp_eq {x y : Int} {off : Int} {tgt : Nat} (hd : decode μ.2.1 pc = .ok (.if_acmp .eq off, 3)) (ht : (pc : Int) + off = (tgt : Int)) (g : cmpOk σ x y) (k1 : x = y → R Z μ d tgt ls st σ o σ') (k2 : ¬ x = y → R Z μ d (pc + 3) ls st σ o σ') : R Z μ d pc ls ((2, y) :: (2, x) :: st) σ o σ' :=
  R.br k1 k2 (fun h => h.pop.pop) (fun p e Rm s m args below meth c H locs cells slots Q φ lsM hG hO hC hR k1 k2 => by
    obtain ⟨e1, e2, e3⟩ := cmp_iff hR g
    rw [List.map_cons, List.map_cons, ← e1, ← e2]
    exact lv_acmp_eq hC.1 hC.2.1 hd ht (fun z => k1 (e3.mp z)) (fun z => k2 (fun w => z (e3.mpr w))))
theorem R_acmp_ne {x y : Int} {off : Int} {tgt : Nat} (hd : decode μ.2.1 pc = .ok (.if_acmp .ne off, 3)) (ht : (pc : Int) + off = (tgt : Int)) (g : cmpOk σ x y) (k1 : ¬ x = y → R Z μ d tgt ls st σ o σ') (k2 : x = y → R Z μ d (pc + 3) ls st σ o σ') : R Z μ d pc ls ((2, y) :: (2, x) :: st) σ o σ' :=
  R.br k1 (fun z => k2 (Classical.not_not.mp z)) (fun h => h.pop.pop) (fun p e Rm s m args below meth c H locs cells slots Q φ lsM hG hO hC hR k1 k2 => by
    obtain ⟨e1, e2, e3⟩ := cmp_iff hR g
    rw [List.map_cons, List.map_cons, ← e1, ← e2]
    exact lv_acmp_ne hC.1 hC.2.1 hd ht (fun z => k1 (fun w => z (e3.mpr w))) (fun z => k2 (fun w => w (e3.mp z))))
end RR1
