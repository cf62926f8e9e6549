/-! RULES OF R: arrays, new cells -/
set_option maxRecDepth 100000
section RR3
variable {Z : ZT} {μ : MM} {d pc : Nat} {ls : List (Nat × AV)} {st : List AV} {σ : AS} {o : AO} {σ' : AS}
theorem idx_ok {j : Int} (h0 : 0 ≤ j) (h : j ≤ 2147483647) : (Int32.ofInt j).toNatClampNeg = j.toNat ∧ ¬ Int32.ofInt j < 0 := by
  obtain ⟨n, rfl⟩ : ∃ n : Nat, j = (n : Int) := ⟨j.toNat, by omega⟩
  have hn : n < 2 ^ 31 := by omega
  exact ⟨(nI_clamp hn).trans (by omega), nI_pos hn⟩
theorem Rel.arr {φ : Int → Nat} {H : Heap} {r : Int} {c : Nat} {t : FieldType} (hR : Rel Z φ σ H) (g : kd σ r = c + 100 ∨ kd σ r = c + 1100) (hc : ATY[c]? = some t) : ∃ cell : Cell, H[φ r]? = some cell ∧ cell.vm ≠ .unknown ∧ cell.vm.isStatics = false ∧ (kd σ r < 1000 → cell.vm = .none ∧ AA Z (φ r)) ∧ ArrOk Z φ σ r c t cell ∧ kd σ r ≠ 0 ∧ r ≠ 0 := by
  have hl := aty_lt hc
  have hl9 : c < 10 := (List.getElem?_eq_some_iff.mp hc).1
  have hk : kd σ r ≠ 0 := by omega
  obtain ⟨h0, -, cell, h1, h2, h3, h4, -, -, h6⟩ := hR.2.1 r hk
  exact ⟨cell, h1, h2, h3, h4, h6 c t (by omega) hc, hk, by omega⟩
theorem arr_at {φ : Int → Nat} {r j : Int} {c : Nat} {t : FieldType} {cell : Cell} (h : ArrOk Z φ σ r c t cell) (h0 : 0 ≤ j) (h1 : j < ln σ r) : (Int32.ofInt j).toNatClampNeg = j.toNat ∧ ¬ (Int32.ofInt j < 0 ∨ cell.slots.size ≤ (Int32.ofInt j).toNatClampNeg) ∧ cell.slots[(Int32.ofInt j).toNatClampNeg]? = some (cv φ (tg t, ld σ r j)) ∧ okt (nx σ) t (ld σ r j) := by
  obtain ⟨-, -, q3, q4, q5⟩ := h
  obtain ⟨e1, e2⟩ := idx_ok h0 (by omega)
  have hlt : j.toNat < cell.slots.size := by omega
  have hj : ((j.toNat : Nat) : Int) = j := by omega
  obtain ⟨g1, g2⟩ := q5 j.toNat hlt
  rw [hj] at g1 g2
  exact ⟨e1, fun z => by
    rcases z with z | z
    · exact e2 z
    · rw [e1] at z; omega, by rw [e1]; exact g1, g2⟩
theorem ArrOk.arr {φ : Int → Nat} {r : Int} {c : Nat} {t : FieldType} {cell : Cell} {s : State} (h : ArrOk Z φ σ r c t cell) (hD : Desc Z s) : s.isArrayOf cell t := State.isArrayOf_alike hD.alike h.1
/-- an array's cell with one element written -/
theorem am_arr {φ : Int → Nat} {H1 : Heap} {r j v : Int} {c : Nat} {t : FieldType} {cell : Cell} (hc : ATY[c]? = some t) (g : kd σ r = c + 100) (hvm : cell.vm = .none) (hA : AA Z (φ r)) (hO : ArrOk Z φ σ r c t cell) (hj : 0 ≤ j ∧ j < ln σ r) (hv : okt (nx σ) t v) (h1 : H1[φ r]? = some (cell.setSlot (Int32.ofInt j).toNatClampNeg (cv φ (tg t, v)))) : CellOk Z φ (wr σ r j v) H1 r := by
  have hl : c < 10 := (List.getElem?_eq_some_iff.mp hc).1
  obtain ⟨e1, e2, -, -⟩ := arr_at hO hj.1 hj.2
  obtain ⟨q1, q2, q3, q4, q5⟩ := hO
  rw [e1] at h1
  have hsz : (cell.setSlot j.toNat (cv φ (tg t, v))).slots.size = cell.slots.size := by
    show (cell.slots.setIfInBounds j.toNat _).size = _
    rw [Array.size_setIfInBounds]
  refine ⟨_, h1, (by show cell.vm ≠ _; rw [hvm]; exact fun q => by cases q), (by show cell.vm.isStatics = false; rw [hvm]; rfl), fun _ => ⟨hvm, hA⟩, fun q => ?_, fun c' ct' hc' hct' => ?_, fun c' t' hc' ht' => ?_⟩
  · have q : 1000 ≤ kd σ r := q
    omega
  · have hc' : kd σ r % 1000 = c' + 1 := hc'
    have := cls_lt hct'
    omega
  · have hc' : kd σ r % 1000 = c' + 100 := hc'
    have e : c' = c := by omega
    subst e
    cases hc.symm.trans ht'
    refine ⟨q1, q2, by rw [hsz]; exact q3, q4, fun i hi => ?_⟩
    rw [hsz] at hi
    have e9 : (cell.setSlot j.toNat (cv φ (tg t, v))).slots[i]? = if j.toNat = i then some (cv φ (tg t, v)) else cell.slots[i]? := by
      show (cell.slots.setIfInBounds j.toNat _)[i]? = _
      rw [Array.getElem?_setIfInBounds]
      by_cases h : j.toNat = i
      · rw [if_pos h, if_pos h, if_pos (by omega)]
      · rw [if_neg h, if_neg h]
    rw [e9, ld_wr]
    by_cases h : j.toNat = i
    · rw [if_pos h, if_pos ⟨rfl, by omega⟩]
      exact ⟨rfl, hv⟩
    · rw [if_neg h, if_neg (fun z => h (by have := z.2; omega))]
      exact q5 i hi
theorem R_iaload {r j : Int} (hd : decode μ.2.1 pc = .ok (.iaload, 1)) (g : kd σ r = 100 ∨ kd σ r = 1100) (g0 : 0 ≤ j) (g1 : j < ln σ r) (kk : R Z μ d (pc + 1) ls ((0, ld σ r j) :: st) σ o σ') : R Z μ d pc ls ((0, j) :: (2, r) :: st) σ o σ' := by
  refine R.same kk fun p e Rm s m args below meth c' H locs cells slots Q φ lsM hG hO hC hR hS hl k1 => ?_
  obtain ⟨hx, hb, -, -, -, hown, hts, -, -, hD⟩ := hC
  obtain ⟨cell, h1, h2, -, -, h5, -, h0⟩ := hR.arr (c := 0) (t := .int) g rfl
  obtain ⟨e1, e2, e3, e4⟩ := arr_at h5 g0 g1
  rw [List.map_cons, List.map_cons, show cv φ (2, r) = .ref (φ r) from if_neg h0]
  exact W.iald hx hb h1 (h5.arr hD) h2 e2 e3 rfl rfl hd (k1 lsM (hO.pop.pop.push (okt_okv (ty := .int) e4)) hl)
theorem R_laload {r j : Int} (hd : decode μ.2.1 pc = .ok (.laload, 1)) (g : kd σ r = 101 ∨ kd σ r = 1101) (g0 : 0 ≤ j) (g1 : j < ln σ r) (kk : R Z μ d (pc + 1) ls ((1, ld σ r j) :: st) σ o σ') : R Z μ d pc ls ((0, j) :: (2, r) :: st) σ o σ' := by
  refine R.same kk fun p e Rm s m args below meth c' H locs cells slots Q φ lsM hG hO hC hR hS hl k1 => ?_
  obtain ⟨hx, hb, -, -, -, hown, hts, -, -, hD⟩ := hC
  obtain ⟨cell, h1, h2, -, -, h5, -, h0⟩ := hR.arr (c := 1) (t := .long) g rfl
  obtain ⟨e1, e2, e3, e4⟩ := arr_at h5 g0 g1
  rw [List.map_cons, List.map_cons, show cv φ (2, r) = .ref (φ r) from if_neg h0]
  exact W.lald hx hb h1 (h5.arr hD) h2 e2 e3 rfl rfl hd (k1 lsM (hO.pop.pop.push (okt_okv (ty := .long) e4)) hl)
theorem R_baload {r j : Int} (hd : decode μ.2.1 pc = .ok (.baload, 1)) (g : kd σ r = 102 ∨ kd σ r = 1102) (g0 : 0 ≤ j) (g1 : j < ln σ r) (kk : R Z μ d (pc + 1) ls ((0, ld σ r j) :: st) σ o σ') : R Z μ d pc ls ((0, j) :: (2, r) :: st) σ o σ' := by
  refine R.same kk fun p e Rm s m args below meth c' H locs cells slots Q φ lsM hG hO hC hR hS hl k1 => ?_
  obtain ⟨hx, hb, -, -, -, hown, hts, -, -, hD⟩ := hC
  obtain ⟨cell, h1, h2, -, -, h5, -, h0⟩ := hR.arr (c := 2) (t := .byte) g rfl
  obtain ⟨e1, e2, e3, e4⟩ := arr_at h5 g0 g1
  rw [List.map_cons, List.map_cons, show cv φ (2, r) = .ref (φ r) from if_neg h0]
  exact W.bald hx hb h1 (h5.arr hD) h2 e2 e3 rfl rfl hd (k1 lsM (hO.pop.pop.push (okt_okv (ty := .byte) e4)) hl)
theorem R_zaload {r j : Int} (hd : decode μ.2.1 pc = .ok (.baload, 1)) (g : kd σ r = 103 ∨ kd σ r = 1103) (g0 : 0 ≤ j) (g1 : j < ln σ r) (kk : R Z μ d (pc + 1) ls ((0, ld σ r j) :: st) σ o σ') : R Z μ d pc ls ((0, j) :: (2, r) :: st) σ o σ' := by
  refine R.same kk fun p e Rm s m args below meth c' H locs cells slots Q φ lsM hG hO hC hR hS hl k1 => ?_
  obtain ⟨hx, hb, -, -, -, hown, hts, -, -, hD⟩ := hC
  obtain ⟨cell, h1, h2, -, -, h5, -, h0⟩ := hR.arr (c := 3) (t := .boolean) g rfl
  obtain ⟨e1, e2, e3, e4⟩ := arr_at h5 g0 g1
  rw [List.map_cons, List.map_cons, show cv φ (2, r) = .ref (φ r) from if_neg h0]
  exact W.zald hx hb h1 (h5.arr hD) h2 e2 e3 rfl rfl hd (k1 lsM (hO.pop.pop.push (okt_okv (ty := .boolean) e4)) hl)
theorem R_caload {r j : Int} (hd : decode μ.2.1 pc = .ok (.caload, 1)) (g : kd σ r = 104 ∨ kd σ r = 1104) (g0 : 0 ≤ j) (g1 : j < ln σ r) (kk : R Z μ d (pc + 1) ls ((0, ld σ r j) :: st) σ o σ') : R Z μ d pc ls ((0, j) :: (2, r) :: st) σ o σ' := by
  refine R.same kk fun p e Rm s m args below meth c' H locs cells slots Q φ lsM hG hO hC hR hS hl k1 => ?_
  obtain ⟨hx, hb, -, -, -, hown, hts, -, -, hD⟩ := hC
  obtain ⟨cell, h1, h2, -, -, h5, -, h0⟩ := hR.arr (c := 4) (t := .char) g rfl
  obtain ⟨e1, e2, e3, e4⟩ := arr_at h5 g0 g1
  rw [List.map_cons, List.map_cons, show cv φ (2, r) = .ref (φ r) from if_neg h0]
  exact W.cald hx hb h1 (h5.arr hD) h2 e2 e3 rfl rfl hd (k1 lsM (hO.pop.pop.push (okt_okv (ty := .char) e4)) hl)
theorem R_aaload {r j : Int} (c : Nat) {E : String} (hE : ATY[c]? = some (.object E)) (hd : decode μ.2.1 pc = .ok (.aaload, 1)) (g : kd σ r = c + 100 ∨ kd σ r = c + 1100) (g0 : 0 ≤ j) (g1 : j < ln σ r) (kk : R Z μ d (pc + 1) ls ((2, ld σ r j) :: st) σ o σ') : R Z μ d pc ls ((0, j) :: (2, r) :: st) σ o σ' := by
  refine R.same kk fun p e Rm s m args below meth c' H locs cells slots Q φ lsM hG hO hC hR hS hl k1 => ?_
  obtain ⟨hx, hb, -, -, -, hown, hts, -, -, hD⟩ := hC
  obtain ⟨cell, h1, h2, -, -, h5, -, h0⟩ := hR.arr (c := c) g hE
  obtain ⟨e1, e2, e3, e4⟩ := arr_at h5 g0 g1
  rw [List.map_cons, List.map_cons, show cv φ (2, r) = .ref (φ r) from if_neg h0]
  exact W.aald hx hb h1 (h5.arr hD) rfl h2 e2 e3 rfl rfl hd (k1 lsM (hO.pop.pop.push (okt_okv (ty := .object E) e4)) hl)
theorem R_arraylength {r : Int} (c : Nat) {t : FieldType} (hE : ATY[c]? = some t) (hd : decode μ.2.1 pc = .ok (.arraylength, 1)) (g : kd σ r = c + 100 ∨ kd σ r = c + 1100) (kk : R Z μ d (pc + 1) ls ((0, ln σ r) :: st) σ o σ') : R Z μ d pc ls ((2, r) :: st) σ o σ' := by
  refine R.same kk fun p e Rm s m args below meth c' H locs cells slots Q φ lsM hG hO hC hR hS hl k1 => ?_
  obtain ⟨hx, hb, -, -, -, hown, hts, -, -, hD⟩ := hC
  obtain ⟨cell, h1, h2, -, -, h5, -, h0⟩ := hR.arr (c := c) g hE
  have e : ln σ r = (cell.slots.size : Int) := h5.2.2.1.symm
  have e2 := h5.2.2.2.1
  rw [List.map_cons, show cv φ (2, r) = .ref (φ r) from if_neg h0]
  exact W.alen (n := Int32.ofInt (ln σ r)) hx hb h1 (h5.arr hD) (by rw [e]; rfl) rfl rfl hd (k1 lsM (hO.pop.push ⟨by omega, by omega⟩) hl)
theorem R_iastore {r j v : Int} (hd : decode μ.2.1 pc = .ok (.iastore, 1)) (g : kd σ r = 100) (g0 : 0 ≤ j) (g1 : j < ln σ r) (kk : R Z μ d (pc + 1) ls st (wr σ r j v) o σ') : R Z μ d pc ls ((0, v) :: (0, j) :: (2, r) :: st) σ o σ' := by
  refine R.put kk (fun p e Rm s m args below meth c' H locs cells slots Q φ lsM hG hO hC hR hS hl k1 => ?_) (fun h => h.pop.pop.pop)
  obtain ⟨hx, hb, -, -, -, hown, hts, -, -, hD⟩ := hC
  obtain ⟨cell, h1, h2, -, h4, h5, hk0, h0⟩ := hR.arr (c := 0) (t := .int) (Or.inl g) rfl
  obtain ⟨hvm, hA⟩ := h4 (by omega)
  obtain ⟨e1, e2, e3, e4⟩ := arr_at h5 g0 g1
  have hv : okt (nx σ) .int v := hO.top
  rw [List.map_cons, List.map_cons, List.map_cons, show cv φ (2, r) = .ref (φ r) from if_neg h0]
  refine W.iast hx hb h1 (h5.arr hD) h2 e2 rfl rfl hd fun H1 e1 ez eo => ?_
  skip
  exact k1 H1 _ (hR.put hk0 (by omega) (am_arr (c := 0) (t := .int) rfl g hvm hA h5 ⟨g0, g1⟩ hv e1) eo) (hS.put ez eo hA)
theorem R_lastore {r j v : Int} (hd : decode μ.2.1 pc = .ok (.lastore, 1)) (g : kd σ r = 101) (g0 : 0 ≤ j) (g1 : j < ln σ r) (kk : R Z μ d (pc + 1) ls st (wr σ r j v) o σ') : R Z μ d pc ls ((1, v) :: (0, j) :: (2, r) :: st) σ o σ' := by
  refine R.put kk (fun p e Rm s m args below meth c' H locs cells slots Q φ lsM hG hO hC hR hS hl k1 => ?_) (fun h => h.pop.pop.pop)
  obtain ⟨hx, hb, -, -, -, hown, hts, -, -, hD⟩ := hC
  obtain ⟨cell, h1, h2, -, h4, h5, hk0, h0⟩ := hR.arr (c := 1) (t := .long) (Or.inl g) rfl
  obtain ⟨hvm, hA⟩ := h4 (by omega)
  obtain ⟨e1, e2, e3, e4⟩ := arr_at h5 g0 g1
  have hv : okt (nx σ) .long v := hO.top
  rw [List.map_cons, List.map_cons, List.map_cons, show cv φ (2, r) = .ref (φ r) from if_neg h0]
  refine W.last hx hb h1 (h5.arr hD) h2 e2 rfl rfl hd fun H1 e1 ez eo => ?_
  skip
  exact k1 H1 _ (hR.put hk0 (by omega) (am_arr (c := 1) (t := .long) rfl g hvm hA h5 ⟨g0, g1⟩ hv e1) eo) (hS.put ez eo hA)
theorem R_bastore {r j v : Int} (hd : decode μ.2.1 pc = .ok (.bastore, 1)) (g : kd σ r = 102) (g0 : 0 ≤ j) (g1 : j < ln σ r) (gv : -128 ≤ v ∧ v ≤ 127) (kk : R Z μ d (pc + 1) ls st (wr σ r j v) o σ') : R Z μ d pc ls ((0, v) :: (0, j) :: (2, r) :: st) σ o σ' := by
  refine R.put kk (fun p e Rm s m args below meth c' H locs cells slots Q φ lsM hG hO hC hR hS hl k1 => ?_) (fun h => h.pop.pop.pop)
  obtain ⟨hx, hb, -, -, -, hown, hts, -, -, hD⟩ := hC
  obtain ⟨cell, h1, h2, -, h4, h5, hk0, h0⟩ := hR.arr (c := 2) (t := .byte) (Or.inl g) rfl
  obtain ⟨hvm, hA⟩ := h4 (by omega)
  obtain ⟨e1, e2, e3, e4⟩ := arr_at h5 g0 g1
  have hv : okt (nx σ) .byte v := gv
  rw [List.map_cons, List.map_cons, List.map_cons, show cv φ (2, r) = .ref (φ r) from if_neg h0]
  refine W.bast hx hb h1 (h5.arr hD) h2 e2 rfl rfl hd fun H1 e1 ez eo => ?_
  have e1 : H1[φ r]? = some (cell.setSlot (Int32.ofInt j).toNatClampNeg (narrow .byte (cv φ (0, v)))) := e1
  rw [show narrow .byte (cv φ (0, v)) = cv φ (tg .byte, v) from (okt_store (φ := φ) (ty := .byte) hv (fun z => by cases z)).1] at e1
  exact k1 H1 _ (hR.put hk0 (by omega) (am_arr (c := 2) (t := .byte) rfl g hvm hA h5 ⟨g0, g1⟩ hv e1) eo) (hS.put ez eo hA)
theorem R_zastore {r j v : Int} (hd : decode μ.2.1 pc = .ok (.bastore, 1)) (g : kd σ r = 103) (g0 : 0 ≤ j) (g1 : j < ln σ r) (gv : 0 ≤ v ∧ v ≤ 1) (kk : R Z μ d (pc + 1) ls st (wr σ r j v) o σ') : R Z μ d pc ls ((0, v) :: (0, j) :: (2, r) :: st) σ o σ' := by
  refine R.put kk (fun p e Rm s m args below meth c' H locs cells slots Q φ lsM hG hO hC hR hS hl k1 => ?_) (fun h => h.pop.pop.pop)
  obtain ⟨hx, hb, -, -, -, hown, hts, -, -, hD⟩ := hC
  obtain ⟨cell, h1, h2, -, h4, h5, hk0, h0⟩ := hR.arr (c := 3) (t := .boolean) (Or.inl g) rfl
  obtain ⟨hvm, hA⟩ := h4 (by omega)
  obtain ⟨e1, e2, e3, e4⟩ := arr_at h5 g0 g1
  have hv : okt (nx σ) .boolean v := gv
  rw [List.map_cons, List.map_cons, List.map_cons, show cv φ (2, r) = .ref (φ r) from if_neg h0]
  refine W.zast hx hb h1 (h5.arr hD) h2 e2 rfl rfl hd fun H1 e1 ez eo => ?_
  have e1 : H1[φ r]? = some (cell.setSlot (Int32.ofInt j).toNatClampNeg (narrow .boolean (cv φ (0, v)))) := e1
  rw [show narrow .boolean (cv φ (0, v)) = cv φ (tg .boolean, v) from (okt_store (φ := φ) (ty := .boolean) hv (fun z => by cases z)).1] at e1
  exact k1 H1 _ (hR.put hk0 (by omega) (am_arr (c := 3) (t := .boolean) rfl g hvm hA h5 ⟨g0, g1⟩ hv e1) eo) (hS.put ez eo hA)
theorem R_castore {r j v : Int} (hd : decode μ.2.1 pc = .ok (.castore, 1)) (g : kd σ r = 104) (g0 : 0 ≤ j) (g1 : j < ln σ r) (gv : 0 ≤ v ∧ v ≤ 65535) (kk : R Z μ d (pc + 1) ls st (wr σ r j v) o σ') : R Z μ d pc ls ((0, v) :: (0, j) :: (2, r) :: st) σ o σ' := by
  refine R.put kk (fun p e Rm s m args below meth c' H locs cells slots Q φ lsM hG hO hC hR hS hl k1 => ?_) (fun h => h.pop.pop.pop)
  obtain ⟨hx, hb, -, -, -, hown, hts, -, -, hD⟩ := hC
  obtain ⟨cell, h1, h2, -, h4, h5, hk0, h0⟩ := hR.arr (c := 4) (t := .char) (Or.inl g) rfl
  obtain ⟨hvm, hA⟩ := h4 (by omega)
  obtain ⟨e1, e2, e3, e4⟩ := arr_at h5 g0 g1
  have hv : okt (nx σ) .char v := gv
  rw [List.map_cons, List.map_cons, List.map_cons, show cv φ (2, r) = .ref (φ r) from if_neg h0]
  refine W.cast hx hb h1 (h5.arr hD) h2 e2 rfl rfl hd fun H1 e1 ez eo => ?_
  have e1 : H1[φ r]? = some (cell.setSlot (Int32.ofInt j).toNatClampNeg (narrow .char (cv φ (0, v)))) := e1
  rw [show narrow .char (cv φ (0, v)) = cv φ (tg .char, v) from (okt_store (φ := φ) (ty := .char) hv (fun z => by cases z)).1] at e1
  exact k1 H1 _ (hR.put hk0 (by omega) (am_arr (c := 4) (t := .char) rfl g hvm hA h5 ⟨g0, g1⟩ hv e1) eo) (hS.put ez eo hA)
end RR3
