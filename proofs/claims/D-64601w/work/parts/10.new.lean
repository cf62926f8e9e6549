/-! RULES OF R: new cells, stores of references, casts, answers, a method's start -/
set_option maxRecDepth 100000
section RR4
variable {Z : ZT} {μ : MM} {d pc : Nat} {ls : List (Nat × AV)} {st : List AV} {σ : AS} {o : AO} {σ' : AS}
theorem def_cv {φ : Int → Nat} {ty : FieldType} (h : ty ≠ .double) : defaultValue ty = cv φ (tg ty, 0) := by
  cases ty <;> first | rfl | exact absurd rfl h
theorem def_ok {n : Int} (hn : 0 < n) {ty : FieldType} : okt n ty 0 := by
  cases ty <;> first | exact ⟨by decide, by decide⟩ | exact ⟨Int.le_refl 0, hn⟩ | exact ⟨Int.le_refl 0, by decide⟩
theorem mono_al {k : Nat} {n s : Int} (hs : 0 ≤ s) : Mono σ (al σ k n s) := ⟨by rw [nx_al]; omega, by rw [us_al]; omega⟩
theorem ext_at {φ : Int → Nat} {n : Int} {a : Nat} : (fun y : Int => if y = n then a else φ y) n = a := if_pos rfl
theorem R_new {c index : Nat} {ct : CT} {n : Nat} (hd : decode μ.2.1 pc = .ok (.new index, 3)) (hc : CLS[c]? = some ct) (hlink : Cond.classLink μ.1.cls index ct.1 ∈ lw_all) (hins : Cond.instantiable ct.1 n ∈ lw_all) (hini : Cond.initialized ct.1 ∈ lw_all)
    (kk : R Z μ d (pc + 3) ls ((2, nx σ) :: st) (al σ (c + 1) 0 n) o σ') : R Z μ d pc ls st σ o σ' := by
  refine R.step kk (mono_al (by omega)) fun p e Rm s m args below meth c' H locs cells slots Q φ lsM hG hO hC hR hS hl hf hlo hc1 hc2 k1 => ?_
  obtain ⟨hx, hb, -, -, -, hown, hts, -, -, hD⟩ := hC
  have hKn := hG.known hD hc
  obtain ⟨hty, hnm, hin, hdd⟩ := cls_ok ct (List.mem_of_getElem? hc)
  have hl9 := cls_lt hc
  have hn := hR.1
  have e1 : (nx (al σ (c + 1) 0 n) - nx σ).toNat = 1 := by rw [nx_al]; omega
  have e2 : (us (al σ (c + 1) 0 n) - us σ).toNat = n := by rw [us_al]; omega
  rw [e1] at hc1 k1
  rw [e2] at hc2 k1
  refine W.newcK hx hb hown (hts _ hlink) (hts _ hins) (hts _ hini) rfl hd hc1 hc2 hKn.2.1 rfl fun H1 kC hkC e3 z1 o1 => ?_
  obtain ⟨cell, g1, g2, g3, g4⟩ := u_born ct.2.2.2 hts hin hKn hkC e3 hty
  have hA : AA Z H.size := Nat.le_trans hD.2.1 hS.1
  have hcell : CellOk Z (fun y => if y = nx σ then H.size else φ y) (al σ (c + 1) 0 n) H1 (nx σ) := by
    refine ⟨cell, by rw [ext_at]; exact g1, (by rw [g3]; exact fun q => (by cases q)), (by rw [g3]; rfl), fun _ => ⟨g3, by rw [ext_at]; exact hA⟩, fun q => ?_, fun c' ct' hc' hct' => ?_, fun c' t hc' ht => ?_⟩
    · rw [kd_al, if_pos rfl] at q; omega
    · rw [kd_al, if_pos rfl] at hc'
      have e : c' = c := by have := cls_lt hct'; omega
      subst e
      cases hc.symm.trans hct'
      refine ⟨g2, fun i hi => ?_⟩
      rw [ld_al, if_pos rfl]
      exact ⟨by rw [g4 i hi]; exact congrArg some (def_cv (hdd i hi)), def_ok (by rw [nx_al]; omega)⟩
    · rw [kd_al, if_pos rfl] at hc'; omega
  have k2 := k1 (fun y => if y = nx σ then H.size else φ y) H1 locs lsM ext_agree ((hO.mono (by rw [nx_al]; omega)).push ⟨Int.le_of_lt hn, by rw [nx_al]; omega⟩) (hR.new o1 fun _ => ⟨rfl, hcell⟩) ⟨Nat.le_trans hS.1 (by omega), fun x h1 h2 => (o1 x (Nat.lt_of_lt_of_le h1 hS.1)).trans (hS.2.1 x h1 h2), hS.2.2⟩ (by rw [cl_agree (st := st) hO ext_agree]; exact hl)
  rw [List.map_cons, st_agree hO ext_agree, show cv (fun y => if y = nx σ then H.size else φ y) (2, nx σ) = .ref H.size from (if_neg (by omega)).trans (by rw [ext_at])] at k2
  exact k2
theorem arr_born {φ : Int → Nat} {c n : Nat} {t : FieldType} {H H1 : Heap} {cA : ClassId} {s : State} (hc : ATY[c]? = some t) (hD : Desc Z s) (hA : AA Z H.size) (hn0 : 0 < nx σ) (ht : t ≠ .double) (hn : n ≤ 2147483647) (e1 : H1[H.size]? = some (arrV cA n (fun _ => defaultValue t))) (hAr : ArrOfT s cA t) (hcA : cA = zdA Z c) : CellOk Z (fun y => if y = nx σ then H.size else φ y) (al σ (c + 100) n n) H1 (nx σ) := by
  have hl9 := aty_lt hc
  have hl8 : c < 10 := (List.getElem?_eq_some_iff.mp hc).1
  refine ⟨_, by rw [ext_at]; exact e1, (fun q => (by cases q)), rfl, fun _ => ⟨rfl, by rw [ext_at]; exact hA⟩, fun q => ?_, fun c' ct' hc' hct' => ?_, fun c' t' hc' ht' => ?_⟩
  · rw [kd_al, if_pos rfl] at q; omega
  · rw [kd_al, if_pos rfl] at hc'
    have := cls_lt hct'; omega
  · rw [kd_al, if_pos rfl] at hc'
    have e : c' = c := by omega
    subst e
    cases hc.symm.trans ht'
    refine ⟨State.isArrayOf_alike hD.alike.symm (hAr n _), fun _ => hcA, by rw [arrV_size, ln_al, if_pos rfl], by rw [ln_al, if_pos rfl]; omega, fun j hj => ?_⟩
    rw [arrV_size] at hj
    rw [arrV_read _ _ hj, ld_al, if_pos rfl]
    exact ⟨congrArg some (def_cv ht), def_ok (by rw [nx_al]; omega)⟩
theorem R_newarray {atype : ArrayType} {n : Int} (c : Nat) {t : FieldType} (hty : newarray.typeOf atype = t) (hc : ATY[c]? = some t) (h5 : c < 5) (hd : decode μ.2.1 pc = .ok (.newarray atype, 2)) (harr : Cond.arrayClass t ∈ lw_all) (g0 : 0 ≤ n) (g1 : n ≤ 67108864)
    (kk : R Z μ d (pc + 2) ls ((2, nx σ) :: st) (al σ (c + 100) n n) o σ') : R Z μ d pc ls ((0, n) :: st) σ o σ' := by
  refine R.step kk (mono_al g0) fun p e Rm s m args below meth c' H locs cells slots Q φ lsM hG hO hC hR hS hl hf hlo hc1 hc2 k1 => ?_
  obtain ⟨hx, hb, -, -, -, hown, hts, -, -, hD⟩ := hC
  subst hty
  have hn := hR.1
  obtain ⟨k, rfl⟩ : ∃ k : Nat, n = (k : Int) := ⟨n.toNat, by omega⟩
  have e1 : (nx (al σ (c + 100) k k) - nx σ).toNat = 1 := by rw [nx_al]; omega
  have e2 : (us (al σ (c + 100) k k) - us σ).toNat = k := by rw [us_al]; omega
  rw [e1] at hc1 k1
  rw [e2] at hc2 k1
  have hk31 : k < 2 ^ 31 := by omega
  have hbytes : k * componentBytes (newarray.typeOf atype) ≤ 536870912 := by
    have : componentBytes (newarray.typeOf atype) ≤ 8 := by cases atype <;> decide
    calc k * componentBytes (newarray.typeOf atype) ≤ k * 8 := Nat.mul_le_mul_left _ this
      _ ≤ 536870912 := by omega
  rw [List.map_cons]
  refine va_newaK hx hb (hts _ harr) rfl hd rfl (nI_pos hk31) (nI_clamp hk31) hbytes hc1 hc2 rfl fun H1 cA e1 z1 o1 hAr hNm => ?_
  have hA : AA Z H.size := Nat.le_trans hD.2.1 hS.1
  have hcA : cA = zdA Z c := by
    have h1 := (hG.2.1 c _ (by omega) hc).2
    have h2 : (z0 Z).vm.findClass ("[" ++ (newarray.typeOf atype).toString) = some (zdA Z c) := by
      cases atype <;> exact h1
    rw [← hD.alike.findClass, hNm] at h2
    exact Option.some.inj h2
  have hdd : newarray.typeOf atype ≠ .double := by
    intro q
    rw [q] at hc
    have : c = 0 ∨ c = 1 ∨ c = 2 ∨ c = 3 ∨ c = 4 := by omega
    rcases this with rfl | rfl | rfl | rfl | rfl <;> cases hc
  have k2 := k1 (fun y => if y = nx σ then H.size else φ y) H1 locs lsM ext_agree (((hO.pop).mono (by rw [nx_al]; omega)).push ⟨Int.le_of_lt hn, by rw [nx_al]; omega⟩) (hR.new o1 fun _ => ⟨rfl, arr_born hc hD hA hn hdd (by omega) e1 hAr hcA⟩) ⟨Nat.le_trans hS.1 (by omega), fun x h1 h2 => (o1 x (Nat.lt_of_lt_of_le h1 hS.1)).trans (hS.2.1 x h1 h2), hS.2.2⟩ (by rw [cl_agree (st := st) hO.pop ext_agree]; exact hl)
  rw [List.map_cons, st_agree hO.pop ext_agree, show cv (fun y => if y = nx σ then H.size else φ y) (2, nx σ) = .ref H.size from (if_neg (by omega)).trans (by rw [ext_at])] at k2
  exact k2
theorem R_anewarray {n : Int} {index : Nat} (c : Nat) {C : String} (hc : ATY[c]? = some (.object C)) (h9 : c < 9) (hd : decode μ.2.1 pc = .ok (.anewarray index, 3)) (hlink : Cond.classLink μ.1.cls index C ∈ lw_all) (harr : Cond.arrayOver (.object C) ∈ lw_tbl) (g0 : 0 ≤ n) (g1 : n ≤ 67108864)
    (kk : R Z μ d (pc + 3) ls ((2, nx σ) :: st) (al σ (c + 100) n n) o σ') : R Z μ d pc ls ((0, n) :: st) σ o σ' := by
  refine R.step kk (mono_al g0) fun p e Rm s m args below meth c' H locs cells slots Q φ lsM hG hO hC hR hS hl hf hlo hc1 hc2 k1 => ?_
  obtain ⟨hx, hb, -, -, -, hown, hts, -, -, hD⟩ := hC
  have hn := hR.1
  obtain ⟨k, rfl⟩ : ∃ k : Nat, n = (k : Int) := ⟨n.toNat, by omega⟩
  have e1 : (nx (al σ (c + 100) k k) - nx σ).toNat = 1 := by rw [nx_al]; omega
  have e2 : (us (al σ (c + 100) k k) - us σ).toNat = k := by rw [us_al]; omega
  rw [e1] at hc1 k1
  rw [e2] at hc2 k1
  have hk31 : k < 2 ^ 31 := by omega
  have ek : (Int32.ofInt (k : Int)).toNatClampNeg = k := nI_clamp hk31
  rw [List.map_cons]
  have hov : va_AO C s := va_AO.moved hD.alike (hG.word harr)
  refine W.anew hx hb hown (hts _ hlink) (va_AO.use hov) rfl hd rfl (nI_pos hk31) (by rw [ek]; omega) hc1 (by rw [ek]; exact hc2) fun cA kA comp h1 h2 h3 h4 => ?_
  rw [ek, arrV_new]
  have hA : AA Z H.size := Nat.le_trans hD.2.1 hS.1
  have hcA : cA = zdA Z c := by
    obtain ⟨-, k9, c9, -, -, -, h5⟩ := hG.2.1 c _ h9 hc
    rw [← hD.alike.findClass, h1] at h5
    exact Option.some.inj h5
  have o1 : ∀ q, q < H.size → (H.push (arrV cA k (fun _ => .null)))[q]? = H[q]? := fun q hq => by rw [Array.getElem?_push, if_neg (Nat.ne_of_lt hq)]
  have hAr : ArrOfT s cA (.object C) := fun n z => ⟨fun k h => (by cases h), kA, h2, comp, h3⟩
  have k2 := k1 (fun y => if y = nx σ then H.size else φ y) (H.push (arrV cA k (fun _ => .null))) locs lsM ext_agree (((hO.pop).mono (by rw [nx_al]; omega)).push ⟨Int.le_of_lt hn, by rw [nx_al]; omega⟩) (hR.new o1 fun _ => ⟨rfl, arr_born hc hD hA hn (fun q => by cases q) (by omega) (by show (H.push _)[H.size]? = _; rw [Array.getElem?_push, if_pos rfl]; rfl) hAr hcA⟩) ⟨Nat.le_trans hS.1 (by rw [Array.size_push]; omega), fun x h1 h2 => (o1 x (Nat.lt_of_lt_of_le h1 hS.1)).trans (hS.2.1 x h1 h2), hS.2.2⟩ (by rw [cl_agree (st := st) hO.pop ext_agree]; exact hl)
  rw [List.map_cons, st_agree hO.pop ext_agree, show cv (fun y => if y = nx σ then H.size else φ y) (2, nx σ) = .ref H.size from (if_neg (by omega)).trans (by rw [ext_at])] at k2
  exact k2
/-- the class of place c is the class nm, or one below it -/
def asgC (c : Nat) (nm : String) : Prop := ∃ ct : CT, CLS[c]? = some ct ∧ (ct.1 = nm ∨ Cond.castable ct.1 nm ∈ lw_tbl)
theorem asgC.at {c : Nat} {nm : String} {s : State} (h : asgC c nm) (hG : Good Z) (hD : Desc Z s) : ∃ t0, s.vm.findClass nm = some t0 ∧ s.vm.assignable (zdC Z c) t0 = true ∧ ∃ kC : Class, s.vm.classes[zdC Z c]? = some kC := by
  obtain ⟨ct, hc, h⟩ := h
  have hK := (hG.known hD hc).2
  rcases h with h | h
  · refine ⟨zdC Z c, by rw [← h]; exact hK.1, va_assign hK, ?_⟩
    obtain ⟨-, k, hk, -⟩ := hK
    exact ⟨k, hk⟩
  · obtain ⟨c3, c4, h3, h4, h5⟩ := Cond.castable_spec (hG.word h)
    have e3 : c3 = zdC Z c := by
      rw [← hD.alike.findClass] at h3
      exact Option.some.inj (h3.symm.trans hK.1)
    subst e3
    refine ⟨c4, by rw [hD.alike.findClass]; exact h4, by rw [hD.alike.assignable]; exact h5, ?_⟩
    obtain ⟨-, k, hk, -⟩ := hK
    exact ⟨k, hk⟩
theorem R_aastoreN {r j : Int} (c : Nat) {E : String} (hE : ATY[c]? = some (.object E)) (hd : decode μ.2.1 pc = .ok (.aastore, 1)) (g : kd σ r = c + 100) (g0 : 0 ≤ j) (g1 : j < ln σ r) (kk : R Z μ d (pc + 1) ls st (wr σ r j 0) o σ') : R Z μ d pc ls ((2, 0) :: (0, j) :: (2, r) :: st) σ o σ' := by
  refine R.put kk (fun p e Rm s m args below meth c' H locs cells slots Q φ lsM hG hO hC hR hS hl k1 => ?_) (fun h => h.pop.pop.pop)
  obtain ⟨hx, hb, -, -, -, hown, hts, -, -, hD⟩ := hC
  have h9 := aty_lt hE
  obtain ⟨cell, h1, h2, -, h4, h5, hk0, h0⟩ := hR.arr (Or.inl g) hE
  obtain ⟨hvm, hA⟩ := h4 (by omega)
  obtain ⟨e1, e2, e3, e4⟩ := arr_at h5 g0 g1
  rw [List.map_cons, List.map_cons, List.map_cons, show cv φ (2, r) = .ref (φ r) from if_neg h0, show cv φ (2, 0) = .null from rfl]
  refine va_WaastN hx hb h1 (h5.arr hD) h2 e2 rfl rfl hd fun H1 e1 ez eo => ?_
  exact k1 H1 _ (hR.put hk0 (by omega) (am_arr hE g hvm hA h5 ⟨g0, g1⟩ (show okt (nx σ) (.object E) 0 from ⟨Int.le_refl 0, hR.1⟩) e1) eo) (hS.put ez eo hA)
theorem R_aastore {r j v : Int} (c : Nat) {E : String} (hE : ATY[c]? = some (.object E)) (h9 : c < 9) (hd : decode μ.2.1 pc = .ok (.aastore, 1)) (g : kd σ r = c + 100) (g0 : 0 ≤ j) (g1 : j < ln σ r) {cv0 : Nat} (ha : asgC cv0 E) (gv : v = 0 ∨ kd σ v = cv0 + 1 ∨ kd σ v = cv0 + 1001) (kk : R Z μ d (pc + 1) ls st (wr σ r j v) o σ') : R Z μ d pc ls ((2, v) :: (0, j) :: (2, r) :: st) σ o σ' := by
  by_cases hv0 : v = 0
  · subst hv0
    exact R_aastoreN c hE hd g g0 g1 kk
  · have gv : kd σ v = cv0 + 1 ∨ kd σ v = cv0 + 1001 := gv.resolve_left hv0
    refine R.put kk (fun p e Rm s m args below meth c' H locs cells slots Q φ lsM hG hO hC hR hS hl k1 => ?_) (fun h => h.pop.pop.pop)
    obtain ⟨hx, hb, -, -, -, hown, hts, -, -, hD⟩ := hC
    obtain ⟨cell, h1, h2, h3, h4, h5, hk0, h0⟩ := hR.arr (Or.inl g) hE
    obtain ⟨hvm, hA⟩ := h4 (by omega)
    obtain ⟨e1, e2, e3, e4⟩ := arr_at h5 g0 g1
    obtain ⟨t0, f1, f2, kv, f3⟩ := ha.at hG hD
    obtain ⟨ct, hct, -⟩ := ha
    obtain ⟨cellV, v1, v2, v3, -, v5, -, -⟩ := hR.obj gv hct
    obtain ⟨kA, comp, a1, a2, a3, -⟩ := va_RA.moved hD.alike (hG.2.1 c _ h9 hE).2
    have hcomp : comp = t0 := Option.some.inj (a3.symm.trans f1)
    obtain ⟨kE, hkE, -⟩ := Vm.findClass_spec a3
    rw [List.map_cons, List.map_cons, List.map_cons, show cv φ (2, r) = .ref (φ r) from if_neg h0, show cv φ (2, v) = .ref (φ v) from if_neg hv0]
    have hv : okt (nx σ) (.object E) v := hO.top
    refine W.aast hx hb h1 (fun q h => by rw [hvm] at h; cases h) h2 (by rw [h5.2.1 (by omega)]; exact a1) a2 rfl hkE ⟨fun z => e2 (Or.inl z), Nat.lt_of_not_le fun z => e2 (Or.inr z)⟩ v1 (fun q h => by rw [h] at v3; cases v3) (by rw [v5.1]; exact f3) (by rw [v5.1, hcomp]; exact f2) rfl rfl hd fun H1 e1 ez eo => ?_
    exact k1 H1 _ (hR.put hk0 (by omega) (am_arr hE g hvm hA h5 ⟨g0, g1⟩ hv (by rw [show cv φ (tg (.object E), v) = .ref (φ v) from if_neg hv0]; exact e1)) eo) (hS.put ez eo hA)
theorem R_checkcast {r : Int} {index c : Nat} {nm : String} (hd : decode μ.2.1 pc = .ok (.checkcast index, 3)) (hlink : Cond.classLink μ.1.cls index nm ∈ lw_all) (ha : asgC c nm) (g : r = 0 ∨ kd σ r = c + 1 ∨ kd σ r = c + 1001) (kk : R Z μ d (pc + 3) ls ((2, r) :: st) σ o σ') : R Z μ d pc ls ((2, r) :: st) σ o σ' := by
  refine R.same kk fun p e Rm s m args below meth c' H locs cells slots Q φ lsM hG hO hC hR hS hl k1 => ?_
  obtain ⟨hx, hb, -, -, -, hown, hts, -, -, hD⟩ := hC
  have k2 := k1 lsM hO hl
  by_cases h0 : r = 0
  · subst h0
    exact lv_castN hx hb hd k2
  · have g := g.resolve_left h0
    obtain ⟨t0, f1, f2, -⟩ := ha.at hG hD
    obtain ⟨ct, hct, -⟩ := ha
    obtain ⟨cell, v1, v2, v3, -, v5, -, -⟩ := hR.obj g hct
    rw [List.map_cons, show cv φ (2, r) = .ref (φ r) from if_neg h0] at k2 ⊢
    intro T hT X
    obtain ⟨vm', X', st⟩ := X.checkcastYes hx hown (hts _ hlink) (by rw [hT]; exact v1) v3 f1 (by rw [v5.1]; exact f2) (g := F0 m pc lsM (.ref (φ r) :: _)) rfl rfl (by rw [hb]; exact hd)
    obtain ⟨t, a1, b1⟩ := k2 (T.setVm vm') hT X'
    exact ⟨t, st t a1, b1⟩
theorem R_instanceof {r : Int} {index c : Nat} {nm : String} (hd : decode μ.2.1 pc = .ok (.instanceof index, 3)) (hlink : Cond.classLink μ.1.cls index nm ∈ lw_all) (ha : asgC c nm) (g : kd σ r = c + 1 ∨ kd σ r = c + 1001) (kk : R Z μ d (pc + 3) ls ((0, 1) :: st) σ o σ') : R Z μ d pc ls ((2, r) :: st) σ o σ' := by
  refine R.same kk fun p e Rm s m args below meth c' H locs cells slots Q φ lsM hG hO hC hR hS hl k1 => ?_
  obtain ⟨hx, hb, -, -, -, hown, hts, -, -, hD⟩ := hC
  have k2 := k1 lsM (hO.pop.push ⟨by decide, by decide⟩) hl
  obtain ⟨t0, f1, f2, -⟩ := ha.at hG hD
  obtain ⟨ct, hct, -⟩ := ha
  obtain ⟨cell, v1, v2, v3, -, v5, -, h0⟩ := hR.obj g hct
  rw [List.map_cons, show cv φ (2, r) = .ref (φ r) from if_neg h0]
  intro T hT X
  obtain ⟨vm', X', st⟩ := X.instanceofYes hx hown (hts _ hlink) (by rw [hT]; exact v1) v3 f1 (by rw [v5.1]; exact f2) (g := F0 m pc lsM (.ref (φ r) :: _)) rfl rfl (by rw [hb]; exact hd)
  obtain ⟨t, a1, b1⟩ := k2 (T.setVm vm') hT X'
  exact ⟨t, st t a1, b1⟩
end RR4
