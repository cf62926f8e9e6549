/-! RULES OF R: System.arraycopy, clone, class objects; a method with handlers -/
set_option maxRecDepth 100000
/-- n elements from rs at sp on go to rd at dp on -/
def cpy (σ : AS) (rs sp rd dp n : Int) : AS := (σ.1, σ.2.1, fun a => if a = rd then fun j => if dp ≤ j ∧ j < dp + n then σ.2.2.1 rs (sp + (j - dp)) else σ.2.2.1 rd j else σ.2.2.1 a, σ.2.2.2.1, σ.2.2.2.2)
theorem kd_cpy {σ : AS} {rs sp rd dp n a : Int} : kd (cpy σ rs sp rd dp n) a = kd σ a := rfl
theorem ln_cpy {σ : AS} {rs sp rd dp n a : Int} : ln (cpy σ rs sp rd dp n) a = ln σ a := rfl
theorem nx_cpy {σ : AS} {rs sp rd dp n : Int} : nx (cpy σ rs sp rd dp n) = nx σ := rfl
theorem us_cpy {σ : AS} {rs sp rd dp n : Int} : us (cpy σ rs sp rd dp n) = us σ := rfl
theorem ld_cpy {σ : AS} {rs sp rd dp n a j : Int} : ld (cpy σ rs sp rd dp n) a j = if a = rd ∧ dp ≤ j ∧ j < dp + n then ld σ rs (sp + (j - dp)) else ld σ a j := by
  unfold ld cpy
  dsimp only
  by_cases h : a = rd
  · subst h
    rw [if_pos rfl]
    by_cases h2 : dp ≤ j ∧ j < dp + n
    · rw [if_pos h2, if_pos ⟨rfl, h2⟩]
    · rw [if_neg h2, if_neg (fun q => h2 q.2)]
  · rw [if_neg h, if_neg (fun q => h q.1)]
/-- a copy of a whole array -/
def cln (σ : AS) (r : Int) : AS := (fun a => if a = nx σ then kd σ r % 1000 else σ.1 a, fun a => if a = nx σ then ln σ r else σ.2.1 a, fun a => if a = nx σ then σ.2.2.1 r else σ.2.2.1 a, nx σ + 1, us σ + ln σ r)
section RR8
variable {Z : ZT} {μ : MM} {d pc : Nat} {ls : List (Nat × AV)} {st : List AV} {σ : AS} {o : AO} {σ' : AS}
theorem Rel.row {φ : Int → Nat} {H H1 : Heap} {r : Int} {σ1 : AS} (hR : Rel Z φ σ H) (ek : σ1.1 = σ.1) (el : σ1.2.1 = σ.2.1) (en : nx σ1 = nx σ) (hd : ∀ a, a ≠ r → ∀ j, ld σ1 a j = ld σ a j) (hk : kd σ r ≠ 0) (hm : kd σ r < 1000) (hc : CellOk Z φ σ1 H1 r) (ho : ∀ q, q ≠ φ r → H1[q]? = H[q]?) : Rel Z φ σ1 H1 := by
  have ekd : ∀ a, kd σ1 a = kd σ a := fun a => congrFun ek a
  refine ⟨by rw [en]; exact hR.1, fun x hx => ?_, fun x y hx hy hs => ?_, by rw [en]; exact hR.2.2.2.1, hR.2.2.2.2⟩
  · rw [ekd] at hx
    obtain ⟨h1, h2, h3⟩ := hR.2.1 x hx
    by_cases e : x = r
    · subst e; exact ⟨h1, by rw [en]; exact h2, hc⟩
    · exact ⟨h1, by rw [en]; exact h2, h3.move ⟨Int.le_of_lt hR.1, by rw [en]; exact Int.le_refl _⟩ (fun _ _ _ => rfl) ⟨Int.le_of_lt h1, h2⟩ (ho _ fun q => e (hR.2.2.1 x r hx hk (Or.inr (Or.inl hm)) q)) (ekd x) (congrFun el x) (hd x e)⟩
  · rw [ekd] at hx hy
    rw [ekd, ekd] at hs
    exact hR.2.2.1 x y hx hy hs
/-- what may be put into an array of that element type: numbers; references to objects of known classes -/
def elOk (σ : AS) (t : FieldType) (v : Int) : Prop := match t with
  | .object _ => v = 0 ∨ ∃ c : Nat, (kd σ v = c + 1 ∨ kd σ v = c + 1001) ∧ asgC c "java/lang/Object"
  | .array _ => False
  | _ => True
theorem R_copy {rs sp rd dp n : Int} {rest : List AV} {index : Nat} (c : Nat) {t : FieldType} (hc : ATY[c]? = some t) (ht : refKind t = false ∨ t = .object "java/lang/Object") (h9 : c < 9) (hd : decode μ.2.1 pc = .ok (.invokestatic index, 3)) (hlink : Cond.methodLink μ.1.cls index arraycopyName ∈ lw_all) (hnat : Cond.native arraycopyName ∈ lw_all) (hstat : Cond.static arraycopyName ∈ lw_all) (hini : Cond.initialized "java/lang/System" ∈ lw_all)
    (g1 : kd σ rs = c + 100 ∨ kd σ rs = c + 1100) (g2 : kd σ rd = c + 100) (hsp : 0 ≤ sp) (hdp : 0 ≤ dp) (hn0 : 0 ≤ n) (hs : sp + n ≤ ln σ rs) (hdn : dp + n ≤ ln σ rd) (hel : ∀ i, 0 ≤ i → i < n → elOk σ t (ld σ rs (sp + i))) (h8 : wsum rest ≤ 8)
    (kk : R Z μ d (pc + 3) ls rest (cpy σ rs sp rd dp n) o σ') : R Z μ d pc ls ((0, n) :: (0, dp) :: (2, rd) :: (0, sp) :: (2, rs) :: rest) σ o σ' := by
  refine R.step kk ⟨Int.le_refl _, Int.le_refl _⟩ fun p e Rm s m args below meth c' H locs cells slots Q φ lsM hG hO hC hR hS hl hf hlo hc1 hc2 k1 => ?_
  have ez1 : (nx (cpy σ rs sp rd dp n) - nx σ).toNat = 0 := by rw [nx_cpy]; omega
  have ez2 : (us (cpy σ rs sp rd dp n) - us σ).toNat = 0 := by rw [us_cpy]; omega
  rw [ez1, ez2] at k1
  obtain ⟨hx, hb, -, hml, -, hown, hts, -, -, hD⟩ := hC
  have hl10 : c < 10 := (List.getElem?_eq_some_iff.mp hc).1
  obtain ⟨cs, a1, a2, a3, -, a5, a6, a7⟩ := hR.arr g1 hc
  obtain ⟨cd, b1, b2, b3, b4, b5, b6, b7⟩ := hR.arr (Or.inl g2) hc
  obtain ⟨bvm, hA⟩ := b4 (by omega)
  have esz := a5.2.2.1
  have esz4 := a5.2.2.2.1
  have edz := b5.2.2.1
  have edz4 := b5.2.2.2.1
  obtain ⟨e1, f1⟩ := idx_ok hsp (by omega)
  obtain ⟨e2, f2⟩ := idx_ok hdp (by omega)
  obtain ⟨e3, f3⟩ := idx_ok hn0 (by omega)
  have i1 : (Int32.ofInt sp).toInt = sp := i32_toInt ⟨by omega, by omega⟩
  have i2 : (Int32.ofInt dp).toInt = dp := i32_toInt ⟨by omega, by omega⟩
  have i3 : (Int32.ofInt n).toInt = n := i32_toInt ⟨by omega, by omega⟩
  obtain ⟨as1, ks, hks, cms, hkks⟩ := a5.arr hD
  obtain ⟨ad1, kd1, hkd, cmd, hkkd⟩ := b5.arr hD
  have hsl : ∀ i : Nat, i < n.toNat → cs.slots.getD (sp.toNat + i) .null = cv φ (tg t, ld σ rs (sp + i)) ∧ okt (nx σ) t (ld σ rs (sp + i)) := by
    intro i hi
    obtain ⟨q1, q2⟩ := a5.2.2.2.2 (sp.toNat + i) (by omega)
    rw [show ((sp.toNat + i : Nat) : Int) = sp + i by omega] at q1 q2
    exact ⟨by rw [Array.getD_eq_getD_getElem?, q1]; rfl, q2⟩
  have hdd : t ≠ .double := by
    intro q
    rcases ht with q2 | q2
    · rw [q] at hc
      have : c = 0 ∨ c = 1 ∨ c = 2 ∨ c = 3 ∨ c = 4 ∨ c = 5 ∨ c = 6 ∨ c = 7 ∨ c = 8 := by omega
      rcases this with rfl | rfl | rfl | rfl | rfl | rfl | rfl | rfl | rfl <;> cases hc
    · rw [q] at q2; cases q2
  rw [List.map_cons, List.map_cons, List.map_cons, List.map_cons, List.map_cons, show cv φ (2, rs) = .ref (φ rs) from if_neg a7, show cv φ (2, rd) = .ref (φ rd) from if_neg b7]
  intro T hT X
  obtain ⟨vm', X', step⟩ := X.arraycopy hx hown (hts _ hlink) (hts _ hnat) (hts _ hstat) (hts _ hini) (src := φ rs) (dst := φ rd) (cs := cs) (cd := cd) (srcPos := Int32.ofInt sp) (destPos := Int32.ofInt dp) (n := Int32.ofInt n) (by rw [hT]; exact a1) (by rw [hT]; exact b1)
    (fun k h => by rw [h] at a3; cases a3) (fun k h => by rw [h] at b3; cases b3) a2 b2 hks hkd hkks hkkd (by cases refKind t <;> simp) f1 f2 f3
    (by rw [i1, i3]; omega) (by rw [i2, i3]; omega)
    (fun vm₁ hal i hi => by
      rw [e3] at hi
      rw [e1]
      obtain ⟨q1, q2⟩ := hsl i hi
      rw [q1]
      refine ⟨(okt_store q2 hdd).2, ?_⟩
      rcases ht with ht | ht
      · cases t <;> first | exact trivial | (cases ht)
      · subst ht
        have hv := hel i (by omega) (by omega)
        show State.takes _ _ (if ld σ rs (sp + i) = 0 then Value.null else .ref (φ (ld σ rs (sp + i))))
        by_cases h0 : ld σ rs (sp + i) = 0
        · rw [if_pos h0]; exact trivial
        · rw [if_neg h0]
          rcases hv with hv | ⟨c2, hv, ha⟩
          · exact absurd hv h0
          · obtain ⟨t0, y1, y2, kv, y3⟩ := ha.at hG hD
            obtain ⟨ct, hct, -⟩ := ha
            obtain ⟨cellV, v1, v2, v3, -, v5, -, -⟩ := hR.obj hv hct
            obtain ⟨kA, comp, r1, r2, r3, -⟩ := va_RA.moved hD.alike (hG.2.1 c _ h9 hc).2
            rw [b5.2.1 (by omega)] at hkd
            cases hkd.symm.trans r1
            cases hkkd.symm.trans r2
            have hcomp : cmd = t0 := Option.some.inj (r3.symm.trans y1)
            subst hcomp
            obtain ⟨kE, hkE, -⟩ := Vm.findClass_spec r3
            obtain ⟨kC', hkC', -⟩ := hal.2.2 _ _ y3
            obtain ⟨kE', hkE', -⟩ := hal.2.2 _ _ hkE
            refine ⟨cellV, (show T.heap[φ (ld σ rs (sp + i))]? = some cellV by rw [hT]; exact v1), (fun q h => by rw [h] at v3; cases v3), ⟨kC', by rw [v5.1]; exact hkC'⟩, ⟨kE', hkE'⟩, ?_⟩
            show vm₁.assignable _ _ = true
            rw [hal.assignable, v5.1]
            exact y2)
    (g := F0 m pc lsM (.int (Int32.ofInt n) :: .int (Int32.ofInt dp) :: .ref (φ rd) :: .int (Int32.ofInt sp) :: .ref (φ rs) :: rest.map (cv φ))) rfl (hl.1.trans hml.symm) (rest := rest.map (cv φ)) rfl (by rw [hb]; exact hd) (by omega) (by show 2 * 0 + _ + _ ≤ _; rw [rest8]; have : nativeFrameWords "java/lang/System" "arraycopy" 5 ≤ 100 := (by decide +kernel); omega)
  have hstr : (cs.stretch (Int32.ofInt sp).toNatClampNeg (Int32.ofInt n).toNatClampNeg).length = n.toNat := by rw [Cell.stretch_length, e3]
  have hcell : CellOk Z φ (cpy σ rs sp rd dp n) (H.setIfInBounds (φ rd) (copied cs cd (Int32.ofInt sp) (Int32.ofInt dp) (Int32.ofInt n))) rd := by
    obtain ⟨q1, q2, q3, -, -⟩ := Cell.storeRun_facts cd (Int32.ofInt dp).toNatClampNeg (cs.stretch (Int32.ofInt sp).toNatClampNeg (Int32.ofInt n).toNatClampNeg)
    have ecls : (copied cs cd (Int32.ofInt sp) (Int32.ofInt dp) (Int32.ofInt n)).cls = cd.cls := q1
    have evm : (copied cs cd (Int32.ofInt sp) (Int32.ofInt dp) (Int32.ofInt n)).vm = cd.vm := q2
    have esz9 : (copied cs cd (Int32.ofInt sp) (Int32.ofInt dp) (Int32.ofInt n)).slots.size = cd.slots.size := q3
    have hlt : φ rd < H.size := (Array.getElem?_eq_some_iff.mp b1).1
    refine ⟨_, by rw [Array.getElem?_setIfInBounds, if_pos rfl, if_pos hlt], by rw [evm]; exact b2, by rw [evm]; exact b3, fun _ => ⟨by rw [evm]; exact bvm, hA⟩, fun q => ?_, fun c9 ct9 hc9 hct9 => ?_, fun c9 t9 hc9 ht9 => ?_⟩
    · rw [kd_cpy] at q; omega
    · rw [kd_cpy] at hc9
      have := cls_lt hct9; omega
    · rw [kd_cpy] at hc9
      have e9 : c9 = c := by omega
      subst e9
      cases hc.symm.trans ht9
      refine ⟨⟨by rw [evm]; exact b5.1.1, by rw [ecls]; exact b5.1.2⟩, fun _ => by rw [ecls]; exact b5.2.1 (by omega), by rw [esz9, ln_cpy]; exact edz, by rw [ln_cpy]; exact edz4, fun j hj => ?_⟩
      rw [esz9] at hj
      have hg : (copied cs cd (Int32.ofInt sp) (Int32.ofInt dp) (Int32.ofInt n)).slots[j]? = _ := Cell.storeRun_get cd (Int32.ofInt dp).toNatClampNeg (cs.stretch (Int32.ofInt sp).toNatClampNeg (Int32.ofInt n).toNatClampNeg) j (by rw [hstr, e2]; omega)
      rw [hg, hstr, e2, ld_cpy]
      by_cases hr : dp.toNat ≤ j ∧ j < dp.toNat + n.toNat
      · rw [if_pos hr, if_pos ⟨rfl, by omega, by omega⟩]
        obtain ⟨z1, z2⟩ := hsl (j - dp.toNat) (by omega)
        rw [show ((j - dp.toNat : Nat) : Int) = (j : Int) - dp by omega] at z1 z2
        refine ⟨?_, z2⟩
        have hx9 : (cs.stretch (Int32.ofInt sp).toNatClampNeg (Int32.ofInt n).toNatClampNeg)[j - dp.toNat]? = some (cs.slots.getD ((Int32.ofInt sp).toNatClampNeg + (j - dp.toNat)) .null) := by
          unfold Cell.stretch
          rw [List.getElem?_map, List.getElem?_range (by rw [e3]; omega)]
          rfl
        rw [hx9, e1, z1]
      · rw [if_neg hr, if_neg (fun z => hr (by have := z.2; omega))]
        exact b5.2.2.2.2 j hj
  have hheap : ((T.setVm vm').setCell (φ rd) (copied cs cd (Int32.ofInt sp) (Int32.ofInt dp) (Int32.ofInt n))).heap = H.setIfInBounds (φ rd) (copied cs cd (Int32.ofInt sp) (Int32.ofInt dp) (Int32.ofInt n)) := by rw [← hT]; rfl
  have oq : ∀ q : Nat, q ≠ φ rd → (H.setIfInBounds (φ rd) (copied cs cd (Int32.ofInt sp) (Int32.ofInt dp) (Int32.ofInt n)))[q]? = H[q]? := fun q hq => by rw [Array.getElem?_setIfInBounds, if_neg (Ne.symm hq)]
  obtain ⟨t2, w1, w2⟩ := k1 φ _ _ lsM (fun _ _ _ => rfl) (hO.pop.pop.pop.pop.pop) (hR.row (r := rd) rfl rfl rfl (fun a ha j => by rw [ld_cpy, if_neg (fun z => ha z.1)]) b6 (by omega) hcell oq) ⟨by rw [Array.size_setIfInBounds]; exact hS.1, fun q z1 z2 => by
      rw [oq q (fun e => z2 (by rw [e]; exact hA))]
      exact hS.2.1 q z1 z2, fun q hq => by
      rcases List.mem_append.mp hq with h | h
      · exact hS.2.2 q h
      · obtain ⟨z, -, hz⟩ := List.mem_map.mp h
        rw [← hz]
        exact hA⟩ hl _ hheap X'
  exact ⟨t2, step t2 w1, w2⟩
theorem R_clone {r : Int} {rest : List AV} {index : Nat} (c : Nat) {t : FieldType} {ad : String} (hc : ATY[c]? = some t) (h5 : c < 5) (had : ad = "[" ++ t.toString) (hd : decode μ.2.1 pc = .ok (.invokevirtual index, 3)) (hlink : Cond.methodLink μ.1.cls index ⟨ad, "clone", "()Ljava/lang/Object;"⟩ ∈ lw_all) (hsame : Cond.sameMethod ad "java/lang/Object" "clone" "()Ljava/lang/Object;" ∈ lw_all) (hnat : Cond.native ⟨"java/lang/Object", "clone", "()Ljava/lang/Object;"⟩ ∈ lw_all) (hinst : Cond.instanceMethod ⟨"java/lang/Object", "clone", "()Ljava/lang/Object;"⟩ ∈ lw_all) (hsel : Cond.selects ad ⟨ad, "clone", "()Ljava/lang/Object;"⟩ ⟨"java/lang/Object", "clone", "()Ljava/lang/Object;"⟩ ∈ lw_all) (hcl : Cond.castable ad "java/lang/Cloneable" ∈ lw_tbl)
    (g : kd σ r = c + 100) (h8 : wsum rest ≤ 8) (kk : R Z μ d (pc + 3) ls ((2, nx σ) :: rest) (cln σ r) o σ') (g0 : 0 ≤ ln σ r) : R Z μ d pc ls ((2, r) :: rest) σ o σ' := by
  have enx : nx (cln σ r) = nx σ + 1 := rfl
  have eus : us (cln σ r) = us σ + ln σ r := rfl
  refine R.step kk ⟨by rw [enx]; omega, by rw [eus]; omega⟩ fun p e Rm s m args below meth c' H locs cells slots Q φ lsM hG hO hC hR hS hl hf hlo hc1 hc2 k1 => ?_
  obtain ⟨hx, hb, -, hml, -, hown, hts, -, -, hD⟩ := hC
  have hn := hR.1
  obtain ⟨cell, a1, a2, a3, a4, a5, a6, a7⟩ := hR.arr (Or.inl g) hc
  obtain ⟨avm, -⟩ := a4 (by omega)
  have esz := a5.2.2.1
  have ez1 : (nx (cln σ r) - nx σ).toNat = 1 := by rw [enx]; omega
  have ez2 : (us (cln σ r) - us σ).toNat = cell.slots.size := by rw [eus]; omega
  rw [ez1] at hc1 k1
  rw [ez2] at hc2 k1
  have hdd : t ≠ .double := by
    intro q
    rw [q] at hc
    have : c = 0 ∨ c = 1 ∨ c = 2 ∨ c = 3 ∨ c = 4 := by omega
    rcases this with rfl | rfl | rfl | rfl | rfl <;> cases hc
  have hnm : s.vm.findClass ad = some cell.cls := by
    have h1 := (hG.2.1 c _ (by omega) hc).2
    have h2 : (z0 Z).vm.findClass ("[" ++ t.toString) = some (zdA Z c) := by
      have : c = 0 ∨ c = 1 ∨ c = 2 ∨ c = 3 ∨ c = 4 := by omega
      rcases this with rfl | rfl | rfl | rfl | rfl <;> (cases hc; exact h1)
    rw [had, hD.alike.findClass, h2, a5.2.1 (by omega)]
  obtain ⟨c0, t0', f1, f2, f3⟩ := Cond.castable_spec (hG.cast (args := args) hD hcl)
  cases hnm.symm.trans f1
  rw [List.map_cons, show cv φ (2, r) = .ref (φ r) from if_neg a7]
  intro T hT X
  obtain ⟨-, kA, hkA, comp, hkind⟩ := State.isArrayOf_alike X.warmed.alike (a5.arr hD)
  obtain ⟨-, kS, hkS, compS, hkindS⟩ := a5.arr hD
  obtain ⟨vm', X', stp⟩ := X.cloneArray hx hown (hts _ hlink) (hts _ hsame) (hts _ hnat) (hts _ hinst) (hts _ hsel) (a := φ r) (cell := cell) (by rw [hT]; exact a1) (fun k h => by rw [avm] at h; cases h) a2 hnm f2 f3
    (fun i v hv => by
      have hi : i < cell.slots.size := (Array.getElem?_eq_some_iff.mp hv).1
      obtain ⟨q1, q2⟩ := a5.2.2.2.2 i hi
      cases hv.symm.trans q1
      have := (okt_store (φ := φ) q2 hdd).2
      simpa [State.fitsSlot, State.slotType?, hkA, hkind] using this)
    (g := F0 m pc lsM (.ref (φ r) :: rest.map (cv φ))) rfl (hl.1.trans hml.symm) rfl (by rw [hb]; exact hd) (by omega) (by show 2 * 0 + _ + 14 ≤ _; rw [rest8]; omega) hc1 hc2 (hloader := Vm.clonesLoader_of_array hkS hkindS)
  have hA : AA Z H.size := Nat.le_trans hD.2.1 hS.1
  generalize hH1 : H.push ({ cls := cell.cls, slots := cell.slots } : Cell) = H1 at *
  have z1 : H1.size = H.size + 1 := by rw [← hH1, Array.size_push]
  have e1 : H1[H.size]? = some ({ cls := cell.cls, slots := cell.slots } : Cell) := by rw [← hH1, Array.getElem?_push_size]
  have o1 : ∀ q : Nat, q < H.size → H1[q]? = H[q]? := fun q hq => by rw [← hH1, Array.getElem?_push, if_neg (Nat.ne_of_lt hq)]
  have ekd : kd (cln σ r) (nx σ) = c + 100 := by
    show (if nx σ = nx σ then kd σ r % 1000 else kd σ (nx σ)) = c + 100
    rw [if_pos rfl]; omega
  have eln : ln (cln σ r) (nx σ) = ln σ r := if_pos rfl
  have eld : ∀ j, ld (cln σ r) (nx σ) j = ld σ r j := fun j => by
    show (if nx σ = nx σ then σ.2.2.1 r else σ.2.2.1 (nx σ)) j = σ.2.2.1 r j
    rw [if_pos rfl]
  have hcell : CellOk Z (fun y => if y = nx σ then H.size else φ y) (cln σ r) H1 (nx σ) := by
    refine ⟨_, by rw [ext_at]; exact e1, fun q => (by cases q), rfl, fun _ => ⟨rfl, by rw [ext_at]; exact hA⟩, fun q => ?_, fun c9 ct9 hc9 hct9 => ?_, fun c9 t9 hc9 ht9 => ?_⟩
    · rw [ekd] at q; omega
    · rw [ekd] at hc9
      have := cls_lt hct9; omega
    · rw [ekd] at hc9
      have e9 : c9 = c := by omega
      subst e9
      cases hc.symm.trans ht9
      refine ⟨⟨fun k h => (by cases h), a5.1.2⟩, fun _ => a5.2.1 (by omega), by rw [eln]; exact esz, by rw [eln]; exact a5.2.2.2.1, fun j hj => ?_⟩
      obtain ⟨q1, q2⟩ := a5.2.2.2.2 j hj
      rw [eld]
      exact ⟨by rw [q1, cv_agree (okt_okv q2) ext_agree], okt_mono q2 (by rw [enx]; omega)⟩
  have hR2 : Rel Z (fun y => if y = nx σ then H.size else φ y) (cln σ r) H1 := by
    have hold : ∀ x, kd (cln σ r) x ≠ 0 → x ≠ nx σ → kd σ x ≠ 0 ∧ kd (cln σ r) x = kd σ x := by
      intro x hx e
      have e2 : kd (cln σ r) x = kd σ x := if_neg e
      exact ⟨by rw [← e2]; exact hx, e2⟩
    refine ⟨by rw [enx]; omega, fun x hx => ?_, fun x y hx hy hs hxy => ?_, by rw [enx]; have := hR.2.2.2.1; omega, fun x q0 q1 => ?_⟩
    · by_cases e : x = nx σ
      · subst e
        exact ⟨hn, by rw [enx]; omega, hcell⟩
      · obtain ⟨q0, q1⟩ := hold x hx e
        obtain ⟨w1, w2, w3⟩ := hR.2.1 x q0
        exact ⟨w1, by rw [enx]; omega, w3.move ⟨by omega, by rw [enx]; omega⟩ ext_agree ⟨by omega, w2⟩ (o1 _ (hR.lt q0)) q1 (if_neg e) (fun i => by
          show (if x = nx σ then σ.2.2.1 r else σ.2.2.1 x) i = σ.2.2.1 x i
          rw [if_neg e])⟩
    · have hxy : (if x = nx σ then H.size else φ x) = (if y = nx σ then H.size else φ y) := hxy
      by_cases ex : x = nx σ <;> by_cases ey : y = nx σ
      · rw [ex, ey]
      · exfalso
        rw [if_pos ex, if_neg ey] at hxy
        have := hR.lt (hold y hy ey).1
        omega
      · exfalso
        rw [if_neg ex, if_pos ey] at hxy
        have := hR.lt (hold x hx ex).1
        omega
      · rw [if_neg ex, if_neg ey] at hxy
        obtain ⟨x0, x1⟩ := hold x hx ex
        obtain ⟨y0, y1⟩ := hold y hy ey
        rw [x1, y1] at hs
        exact hR.2.2.1 x y x0 y0 hs hxy
    · have := hR.2.2.2.1
      exact (ext_agree x q0 (by omega)).trans (hR.2.2.2.2 x q0 q1)
  have k2 := k1 (fun y => if y = nx σ then H.size else φ y) H1 locs lsM ext_agree (((hO.pop).mono (by rw [enx]; omega)).push ⟨Int.le_of_lt hn, by rw [enx]; omega⟩) hR2 ⟨Nat.le_trans hS.1 (by omega), fun x q1 q2 => (o1 x (Nat.lt_of_lt_of_le q1 hS.1)).trans (hS.2.1 x q1 q2), hS.2.2⟩ (by rw [cl_agree (st := rest) hO.pop ext_agree]; exact hl)
  rw [List.map_cons, st_agree hO.pop ext_agree, show cv (fun y => if y = nx σ then H.size else φ y) (2, nx σ) = .ref H.size from (if_neg (by omega)).trans (by rw [ext_at])] at k2
  obtain ⟨t2, b1, b2⟩ := k2 ((T.setVm vm').pushCell { cls := cell.cls, slots := cell.slots }) (by rw [← hH1, ← hT]; rfl) X'
  exact ⟨t2, stp t2 (by rw [hT]; exact b1), b2⟩
/-- getClass() of an array of objects, and its class constant: the reference 130 -/
theorem R_getClass {r : Int} {rest : List AV} {index : Nat} (hd : decode μ.2.1 pc = .ok (.invokevirtual index, 3)) (hlink : Cond.methodLink μ.1.cls index ⟨"java/lang/Object", "getClass", "()Ljava/lang/Class;"⟩ ∈ lw_all) (hdecl : Cond.declares ⟨"java/lang/Object", "getClass", "()Ljava/lang/Class;"⟩ ∈ lw_tbl) (hsel : Cond.selects "[Ljava/lang/Object;" ⟨"java/lang/Object", "getClass", "()Ljava/lang/Class;"⟩ ⟨"java/lang/Object", "getClass", "()Ljava/lang/Class;"⟩ ∈ lw_all) (hinst : Cond.instanceMethod ⟨"java/lang/Object", "getClass", "()Ljava/lang/Class;"⟩ ∈ lw_all) (hnat : Cond.native ⟨"java/lang/Object", "getClass", "()Ljava/lang/Class;"⟩ ∈ lw_all)
    (g : kd σ r = 105) (h8 : wsum rest ≤ 8) (kk : R Z μ d (pc + 3) ls ((2, 130) :: rest) σ o σ') : R Z μ d pc ls ((2, r) :: rest) σ o σ' := by
  refine ⟨kk.1, fun hG hO p e Rm s m args below meth c H locs cells slots mc ms φ0 φ n0 lsM hC hS hR h0 hn hl hf hlo hc1 hc2 hc3 hc4 => ?_⟩
  have k2 := kk.2 hG (hO.pop.push ⟨by decide, by have := hR.2.2.2.1; omega⟩) p e Rm s m args below meth c H locs cells slots mc ms φ0 φ n0 lsM hC hS hR h0 hn hl hf hlo hc1 hc2 hc3 hc4
  obtain ⟨hx, hb, -, hml, -, hown, hts, -, -, hD⟩ := hC
  obtain ⟨cell, a1, a2, a3, a4, a5, a6, a7⟩ := hR.arr (c := 5) (t := .object "java/lang/Object") (Or.inl g) rfl
  rw [List.map_cons, show cv φ (2, 130) = .ref (φ 130) from rfl, hR.2.2.2.2 130 (by decide) (by decide)] at k2
  rw [List.map_cons, show cv φ (2, r) = .ref (φ r) from if_neg a7]
  have hnm := va_nmO (nm := "[Ljava/lang/Object;") (va_RA.moved hD.alike (hG.2.1 5 _ (by omega) rfl).2) (by decide +kernel)
  refine va_getC hx hb (hml.trans hl.1.symm) hown (hts _ hlink) (va_Dc.use (va_Dc.moved hD.alike (va_Dc.of (hG.word hdecl)))) (hts _ hsel) (hts _ hinst) (hts _ hnat) (va_Mi.moved hD.alike hG.2.2.2.2.2.2.2.2.2) ⟨cell, a1, a3, by rw [hnm, a5.2.1 (by omega)]⟩ (by omega) ?_ hd k2
  rw [rest8]; omega
theorem R_ldcM {index : Nat} (hd : decode μ.2.1 pc = .ok (.ldc index, 2)) (hlink : Cond.classLink μ.1.cls index "[Ljava/lang/Object;" ∈ lw_all) (kk : R Z μ d (pc + 2) ls ((2, 130) :: st) σ o σ') : R Z μ d pc ls st σ o σ' := by
  refine R.same kk fun p e Rm s m args below meth c' H locs cells slots Q φ lsM hG hO hC hR hS hl k1 => ?_
  have k2 := k1 lsM (hO.push ⟨by decide, by have := hR.2.2.2.1; omega⟩) hl
  obtain ⟨hx, hb, -, hml, -, hown, hts, -, -, hD⟩ := hC
  rw [List.map_cons, show cv φ (2, 130) = .ref (φ 130) from rfl, hR.2.2.2.2 130 (by decide) (by decide)] at k2
  exact va_ldcM hx hb hown (hts _ hlink) (va_Mi.moved hD.alike hG.2.2.2.2.2.2.2.2.2) hd k2
/-- a call of a static method with handlers -/
theorem R_callSW {ν : MM} {index n : Nat} {h1 : Nat × Nat × Nat × Nat} {hr : List (Nat × Nat × Nat × Nat)} {As rest : List AV} {v : Option AV} {σ1 : AS} (hd : decode μ.2.1 pc = .ok (.invokestatic index, 3)) (cw : GoodIn lw_all (va_wsS μ.1.cls index ν.1 (wsA ν))) (hh : ν.2.2.2.2 = h1 :: hr) (hy : ν.1.cls ≠ "java/lang/invoke/MethodHandle" ∧ ν.1.cls ≠ "java/lang/invoke/VarHandle" ∧ (parseMethodDescriptor ν.1.desc).map (fun d => d.parameters.length) = some n) (hn : As.length = n) (hst : st = As.reverse ++ rest) (hL : ν.2.2.1 ≤ 100) (h8 : wsum rest ≤ 8) (hM : M Z ν d As σ (.inl v) σ1) (kk : R Z μ (d + 1) (pc + 3) ls (v.toList ++ rest) σ1 o σ') : R Z μ (d + 1) pc ls st σ o σ' := by
  subst hst
  refine R.ofRun (a := #[]) hM.1 mem_pop kk fun p e Rm s m args below meth c H locs cells slots φ lsM hG hO hC hR hS hl hf hlo hc1 hc2 => ?_
  obtain ⟨hx, hb, -, hml, -, hown, hts, -, -, hD⟩ := hC
  have hM2 := hM.2 hG (fun x hx => hO.2 x (List.mem_append_left _ (List.mem_reverse.mpr hx))) φ
  have hws : wsA ν = Cond.codeWith ν.1 ν.2.1 ν.2.2.1 ν.2.2.2.1 (h1 :: hr) :: lw_all := by unfold wsA; rw [hh]
  refine ⟨_, vx_runSX (As := As.map (cv φ)) ⟨hx, hb, hml, hown, hts⟩ hM2 (vx_cwSW n hts cw hws rfl rfl hy ⟨?_, ?_⟩) ⟨PcA_blind, fun U hU hW => PcA_at hD hS hR hU hW⟩ rfl (by rw [List.length_map]; exact hn) hl.1 ?_ ?_ hd ⟨hc1, hc2⟩⟩
  · show d + 12 + 1 ≤ Rm.frames; omega
  · show 8 + (ν.2.2.1 + 11) + (160 * d + 300) ≤ Rm.locals; omega
  · show (As.reverse ++ rest).map (cv φ) = (As.map (cv φ)).reverse ++ rest.map (cv φ)
    rw [List.map_append, List.map_reverse]
  · refine lv_room ?_
    rw [rest8]; exact h8
/-- a contract of a method with handlers, out of its walk -/
theorem M.ofH {args : List AV} {h1 : Nat × Nat × Nat × Nat} {hr : List (Nat × Nat × Nat × Nat)} (hy : plainName μ.1.cls = true) (hh : μ.2.2.2.2 = h1 :: hr) (hw : wsum args ≤ μ.2.2.1) (h : R Z μ d 0 (la 0 args) [] σ o σ') : M Z μ d args σ o σ' := by
  refine ⟨h.1, fun hG ha φ => ?_⟩
  have hws : wsA μ = Cond.codeWith μ.1 μ.2.1 μ.2.2.1 μ.2.2.2.1 (h1 :: hr) :: lw_all := by unfold wsA; rw [hh]
  refine vx_ofWH (cc := μ.2.1) (maxL := μ.2.2.1) (ret := μ.2.2.2.1) (hh := h1 :: hr) hy hws ?_
  intro p e s m args' below meth c s₁ B hml hv
  obtain ⟨rfl, hD, hR⟩ := hv
  have hts0 := atoms_spec (ws := wsA μ) B.pre
  have hts : ∀ w ∈ lw_all, w.before _ s = true := fun w h => hts0 w (by rw [hws]; exact List.mem_cons_of_mem _ h)
  have htb := vx_table (x := μ.1) B (hts0 _ (by rw [hws]; exact List.mem_cons_self))
  have hC : Cx Z μ p e s m (args.map (cv φ)).toArray meth c := ⟨B.exec, B.bytes, B.returns, hml, B.notSynchronized, findClass_of_methodNamed B.named, hts, (name_of_methodNamed B.named B.method).1, by rw [hh]; exact htb, hD⟩
  have hl := lv_entry (args.map (cv φ)) (n := μ.2.2.1) (by rw [wsum_sl]; exact hw)
  rw [lg_entry_eq]
  generalize (lg_sl (args.map (cv φ)) ++ List.replicate (μ.2.2.1 - (lg_sl (args.map (cv φ))).length) Slot.unset).toArray = lsM at hl ⊢
  rw [← la_cl] at hl
  exact h.2 hG ⟨la_ok _ _ ha, fun v hv => by cases hv⟩ p e _ s m _ below meth c s.heap [] 0 0 _ _ φ φ (nx σ) lsM hC va_S.rf hR (fun _ _ _ => rfl) (Int.le_refl _) hl (Nat.le_refl _) (Nat.le_refl _) (by omega) (by omega) (Nat.le_refl _) (Nat.le_refl _)
theorem Good.nc {a b : String} (hG : Good Z) (h : Cond.not (.castable a b) ∈ flatC (Jvm.Cond.and given_1 narrow_1)) : va_Nc a b (z0 Z) := va_Nc.of (flat_of_before _ hG.2.2.2.2.2.2.2.2.1 _ h)
theorem R_instNo {r : Int} {index c : Nat} {ct : CT} {nm : String} (hd : decode μ.2.1 pc = .ok (.instanceof index, 3)) (hlink : Cond.classLink μ.1.cls index nm ∈ lw_all) (hc : CLS[c]? = some ct) (hn : Good Z → va_Nc ct.1 nm (z0 Z)) (g : kd σ r = c + 1 ∨ kd σ r = c + 1001) (kk : R Z μ d (pc + 3) ls ((0, 0) :: st) σ o σ') : R Z μ d pc ls ((2, r) :: st) σ o σ' := by
  refine R.same kk fun p e Rm s m args below meth c' H locs cells slots Q φ lsM hG hO hC hR hS hl k1 => ?_
  have k2 := k1 lsM (hO.pop.push ⟨by decide, by decide⟩) hl
  obtain ⟨hx, hb, -, hml, -, hown, hts, -, -, hD⟩ := hC
  obtain ⟨h0, cell, v1, v3, v5⟩ := recv_at hG hD hR hc g
  rw [List.map_cons, show cv φ (2, r) = .ref (φ r) from if_neg h0]
  exact va_instNo hx hb hown (hts _ hlink) (va_Nc.moved hD.alike (hn hG)) ⟨cell, v1, v3, v5⟩ hd k2
theorem nc_test (hG : Good Z) : va_Nc "java/util/LinkedHashMap$Entry" "java/util/HashMap$TreeNode" (z0 Z) := hG.nc (by decide +kernel)
end RR8
