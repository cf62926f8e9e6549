/-! WORDS OF THE SHALLOW FUNCTIONS (written by wip/tools/gen.py), and what their answers say of R -/
set_option maxRecDepth 100000
section SH
variable {α β : Type}
/-- a value with a name -/
def nm (x : α) (k : α → Option β) : Option β := k x
theorem nm_some {x : α} {k : α → Option β} {y : β} (h : nm x k = some y) : ∃ z, z = x ∧ k z = some y := ⟨x, rfl, h⟩
/-- only where c holds -/
def gd (c : Prop) [Decidable c] (k : Option β) : Option β := if c then k else none
theorem gd_some {c : Prop} [Decidable c] {k : Option β} {y : β} (h : gd c k = some y) : c ∧ k = some y := by
  unfold gd at h
  by_cases q : c
  · rw [if_pos q] at h; exact ⟨q, h⟩
  · rw [if_neg q] at h; cases h
theorem gd_pos {c : Prop} [Decidable c] {k : Option β} (h : c) : gd c k = k := if_pos h
/-- only where the number fits an int, a long -/
def gI (x : Int) (k : Option β) : Option β := if -2147483648 ≤ x ∧ x ≤ 2147483647 then k else none
theorem gI_some {x : Int} {k : Option β} {y : β} (h : gI x k = some y) : InI x ∧ k = some y := by
  unfold gI at h
  by_cases q : -2147483648 ≤ x ∧ x ≤ 2147483647
  · rw [if_pos q] at h; exact ⟨q, h⟩
  · rw [if_neg q] at h; cases h
theorem gI_pos {x : Int} {k : Option β} (h : -2147483648 ≤ x ∧ x ≤ 2147483647) : gI x k = k := if_pos h
def gL (x : Int) (k : Option β) : Option β := if -9223372036854775808 ≤ x ∧ x ≤ 9223372036854775807 then k else none
theorem gL_some {x : Int} {k : Option β} {y : β} (h : gL x k = some y) : InL x ∧ k = some y := by
  unfold gL at h
  by_cases q : -9223372036854775808 ≤ x ∧ x ≤ 9223372036854775807
  · rw [if_pos q] at h; exact ⟨q, h⟩
  · rw [if_neg q] at h; cases h
theorem gL_pos {x : Int} {k : Option β} (h : -9223372036854775808 ≤ x ∧ x ≤ 9223372036854775807) : gL x k = k := if_pos h
/-- a call that gives a value; none -/
def c1 (m : Option (Int × AS)) (k : Int → AS → Option β) : Option β := match m with
  | none => none
  | some (a, s) => k a s
theorem c1_some {m : Option (Int × AS)} {k : Int → AS → Option β} {y : β} (h : c1 m k = some y) : ∃ a s, m = some (a, s) ∧ k a s = some y := by
  unfold c1 at h
  cases hm : m with
  | none => rw [hm] at h; cases h
  | some q => rw [hm] at h; exact ⟨q.1, q.2, rfl, h⟩
theorem c1_at {a : Int} {s : AS} {k : Int → AS → Option β} : c1 (some (a, s)) k = k a s := rfl
def c0 (m : Option AS) (k : AS → Option β) : Option β := match m with
  | none => none
  | some s => k s
theorem c0_some {m : Option AS} {k : AS → Option β} {y : β} (h : c0 m k = some y) : ∃ s, m = some s ∧ k s = some y := by
  unfold c0 at h
  cases hm : m with
  | none => rw [hm] at h; cases h
  | some q => rw [hm] at h; exact ⟨q, rfl, h⟩
theorem c0_at {s : AS} {k : AS → Option β} : c0 (some s) k = k s := rfl
/-- a call that may throw, in a method that doesn't catch -/
def cx (m : Option ((Nat ⊕ α) × AS)) (k : α → AS → Option ((Nat ⊕ β) × AS)) : Option ((Nat ⊕ β) × AS) := match m with
  | none => none
  | some (.inl E, s) => some (.inl E, s)
  | some (.inr a, s) => k a s
theorem cx_some {m : Option ((Nat ⊕ α) × AS)} {k : α → AS → Option ((Nat ⊕ β) × AS)} {y : (Nat ⊕ β) × AS} (h : cx m k = some y) : (∃ E s, m = some (.inl E, s) ∧ y = (.inl E, s)) ∨ ∃ a s, m = some (.inr a, s) ∧ k a s = some y := by
  unfold cx at h
  cases hm : m with
  | none => rw [hm] at h; cases h
  | some q =>
    obtain ⟨e, s⟩ := q
    rw [hm] at h
    cases e with
    | inl E => cases h; exact Or.inl ⟨E, s, rfl, rfl⟩
    | inr a => exact Or.inr ⟨a, s, rfl, h⟩
theorem cx_inl {E : Nat} {s : AS} {k : α → AS → Option ((Nat ⊕ β) × AS)} : cx (some ((.inl E : Nat ⊕ α), s)) k = some (.inl E, s) := rfl
theorem cx_inr {a : α} {s : AS} {k : α → AS → Option ((Nat ⊕ β) × AS)} : cx (some (.inr a, s)) k = k a s := rfl
/-- .. in one that catches -/
def cy (m : Option ((Nat ⊕ α) × AS)) (kx : Nat → AS → Option β) (k : α → AS → Option β) : Option β := match m with
  | none => none
  | some (.inl E, s) => kx E s
  | some (.inr a, s) => k a s
theorem cy_some {m : Option ((Nat ⊕ α) × AS)} {kx : Nat → AS → Option β} {k : α → AS → Option β} {y : β} (h : cy m kx k = some y) : (∃ E s, m = some (.inl E, s) ∧ kx E s = some y) ∨ ∃ a s, m = some (.inr a, s) ∧ k a s = some y := by
  unfold cy at h
  cases hm : m with
  | none => rw [hm] at h; cases h
  | some q =>
    obtain ⟨e, s⟩ := q
    rw [hm] at h
    cases e with
    | inl E => exact Or.inl ⟨E, s, rfl, h⟩
    | inr a => exact Or.inr ⟨a, s, rfl, h⟩
end SH
def exN : Nat → String
  | 1 => "java/lang/IndexOutOfBoundsException"
  | 2 => "java/lang/IllegalArgumentException"
  | 3 => "java/lang/UnsupportedOperationException"
  | _ => "java/lang/IllegalStateException"
/-- how a method that may throw ends -/
def oX (t : Nat) : Nat ⊕ Int → AO
  | .inl E => .inr (exN E)
  | .inr x => .inl (some (t, x))
def oXv : Nat ⊕ Unit → AO
  | .inl E => .inr (exN E)
  | .inr _ => .inl none
section SR
variable {Z : ZT} {μ : MM} {d pc : Nat} {ls : List (Nat × AV)} {st : List AV} {σ : AS} {o : AO} {σ' : AS}
theorem R_ch {σ1 : AS} (e : σ1 = σ) (k : R Z μ d pc ls st σ1 o σ') : R Z μ d pc ls st σ o σ' := e ▸ k
theorem R_top {t : Nat} {x y : Int} (e : y = x) (k : R Z μ d pc ls ((t, y) :: st) σ o σ') : R Z μ d pc ls ((t, x) :: st) σ o σ' := e ▸ k
theorem R_out {o1 : AO} (e : o1 = o) (k : R Z μ d pc ls st σ o1 σ') : R Z μ d pc ls st σ o σ' := e ▸ k
theorem M.of' {args : List AV} (hy : plainName μ.1.cls = true) (hh : μ.2.2.2.2 = []) (hw : Nat.ble (wsum args) μ.2.2.1 = true) (hl : la 0 args = ls) (h : R Z μ d 0 ls [] σ o σ') : M Z μ d args σ o σ' := M.of hy hh (Nat.le_of_ble_eq_true hw) (by rw [hl]; exact h)
theorem M.ofH' {args : List AV} {h1 : Nat × Nat × Nat × Nat} {hr : List (Nat × Nat × Nat × Nat)} (hy : plainName μ.1.cls = true) (hh : μ.2.2.2.2 = h1 :: hr) (hw : Nat.ble (wsum args) μ.2.2.1 = true) (hl : la 0 args = ls) (h : R Z μ d 0 ls [] σ o σ') : M Z μ d args σ o σ' := M.ofH hy hh (Nat.le_of_ble_eq_true hw) (by rw [hl]; exact h)
/-- a cast to an array's class -/
theorem R_checkcastA {r : Int} {index : Nat} (c : Nat) {t : FieldType} {nm : String} (hc : ATY[c]? = some t) (h5 : c < 5) (hnm : nm = "[" ++ t.toString) (hd : decode μ.2.1 pc = .ok (.checkcast index, 3)) (hlink : Cond.classLink μ.1.cls index nm ∈ lw_all) (g : kd σ r = c + 100) (kk : R Z μ d (pc + 3) ls ((2, r) :: st) σ o σ') : R Z μ d pc ls ((2, r) :: st) σ o σ' := by
  refine R.same kk fun p e Rm s m args below meth c' H locs cells slots Q φ lsM hG hO hC hR hS hl k1 => ?_
  obtain ⟨hx, hb, -, -, -, hown, hts, -, -, hD⟩ := hC
  have k2 := k1 lsM hO hl
  obtain ⟨cell, a1, a2, a3, a4, a5, a6, a7⟩ := hR.arr (Or.inl g) hc
  have hf : s.vm.findClass nm = some cell.cls := by
    have h1 := (hG.2.1 c _ (by omega) hc).2
    have h2 : (z0 Z).vm.findClass ("[" ++ t.toString) = some (zdA Z c) := by
      have : c = 0 ∨ c = 1 ∨ c = 2 ∨ c = 3 ∨ c = 4 := by omega
      rcases this with rfl | rfl | rfl | rfl | rfl <;> (cases hc; exact h1)
    rw [hnm, hD.alike.findClass, h2, a5.2.1 (by omega)]
  rw [List.map_cons, show cv φ (2, r) = .ref (φ r) from if_neg a7] at k2 ⊢
  intro T hT X
  obtain ⟨vm', X', stp⟩ := X.checkcastYes hx hown (hts _ hlink) (by rw [hT]; exact a1) a3 hf (va_asg _ _) (g := F0 m pc lsM (.ref (φ r) :: _)) rfl rfl (by rw [hb]; exact hd)
  obtain ⟨t2, a1, b1⟩ := k2 (T.setVm vm') hT X'
  exact ⟨t2, stp t2 a1, b1⟩
end SR
/-- words of the other calls (as lw_V, lw_S) -/
theorem lw_F {own : String} {idx : Nat} {C : String} {x y : MethodName} {b : ByteArray} {L : Nat} {r : Option FieldType} (h1 : Cond.methodLink own idx x ∈ lw_all) (h2 : Cond.selects C x y ∈ lw_all) (h3 : Cond.instanceMethod y ∈ lw_all) (h4 : Cond.initialized y.cls ∈ lw_all) (h5 : Cond.code y b L r ∈ lw_all) : GoodIn lw_all (va_wsF own idx C x y (ws_ y b L r)) := lw_app (List.forall_mem_cons.mpr ⟨h1, List.forall_mem_cons.mpr ⟨h2, List.forall_mem_cons.mpr ⟨h3, List.forall_mem_cons.mpr ⟨h4, fun _ h => absurd h List.not_mem_nil⟩⟩⟩⟩) (lw_meth h5)
theorem lw_U {own : String} {idx : Nat} {C owner : String} {x y : MethodName} {b : ByteArray} {L : Nat} {r : Option FieldType} (h1 : Cond.methodLink own idx x ∈ lw_all) (h2 : Cond.sameMethod x.cls owner x.name x.desc ∈ lw_all) (h3 : Cond.selects C x y ∈ lw_all) (h4 : Cond.instanceMethod y ∈ lw_all) (h5 : Cond.initialized y.cls ∈ lw_all) (h6 : Cond.code y b L r ∈ lw_all) : GoodIn lw_all (va_wsU own idx C owner x y (ws_ y b L r)) := lw_app (List.forall_mem_cons.mpr ⟨h1, List.forall_mem_cons.mpr ⟨h2, List.forall_mem_cons.mpr ⟨h3, List.forall_mem_cons.mpr ⟨h4, List.forall_mem_cons.mpr ⟨h5, fun _ h => absurd h List.not_mem_nil⟩⟩⟩⟩⟩) (lw_meth h6)
theorem lw_O {own : String} {idx : Nat} {C owner : String} {x y : MethodName} {b : ByteArray} {L : Nat} {r : Option FieldType} (h1 : Cond.methodLink own idx x ∈ lw_all) (h2 : Cond.sameMethod x.cls owner x.name x.desc ∈ lw_all) (h3 : Cond.instanceMethod ⟨owner, x.name, x.desc⟩ ∈ lw_all) (h4 : Cond.selects C x y ∈ lw_all) (h5 : Cond.instanceMethod y ∈ lw_all) (h6 : Cond.initialized y.cls ∈ lw_all) (h7 : Cond.code y b L r ∈ lw_all) : GoodIn lw_all (va_wsO own idx C owner x y (ws_ y b L r)) := lw_app (List.forall_mem_cons.mpr ⟨h1, List.forall_mem_cons.mpr ⟨h2, List.forall_mem_cons.mpr ⟨h3, List.forall_mem_cons.mpr ⟨h4, List.forall_mem_cons.mpr ⟨h5, List.forall_mem_cons.mpr ⟨h6, fun _ h => absurd h List.not_mem_nil⟩⟩⟩⟩⟩⟩) (lw_meth h7)
theorem lw_SU {own : String} {idx : Nat} {y : MethodName} {b : ByteArray} {L : Nat} {r : Option FieldType} (h1 : Cond.methodLink own idx y ∈ lw_all) (h2 : Cond.sameMethod y.cls y.cls y.name y.desc ∈ lw_all) (h3 : Cond.superclass own y.cls ∈ lw_all) (h4 : Cond.instanceMethod y ∈ lw_all) (h5 : Cond.initialized y.cls ∈ lw_all) (h6 : Cond.code y b L r ∈ lw_all) : GoodIn lw_all (va_wsSU own idx y (ws_ y b L r)) := lw_app (List.forall_mem_cons.mpr ⟨h1, List.forall_mem_cons.mpr ⟨h2, List.forall_mem_cons.mpr ⟨h3, List.forall_mem_cons.mpr ⟨h4, List.forall_mem_cons.mpr ⟨h5, fun _ h => absurd h List.not_mem_nil⟩⟩⟩⟩⟩) (lw_meth h6)
section SQ
variable {Z : ZT} {μ : MM} {d pc : Nat} {ls : List (Nat × AV)} {st : List AV} {σ : AS} {o : AO} {σ' : AS}
/-- only where the proposition holds, decidable or not -/
noncomputable def gdc {β : Type} (c : Prop) (k : Option β) : Option β := by
  classical
  exact if c then k else none
theorem gdc_some {β : Type} {c : Prop} {k : Option β} {y : β} (h : gdc c k = some y) : c ∧ k = some y := by
  unfold gdc at h
  by_cases q : c
  · rw [if_pos q] at h; exact ⟨q, h⟩
  · rw [if_neg q] at h; cases h
theorem gdc_pos {β : Type} {c : Prop} {k : Option β} (h : c) : gdc c k = k := by
  unfold gdc
  rw [if_pos h]
/-- an object of a class that the list CLS has (no array, no constant) -/
def obj (σ : AS) (v : Int) : Prop := 1 ≤ kd σ v ∧ kd σ v ≤ 33
theorem R_aaload2 {r j : Int} (c c2 : Nat) {E E2 : String} (hE : ATY[c]? = some (.object E)) (hE2 : ATY[c2]? = some (.object E2)) (hd : decode μ.2.1 pc = .ok (.aaload, 1)) (g : kd σ r = c + 100 ∨ kd σ r = c2 + 100) (g0 : 0 ≤ j) (g1 : j < ln σ r) (kk : R Z μ d (pc + 1) ls ((2, ld σ r j) :: st) σ o σ') : R Z μ d pc ls ((0, j) :: (2, r) :: st) σ o σ' := by
  rcases g with g | g
  · exact R_aaload c hE hd (Or.inl g) g0 g1 kk
  · exact R_aaload c2 hE2 hd (Or.inl g) g0 g1 kk
end SQ
section SP
variable {Z : ZT} {μ : MM} {d pc : Nat} {ls : List (Nat × AV)} {st : List AV} {σ : AS} {o : AO} {σ' : AS}
/-- a private method of a class above the receiver's; zz: another method of that class, that the tables select -/
theorem R_callP {ν : MM} {zz : MethodName} {index n c : Nat} {ct : CT} {r : Int} {As rest : List AV} {v : Option AV} {σ1 : AS} (hd : decode μ.2.1 pc = .ok (.invokevirtual index, 3)) (hc : CLS[c]? = some ct) (cw : GoodIn lw_all (wsA ν)) (hlink : Cond.methodLink μ.1.cls index ν.1 ∈ lw_all) (hinst : Cond.instanceMethod ν.1 ∈ lw_all) (hpriv : Cond.privateMethod ν.1 ∈ lw_tbl) (hini : Cond.initialized ν.1.cls ∈ lw_all) (hz : Cond.selects ct.1 zz zz ∈ lw_all) (hzc : zz.cls = ν.1.cls) (hh : ν.2.2.2.2 = []) (hy : ν.1.cls ≠ "java/lang/invoke/MethodHandle" ∧ ν.1.cls ≠ "java/lang/invoke/VarHandle" ∧ (parseMethodDescriptor ν.1.desc).map (fun d => d.parameters.length) = some n) (hn : As.length = n) (hst : st = ((2, r) :: As).reverse ++ rest) (hL : ν.2.2.1 ≤ 100) (h8 : wsum rest ≤ 8) (g : kd σ r = c + 1 ∨ kd σ r = c + 1001) (hM : M Z ν d ((2, r) :: As) σ (.inl v) σ1) (kk : R Z μ (d + 1) (pc + 3) ls (v.toList ++ rest) σ1 o σ') : R Z μ (d + 1) pc ls st σ o σ' := by
  subst hst
  refine R.ofRun (a := #[]) hM.1 mem_pop kk fun p e Rm s m args below meth c H locs cells slots φ lsM hG hO hC hR hS hl hf hlo hc1 hc2 => ?_
  obtain ⟨hx, hb, -, hml, -, hown, hts, -, -, hD⟩ := hC
  have hM2 := hM.2 hG (fun x hx => hO.2 x (List.mem_append_left _ (List.mem_reverse.mpr hx))) φ
  have hws : wsA ν = Cond.code ν.1 ν.2.1 ν.2.2.1 ν.2.2.2.1 :: lw_all := by unfold wsA; rw [hh]
  obtain ⟨h0, hcell⟩ := recv_at hG hD hR hc g
  have hpr : (Cond.privateMethod ν.1).before args s = true := by
    have h2 : va_Nw (.privateMethod ν.1) (z0 Z) := va_Nw.of rfl (hG.word hpriv)
    have h3 : (Cond.privateMethod ν.1).before #[] ((z0 Z).setVm s.vm) = true := by rw [Cond.privateMethod_setVm hD.alike]; exact h2
    exact va_tabs rfl (rfl : ((z0 Z).setVm s.vm).vm = s.vm) h3
  have hsel : (Cond.selects ct.1 ν.1 ν.1).before args s = true := by
    obtain ⟨c9, r9, m9, q1, q2, q3, q4, mk9, q5, q6⟩ := Cond.selects_spec (hts _ hz)
    obtain ⟨mk, methM, hnamed, hmethM, -, -⟩ := Cond.instanceMethod_spec (hts _ hinst)
    have hfound : s.methodFound? ν.1.cls ν.1.name ν.1.desc = some mk := State.methodFound?_of_named hnamed ⟨hy.1, hy.2.1⟩
    have hcls : mk.cls = m9.cls := by
      have e1 := findClass_of_methodNamed hnamed
      have e2 := findClass_of_methodNamed q3
      rw [hzc] at e2
      exact Option.some.inj (e1.symm.trans e2)
    have hsl : selectMethod {} s.vm c9 mk = .method mk := selectMethod_private hmethM (Cond.privateMethod_at hpr mk methM hnamed hmethM)
    have q5' : s.vm.classes[mk.cls]? = some mk9 := by rw [hcls]; exact q5
    simp only [Cond.before, Cond.holds, Cond.value, q1, hfound, hnamed, hsl, q5']
    simp; exact q6
  refine ⟨_, vx_runV (C := ct.1) (As := As.map (cv φ)) (b := φ r) ⟨hx, hb, hml, hown, hts⟩ hM2 ⟨callB_of n hts cw hws rfl rfl (hts _ hini) (hts _ hlink) hy ⟨?_, ?_⟩, hts _ hinst, hsel⟩ ⟨PcA_blind, hcell, fun U hU hW => by have q := PcA_at (As := (2, r) :: As) hD hS hR hU hW; rw [List.map_cons, show cv φ (2, r) = .ref (φ r) from if_neg h0] at q; exact q⟩ rfl (by rw [List.length_map]; exact hn) hl.1 ?_ ?_ hd ⟨hc1, hc2⟩⟩
  · show d + 12 + 1 ≤ Rm.frames; omega
  · show 8 + (ν.2.2.1 + 11) + (160 * d + 300) ≤ Rm.locals; omega
  · show (((2, r) :: As).reverse ++ rest).map (cv φ) = (As.map (cv φ)).reverse ++ .ref (φ r) :: rest.map (cv φ)
    rw [List.map_append, List.map_reverse, List.map_cons, show cv φ (2, r) = .ref (φ r) from if_neg h0, List.reverse_cons, List.append_assoc]
    rfl
  · refine lv_room ?_
    rw [rest8]; exact h8
end SP
