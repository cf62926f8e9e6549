/-! RULES OF R: exceptions: thrown, passed on, caught -/
set_option maxRecDepth 100000
section RR7
variable {Z : ZT} {μ : MM} {d pc : Nat} {ls : List (Nat × AV)} {st : List AV} {σ : AS} {o : AO} {σ' : AS}
def amT : Cond → Bool
  | .declares _ => true
  | .castable _ _ => true
  | w => goodWord w
theorem Good.cast {s : State} {args : Array Value} (hG : Good Z) (hD : Desc Z s) {a b : String} (h : Cond.castable a b ∈ lw_tbl) : (Cond.castable a b).before args s = true := by
  have h2 : va_Nw (.castable a b) (z0 Z) := va_Nw.of rfl (hG.word h)
  have h3 : (Cond.castable a b).before #[] ((z0 Z).setVm s.vm) = true := by rw [Cond.castable_setVm hD.alike]; exact h2
  exact va_tabs rfl (rfl : ((z0 Z).setVm s.vm).vm = s.vm) h3
theorem Good.tabs {s : State} {args : Array Value} (hG : Good Z) (hD : Desc Z s) (hts : ∀ w ∈ lw_all, w.before args s = true) {ws : List Cond} (ps : List Nat) (hp : ws = ps.filterMap (fun i => lw_tbl[i]?)) (ht : ws.all amT = true) : ∀ w ∈ ws, w.before args s = true := by
  intro w hw
  have h1 := List.all_eq_true.mp ht w hw
  rw [hp] at hw
  obtain ⟨i, -, hi⟩ := List.mem_filterMap.mp hw
  have hm := List.mem_of_getElem? hi
  by_cases hg : goodWord w = true
  · exact hts w (lw_g hm hg)
  · cases w with
    | declares x =>
      have h2 : va_Nw (.declares x) (z0 Z) := va_Nw.of rfl (hG.word hm)
      have h3 : (Cond.declares x).before #[] ((z0 Z).setVm s.vm) = true := by rw [Cond.declares_setVm hD.alike]; exact h2
      exact va_tabs rfl (rfl : ((z0 Z).setVm s.vm).vm = s.vm) h3
    | castable a b => exact hG.cast hD hm
    | _ => exact absurd h1 hg
theorem Good.stat {s : State} {C n desc : String} (hD : Desc Z s) (h : vx_Zq C n desc (AA Z) (z0 Z) (z0 Z).heap) : vx_Zq C n desc (AA Z) s s.heap := vx_Zq.moved hD.alike (vx_Zq.kept h (fun a ha _ => hD.2.2 a ha))
theorem thrown_at {φ φ0 : Int → Nat} {H : Heap} {s : State} {locs : List Loc} {n0 : Int} {cls : String} (hS : va_S (AA Z) s.heap H locs) (hR : Rel Z φ σ H) (h0 : ∀ r, 0 ≤ r → r < n0 → φ r = φ0 r) (hn : n0 ≤ nx σ) : ∀ t : State, s.vm.Alike t.vm → H.size ≤ t.heap.size → (∀ q : Nat, q < H.size → t.heap[q]? = H[q]?) → XcA Z φ0 n0 (.inr cls) (al σ 0 0 6) cls s t := by
  intro t _ h1 h2
  refine ⟨fun y => if y = nx σ then 0 else φ y, fun r g1 g2 => (ext_agree r g1 (by omega)).trans (h0 r g1 g2), hR.new h2 (fun q => absurd rfl q), ⟨Nat.le_trans hS.1 h1, fun q g1 g2 => (h2 q (Nat.lt_of_lt_of_le g1 hS.1)).trans (hS.2.1 q g1 g2)⟩, rfl⟩
/-- throw new E("text") -/
theorem R_throwS {cls tx : String} {names : List String} {ik is ic : Nat} {r : Int} (hcls : Bundle.fit cls = true) (hnames : ∀ n ∈ names, Bundle.fit n = true) (h2 : names.length = 2) (hh : μ.2.2.2.2 = []) (hk : Cond.classLink μ.1.cls ik cls ∈ lw_all) (hini : Cond.initialized cls ∈ lw_all) (hq : (μ.1.cls, is, tx, r) ∈ STRS) (ps : List Nat) (hp : vx_atS μ.1.cls ic cls names = ps.filterMap (fun i => lw_tbl[i]?)) (ht : (vx_atS μ.1.cls ic cls names).all amT = true) (hot : (Cond.classLink μ.1.cls ik cls :: Cond.initialized cls :: vx_atS μ.1.cls ic cls names).all vx_ot = true)
    (d0 : decode μ.2.1 pc = .ok (.new ik, 3)) (d3 : decode μ.2.1 (pc + 3) = .ok (.dup, 1)) (d4 : decode μ.2.1 (pc + 4) = .ok (.ldc is, 2)) (d6 : decode μ.2.1 (pc + 6) = .ok (.invokespecial ic, 3)) (d9 : decode μ.2.1 (pc + 9) = .ok (.athrow, 1)) (h8 : wsum st ≤ 8) : R Z μ d pc ls st σ (.inr cls) (al σ 0 0 6) := by
  refine ⟨mono_al (by omega), fun hG hO p e Rm s m args below meth c H locs cells slots mc ms φ0 φ n0 lsM hC hS hR h0 hn hl hf hlo hc1 hc2 hc3 hc4 => ?_⟩
  obtain ⟨hx, hb, -, hml, hlk, hown, hts, -, hex, hD⟩ := hC
  have e1 : (nx (al σ 0 0 6) - nx σ).toNat = 1 := by rw [nx_al]; omega
  have e2 : (us (al σ 0 0 6) - us σ).toNat = 6 := by rw [us_al]; omega
  rw [e1] at hc1
  rw [e2] at hc2
  refine vx_throwS hx hb hG.2.2.2.1 hown hcls hnames (hts _ hk) (hts _ hini) (vk_R.warm hD.1 (hG.2.2.2.2.2.2.1 _ hq)) (hG.tabs hD hts ps hp ht) (List.all_eq_true.mp hot) (Good.stat hD hG.2.2.2.2.1) (Good.stat hD hG.2.2.2.2.2.1) hS (hl.1.trans hml.symm) d0 d3 d4 d6 d9 (fun x hx9 => by rw [hex, hh] at hx9; cases hx9) (by omega) ?_ (by omega) (by omega) hlk (thrown_at hS hR h0 hn) hS.2.2 hc1 hc2
  rw [rest8, h2]; omega
/-- throw new E() -/
theorem R_throw0 {cls : String} {names : List String} {ik ic : Nat} (hcls : Bundle.fit cls = true) (hnames : ∀ n ∈ names, Bundle.fit n = true) (h2 : names.length = 2) (hh : μ.2.2.2.2 = []) (hk : Cond.classLink μ.1.cls ik cls ∈ lw_all) (hini : Cond.initialized cls ∈ lw_all) (ps : List Nat) (hp : vx_at0 μ.1.cls ic cls names = ps.filterMap (fun i => lw_tbl[i]?)) (ht : (vx_at0 μ.1.cls ic cls names).all amT = true) (hot : (Cond.classLink μ.1.cls ik cls :: Cond.initialized cls :: vx_at0 μ.1.cls ic cls names).all vx_ot = true)
    (d0 : decode μ.2.1 pc = .ok (.new ik, 3)) (d3 : decode μ.2.1 (pc + 3) = .ok (.dup, 1)) (d4 : decode μ.2.1 (pc + 4) = .ok (.invokespecial ic, 3)) (d7 : decode μ.2.1 (pc + 7) = .ok (.athrow, 1)) (h8 : wsum st ≤ 8) : R Z μ d pc ls st σ (.inr cls) (al σ 0 0 6) := by
  refine ⟨mono_al (by omega), fun hG hO p e Rm s m args below meth c H locs cells slots mc ms φ0 φ n0 lsM hC hS hR h0 hn hl hf hlo hc1 hc2 hc3 hc4 => ?_⟩
  obtain ⟨hx, hb, -, hml, hlk, hown, hts, -, hex, hD⟩ := hC
  have e1 : (nx (al σ 0 0 6) - nx σ).toNat = 1 := by rw [nx_al]; omega
  have e2 : (us (al σ 0 0 6) - us σ).toNat = 6 := by rw [us_al]; omega
  rw [e1] at hc1
  rw [e2] at hc2
  refine vx_throw0 hx hb hG.2.2.2.1 hown hcls hnames (hts _ hk) (hts _ hini) (hG.tabs hD hts ps hp ht) (List.all_eq_true.mp hot) (Good.stat hD hG.2.2.2.2.1) (Good.stat hD hG.2.2.2.2.2.1) hS (hl.1.trans hml.symm) d0 d3 d4 d7 (fun x hx9 => by rw [hex, hh] at hx9; cases hx9) (by omega) ?_ (by omega) (by omega) hlk (thrown_at hS hR h0 hn) hS.2.2 hc1 hc2
  rw [rest8, h2]; omega
/-- behind a call that throws: what is owed of the frame with the exception over it -/
theorem R.ofRunX {E : String} {rest : List AV} {σ1 : AS} (hm : Mono σ σ1) (hrest : Ok (nx σ) ls st → Ok (nx σ) ls rest) (hm2 : Mono σ1 σ')
    (kk : ∀ (p : Program) (e : Env) (Rm : Room) (s : State) (m : MethodId) (args : Array Value) (below : List Frame) (meth : Method) (c : Code) (H : Heap) (locs : List Loc) (cells slots mc ms : Nat) (φ0 φ : Int → Nat) (n0 : Int) (lsM : Array Slot) (q : Addr) (ce : Cell), Good Z → Ok (nx σ1) ls rest → Cx Z μ p e s m args meth c → va_S (AA Z) s.heap H locs → Rel Z φ σ1 H → (∀ r, 0 ≤ r → r < n0 → φ r = φ0 r) → n0 ≤ nx σ1 → lv_has lsM μ.2.2.1 (cl φ ls) → d + 12 ≤ Rm.frames → 160 * d + 300 ≤ Rm.locals → cells + (nx σ' - nx σ1).toNat ≤ mc → slots + (us σ' - us σ1).toNat ≤ ms → mc ≤ Rm.cells → ms ≤ Rm.slots →
      H[q]? = some ce → ce.vm = .none → s.vm.findClass E = some ce.cls → vx_W p (zl Z) e Rm s m args below meth c H locs cells slots (vx_MQ below (QcA Z φ0 n0 o σ') (XcA Z φ0 n0 o σ') args s mc ms (AA Z)) (F0 m pc lsM (rest.map (cv φ))) q)
    (run : ∀ (p : Program) (e : Env) (Rm : Room) (s : State) (m : MethodId) (args : Array Value) (below : List Frame) (meth : Method) (c : Code) (H : Heap) (locs : List Loc) (cells slots : Nat) (φ : Int → Nat) (lsM : Array Slot), Good Z → Ok (nx σ) ls st → Cx Z μ p e s m args meth c → Rel Z φ σ H → va_S (AA Z) s.heap H locs → lv_has lsM μ.2.2.1 (cl φ ls) → d + 12 ≤ Rm.frames → 160 * d + 300 ≤ Rm.locals → cells + (nx σ1 - nx σ).toNat ≤ Rm.cells → slots + (us σ1 - us σ).toNat ≤ Rm.slots →
      ∃ a, vx_Run p (zl Z) e Rm s m args below meth c H locs cells slots (nx σ1 - nx σ).toNat (us σ1 - us σ).toNat (F0 m pc lsM (st.map (cv φ))) (rest.map (cv φ)) (QcA Z φ (nx σ) (.inr E) σ1 a) (XcA Z φ (nx σ) (.inr E) σ1) (AA Z)) : R Z μ d pc ls st σ o σ' := by
  refine ⟨hm.trans hm2, fun hG hO p e Rm s m args below meth c H locs cells slots mc ms φ0 φ n0 lsM hC hS hR h0 hn hl hf hlo hc1 hc2 hc3 hc4 => ?_⟩
  have a1 := hm.1
  have a2 := hm.2
  have b1 := hm2.1
  have b2 := hm2.2
  obtain ⟨a, hr⟩ := run p e Rm s m args below meth c H locs cells slots φ lsM hG hO hC hR hS hl hf hlo (by omega) (by omega)
  intro T hT X
  rcases hr T hT X with ⟨v', st₀, t, T', L, g0, X', hL, e1, e2, ⟨φ', v2, hφ, hR', hF, ho, hv, hoc⟩, stp⟩ | ⟨q, st₀, t, T', L, E2, ce, g0, X', hL, e1, e2, ⟨φ', hφ, hR', hF, ho⟩, hce, hcv, hcl, stp⟩
  · cases ho
  · cases ho
    have hOr := hrest hO
    obtain ⟨q1, q2, q3⟩ := vx_keep g0 e1 hS (fun _ _ z => z) (fun _ z => z) hL hF
    have k2 := kk p e Rm s m args below meth c T'.heap (locs ++ L) (cells + (nx σ1 - nx σ).toNat) (slots + (us σ1 - us σ).toNat) mc ms φ0 φ' n0 lsM q ce hG (hOr.mono hm.1) hC q3 (by rw [e1]; exact hR') (fun r g1 g2 => (hφ r g1 (by omega)).trans (h0 r g1 g2)) (by omega) (by rw [cl_agree (st := st) hO hφ]; exact hl) hf hlo (by omega) (by omega) hc3 hc4 (by rw [e1]; exact hce) hcv hcl
    obtain ⟨t2, c1, c2⟩ := k2 T' rfl X'
    rw [st_agree hOr hφ] at c1
    exact ⟨t2, stp.trans c1, c2⟩
/-- .. it goes on to the caller -/
theorem R.pass {E : String} {rest : List AV} {σ1 : AS} (hh : μ.2.2.2.2 = []) (hm : Mono σ σ1) (hrest : Ok (nx σ) ls st → Ok (nx σ) ls rest)
    (run : ∀ (p : Program) (e : Env) (Rm : Room) (s : State) (m : MethodId) (args : Array Value) (below : List Frame) (meth : Method) (c : Code) (H : Heap) (locs : List Loc) (cells slots : Nat) (φ : Int → Nat) (lsM : Array Slot), Good Z → Ok (nx σ) ls st → Cx Z μ p e s m args meth c → Rel Z φ σ H → va_S (AA Z) s.heap H locs → lv_has lsM μ.2.2.1 (cl φ ls) → d + 12 ≤ Rm.frames → 160 * d + 300 ≤ Rm.locals → cells + (nx σ1 - nx σ).toNat ≤ Rm.cells → slots + (us σ1 - us σ).toNat ≤ Rm.slots →
      ∃ a, vx_Run p (zl Z) e Rm s m args below meth c H locs cells slots (nx σ1 - nx σ).toNat (us σ1 - us σ).toNat (F0 m pc lsM (st.map (cv φ))) (rest.map (cv φ)) (QcA Z φ (nx σ) (.inr E) σ1 a) (XcA Z φ (nx σ) (.inr E) σ1) (AA Z)) : R Z μ d pc ls st σ (.inr E) σ1 := by
  refine R.ofRunX hm hrest Mono.rf (fun p e Rm s m args below meth c H locs cells slots mc ms φ0 φ n0 lsM q ce hG hO hC hS hR h0 hn hl hf hlo hc1 hc2 hc3 hc4 hq hv hcl => ?_) run
  obtain ⟨hx, hb, -, hml, hlk, hown, hts, -, hex, hD⟩ := hC
  exact vx_out (fun x hx9 => by rw [hex, hh] at hx9; cases hx9) hlk hq hv hcl (fun t ht hA => ⟨φ, h0, by rw [ht]; exact hR, hS.F ht, rfl⟩) hS.2.2 (by omega) (by omega)
/-- .. the row x of this method's table takes it -/
theorem R.catch {E name : String} {rest : List AV} {σ1 : AS} (hm : Mono σ σ1) (hrest : Ok (nx σ) ls st → Ok (nx σ) ls rest) (pre : List (Nat × Nat × Nat × Nat)) (x : Nat × Nat × Nat × Nat) (suf : List (Nat × Nat × Nat × Nat)) (hsp : μ.2.2.2.2 = pre ++ x :: suf) (hpass : ∀ z ∈ pre, z.2.2.2 ≠ 0 ∧ ∃ nm : String, Cond.classLink μ.1.cls z.2.2.2 nm ∈ lw_all ∧ (Good Z → va_Nc E nm (z0 Z))) (hx : x.1 ≤ pc ∧ pc < x.2.1) (h0 : x.2.2.2 ≠ 0) (hlink : Cond.classLink μ.1.cls x.2.2.2 name ∈ lw_all) (hcast : Cond.castable E name ∈ lw_tbl)
    (kk : R Z μ d x.2.2.1 ls [(2, nx σ1)] (al σ1 0 0 0) o σ')
    (run : ∀ (p : Program) (e : Env) (Rm : Room) (s : State) (m : MethodId) (args : Array Value) (below : List Frame) (meth : Method) (c : Code) (H : Heap) (locs : List Loc) (cells slots : Nat) (φ : Int → Nat) (lsM : Array Slot), Good Z → Ok (nx σ) ls st → Cx Z μ p e s m args meth c → Rel Z φ σ H → va_S (AA Z) s.heap H locs → lv_has lsM μ.2.2.1 (cl φ ls) → d + 12 ≤ Rm.frames → 160 * d + 300 ≤ Rm.locals → cells + (nx σ1 - nx σ).toNat ≤ Rm.cells → slots + (us σ1 - us σ).toNat ≤ Rm.slots →
      ∃ a, vx_Run p (zl Z) e Rm s m args below meth c H locs cells slots (nx σ1 - nx σ).toNat (us σ1 - us σ).toNat (F0 m pc lsM (st.map (cv φ))) (rest.map (cv φ)) (QcA Z φ (nx σ) (.inr E) σ1 a) (XcA Z φ (nx σ) (.inr E) σ1) (AA Z)) : R Z μ d pc ls st σ o σ' := by
  refine R.ofRunX hm hrest ((mono_al (Int.le_refl 0)).trans kk.1) (fun p e Rm s m args below meth c H locs cells slots mc ms φ0 φ n0 lsM q ce hG hO hC hS hR g0 hn hl hf hlo hc1 hc2 hc3 hc4 hq hv hcl => ?_) run
  have hC2 := hC
  obtain ⟨hx1, hb, -, hml, hlk, hown, hts, -, hex, hD⟩ := hC
  have hn1 := hR.1
  have hR2 : Rel Z (fun y => if y = nx σ1 then q else φ y) (al σ1 0 0 0) H := hR.new (fun _ _ => rfl) (fun z => absurd rfl z)
  refine vx_catch (E := E) hown (pre.map (fun h => (⟨h.1, h.2.1, h.2.2.1, h.2.2.2⟩ : ExceptionTableEntry))) ⟨x.1, x.2.1, x.2.2.1, x.2.2.2⟩ (suf.map (fun h => (⟨h.1, h.2.1, h.2.2.1, h.2.2.2⟩ : ExceptionTableEntry))) (by rw [hex, hsp, List.map_append, List.map_cons]) (fun z hz => ?_) (by simp [covers, hx.1, hx.2]) h0 (hts _ hlink) (hG.cast hD hcast) hq hv hcl ?_
  · obtain ⟨z0, hz0, rfl⟩ := List.mem_map.mp hz
    obtain ⟨g1, nm, g2, g3⟩ := hpass z0 hz0
    exact Or.inr ⟨g1, nm, hts _ g2, va_Nc.moved hD.alike (g3 hG)⟩
  · have a1 := kk.1.1
    have a2 := kk.1.2
    rw [nx_al] at a1
    rw [us_al] at a2
    have k2 := kk.2 hG (by
        refine ⟨(hO.mono (by rw [nx_al]; omega)).1, fun v hv9 => ?_⟩
        rcases List.mem_cons.mp hv9 with e9 | e9
        · rw [e9]; exact ⟨by omega, by rw [nx_al]; omega⟩
        · cases e9) p e Rm s m args below meth c H locs cells slots mc ms φ0 (fun y => if y = nx σ1 then q else φ y) n0 lsM hC2 hS hR2 (fun r g1 g2 => (ext_agree r g1 (by omega)).trans (g0 r g1 g2)) (by rw [nx_al]; omega) (by rw [cl_agree (st := rest) hO ext_agree]; exact hl) hf hlo (by rw [nx_al]; omega) (by rw [us_al]; omega) hc3 hc4
    rw [List.map_cons, show cv (fun y => if y = nx σ1 then q else φ y) (2, nx σ1) = .ref q from (if_neg (by omega)).trans (by rw [ext_at])] at k2
    exact k2
theorem run_S {ν : MM} {index n : Nat} {As rest : List AV} {o1 : AO} {σ1 : AS} (hd : decode μ.2.1 pc = .ok (.invokestatic index, 3)) (cw : GoodIn lw_all (va_wsS μ.1.cls index ν.1 (wsA ν))) (hh : ν.2.2.2.2 = []) (hy : ν.1.cls ≠ "java/lang/invoke/MethodHandle" ∧ ν.1.cls ≠ "java/lang/invoke/VarHandle" ∧ (parseMethodDescriptor ν.1.desc).map (fun d => d.parameters.length) = some n) (hn : As.length = n) (hst : st = As.reverse ++ rest) (hL : ν.2.2.1 ≤ 100) (h8 : wsum rest ≤ 8) (hM : M Z ν d As σ o1 σ1) : ∀ (p : Program) (e : Env) (Rm : Room) (s : State) (m : MethodId) (args : Array Value) (below : List Frame) (meth : Method) (c : Code) (H : Heap) (locs : List Loc) (cells slots : Nat) (φ : Int → Nat) (lsM : Array Slot), Good Z → Ok (nx σ) ls st → Cx Z μ p e s m args meth c → Rel Z φ σ H → va_S (AA Z) s.heap H locs → lv_has lsM μ.2.2.1 (cl φ ls) → (d + 1) + 12 ≤ Rm.frames → 160 * (d + 1) + 300 ≤ Rm.locals → cells + (nx σ1 - nx σ).toNat ≤ Rm.cells → slots + (us σ1 - us σ).toNat ≤ Rm.slots →
      ∃ a, vx_Run p (zl Z) e Rm s m args below meth c H locs cells slots (nx σ1 - nx σ).toNat (us σ1 - us σ).toNat (F0 m pc lsM (st.map (cv φ))) (rest.map (cv φ)) (QcA Z φ (nx σ) (o1) σ1 a) (XcA Z φ (nx σ) (o1) σ1) (AA Z) := by
  subst hst
  intro p e Rm s m args below meth c H locs cells slots φ lsM hG hO hC hR hS hl hf hlo hc1 hc2
  obtain ⟨hx, hb, -, hml, -, hown, hts, -, -, hD⟩ := hC
  have hM2 := hM.2 hG (fun x hx => hO.2 x (List.mem_append_left _ (List.mem_reverse.mpr hx))) φ
  have hws : wsA ν = Cond.code ν.1 ν.2.1 ν.2.2.1 ν.2.2.2.1 :: lw_all := by unfold wsA; rw [hh]
  refine ⟨_, vx_runS (As := As.map (cv φ)) ⟨hx, hb, hml, hown, hts⟩ hM2 (va_cwS n hts cw hws rfl rfl hy ⟨?_, ?_⟩) ⟨PcA_blind, fun U hU hW => PcA_at hD hS hR hU hW⟩ rfl (by rw [List.length_map]; exact hn) hl.1 ?_ ?_ hd ⟨hc1, hc2⟩⟩
  · show d + 12 + 1 ≤ Rm.frames; omega
  · show 8 + (ν.2.2.1 + 11) + (160 * d + 300) ≤ Rm.locals; omega
  · show (As.reverse ++ rest).map (cv φ) = (As.map (cv φ)).reverse ++ rest.map (cv φ)
    rw [List.map_append, List.map_reverse]
  · refine lv_room ?_
    rw [rest8]; exact h8

theorem run_V {ν : MM} {index n c : Nat} {ct : CT} {r : Int} {As rest : List AV} {o1 : AO} {σ1 : AS} (hd : decode μ.2.1 pc = .ok (.invokevirtual index, 3)) (hc : CLS[c]? = some ct) (cw : GoodIn lw_all (wsV μ.1.cls index ct.1 ν.1 (wsA ν))) (hh : ν.2.2.2.2 = []) (hcl : ν.1.cls = ct.1) (hy : ν.1.cls ≠ "java/lang/invoke/MethodHandle" ∧ ν.1.cls ≠ "java/lang/invoke/VarHandle" ∧ (parseMethodDescriptor ν.1.desc).map (fun d => d.parameters.length) = some n) (hn : As.length = n) (hst : st = ((2, r) :: As).reverse ++ rest) (hL : ν.2.2.1 ≤ 100) (h8 : wsum rest ≤ 8) (g : kd σ r = c + 1 ∨ kd σ r = c + 1001) (hM : M Z ν d ((2, r) :: As) σ o1 σ1) : ∀ (p : Program) (e : Env) (Rm : Room) (s : State) (m : MethodId) (args : Array Value) (below : List Frame) (meth : Method) (c : Code) (H : Heap) (locs : List Loc) (cells slots : Nat) (φ : Int → Nat) (lsM : Array Slot), Good Z → Ok (nx σ) ls st → Cx Z μ p e s m args meth c → Rel Z φ σ H → va_S (AA Z) s.heap H locs → lv_has lsM μ.2.2.1 (cl φ ls) → (d + 1) + 12 ≤ Rm.frames → 160 * (d + 1) + 300 ≤ Rm.locals → cells + (nx σ1 - nx σ).toNat ≤ Rm.cells → slots + (us σ1 - us σ).toNat ≤ Rm.slots →
      ∃ a, vx_Run p (zl Z) e Rm s m args below meth c H locs cells slots (nx σ1 - nx σ).toNat (us σ1 - us σ).toNat (F0 m pc lsM (st.map (cv φ))) (rest.map (cv φ)) (QcA Z φ (nx σ) (o1) σ1 a) (XcA Z φ (nx σ) (o1) σ1) (AA Z) := by
  subst hst
  intro p e Rm s m args below meth c H locs cells slots φ lsM hG hO hC hR hS hl hf hlo hc1 hc2
  obtain ⟨hx, hb, -, hml, -, hown, hts, -, -, hD⟩ := hC
  have hM2 := hM.2 hG (fun x hx => hO.2 x (List.mem_append_left _ (List.mem_reverse.mpr hx))) φ
  have hws : wsA ν = Cond.code ν.1 ν.2.1 ν.2.2.1 ν.2.2.2.1 :: lw_all := by unfold wsA; rw [hh]
  obtain ⟨h0, hcell⟩ := recv_at hG hD hR hc g
  refine ⟨_, vx_runV (As := As.map (cv φ)) (b := φ r) ⟨hx, hb, hml, hown, hts⟩ hM2 (cwV n hts cw hws rfl rfl ⟨hcl, hy⟩ ⟨?_, ?_⟩) ⟨PcA_blind, hcell, fun U hU hW => by have q := PcA_at (As := (2, r) :: As) hD hS hR hU hW; rw [List.map_cons, show cv φ (2, r) = .ref (φ r) from if_neg h0] at q; exact q⟩ rfl (by rw [List.length_map]; exact hn) hl.1 ?_ ?_ hd ⟨hc1, hc2⟩⟩
  · show d + 12 + 1 ≤ Rm.frames; omega
  · show 8 + (ν.2.2.1 + 11) + (160 * d + 300) ≤ Rm.locals; omega
  · show (((2, r) :: As).reverse ++ rest).map (cv φ) = (As.map (cv φ)).reverse ++ .ref (φ r) :: rest.map (cv φ)
    rw [List.map_append, List.map_reverse, List.map_cons, show cv φ (2, r) = .ref (φ r) from if_neg h0, List.reverse_cons, List.append_assoc]
    rfl
  · refine lv_room ?_
    rw [rest8]; exact h8

end RR7
