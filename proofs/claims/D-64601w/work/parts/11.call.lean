/-! RULES OF R: answers, a method's start, calls -/
set_option maxRecDepth 100000
section RR5
variable {Z : ZT} {μ : MM} {d pc : Nat} {ls : List (Nat × AV)} {st : List AV} {σ : AS} {o : AO} {σ' : AS}
/-- a method's end -/
theorem R.ret {v : Option AV} (hv : ∀ n, Ok n ls st → ∀ x ∈ v, okv n x)
    (t : ∀ (p : Program) (e : Env) (Rm : Room) (s : State) (m : MethodId) (args : Array Value) (below : List Frame) (meth : Method) (c : Code) (H : Heap) (locs : List Loc) (mc ms : Nat) (φ : Int → Nat) (lsM : Array Slot) (Qc : Array Value → State → Outcome → State → Prop), Ok (nx σ) ls st → Cx Z μ p e s m args meth c → (∀ q ∈ locs, AA Z q.base) → (∀ t : State, t.heap = H → s.WarmedH t.vm → Qc args s (.returned (v.map (cv φ))) t) →
      W p (zl Z) e Rm s m args below meth c H locs mc ms (MQ below Qc args s mc ms (AA Z)) (F0 m pc lsM (st.map (cv φ)))) : R Z μ d pc ls st σ (.inl v) σ := by
  refine ⟨Mono.rf, fun hG hO p e Rm s m args below meth c H locs cells slots mc ms φ0 φ n0 lsM hC hS hR h0 hn hl hf hlo hc1 hc2 hc3 hc4 => ?_⟩
  refine vx_ret (W.widen (k := mc) (n := ms) (by omega) (by omega) (t p e Rm s m args below meth c H locs mc ms φ lsM _ hO hC hS.2.2 fun t ht hW => ?_))
  exact ⟨φ, v, h0, by rw [ht]; exact hR, hS.F ht, rfl, hv _ hO, rfl⟩
theorem R_ireturn {x : Int} {ty : FieldType} (hd : decode μ.2.1 pc = .ok (.ireturn, 1)) (hr : μ.2.2.2.1 = some ty) (ht : tg ty = 0) (gv : okv (nx σ) (0, x) → okt (nx σ) ty x) : R Z μ d pc ls [(0, x)] σ (.inl (some (0, x))) σ := by
  refine R.ret (v := some (0, x)) (fun n hO y hy => by cases hy; exact hO.top) (fun p e Rm s m args below meth c H locs mc ms φ lsM Qc hO hC hf hq => ?_)
  have hdd : ty ≠ .double := fun q => by rw [q] at ht; cases ht
  have hn := (okt_store (φ := φ) (gv hO.top) hdd).1
  rw [ht] at hn
  exact W.zret hC.1 hC.2.1 (hC.2.2.1.trans hr) hn hq hf hd hC.2.2.2.2.1
theorem R_lreturn {x : Int} (hd : decode μ.2.1 pc = .ok (.lreturn, 1)) (hr : μ.2.2.2.1 = some .long) : R Z μ d pc ls [(1, x)] σ (.inl (some (1, x))) σ := by
  refine R.ret (v := some (1, x)) (fun n hO y hy => by cases hy; exact hO.top) (fun p e Rm s m args below meth c H locs mc ms φ lsM Qc hO hC hf hq => ?_)
  exact W.lret hC.1 hC.2.1 (hC.2.2.1.trans hr) hq hf hd hC.2.2.2.2.1
theorem R_areturn {x : Int} {ty : FieldType} (hd : decode μ.2.1 pc = .ok (.areturn, 1)) (hr : μ.2.2.2.1 = some ty) (ht : (∃ n, ty = .object n) ∨ ∃ t, ty = .array t) : R Z μ d pc ls [(2, x)] σ (.inl (some (2, x))) σ := by
  refine R.ret (v := some (2, x)) (fun n hO y hy => by cases hy; exact hO.top) (fun p e Rm s m args below meth c H locs mc ms φ lsM Qc hO hC hf hq => ?_)
  refine W.aret hC.1 hC.2.1 (hC.2.2.1.trans hr) ht ?_ hq hf hd hC.2.2.2.2.1
  by_cases h : x = 0
  · exact Or.inl (if_pos h)
  · exact Or.inr ⟨φ x, if_neg h⟩
theorem R_return (hd : decode μ.2.1 pc = .ok (.return_, 1)) (hr : μ.2.2.2.1 = none) : R Z μ d pc ls [] σ (.inl none) σ := by
  refine R.ret (v := none) (fun n hO y hy => by cases hy) (fun p e Rm s m args below meth c H locs mc ms φ lsM Qc hO hC hf hq => ?_)
  exact W.vret hC.1 hC.2.1 (hC.2.2.1.trans hr) hq hf hd hC.2.2.2.2.1
/-- the arguments as locals -/
def la : Nat → List AV → List (Nat × AV)
  | _, [] => []
  | i, v :: vs => (i, v) :: la (if v.1 = 1 then i + 2 else i + 1) vs
def wsum : List AV → Nat
  | [] => 0
  | v :: vs => (if v.1 = 1 then 2 else 1) + wsum vs
theorem la_cl {φ : Int → Nat} : ∀ (vs : List AV) (i : Nat), cl φ (la i vs) = lv_args i (vs.map (cv φ))
  | [], _ => rfl
  | v :: vs, i => by
    show (i, cv φ v) :: cl φ (la _ vs) = (i, cv φ v) :: lv_args _ (vs.map (cv φ))
    rw [la_cl vs, cv_cat]
    congr 2
    by_cases h : v.1 = 1
    · rw [if_pos h, if_pos h]; rfl
    · rw [if_neg h, if_neg h]; rfl
theorem wsum_sl {φ : Int → Nat} : ∀ (vs : List AV), (lg_sl (vs.map (cv φ))).length = wsum vs
  | [] => rfl
  | v :: vs => by
    have e : lg_sl ((v :: vs).map (cv φ)) = (if (cv φ v).category = 2 then [Slot.val (cv φ v), .second] else [.val (cv φ v)]) ++ lg_sl (vs.map (cv φ)) := rfl
    rw [e, List.length_append, wsum_sl vs, cv_cat]
    show _ = (if v.1 = 1 then 2 else 1) + wsum vs
    by_cases h : v.1 = 1
    · rw [if_pos h]; rfl
    · rw [if_neg h]; rfl
theorem la_ok {n : Int} : ∀ (vs : List AV) (i : Nat), (∀ v ∈ vs, okv n v) → ∀ q ∈ la i vs, okv n q.2
  | [], _, _, q, hq => by cases hq
  | v :: vs, i, h, q, hq => by
    rcases List.mem_cons.mp hq with e | e
    · rw [e]; exact h v List.mem_cons_self
    · exact la_ok vs _ (fun x hx => h x (List.mem_cons_of_mem _ hx)) q e
/-- a method's contract out of its walk -/
theorem M.of {args : List AV} (hy : plainName μ.1.cls = true) (hh : μ.2.2.2.2 = []) (hw : wsum args ≤ μ.2.2.1) (h : R Z μ d 0 (la 0 args) [] σ o σ') : M Z μ d args σ o σ' := by
  refine ⟨h.1, fun hG ha φ => ?_⟩
  have hws : wsA μ = Cond.code μ.1 μ.2.1 μ.2.2.1 μ.2.2.2.1 :: lw_all := by unfold wsA; rw [hh]
  refine vx_ofW (cc := μ.2.1) (maxL := μ.2.2.1) (ret := μ.2.2.2.1) hy hws ?_
  intro p e s m args' below meth c s₁ B hml ht hv
  obtain ⟨rfl, hD, hR⟩ := hv
  have hts := atoms_spec (ws := wsA μ) B.pre
  have hts : ∀ w ∈ lw_all, w.before _ s = true := fun w h => hts w (by rw [hws]; exact List.mem_cons_of_mem _ h)
  have hC : Cx Z μ p e s m (args.map (cv φ)).toArray meth c := ⟨B.exec, B.bytes, B.returns, hml, B.notSynchronized, findClass_of_methodNamed B.named, hts, (name_of_methodNamed B.named B.method).1, by rw [hh]; exact List.eq_nil_iff_forall_not_mem.mpr fun x hx => ht x hx, hD⟩
  have hl := lv_entry (args.map (cv φ)) (n := μ.2.2.1) (by rw [wsum_sl]; exact hw)
  rw [lg_entry_eq]
  generalize (lg_sl (args.map (cv φ)) ++ List.replicate (μ.2.2.1 - (lg_sl (args.map (cv φ))).length) Slot.unset).toArray = lsM at hl ⊢
  rw [← la_cl] at hl
  exact h.2 hG ⟨la_ok _ _ ha, fun v hv => by cases hv⟩ p e _ s m _ below meth c s.heap [] 0 0 _ _ φ φ (nx σ) lsM hC va_S.rf hR (fun _ _ _ => rfl) (Int.le_refl _) hl (Nat.le_refl _) (Nat.le_refl _) (by omega) (by omega) (Nat.le_refl _) (Nat.le_refl _)
theorem PcA_blind {φ : Int → Nat} {As : List AV} : FrameBlind (PcA Z φ As σ) := fun a U g mk q => ⟨q.1, q.2.1, q.2.2⟩
theorem PcA_at {φ : Int → Nat} {As : List AV} {s U : State} {H : Heap} {locs : List Loc} (hD : Desc Z s) (hS : va_S (AA Z) s.heap H locs) (hR : Rel Z φ σ H) (hU : U.heap = H) (hW : s.WarmedH U.vm) : PcA Z φ As σ (As.map (cv φ)).toArray U := by
  obtain ⟨h1, h2⟩ := S_own hS hD
  exact ⟨rfl, ⟨hD.1.trans hW, by rw [hU]; exact h1, by rw [hU]; exact h2⟩, by rw [hU]; exact hR⟩
/-- behind a call that returns -/
theorem R.ofRun {v : Option AV} {rest : List AV} {σ1 : AS} {a : Array Value} (hm : Mono σ σ1) (hrest : Ok (nx σ) ls st → Ok (nx σ) ls rest) (kk : R Z μ d (pc + 3) ls (v.toList ++ rest) σ1 o σ')
    (run : ∀ (p : Program) (e : Env) (Rm : Room) (s : State) (m : MethodId) (args : Array Value) (below : List Frame) (meth : Method) (c : Code) (H : Heap) (locs : List Loc) (cells slots : Nat) (φ : Int → Nat) (lsM : Array Slot), Good Z → Ok (nx σ) ls st → Cx Z μ p e s m args meth c → Rel Z φ σ H → va_S (AA Z) s.heap H locs → lv_has lsM μ.2.2.1 (cl φ ls) → d + 12 ≤ Rm.frames → 160 * d + 300 ≤ Rm.locals → cells + (nx σ1 - nx σ).toNat ≤ Rm.cells → slots + (us σ1 - us σ).toNat ≤ Rm.slots →
      ∃ a, vx_Run p (zl Z) e Rm s m args below meth c H locs cells slots (nx σ1 - nx σ).toNat (us σ1 - us σ).toNat (F0 m pc lsM (st.map (cv φ))) (rest.map (cv φ)) (QcA Z φ (nx σ) (.inl v) σ1 a) (XcA Z φ (nx σ) (.inl v) σ1) (AA Z)) : R Z μ d pc ls st σ o σ' := by
  refine R.step kk hm fun p e Rm s m args below meth c H locs cells slots Q φ lsM hG hO hC hR hS hl hf hlo hc1 hc2 k1 => ?_
  obtain ⟨a, hr⟩ := run p e Rm s m args below meth c H locs cells slots φ lsM hG hO hC hR hS hl hf hlo hc1 hc2
  intro T hT X
  rcases hr T hT X with ⟨v', st₀, t, T', L, h0, X', hL, e1, e2, ⟨φ', v2, hφ, hR', hF, ho, hv, hoc⟩, stp⟩ | ⟨q, st₀, t, T', L, E, ce, h0, X', hL, e1, e2, ⟨φ', hφ, hR', hF, ho⟩, -⟩
  · cases ho
    cases hoc
    have hOr := hrest hO
    obtain ⟨q1, q2, q3⟩ := vx_keep h0 e1 hS (fun _ _ z => z) (fun _ z => z) hL hF
    have hO' : Ok (nx σ1) ls (v.toList ++ rest) := ⟨(hO.mono hm.1).1, fun x hx => by
      rcases List.mem_append.mp hx with h | h
      · exact hv x (by cases v <;> simp_all)
      · exact (hOr.mono hm.1).2 x h⟩
    have k2 := k1 φ' T'.heap (locs ++ L) lsM hφ hO' (by rw [e1]; exact hR') q3 (by rw [cl_agree (st := st) hO hφ]; exact hl)
    obtain ⟨t2, a1, b1⟩ := k2 T' rfl X'
    refine ⟨t2, stp t2 ?_, b1⟩
    rw [List.map_append, st_agree hOr hφ] at a1
    cases v <;> exact a1
  · cases ho
theorem mem_pop {n : Int} {pre rest : List AV} (h : Ok n ls (pre ++ rest)) : Ok n ls rest := ⟨h.1, fun v hv => h.2 v (List.mem_append_right _ hv)⟩
theorem rest8 {φ : Int → Nat} : ∀ (rest : List AV), ((rest.map (cv φ)).map fun v => v.category).sum = wsum rest
  | [] => rfl
  | v :: vs => by
    show (cv φ v).category + ((vs.map (cv φ)).map fun v => v.category).sum = (if v.1 = 1 then 2 else 1) + wsum vs
    rw [rest8 vs, cv_cat]
/-- a static call -/
theorem R_callS {ν : MM} {index n : Nat} {As rest : List AV} {v : Option AV} {σ1 : AS} (hd : decode μ.2.1 pc = .ok (.invokestatic index, 3)) (cw : GoodIn lw_all (va_wsS μ.1.cls index ν.1 (wsA ν))) (hh : ν.2.2.2.2 = []) (hy : ν.1.cls ≠ "java/lang/invoke/MethodHandle" ∧ ν.1.cls ≠ "java/lang/invoke/VarHandle" ∧ (parseMethodDescriptor ν.1.desc).map (fun d => d.parameters.length) = some n) (hn : As.length = n) (hst : st = As.reverse ++ rest) (hL : ν.2.2.1 ≤ 100) (h8 : wsum rest ≤ 8) (hM : M Z ν d As σ (.inl v) σ1) (kk : R Z μ (d + 1) (pc + 3) ls (v.toList ++ rest) σ1 o σ') : R Z μ (d + 1) pc ls st σ o σ' := by
  subst hst
  refine R.ofRun (a := #[]) hM.1 mem_pop kk fun p e Rm s m args below meth c H locs cells slots φ lsM hG hO hC hR hS hl hf hlo hc1 hc2 => ?_
  obtain ⟨hx, hb, -, hml, -, hown, hts, -, -, hD⟩ := hC
  have hM2 := hM.2 hG (fun x hx => hO.2 x (List.mem_append_left _ (List.mem_reverse.mpr hx))) φ
  have hws : wsA ν = Cond.code ν.1 ν.2.1 ν.2.2.1 ν.2.2.2.1 :: lw_all := by unfold wsA; rw [hh]
  refine ⟨_, vx_runS (As := As.map (cv φ)) ⟨hx, hb, hml, hown, hts⟩ hM2 (va_cwS n hts cw hws rfl rfl hy ⟨?_, ?_⟩) ⟨PcA_blind, fun U hU hW => PcA_at hD hS hR hU hW⟩ rfl (by rw [List.length_map]; exact hn) hl.1 ?_ ?_ hd ⟨hc1, hc2⟩⟩
  · show d + 12 + 1 ≤ Rm.frames; omega
  · show 8 + (ν.2.2.1 + 11) + (160 * d + 300) ≤ Rm.locals; omega
  · show (As.reverse ++ rest).map (cv φ) = (As.map (cv φ)).reverse ++ rest.map (cv φ)
    rw [List.map_append, List.map_reverse]
  · refine lv_room ?_
    rw [rest8]; exact h8
theorem R_callSN {ν : MM} {index n : Nat} {host : String} {As rest : List AV} {v : Option AV} {σ1 : AS} (hd : decode μ.2.1 pc = .ok (.invokestatic index, 3)) (cw : GoodIn lw_all (wsA ν)) (hh : ν.2.2.2.2 = []) (hlink : Cond.methodLinkNest μ.1.cls index ν.1 host ∈ lw_tbl) (hini : Cond.initialized ν.1.cls ∈ lw_all) (hstat : Cond.static ν.1 ∈ lw_all) (hy : ν.1.cls ≠ "java/lang/invoke/MethodHandle" ∧ ν.1.cls ≠ "java/lang/invoke/VarHandle" ∧ (parseMethodDescriptor ν.1.desc).map (fun d => d.parameters.length) = some n) (hn : As.length = n) (hst : st = As.reverse ++ rest) (hL : ν.2.2.1 ≤ 100) (h8 : wsum rest ≤ 8) (hM : M Z ν d As σ (.inl v) σ1) (kk : R Z μ (d + 1) (pc + 3) ls (v.toList ++ rest) σ1 o σ') : R Z μ (d + 1) pc ls st σ o σ' := by
  subst hst
  refine R.ofRun (a := #[]) hM.1 mem_pop kk fun p e Rm s m args below meth c H locs cells slots φ lsM hG hO hC hR hS hl hf hlo hc1 hc2 => ?_
  obtain ⟨hx, hb, -, hml, -, hown, hts, -, -, hD⟩ := hC
  have hM2 := hM.2 hG (fun x hx => hO.2 x (List.mem_append_left _ (List.mem_reverse.mpr hx))) φ
  have hws : wsA ν = Cond.code ν.1 ν.2.1 ν.2.2.1 ν.2.2.2.1 :: lw_all := by unfold wsA; rw [hh]
  refine ⟨_, vx_runSN (As := As.map (cv φ)) ⟨hx, hb, hml, hown, hts⟩ hM2 ⟨va_cnB n hts cw hws rfl rfl (va_Nw.warmM hD.1 (va_Nw.of rfl (hG.word hlink))) (hts _ hini) hy ⟨?_, ?_⟩, hts _ hstat, trivial⟩ ⟨PcA_blind, fun U hU hW => PcA_at hD hS hR hU hW⟩ rfl (by rw [List.length_map]; exact hn) hl.1 ?_ ?_ hd ⟨hc1, hc2⟩⟩
  · show d + 12 + 1 ≤ Rm.frames; omega
  · show 8 + (ν.2.2.1 + 11) + (160 * d + 300) ≤ Rm.locals; omega
  · show (As.reverse ++ rest).map (cv φ) = (As.map (cv φ)).reverse ++ rest.map (cv φ)
    rw [List.map_append, List.map_reverse]
  · refine lv_room ?_
    rw [rest8]; exact h8

/-- what a call through an object asks of the receiver -/
theorem recv_at {φ : Int → Nat} {H : Heap} {r : Int} {c : Nat} {ct : CT} {s : State} (hG : Good Z) (hD : Desc Z s) (hR : Rel Z φ σ H) (hc : CLS[c]? = some ct) (g : kd σ r = c + 1 ∨ kd σ r = c + 1001) : r ≠ 0 ∧ ∃ cell : Cell, H[φ r]? = some cell ∧ cell.vm.isStatics = false ∧ s.vm.findClass ct.1 = some cell.cls := by
  obtain ⟨cell, v1, v2, v3, -, v5, -, h0⟩ := hR.obj g hc
  exact ⟨h0, cell, v1, v3, by rw [v5.1]; exact (hG.known hD hc).2.1⟩
theorem R_callV {ν : MM} {index n c : Nat} {ct : CT} {r : Int} {As rest : List AV} {v : Option AV} {σ1 : AS} (hd : decode μ.2.1 pc = .ok (.invokevirtual index, 3)) (hc : CLS[c]? = some ct) (cw : GoodIn lw_all (wsV μ.1.cls index ct.1 ν.1 (wsA ν))) (hh : ν.2.2.2.2 = []) (hcl : ν.1.cls = ct.1) (hy : ν.1.cls ≠ "java/lang/invoke/MethodHandle" ∧ ν.1.cls ≠ "java/lang/invoke/VarHandle" ∧ (parseMethodDescriptor ν.1.desc).map (fun d => d.parameters.length) = some n) (hn : As.length = n) (hst : st = ((2, r) :: As).reverse ++ rest) (hL : ν.2.2.1 ≤ 100) (h8 : wsum rest ≤ 8) (g : kd σ r = c + 1 ∨ kd σ r = c + 1001) (hM : M Z ν d ((2, r) :: As) σ (.inl v) σ1) (kk : R Z μ (d + 1) (pc + 3) ls (v.toList ++ rest) σ1 o σ') : R Z μ (d + 1) pc ls st σ o σ' := by
  subst hst
  refine R.ofRun (a := #[]) hM.1 mem_pop kk fun p e Rm s m args below meth c H locs cells slots φ lsM hG hO hC hR hS hl hf hlo hc1 hc2 => ?_
  obtain ⟨hx, hb, -, hml, -, hown, hts, -, -, hD⟩ := hC
  have hM2 := hM.2 hG (fun x hx => hO.2 x (List.mem_append_left _ (List.mem_reverse.mpr hx))) φ
  have hws : wsA ν = Cond.code ν.1 ν.2.1 ν.2.2.1 ν.2.2.2.1 :: lw_all := by unfold wsA; rw [hh]
  obtain ⟨h0, hcell⟩ := recv_at hG hD hR hc g
  refine ⟨_, vx_runV (As := As.map (cv φ)) (b := φ r) ⟨hx, hb, hml, hown, hts⟩ hM2 (cwV n hts cw hws rfl rfl ⟨hcl, hy⟩ ⟨?_, ?_⟩) ⟨PcA_blind, hcell, fun U hU hW => by have q := PcA_at (As := (2, r) :: As) hD hS hR hU hW; rw [List.map_cons, show cv φ (2, r) = .ref (φ r) from if_neg h0] at q; exact q⟩ rfl (by rw [List.length_map]; exact hn) hl.1 ?_ ?_ hd ⟨hc1, hc2⟩⟩
  · show d + 12 + 1 ≤ Rm.frames; omega
  · show 8 + (ν.2.2.1 + 11) + (160 * d + 300) ≤ Rm.locals; omega
  · show (((2, r) :: As).reverse ++ rest).map (cv φ) = (As.map (cv φ)).reverse ++ .ref (φ r) :: rest.map (cv φ)
    rw [List.map_append, List.map_reverse, List.map_cons, show cv φ (2, r) = .ref (φ r) from if_neg h0, List.reverse_cons, List.append_assoc]
    rfl
  · refine lv_room ?_
    rw [rest8]; exact h8

theorem R_callVN {ν : MM} {index n c : Nat} {ct : CT} {host : String} {r : Int} {As rest : List AV} {v : Option AV} {σ1 : AS} (hd : decode μ.2.1 pc = .ok (.invokevirtual index, 3)) (hc : CLS[c]? = some ct) (cw : GoodIn lw_all (wsA ν)) (hh : ν.2.2.2.2 = []) (hlink : Cond.methodLinkNest μ.1.cls index ν.1 host ∈ lw_tbl) (hini : Cond.initialized ν.1.cls ∈ lw_all) (hinst : Cond.instanceMethod ν.1 ∈ lw_all) (hsel : Cond.selects ct.1 ν.1 ν.1 ∈ lw_all) (hy : ν.1.cls ≠ "java/lang/invoke/MethodHandle" ∧ ν.1.cls ≠ "java/lang/invoke/VarHandle" ∧ (parseMethodDescriptor ν.1.desc).map (fun d => d.parameters.length) = some n) (hn : As.length = n) (hst : st = ((2, r) :: As).reverse ++ rest) (hL : ν.2.2.1 ≤ 100) (h8 : wsum rest ≤ 8) (g : kd σ r = c + 1 ∨ kd σ r = c + 1001) (hM : M Z ν d ((2, r) :: As) σ (.inl v) σ1) (kk : R Z μ (d + 1) (pc + 3) ls (v.toList ++ rest) σ1 o σ') : R Z μ (d + 1) pc ls st σ o σ' := by
  subst hst
  refine R.ofRun (a := #[]) hM.1 mem_pop kk fun p e Rm s m args below meth c H locs cells slots φ lsM hG hO hC hR hS hl hf hlo hc1 hc2 => ?_
  obtain ⟨hx, hb, -, hml, -, hown, hts, -, -, hD⟩ := hC
  have hM2 := hM.2 hG (fun x hx => hO.2 x (List.mem_append_left _ (List.mem_reverse.mpr hx))) φ
  have hws : wsA ν = Cond.code ν.1 ν.2.1 ν.2.2.1 ν.2.2.2.1 :: lw_all := by unfold wsA; rw [hh]
  obtain ⟨h0, hcell⟩ := recv_at hG hD hR hc g
  refine ⟨_, vx_runVN (C := ct.1) (As := As.map (cv φ)) (b := φ r) ⟨hx, hb, hml, hown, hts⟩ hM2 ⟨va_cnB n hts cw hws rfl rfl (va_Nw.warmM hD.1 (va_Nw.of rfl (hG.word hlink))) (hts _ hini) hy ⟨?_, ?_⟩, hts _ hinst, hts _ hsel⟩ ⟨PcA_blind, hcell, fun U hU hW => by have q := PcA_at (As := (2, r) :: As) hD hS hR hU hW; rw [List.map_cons, show cv φ (2, r) = .ref (φ r) from if_neg h0] at q; exact q⟩ rfl (by rw [List.length_map]; exact hn) hl.1 ?_ ?_ hd ⟨hc1, hc2⟩⟩
  · show d + 12 + 1 ≤ Rm.frames; omega
  · show 8 + (ν.2.2.1 + 11) + (160 * d + 300) ≤ Rm.locals; omega
  · show (((2, r) :: As).reverse ++ rest).map (cv φ) = (As.map (cv φ)).reverse ++ .ref (φ r) :: rest.map (cv φ)
    rw [List.map_append, List.map_reverse, List.map_cons, show cv φ (2, r) = .ref (φ r) from if_neg h0, List.reverse_cons, List.append_assoc]
    rfl
  · refine lv_room ?_
    rw [rest8]; exact h8

theorem R_callI {ν : MM} {index n : Nat} {r : Int} {As rest : List AV} {σ1 : AS} (hd : decode μ.2.1 pc = .ok (.invokespecial index, 3)) (cw : GoodIn lw_all (wsA ν)) (hh : ν.2.2.2.2 = []) (hret : ν.2.2.2.1 = none) (hini : Cond.initialized ν.1.cls ∈ lw_all) (hlink : Cond.methodLink μ.1.cls index ν.1 ∈ lw_all) (hinst : Cond.instanceMethod ν.1 ∈ lw_all) (hnam : ν.1.name = "<init>") (hy : ν.1.cls ≠ "java/lang/invoke/MethodHandle" ∧ ν.1.cls ≠ "java/lang/invoke/VarHandle" ∧ (parseMethodDescriptor ν.1.desc).map (fun d => d.parameters.length) = some n) (hn : As.length = n) (hst : st = ((2, r) :: As).reverse ++ rest) (hL : ν.2.2.1 ≤ 100) (h8 : wsum rest ≤ 8) (h0 : r ≠ 0) (hM : M Z ν d ((2, r) :: As) σ (.inl none) σ1) (kk : R Z μ (d + 1) (pc + 3) ls rest σ1 o σ') : R Z μ (d + 1) pc ls st σ o σ' := by
  subst hst
  refine R.ofRun (a := #[]) (v := none) hM.1 mem_pop kk fun p e Rm s m args below meth c H locs cells slots φ lsM hG hO hC hR hS hl hf hlo hc1 hc2 => ?_
  obtain ⟨hx, hb, -, hml, -, hown, hts, -, -, hD⟩ := hC
  have hM2 := hM.2 hG (fun x hx => hO.2 x (List.mem_append_left _ (List.mem_reverse.mpr hx))) φ
  have hws : wsA ν = Cond.code ν.1 ν.2.1 ν.2.2.1 ν.2.2.2.1 :: lw_all := by unfold wsA; rw [hh]
  rw [hret] at hws
  refine ⟨_, vx_runI (As := As.map (cv φ)) (b := φ r) ⟨hx, hb, hml, hown, hts⟩ hM2 (cwI n hts cw hws rfl rfl (hts _ hini) (hts _ hlink) (hts _ hinst) hnam hy ⟨?_, ?_⟩) ⟨PcA_blind, fun U hU hW => by have q := PcA_at (As := (2, r) :: As) hD hS hR hU hW; rw [List.map_cons, show cv φ (2, r) = .ref (φ r) from if_neg h0] at q; exact q⟩ rfl (by rw [List.length_map]; exact hn) hl.1 ?_ ?_ hd ⟨hc1, hc2⟩⟩
  · show d + 12 + 1 ≤ Rm.frames; omega
  · show 8 + (ν.2.2.1 + 11) + (160 * d + 300) ≤ Rm.locals; omega
  · show (((2, r) :: As).reverse ++ rest).map (cv φ) = (As.map (cv φ)).reverse ++ .ref (φ r) :: rest.map (cv φ)
    rw [List.map_append, List.map_reverse, List.map_cons, show cv φ (2, r) = .ref (φ r) from if_neg h0, List.reverse_cons, List.append_assoc]
    rfl
  · refine lv_room ?_
    rw [rest8]; exact h8

theorem R_callIN {ν : MM} {index n : Nat} {host : String} {r : Int} {As rest : List AV} {σ1 : AS} (hd : decode μ.2.1 pc = .ok (.invokespecial index, 3)) (cw : GoodIn lw_all (wsA ν)) (hh : ν.2.2.2.2 = []) (hret : ν.2.2.2.1 = none) (hini : Cond.initialized ν.1.cls ∈ lw_all) (hlink : Cond.methodLinkNest μ.1.cls index ν.1 host ∈ lw_tbl) (hinst : Cond.instanceMethod ν.1 ∈ lw_all) (hnam : ν.1.name = "<init>") (hy : ν.1.cls ≠ "java/lang/invoke/MethodHandle" ∧ ν.1.cls ≠ "java/lang/invoke/VarHandle" ∧ (parseMethodDescriptor ν.1.desc).map (fun d => d.parameters.length) = some n) (hn : As.length = n) (hst : st = ((2, r) :: As).reverse ++ rest) (hL : ν.2.2.1 ≤ 100) (h8 : wsum rest ≤ 8) (h0 : r ≠ 0) (hM : M Z ν d ((2, r) :: As) σ (.inl none) σ1) (kk : R Z μ (d + 1) (pc + 3) ls rest σ1 o σ') : R Z μ (d + 1) pc ls st σ o σ' := by
  subst hst
  refine R.ofRun (a := #[]) (v := none) hM.1 mem_pop kk fun p e Rm s m args below meth c H locs cells slots φ lsM hG hO hC hR hS hl hf hlo hc1 hc2 => ?_
  obtain ⟨hx, hb, -, hml, -, hown, hts, -, -, hD⟩ := hC
  have hM2 := hM.2 hG (fun x hx => hO.2 x (List.mem_append_left _ (List.mem_reverse.mpr hx))) φ
  have hws : wsA ν = Cond.code ν.1 ν.2.1 ν.2.2.1 ν.2.2.2.1 :: lw_all := by unfold wsA; rw [hh]
  rw [hret] at hws
  refine ⟨_, vx_runIN (As := As.map (cv φ)) (b := φ r) ⟨hx, hb, hml, hown, hts⟩ hM2 ⟨va_cnB n hts cw hws rfl rfl (va_Nw.warmM hD.1 (va_Nw.of rfl (hG.word hlink))) (hts _ hini) hy ⟨?_, ?_⟩, hnam, hts _ hinst⟩ ⟨PcA_blind, fun U hU hW => by have q := PcA_at (As := (2, r) :: As) hD hS hR hU hW; rw [List.map_cons, show cv φ (2, r) = .ref (φ r) from if_neg h0] at q; exact q⟩ rfl (by rw [List.length_map]; exact hn) hl.1 ?_ ?_ hd ⟨hc1, hc2⟩⟩
  · show d + 12 + 1 ≤ Rm.frames; omega
  · show 8 + (ν.2.2.1 + 11) + (160 * d + 300) ≤ Rm.locals; omega
  · show (((2, r) :: As).reverse ++ rest).map (cv φ) = (As.map (cv φ)).reverse ++ .ref (φ r) :: rest.map (cv φ)
    rw [List.map_append, List.map_reverse, List.map_cons, show cv φ (2, r) = .ref (φ r) from if_neg h0, List.reverse_cons, List.append_assoc]
    rfl
  · refine lv_room ?_
    rw [rest8]; exact h8

/-- Object.<init> -/
theorem R_objInit {index : Nat} {r : Int} {rest : List AV} (hd : decode μ.2.1 pc = .ok (.invokespecial index, 3)) (hlink : Cond.methodLink μ.1.cls index Lib.objectInit ∈ lw_all) (hinst : Cond.instanceMethod Lib.objectInit ∈ lw_all) (hcode : Cond.code Lib.objectInit ⟨#[0xb1]⟩ 1 none ∈ lw_all) (h8 : wsum rest ≤ 8) (h0 : r ≠ 0) (kk : R Z μ d (pc + 3) ls rest σ o σ') : R Z μ d pc ls ((2, r) :: rest) σ o σ' := by
  refine R.pure kk (fun h => h.pop) fun p e Rm s m args below meth c H locs cells slots Q φ lsM hG hO hC hR hS hl hf hlo k1 => ?_
  obtain ⟨hx, hb, -, hml, -, hown, hts, -, -, hD⟩ := hC
  rw [List.map_cons, show cv φ (2, r) = .ref (φ r) from if_neg h0]
  refine W.objInit hx hb hown (hts _ hlink) (hts _ hinst) (hts _ hcode) rfl (by rw [hml]; exact hl.1) rfl hd (by omega) ?_ (k1 lsM hl)
  show 2 * 0 + _ + 12 ≤ _
  rw [rest8]; omega
end RR5
