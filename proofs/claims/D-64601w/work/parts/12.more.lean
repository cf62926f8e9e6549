/-! RULES OF R: statics, constants, switches, inherited methods, interfaces -/
set_option maxRecDepth 100000
section RR6
variable {Z : ZT} {μ : MM} {d pc : Nat} {ls : List (Nat × AV)} {st : List AV} {σ : AS} {o : AO} {σ' : AS}
theorem cvF {φ : Int → Nat} {H : Heap} {v : AV} (hR : Rel Z φ σ H) (h : okv 1000 v) : cv (zF Z) v = cv φ v := cv_agree h fun r h0 h1 => (hR.2.2.2.2 r h0 h1).symm
theorem R_getstatic {C n desc : String} {v : AV} {index : Nat} (hd : decode μ.2.1 pc = .ok (.getstatic index, 3)) (hq : (C, n, desc, v) ∈ STATS) (hv : okv 1000 v) (hlink : Cond.fieldLink μ.1.cls index C n desc ∈ lw_all) (kk : R Z μ d (pc + 3) ls (v :: st) σ o σ') : R Z μ d pc ls st σ o σ' := by
  refine R.same kk fun p e Rm s m args below meth c' H locs cells slots Q φ lsM hG hO hC hR hS hl k1 => ?_
  obtain ⟨hx, hb, -, -, -, hown, hts, -, -, hD⟩ := hC
  have hZ := va_Z.moved hD.alike (va_Z.kept (hG.2.2.2.2.2.2.2.1 _ hq) (fun a ha _ => hD.2.2 a ha))
  refine va_gets hx hb hZ hS hown (hts _ hlink) (fun _ h => h) hd ?_
  rw [cvF hR hv]
  exact k1 lsM (hO.push (okv_mono hv hR.2.2.2.1)) hl
theorem R_ldcS {tx : String} {r : Int} {index : Nat} (hd : decode μ.2.1 pc = .ok (.ldc index, 2)) (hq : (μ.1.cls, index, tx, r) ∈ STRS) (h0 : 0 < r ∧ r < 1000) (kk : R Z μ d (pc + 2) ls ((2, r) :: st) σ o σ') : R Z μ d pc ls st σ o σ' := by
  refine R.same kk fun p e Rm s m args below meth c' H locs cells slots Q φ lsM hG hO hC hR hS hl k1 => ?_
  obtain ⟨hx, hb, -, -, -, hown, hts, -, -, hD⟩ := hC
  have hZ := vk_R.warm hD.1 (hG.2.2.2.2.2.2.1 _ hq)
  have k2 := k1 lsM (hO.push ⟨by omega, by have := hR.2.2.2.1; omega⟩) hl
  rw [List.map_cons, show cv φ (2, r) = .ref (φ r) from if_neg (by omega), hR.2.2.2.2 r (by omega) h0.2] at k2
  exact va_ldcS hx hb hown hZ hd k2
theorem am_ldcSw {p : Program} {l : Launch} {e : Env} {Rm : Room} {s : State} {m : MethodId} {args : Array Value} {below : List Frame} {meth : Method} {c : Code} {T : State} {locs : List Loc} {cells slots : Nat}
    (X : Stand p l e Rm s m args below meth c T locs cells slots) (hexec : p.tables.exec = Jvm.exec) {own text : String} {index : Nat} {a : Addr} (hown : s.vm.findClass own = some m.cls)
    (hconst : (Cond.stringRef own index text).before #[] s = true) (hev : (Term.string own index).eval #[] s none [] s = some (.ref a)) {g : JFrame} (hg : g.method = m) (hdg : decode c.code g.pc = .ok (.ldc_w index, 3)) :
    ∀ target, Steps p.tables e below (T.setTop { g with pc := g.pc + 3, stack := .ref a :: g.stack }) target → Steps p.tables e below (T.setTop g) target := by
  obtain ⟨k, cf, i, a', hk, hcf, hcp, -, hr, hev'⟩ := Cond.stringRef_spec hown hconst
  cases hev.symm.trans hev'
  obtain ⟨k', hk', he⟩ := X.warmed.alike.2.2 _ _ hk
  have hr' : k'.resolved[index]? = some (some (.string a)) := by
    rcases X.warmed.entry hk hk' index with h | ⟨h, -⟩
    · rw [h]; exact hr
    · rw [hr] at h; cases h
  intro target hrest
  subst hg
  jvm_step X.here [hexec, hdg, ldc_w.wp_string (e := e) (s := T) (f := g) X.here.top hk' (by rw [he]; exact hcf) hcp hr']
  exact hrest
theorem R_ldcSw {tx : String} {r : Int} {index : Nat} (hd : decode μ.2.1 pc = .ok (.ldc_w index, 3)) (hq : (μ.1.cls, index, tx, r) ∈ STRS) (h0 : 0 < r ∧ r < 1000) (kk : R Z μ d (pc + 3) ls ((2, r) :: st) σ o σ') : R Z μ d pc ls st σ o σ' := by
  refine R.same kk fun p e Rm s m args below meth c' H locs cells slots Q φ lsM hG hO hC hR hS hl k1 => ?_
  obtain ⟨hx, hb, -, -, -, hown, hts, -, -, hD⟩ := hC
  have hZ := vk_R.warm hD.1 (hG.2.2.2.2.2.2.1 _ hq)
  have k2 := k1 lsM (hO.push ⟨by omega, by have := hR.2.2.2.1; omega⟩) hl
  rw [List.map_cons, show cv φ (2, r) = .ref (φ r) from if_neg (by omega), hR.2.2.2.2 r (by omega) h0.2] at k2
  intro T hT X
  obtain ⟨t, a1, b1⟩ := k2 T hT X
  exact ⟨t, am_ldcSw X hx hown hZ.1 hZ.2 (g := F0 m pc lsM _) rfl (by rw [hb]; exact hd) t a1, b1⟩
theorem R_ldcI {x : Int} {v : Int32} {index : Nat} (hd : decode μ.2.1 pc = .ok (.ldc index, 2)) (hc : Cond.constant μ.1.cls index v ∈ lw_all) (e9 : v = Int32.ofInt x) (hv : InI x) (kk : R Z μ d (pc + 2) ls ((0, x) :: st) σ o σ') : R Z μ d pc ls st σ o σ' := by
  refine R.same kk fun p e Rm s m args below meth c' H locs cells slots Q φ lsM hG hO hC hR hS hl k1 => ?_
  obtain ⟨hx, hb, -, -, -, hown, hts, -, -, hD⟩ := hC
  exact lv_ldc hx hb hown (hts _ hc) hd (by rw [e9]; exact k1 lsM (hO.push hv) hl)
theorem R_ldcIw {x : Int} {v : Int32} {index : Nat} (hd : decode μ.2.1 pc = .ok (.ldc_w index, 3)) (hc : Cond.constant μ.1.cls index v ∈ lw_all) (e9 : v = Int32.ofInt x) (hv : InI x) (kk : R Z μ d (pc + 3) ls ((0, x) :: st) σ o σ') : R Z μ d pc ls st σ o σ' := by
  refine R.same kk fun p e Rm s m args below meth c' H locs cells slots Q φ lsM hG hO hC hR hS hl k1 => ?_
  obtain ⟨hx, hb, -, -, -, hown, hts, -, -, hD⟩ := hC
  exact lv_ldcw hx hb hown (hts _ hc) hd (by rw [e9]; exact k1 lsM (hO.push hv) hl)
theorem R_ldc2 {x : Int} {v : Int64} {index : Nat} (hd : decode μ.2.1 pc = .ok (.ldc2_w index, 3)) (hc : Cond.constantLong μ.1.cls index v ∈ lw_all) (e9 : v = Int64.ofInt x) (hv : InL x) (kk : R Z μ d (pc + 3) ls ((1, x) :: st) σ o σ') : R Z μ d pc ls st σ o σ' := by
  refine R.same kk fun p e Rm s m args below meth c' H locs cells slots Q φ lsM hG hO hC hR hS hl k1 => ?_
  obtain ⟨hx, hb, -, -, -, hown, hts, -, -, hD⟩ := hC
  exact lv_ldc2 hx hb hown (hts _ hc) hd (by rw [e9]; exact k1 lsM (hO.push hv) hl)
theorem R_ldcF {x : Int} {v : UInt32} {index : Nat} (hd : decode μ.2.1 pc = .ok (.ldc index, 2)) (hc : Cond.constantFloat μ.1.cls index v ∈ lw_all) (e9 : v = UInt32.ofNat x.toNat) (hv : okv (nx σ) (3, x)) (kk : R Z μ d (pc + 2) ls ((3, x) :: st) σ o σ') : R Z μ d pc ls st σ o σ' := by
  refine R.same kk fun p e Rm s m args below meth c' H locs cells slots Q φ lsM hG hO hC hR hS hl k1 => ?_
  obtain ⟨hx, hb, -, -, -, hown, hts, -, -, hD⟩ := hC
  exact lv_ldcf hx hb hown (hts _ hc) hd (by rw [e9]; exact k1 lsM (hO.push hv) hl)
/-- switches: the case k; none -/
theorem R_tabK {x k lo hi dflt off : Int} {offs : Array Int} {len tgt : Nat} (hd : decode μ.2.1 pc = .ok (.tableswitch dflt lo hi offs, len)) (hx : x = k) (h1 : lo ≤ k ∧ k ≤ hi) (hk : InI k) (ho : offs[(k - lo).toNat]? = some off) (ht : (pc : Int) + off = (tgt : Int)) (kk : R Z μ d tgt ls st σ o σ') : R Z μ d pc ls ((0, x) :: st) σ o σ' := by
  refine R.same kk fun p e Rm s m args below meth c' H locs cells slots Q φ lsM hG hO hC hR hS hl k1 => ?_
  have e : (Int32.ofInt x).toInt = k := by rw [hx]; exact i32_toInt hk
  exact lv_tableIn hC.1 hC.2.1 hd (by rw [e]; omega) (by rw [e]; omega) (by rw [e]; exact ho) ht (k1 lsM hO.pop hl)
theorem R_tabD {x lo hi dflt : Int} {offs : Array Int} {len tgt : Nat} (hd : decode μ.2.1 pc = .ok (.tableswitch dflt lo hi offs, len)) (hx : x < lo ∨ hi < x) (ht : (pc : Int) + dflt = (tgt : Int)) (kk : R Z μ d tgt ls st σ o σ') : R Z μ d pc ls ((0, x) :: st) σ o σ' := by
  refine R.same kk fun p e Rm s m args below meth c' H locs cells slots Q φ lsM hG hO hC hR hS hl k1 => ?_
  have e : (Int32.ofInt x).toInt = x := i32_toInt hO.top
  exact lv_tableOut hC.1 hC.2.1 hd (by rw [e]; exact hx) ht (k1 lsM hO.pop hl)
theorem R_lookup {x dflt off : Int} {ps : Array (Int × Int)} {len tgt : Nat} (hd : decode μ.2.1 pc = .ok (.lookupswitch dflt ps, len)) (hp : (ps.toList.zip (ps.toList.drop 1)).all (fun (a, next) => a.1 < next.1) = true) (ho : Op.lookupswitch.offset ps.toList dflt x = off) (ht : (pc : Int) + off = (tgt : Int)) (kk : R Z μ d tgt ls st σ o σ') : R Z μ d pc ls ((0, x) :: st) σ o σ' := by
  refine R.same kk fun p e Rm s m args below meth c' H locs cells slots Q φ lsM hG hO hC hR hS hl k1 => ?_
  have e : (Int32.ofInt x).toInt = x := i32_toInt hO.top
  exact lv_lookup hC.1 hC.2.1 hd hp (by rw [e]; exact ho) ht (k1 lsM hO.pop hl)
/-- a method of a class above (or overridden below): the reference names x, run is ν -/
theorem R_callU {ν : MM} {x : MethodName} {owner : String} {index n c : Nat} {ct : CT} {r : Int} {As rest : List AV} {v : Option AV} {σ1 : AS} (hd : decode μ.2.1 pc = .ok (.invokevirtual index, 3)) (hc : CLS[c]? = some ct) (cw : GoodIn lw_all (va_wsU μ.1.cls index ct.1 owner x ν.1 (wsA ν))) (hh : ν.2.2.2.2 = []) (hyx : ν.1 = ⟨owner, x.name, x.desc⟩) (hy : owner ≠ "java/lang/invoke/MethodHandle" ∧ owner ≠ "java/lang/invoke/VarHandle" ∧ (parseMethodDescriptor x.desc).map (fun d => d.parameters.length) = some n) (hn : As.length = n) (hst : st = ((2, r) :: As).reverse ++ rest) (hL : ν.2.2.1 ≤ 100) (h8 : wsum rest ≤ 8) (g : kd σ r = c + 1 ∨ kd σ r = c + 1001) (hM : M Z ν d ((2, r) :: As) σ (.inl v) σ1) (kk : R Z μ (d + 1) (pc + 3) ls (v.toList ++ rest) σ1 o σ') : R Z μ (d + 1) pc ls st σ o σ' := by
  subst hst
  refine R.ofRun (a := #[]) hM.1 mem_pop kk fun p e Rm s m args below meth c H locs cells slots φ lsM hG hO hC hR hS hl hf hlo hc1 hc2 => ?_
  obtain ⟨hx, hb, -, hml, -, hown, hts, -, -, hD⟩ := hC
  have hM2 := hM.2 hG (fun x hx => hO.2 x (List.mem_append_left _ (List.mem_reverse.mpr hx))) φ
  have hws : wsA ν = Cond.code ν.1 ν.2.1 ν.2.2.1 ν.2.2.2.1 :: lw_all := by unfold wsA; rw [hh]
  obtain ⟨h0, hcell⟩ := recv_at hG hD hR hc g
  refine ⟨_, vx_runU (As := As.map (cv φ)) (b := φ r) ⟨hx, hb, hml, hown, hts⟩ hM2 (va_cwU n hts cw hws rfl rfl hyx hy ⟨?_, ?_⟩) ⟨PcA_blind, hcell, fun U hU hW => by have q := PcA_at (As := (2, r) :: As) hD hS hR hU hW; rw [List.map_cons, show cv φ (2, r) = .ref (φ r) from if_neg h0] at q; exact q⟩ rfl (by rw [List.length_map]; exact hn) hl.1 ?_ ?_ hd ⟨hc1, hc2⟩⟩
  · show d + 12 + 1 ≤ Rm.frames; omega
  · show 8 + (ν.2.2.1 + 11) + (160 * d + 300) ≤ Rm.locals; omega
  · show (((2, r) :: As).reverse ++ rest).map (cv φ) = (As.map (cv φ)).reverse ++ .ref (φ r) :: rest.map (cv φ)
    rw [List.map_append, List.map_reverse, List.map_cons, show cv φ (2, r) = .ref (φ r) from if_neg h0, List.reverse_cons, List.append_assoc]
    rfl
  · refine lv_room ?_
    rw [rest8]; exact h8

theorem R_callO {ν : MM} {x : MethodName} {owner : String} {index n c m0 : Nat} {b0 : ByteArray} {r0 : Option FieldType} {ct : CT} {r : Int} {As rest : List AV} {v : Option AV} {σ1 : AS} (hd : decode μ.2.1 pc = .ok (.invokevirtual index, 3)) (hc : CLS[c]? = some ct) (cw : GoodIn lw_all (va_wsO μ.1.cls index ct.1 owner x ν.1 (wsA ν))) (hcode : Cond.code ⟨owner, x.name, x.desc⟩ b0 m0 r0 ∈ lw_all) (hh : ν.2.2.2.2 = []) (hy : owner ≠ "java/lang/invoke/MethodHandle" ∧ owner ≠ "java/lang/invoke/VarHandle" ∧ (parseMethodDescriptor x.desc).map (fun d => d.parameters.length) = some n) (hn : As.length = n) (hst : st = ((2, r) :: As).reverse ++ rest) (hL : ν.2.2.1 ≤ 100) (h8 : wsum rest ≤ 8) (g : kd σ r = c + 1 ∨ kd σ r = c + 1001) (hM : M Z ν d ((2, r) :: As) σ (.inl v) σ1) (kk : R Z μ (d + 1) (pc + 3) ls (v.toList ++ rest) σ1 o σ') : R Z μ (d + 1) pc ls st σ o σ' := by
  subst hst
  refine R.ofRun (a := #[]) hM.1 mem_pop kk fun p e Rm s m args below meth c H locs cells slots φ lsM hG hO hC hR hS hl hf hlo hc1 hc2 => ?_
  obtain ⟨hx, hb, -, hml, -, hown, hts, -, -, hD⟩ := hC
  have hM2 := hM.2 hG (fun x hx => hO.2 x (List.mem_append_left _ (List.mem_reverse.mpr hx))) φ
  have hws : wsA ν = Cond.code ν.1 ν.2.1 ν.2.2.1 ν.2.2.2.1 :: lw_all := by unfold wsA; rw [hh]
  obtain ⟨h0, hcell⟩ := recv_at hG hD hR hc g
  refine ⟨_, vx_runU (As := As.map (cv φ)) (b := φ r) ⟨hx, hb, hml, hown, hts⟩ hM2 (va_cwO n hts cw hws rfl rfl hcode hy ⟨?_, ?_⟩) ⟨PcA_blind, hcell, fun U hU hW => by have q := PcA_at (As := (2, r) :: As) hD hS hR hU hW; rw [List.map_cons, show cv φ (2, r) = .ref (φ r) from if_neg h0] at q; exact q⟩ rfl (by rw [List.length_map]; exact hn) hl.1 ?_ ?_ hd ⟨hc1, hc2⟩⟩
  · show d + 12 + 1 ≤ Rm.frames; omega
  · show 8 + (ν.2.2.1 + 11) + (160 * d + 300) ≤ Rm.locals; omega
  · show (((2, r) :: As).reverse ++ rest).map (cv φ) = (As.map (cv φ)).reverse ++ .ref (φ r) :: rest.map (cv φ)
    rw [List.map_append, List.map_reverse, List.map_cons, show cv φ (2, r) = .ref (φ r) from if_neg h0, List.reverse_cons, List.append_assoc]
    rfl
  · refine lv_room ?_
    rw [rest8]; exact h8

/-- super.m(..) -/
theorem R_callSU {ν : MM} {index n c : Nat} {ct : CT} {r : Int} {As rest : List AV} {v : Option AV} {σ1 : AS} (hd : decode μ.2.1 pc = .ok (.invokespecial index, 3)) (hc : CLS[c]? = some ct) (cw : GoodIn lw_all (va_wsSU μ.1.cls index ν.1 (wsA ν))) (hh : ν.2.2.2.2 = []) (hy : ν.1.name ≠ "<init>" ∧ (parseMethodDescriptor ν.1.desc).map (fun d => d.parameters.length) = some n) (hn : As.length = n) (hst : st = ((2, r) :: As).reverse ++ rest) (hL : ν.2.2.1 ≤ 100) (h8 : wsum rest ≤ 8) (g : kd σ r = c + 1 ∨ kd σ r = c + 1001) (hM : M Z ν d ((2, r) :: As) σ (.inl v) σ1) (kk : R Z μ (d + 1) (pc + 3) ls (v.toList ++ rest) σ1 o σ') : R Z μ (d + 1) pc ls st σ o σ' := by
  subst hst
  refine R.ofRun (a := #[]) hM.1 mem_pop kk fun p e Rm s m args below meth c H locs cells slots φ lsM hG hO hC hR hS hl hf hlo hc1 hc2 => ?_
  obtain ⟨hx, hb, -, hml, -, hown, hts, -, -, hD⟩ := hC
  have hM2 := hM.2 hG (fun x hx => hO.2 x (List.mem_append_left _ (List.mem_reverse.mpr hx))) φ
  have hws : wsA ν = Cond.code ν.1 ν.2.1 ν.2.2.1 ν.2.2.2.1 :: lw_all := by unfold wsA; rw [hh]
  obtain ⟨h0, hcell⟩ := recv_at hG hD hR hc g
  refine ⟨_, vx_runSU (C := ct.1) (As := As.map (cv φ)) (b := φ r) (hG.known hD hc).2 ⟨hx, hb, hml, hown, hts⟩ hM2 (va_cwSU n hts cw hws rfl rfl hy ⟨?_, ?_⟩) ⟨PcA_blind, hcell, fun U hU hW => by have q := PcA_at (As := (2, r) :: As) hD hS hR hU hW; rw [List.map_cons, show cv φ (2, r) = .ref (φ r) from if_neg h0] at q; exact q⟩ rfl (by rw [List.length_map]; exact hn) hl.1 ?_ ?_ hd ⟨hc1, hc2⟩⟩
  · show d + 12 + 1 ≤ Rm.frames; omega
  · show 8 + (ν.2.2.1 + 11) + (160 * d + 300) ≤ Rm.locals; omega
  · show (((2, r) :: As).reverse ++ rest).map (cv φ) = (As.map (cv φ)).reverse ++ .ref (φ r) :: rest.map (cv φ)
    rw [List.map_append, List.map_reverse, List.map_cons, show cv φ (2, r) = .ref (φ r) from if_neg h0, List.reverse_cons, List.append_assoc]
    rfl
  · refine lv_room ?_
    rw [rest8]; exact h8

theorem R.ofRun5 {v : Option AV} {rest : List AV} {σ1 : AS} (hm : Mono σ σ1) (hrest : Ok (nx σ) ls st → Ok (nx σ) ls rest) (kk : R Z μ d (pc + 5) ls (v.toList ++ rest) σ1 o σ')
    (run : ∀ (p : Program) (e : Env) (Rm : Room) (s : State) (m : MethodId) (args : Array Value) (below : List Frame) (meth : Method) (c : Code) (H : Heap) (locs : List Loc) (cells slots : Nat) (φ : Int → Nat) (lsM : Array Slot), Good Z → Ok (nx σ) ls st → Cx Z μ p e s m args meth c → Rel Z φ σ H → va_S (AA Z) s.heap H locs → lv_has lsM μ.2.2.1 (cl φ ls) → d + 12 ≤ Rm.frames → 160 * d + 300 ≤ Rm.locals → cells + (nx σ1 - nx σ).toNat ≤ Rm.cells → slots + (us σ1 - us σ).toNat ≤ Rm.slots →
      ∃ a, vx_Run5 p (zl Z) e Rm s m args below meth c H locs cells slots (nx σ1 - nx σ).toNat (us σ1 - us σ).toNat (F0 m pc lsM (st.map (cv φ))) (rest.map (cv φ)) (QcA Z φ (nx σ) (.inl v) σ1 a) (XcA Z φ (nx σ) (.inl v) σ1) (AA Z)) : R Z μ d pc ls st σ o σ' := by
  refine R.step kk hm fun p e Rm s m args below meth c H locs cells slots Q φ lsM hG hO hC hR hS hl hf hlo hc1 hc2 k1 => ?_
  obtain ⟨a, hr⟩ := run p e Rm s m args below meth c H locs cells slots φ lsM hG hO hC hR hS hl hf hlo hc1 hc2
  intro T hT X
  rcases hr T hT X with ⟨v', st₀, t, T', L, h0, X', hL, e1, e2, ⟨φ', v2, hφ, hR', hF, ho, hv, hoc⟩, stp⟩ | ⟨q, st₀, t, T', L, E, ce, h0, X', hL, e1, e2, ⟨φ', hφ, hR', hF, ho⟩, -⟩
  · cases ho
    cases hoc
    have hOr := hrest hO
    obtain ⟨q1, q2, q3⟩ := vx_keep h0 e1 hS (fun _ _ z => z) (fun _ z => z) hL hF
    have hO' : Ok (nx σ1) ls (v.toList ++ rest) := ⟨(hO.mono hm.1).1, fun x hx => by
      rcases List.mem_append.mp hx with h | h
      · exact hv x (by cases v <;> simp_all)
      · exact (hOr.mono hm.1).2 x h⟩
    have k2 := k1 φ' T'.heap (locs ++ L) lsM hφ hO' (by rw [e1]; exact hR') q3 (by rw [cl_agree (st := st) hO hφ]; exact hl)
    obtain ⟨t2, a1, b1⟩ := k2 T' rfl X'
    refine ⟨t2, stp t2 ?_, b1⟩
    rw [List.map_append, st_agree hOr hφ] at a1
    cases v <;> exact a1
  · cases ho
/-- through an interface -/
theorem R_callF {ν : MM} {x : MethodName} {index count n c : Nat} {ct : CT} {r : Int} {As rest : List AV} {v : Option AV} {σ1 : AS} (hd : decode μ.2.1 pc = .ok (.invokeinterface index count, 5)) (hc : CLS[c]? = some ct) (cw : GoodIn lw_all (va_wsF μ.1.cls index ct.1 x ν.1 (wsA ν))) (h1 : Cond.declares x ∈ lw_tbl) (h2 : Cond.interfaceMethod x.cls x.cls x.name x.desc ∈ lw_tbl) (h3 : Cond.publicMethod ν.1 ∈ lw_tbl) (h4 : Cond.unhidden ct.1 x.name x.desc ∈ lw_tbl) (h5 : Cond.castable ct.1 x.cls ∈ lw_tbl) (hh : ν.2.2.2.2 = []) (hy : x.cls ≠ "java/lang/invoke/MethodHandle" ∧ x.cls ≠ "java/lang/invoke/VarHandle" ∧ (parseMethodDescriptor x.desc).map (fun d => d.parameters.length) = some n) (hn : As.length = n) (hst : st = ((2, r) :: As).reverse ++ rest) (hL : ν.2.2.1 ≤ 100) (h8 : wsum rest ≤ 8) (g : kd σ r = c + 1 ∨ kd σ r = c + 1001) (hM : M Z ν d ((2, r) :: As) σ (.inl v) σ1) (kk : R Z μ (d + 1) (pc + 5) ls (v.toList ++ rest) σ1 o σ') : R Z μ (d + 1) pc ls st σ o σ' := by
  subst hst
  refine R.ofRun5 hM.1 mem_pop kk fun p e Rm s m args below meth c H locs cells slots φ lsM hG hO hC hR hS hl hf hlo hc1 hc2 => ?_
  obtain ⟨hx, hb, -, hml, -, hown, hts, -, -, hD⟩ := hC
  have hM2 := hM.2 hG (fun x hx => hO.2 x (List.mem_append_left _ (List.mem_reverse.mpr hx))) φ
  have hws : wsA ν = Cond.code ν.1 ν.2.1 ν.2.2.1 ν.2.2.2.1 :: lw_all := by unfold wsA; rw [hh]
  obtain ⟨h0, hcell⟩ := recv_at hG hD hR hc g
  have hF : va_Fw ct.1 x ν.1 s := va_Fw.moved ⟨hy.1, hy.2.1⟩ hD.alike (va_Fw.of (hG.word h1) (hG.word h2) (hG.word h3) (hG.word h4) (hG.word h5))
  refine ⟨_, vx_runF (As := As.map (cv φ)) (b := φ r) (hG.known hD hc).2 ⟨hx, hb, hml, hown, hts⟩ hM2 (va_cwF n hts cw hws rfl rfl hF hy ⟨?_, ?_⟩) ⟨PcA_blind, hcell, fun U hU hW => by have q := PcA_at (As := (2, r) :: As) hD hS hR hU hW; rw [List.map_cons, show cv φ (2, r) = .ref (φ r) from if_neg h0] at q; exact q⟩ rfl (by rw [List.length_map]; exact hn) hl.1 ?_ ?_ hd ⟨hc1, hc2⟩⟩
  · show d + 12 + 1 ≤ Rm.frames; omega
  · show 8 + (ν.2.2.1 + 11) + (160 * d + 300) ≤ Rm.locals; omega
  · show (((2, r) :: As).reverse ++ rest).map (cv φ) = (As.map (cv φ)).reverse ++ .ref (φ r) :: rest.map (cv φ)
    rw [List.map_append, List.map_reverse, List.map_cons, show cv φ (2, r) = .ref (φ r) from if_neg h0, List.reverse_cons, List.append_assoc]
    rfl
  · refine lv_room ?_
    rw [rest8]; exact h8

end RR6
