/-! RULES OF R: a call by a name whose own code isn't in the tables; small rules for the generator -/
set_option maxRecDepth 100000
section RR9
variable {Z : ZT} {μ : MM} {d pc : Nat} {ls : List (Nat × AV)} {st : List AV} {σ : AS} {o : AO} {σ' : AS}
theorem R_callD {ν : MM} {x : MethodName} {owner : String} {index n c : Nat} {ct : CT} {r : Int} {As rest : List AV} {v : Option AV} {σ1 : AS} (hd : decode μ.2.1 pc = .ok (.invokevirtual index, 3)) (hc : CLS[c]? = some ct) (cw : GoodIn lw_all (va_wsU μ.1.cls index ct.1 owner x ν.1 (wsA ν))) (hh : ν.2.2.2.2 = []) (hdc : Cond.declares ⟨owner, x.name, x.desc⟩ ∈ lw_tbl) (hy : owner ≠ "java/lang/invoke/MethodHandle" ∧ owner ≠ "java/lang/invoke/VarHandle" ∧ (parseMethodDescriptor x.desc).map (fun d => d.parameters.length) = some n) (hn : As.length = n) (hst : st = ((2, r) :: As).reverse ++ rest) (hL : ν.2.2.1 ≤ 100) (h8 : wsum rest ≤ 8) (g : kd σ r = c + 1 ∨ kd σ r = c + 1001) (hM : M Z ν d ((2, r) :: As) σ (.inl v) σ1) (kk : R Z μ (d + 1) (pc + 3) ls (v.toList ++ rest) σ1 o σ') : R Z μ (d + 1) pc ls st σ o σ' := by
  subst hst
  refine R.ofRun (a := #[]) hM.1 mem_pop kk fun p e Rm s m args below meth c H locs cells slots φ lsM hG hO hC hR hS hl hf hlo hc1 hc2 => ?_
  obtain ⟨hx, hb, -, hml, -, hown, hts, -, -, hD⟩ := hC
  have hM2 := hM.2 hG (fun x hx => hO.2 x (List.mem_append_left _ (List.mem_reverse.mpr hx))) φ
  have hws : wsA ν = Cond.code ν.1 ν.2.1 ν.2.2.1 ν.2.2.2.1 :: lw_all := by unfold wsA; rw [hh]
  obtain ⟨h0, hcell⟩ := recv_at hG hD hR hc g
  refine ⟨_, vx_runU (As := As.map (cv φ)) (b := φ r) ⟨hx, hb, hml, hown, hts⟩ hM2 (va_cwA n hts cw hws rfl rfl (va_Nw.warmD hD.1 (va_Nw.of rfl (hG.word hdc))) hy ⟨?_, ?_⟩) ⟨PcA_blind, hcell, fun U hU hW => by have q := PcA_at (As := (2, r) :: As) hD hS hR hU hW; rw [List.map_cons, show cv φ (2, r) = .ref (φ r) from if_neg h0] at q; exact q⟩ rfl (by rw [List.length_map]; exact hn) hl.1 ?_ ?_ hd ⟨hc1, hc2⟩⟩
  · show d + 12 + 1 ≤ Rm.frames; omega
  · show 8 + (ν.2.2.1 + 11) + (160 * d + 300) ≤ Rm.locals; omega
  · show (((2, r) :: As).reverse ++ rest).map (cv φ) = (As.map (cv φ)).reverse ++ .ref (φ r) :: rest.map (cv φ)
    rw [List.map_append, List.map_reverse, List.map_cons, show cv φ (2, r) = .ref (φ r) from if_neg h0, List.reverse_cons, List.append_assoc]
    rfl
  · refine lv_room ?_
    rw [rest8]; exact h8


theorem R_iincE {i j : Nat} {n x y : Int} {ls' : List (Nat × AV)} (hd : decode μ.2.1 pc = .ok (.iinc i n, 3)) (hj : ls[j]? = some (i, (0, x))) (hn : i < μ.2.2.1) (g : InI (x + n)) (e : y = x + n) (hs : (i, ((0, y) : AV)) :: ls.filter (fun q => !(q.1 == i) && !(q.1 + 1 == i && q.2.1 == 1)) = ls') (k : R Z μ d (pc + 3) ls' st σ o σ') : R Z μ d pc ls st σ o σ' := by
  subst e
  exact R_iinc hd hj hn g hs k
theorem R_aastoreO {r j v : Int} (hd : decode μ.2.1 pc = .ok (.aastore, 1)) (g : kd σ r = 105) (g0 : 0 ≤ j) (g1 : j < ln σ r) (gv : elOk σ (.object "java/lang/Object") v) (kk : R Z μ d (pc + 1) ls st (wr σ r j v) o σ') : R Z μ d pc ls ((2, v) :: (0, j) :: (2, r) :: st) σ o σ' := by
  rcases gv with e | ⟨c, g2, g3⟩
  · subst e
    exact R_aastoreN 5 rfl hd g g0 g1 kk
  · exact R_aastore 5 rfl (by decide) hd g g0 g1 g3 (Or.inr g2) kk
theorem nc_Entry_TreeNode (hG : Good Z) : va_Nc "java/util/LinkedHashMap$Entry" "java/util/HashMap$TreeNode" (z0 Z) := nc_test hG
end RR9
theorem cls_0 : CLS[0]? = some (RX1, TX1, 15, tyX1) := rfl
theorem cls_1 : CLS[1]? = some (RX2, TX2, 5, tyX2) := rfl
theorem cls_2 : CLS[2]? = some (RX10, TX10, 2, tyX10) := rfl
theorem cls_3 : CLS[3]? = some (RX9, TX9, 4, tyX9) := rfl
theorem cls_4 : CLS[4]? = some (RX12, TX12, 4, tyX12) := rfl
theorem cls_5 : CLS[5]? = some (RX11, TX11, 1, tyX11) := rfl
theorem cls_6 : CLS[6]? = some (RX13, TX13, 1, tyX13) := rfl
theorem cls_7 : CLS[7]? = some (RX14, TX14, 2, tyX14) := rfl
theorem cls_8 : CLS[8]? = some (RX15, TX15, 2, tyX15) := rfl
theorem cls_9 : CLS[9]? = some (RX16, TX16, 3, tyX16) := rfl
theorem cls_10 : CLS[10]? = some (RX17, TX17, 2, tyX17) := rfl
theorem cls_11 : CLS[11]? = some (RX18, TX18, 9, tyX18) := rfl
theorem cls_12 : CLS[12]? = some (RX19, TX19, 2, tyX19) := rfl
theorem cls_13 : CLS[13]? = some (RX20, TX20, 5, tyX20) := rfl
theorem cls_14 : CLS[14]? = some (RX21, TX21, 3, tyX21) := rfl
theorem cls_15 : CLS[15]? = some (RX22, TX22, 3, tyX22) := rfl
theorem cls_16 : CLS[16]? = some (RX23, TX23, 2, tyX23) := rfl
theorem cls_17 : CLS[17]? = some (RX3, TX3, 7, tyX3) := rfl
theorem cls_18 : CLS[18]? = some (RX4, TX4, 7, tyX4) := rfl
theorem cls_19 : CLS[19]? = some (RX5, TX5, 7, tyX5) := rfl
theorem cls_20 : CLS[20]? = some (RX6, TX6, 8, tyX6) := rfl
theorem cls_21 : CLS[21]? = some (RX7, TX7, 61, tyX7) := rfl
theorem cls_22 : CLS[22]? = some (RJ1, TJ1, 3, tyJ1) := rfl
theorem cls_23 : CLS[23]? = some (RJ15, TJ15, 4, tyJ15) := rfl
theorem cls_24 : CLS[24]? = some (RJ17, TJ17, 1, tyJ17) := rfl
theorem cls_25 : CLS[25]? = some (RJ8, TJ8, 9, tyJ8) := rfl
theorem cls_26 : CLS[26]? = some (RJ25, TJ25, 6, tyJ25) := rfl
theorem cls_27 : CLS[27]? = some (RJ26, TJ26, 3, tyJ26) := rfl
theorem cls_28 : CLS[28]? = some (RJ28, TJ28, 4, tyJ28) := rfl
theorem cls_29 : CLS[29]? = some (RJ30, TJ30, 4, tyJ30) := rfl
theorem cls_30 : CLS[30]? = some (RJ32, TJ32, 3, tyJ32) := rfl
theorem cls_31 : CLS[31]? = some (RJ34, TJ34, 12, tyJ34) := rfl
theorem cls_32 : CLS[32]? = some (RJ38, TJ38, 6, tyJ38) := rfl
