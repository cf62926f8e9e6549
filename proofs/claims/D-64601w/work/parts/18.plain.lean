/-! a method's start, of a class that the machine has entries of -/
set_option maxRecDepth 100000
theorem am_ofWF {l : Launch} {y : MethodName} {ws ws' : List Cond} {rm : Room} {Pc : Array Value → State → Prop} {Qc : Array Value → State → Outcome → State → Prop} {XC : String → State → State → Prop} {mc ms : Nat} {free : Addr → Prop} {cc : ByteArray} {maxL : Nat} {ret : Option FieldType}
    (hy : plainFor y = true) (hw : ws = Cond.code y cc maxL ret :: ws')
    (body : ∀ p e s m args below meth c s₁, BodyLoose p l y (headSpec ws rm) cc maxL ret e s m args below meth c s₁ → c.maxLocals = maxL → (∀ x ∈ c.exceptionTable.toList, False) → Pc args s →
      W p l e (headSpec ws rm).room s m args below meth c s.heap [] 0 0 (vx_MQ below Qc XC args s mc ms free) (entryFrame m args maxL)) : vx_Met l y ws rm Pc Qc XC mc ms free := by
  refine MetFree.of_bodySF (code := cc) (maxLocals := maxL) (ret := ret) hy ?_ ?_
  · intro args s m h hn
    obtain ⟨meth, c, h1, h2, h3, h4, h5, h6, -, -⟩ := Cond.code_spec hn (atoms_spec (ws := ws) h _ (by rw [hw]; exact List.mem_cons_self))
    exact ⟨meth, c, h1, h2, h3, h4, h5, h6⟩
  · intro p e s m args below meth c s₁ B hml hP _
    have hh0 : s₁.heap = s.heap := by rw [B.state]; rfl
    have ht : ∀ x ∈ c.exceptionTable.toList, False := by
      obtain ⟨meth9, c9, h1, h2, -, -, -, -, h7, -⟩ := Cond.code_spec B.named (atoms_spec (ws := ws) B.pre _ (by rw [hw]; exact List.mem_cons_self))
      cases Option.some.inj (h1.symm.trans B.method)
      cases Option.some.inj (h2.symm.trans (Stand.of_body B).code)
      intro x hx
      rw [Array.isEmpty_iff.mp h7] at hx
      cases hx
    obtain ⟨t, a1, o, b1, b2, b3⟩ := body p e s m args below meth c s₁ B hml ht hP s₁ hh0 (Stand.of_body B)
    exact ⟨t, o, a1, b1, b2, b3⟩
section RF
variable {Z : ZT} {μ : MM} {d pc : Nat} {ls : List (Nat × AV)} {st : List AV} {σ : AS} {o : AO} {σ' : AS}
theorem M.ofF {args : List AV} (hy : plainFor μ.1 = true) (hh : μ.2.2.2.2 = []) (hw : wsum args ≤ μ.2.2.1) (h : R Z μ d 0 (la 0 args) [] σ o σ') : M Z μ d args σ o σ' := by
  refine ⟨h.1, fun hG ha φ => ?_⟩
  have hws : wsA μ = Cond.code μ.1 μ.2.1 μ.2.2.1 μ.2.2.2.1 :: lw_all := by unfold wsA; rw [hh]
  refine am_ofWF (cc := μ.2.1) (maxL := μ.2.2.1) (ret := μ.2.2.2.1) hy hws ?_
  intro p e s m args' below meth c s₁ B hml ht hv
  obtain ⟨rfl, hD, hR⟩ := hv
  have hts := atoms_spec (ws := wsA μ) B.pre
  have hts : ∀ w ∈ lw_all, w.before _ s = true := fun w h => hts w (by rw [hws]; exact List.mem_cons_of_mem _ h)
  have hC : Cx Z μ p e s m (args.map (cv φ)).toArray meth c := ⟨B.exec, B.bytes, B.returns, hml, B.notSynchronized, findClass_of_methodNamed B.named, hts, (name_of_methodNamed B.named B.method).1, by rw [hh]; exact List.eq_nil_iff_forall_not_mem.mpr fun x hx => ht x hx, hD⟩
  have hl := lv_entry (args.map (cv φ)) (n := μ.2.2.1) (by rw [wsum_sl]; exact hw)
  rw [lg_entry_eq]
  generalize (lg_sl (args.map (cv φ)) ++ List.replicate (μ.2.2.1 - (lg_sl (args.map (cv φ))).length) Slot.unset).toArray = lsM at hl ⊢
  rw [← la_cl] at hl
  exact h.2 hG ⟨la_ok _ _ ha, fun v hv => by cases hv⟩ p e _ s m _ below meth c s.heap [] 0 0 _ _ φ φ (nx σ) lsM hC va_S.rf hR (fun _ _ _ => rfl) (Int.le_refl _) hl (Nat.le_refl _) (Nat.le_refl _) (by omega) (by omega) (Nat.le_refl _) (Nat.le_refl _)
theorem M.ofF' {args : List AV} (hy : plainFor μ.1 = true) (hh : μ.2.2.2.2 = []) (hw : Nat.ble (wsum args) μ.2.2.1 = true) (hl : la 0 args = ls) (h : R Z μ d 0 ls [] σ o σ') : M Z μ d args σ o σ' := M.ofF hy hh (Nat.le_of_ble_eq_true hw) (by rw [hl]; exact h)
end RF
