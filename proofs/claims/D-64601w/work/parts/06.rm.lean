/-! THE JUDGEMENTS -/
set_option maxRecDepth 100000
abbrev ZT : Type := (Nat → ClassId) × (Nat → Nat → Nat) × (Nat → ClassId) × State × Addr × Launch × (Int → Nat)
def zdC (Z : ZT) : Nat → ClassId := Z.1
def zdI (Z : ZT) : Nat → Nat → Nat := Z.2.1
def zdA (Z : ZT) : Nat → ClassId := Z.2.2.1
def z0 (Z : ZT) : State := Z.2.2.2.1
def zb (Z : ZT) : Addr := Z.2.2.2.2.1
def zl (Z : ZT) : Launch := Z.2.2.2.2.2.1
/-- where the constants lie (references below 1000) -/
def zF (Z : ZT) : Int → Nat := Z.2.2.2.2.2.2
/-- what may be written: cells made behind the law's entry -/
def AA (Z : ZT) : Nat → Prop := fun q => (z0 Z).heap.size ≤ q
def ObjOk (Z : ZT) (φ : Int → Nat) (σ : AS) (r : Int) (c : Nat) (ct : CT) (cell : Cell) : Prop :=
  cell.cls = zdC Z c ∧ ∀ i : Nat, i < ct.2.2.1 → cell.slots[zdI Z c i]? = some (cv φ (tg (ct.2.2.2 i), ld σ r i)) ∧ okt (nx σ) (ct.2.2.2 i) (ld σ r i)
def ArrOk (Z : ZT) (φ : Int → Nat) (σ : AS) (r : Int) (c : Nat) (t : FieldType) (cell : Cell) : Prop :=
  (z0 Z).isArrayOf cell t ∧ (kd σ r < 1000 → cell.cls = zdA Z c) ∧ (cell.slots.size : Int) = ln σ r ∧ ln σ r ≤ 2147483647 ∧ ∀ j : Nat, j < cell.slots.size → cell.slots[j]? = some (cv φ (tg t, ld σ r j)) ∧ okt (nx σ) t (ld σ r j)
/-- the cell of r as the store has it: kinds 1.. objects (the place of the class and 1), 100.. arrays; 1000 more: a constant, made ahead of the law -/
def CellOk (Z : ZT) (φ : Int → Nat) (σ : AS) (H : Heap) (r : Int) : Prop :=
  ∃ cell : Cell, H[φ r]? = some cell ∧ cell.vm ≠ .unknown ∧ cell.vm.isStatics = false ∧ (kd σ r < 1000 → cell.vm = .none ∧ AA Z (φ r)) ∧ (1000 ≤ kd σ r → ¬ AA Z (φ r)) ∧
    (∀ (c : Nat) (ct : CT), kd σ r % 1000 = c + 1 → CLS[c]? = some ct → ObjOk Z φ σ r c ct cell) ∧
    (∀ (c : Nat) (t : FieldType), kd σ r % 1000 = c + 100 → ATY[c]? = some t → ArrOk Z φ σ r c t cell)
/-- kinds of which one cell stands at one place alone -/
def sole (k k' : Nat) : Prop := k < 1000 ∨ k' < 1000 ∨ (2000 ≤ k ∧ 2000 ≤ k')
def Rel (Z : ZT) (φ : Int → Nat) (σ : AS) (H : Heap) : Prop :=
  0 < nx σ ∧ (∀ r, kd σ r ≠ 0 → 0 < r ∧ r < nx σ ∧ CellOk Z φ σ H r) ∧ (∀ r r', kd σ r ≠ 0 → kd σ r' ≠ 0 → sole (kd σ r) (kd σ r') → φ r = φ r' → r = r') ∧ 1000 ≤ nx σ ∧ ∀ r, 0 ≤ r → r < 1000 → φ r = zF Z r
/-- a state that comes from the law's entry: the tables as there, the old cells untouched -/
def Desc (Z : ZT) (U : State) : Prop := (z0 Z).WarmedH U.vm ∧ (z0 Z).heap.size ≤ U.heap.size ∧ ∀ q : Nat, q < (z0 Z).heap.size → U.heap[q]? = (z0 Z).heap[q]?
def Good (Z : ZT) : Prop :=
  (∀ (c : Nat) (ct : CT), CLS[c]? = some ct → u_Kn (z0 Z) ct.1 ct.2.1 ct.2.2.1 (zdC Z c) (zdI Z c)) ∧
  (∀ (c : Nat) (t : FieldType), c < 9 → ATY[c]? = some t → ArrOfT (z0 Z) (zdA Z c) t ∧ va_RA (z0 Z) (zdA Z c) t) ∧
  (∀ w ∈ lw_tbl, w.before #[.ref (zb Z)] (z0 Z) = true) ∧ (zl Z).stackTraces = false ∧
  vx_Zq Bundle.tN "UNASSIGNED_STACK" Bundle.steD (AA Z) (z0 Z) (z0 Z).heap ∧ vx_Zq Bundle.tN "SUPPRESSED_SENTINEL" Bundle.listD (AA Z) (z0 Z) (z0 Z).heap ∧
  (∀ q ∈ STRS, vk_R q.1 q.2.1 q.2.2.1 (zF Z q.2.2.2) (z0 Z)) ∧ (∀ q ∈ STATS, va_Z q.1 q.2.1 q.2.2.1 (cv (zF Z) q.2.2.2) (AA Z) (z0 Z) (z0 Z).heap) ∧
  (Jvm.Cond.and given_1 narrow_1).before #[.ref (zb Z)] (z0 Z) = true ∧ va_Mi "[Ljava/lang/Object;" (zF Z 130) (z0 Z)
/-- a method: its name, code, locals, answer, handlers -/
abbrev MM : Type := MethodName × ByteArray × Nat × Option FieldType × List (Nat × Nat × Nat × Nat)
/-- how a method ends: with an answer, or by an exception of that class -/
abbrev AO : Type := Option AV ⊕ String
def QcA (Z : ZT) (φ0 : Int → Nat) (n0 : Int) (o : AO) (σ' : AS) : Array Value → State → Outcome → State → Prop := fun _ st oc t =>
  ∃ (φ' : Int → Nat) (v : Option AV), (∀ r, 0 ≤ r → r < n0 → φ' r = φ0 r) ∧ Rel Z φ' σ' t.heap ∧ va_F (AA Z) st t ∧ o = .inl v ∧ (∀ x ∈ v, okv (nx σ') x) ∧ oc = .returned (v.map (cv φ'))
def XcA (Z : ZT) (φ0 : Int → Nat) (n0 : Int) (o : AO) (σ' : AS) : String → State → State → Prop := fun E st t =>
  ∃ φ' : Int → Nat, (∀ r, 0 ≤ r → r < n0 → φ' r = φ0 r) ∧ Rel Z φ' σ' t.heap ∧ va_F (AA Z) st t ∧ o = .inr E
def Mono (σ σ' : AS) : Prop := nx σ ≤ nx σ' ∧ us σ ≤ us σ'
theorem Mono.rf {σ : AS} : Mono σ σ := ⟨Int.le_refl _, Int.le_refl _⟩
theorem Mono.trans {σ σ1 σ' : AS} (h : Mono σ σ1) (h1 : Mono σ1 σ') : Mono σ σ' := ⟨Int.le_trans h.1 h1.1, Int.le_trans h.2 h1.2⟩
def rmA (d : Nat) (σ σ' : AS) : Room := { frames := d + 12, cells := (nx σ' - nx σ).toNat, slots := (us σ' - us σ).toNat, locals := 160 * d + 300 }
def wsA (μ : MM) : List Cond := match μ.2.2.2.2 with
  | [] => ws_ μ.1 μ.2.1 μ.2.2.1 μ.2.2.2.1
  | hh => wsW_ μ.1 μ.2.1 μ.2.2.1 μ.2.2.2.1 hh
def PcA (Z : ZT) (φ : Int → Nat) (args : List AV) (σ : AS) : Array Value → State → Prop := fun a U => a = (args.map (cv φ)).toArray ∧ Desc Z U ∧ Rel Z φ σ U.heap
/-- a method's contract: from the store σ, with these arguments and room for d more calls, it ends so, with the store σ' -/
def M (Z : ZT) (μ : MM) (d : Nat) (args : List AV) (σ : AS) (o : AO) (σ' : AS) : Prop :=
  Mono σ σ' ∧ (Good Z → (∀ v ∈ args, okv (nx σ) v) → ∀ φ : Int → Nat,
    vx_Met (zl Z) μ.1 (wsA μ) (rmA d σ σ') (PcA Z φ args σ) (QcA Z φ (nx σ) o σ') (XcA Z φ (nx σ) o σ') (nx σ' - nx σ).toNat (us σ' - us σ).toNat (AA Z))
def Cx (Z : ZT) (μ : MM) (p : Program) (e : Env) (s : State) (m : MethodId) (args : Array Value) (meth : Method) (c : Code) : Prop :=
  p.tables.exec = Jvm.exec ∧ c.code = μ.2.1 ∧ meth.sig.returnType = μ.2.2.2.1 ∧ c.maxLocals = μ.2.2.1 ∧ meth.locks = false ∧ s.vm.findClass μ.1.cls = some m.cls ∧ (∀ w ∈ lw_all, w.before args s = true) ∧ meth.name = μ.1.name ∧ c.exceptionTable.toList = μ.2.2.2.2.map (fun h => (⟨h.1, h.2.1, h.2.2.1, h.2.2.2⟩ : ExceptionTableEntry)) ∧ Desc Z s
/-- what is known of locals, stack and store -/
def Ok (n : Int) (ls : List (Nat × AV)) (st : List AV) : Prop := (∀ q ∈ ls, okv n q.2) ∧ ∀ v ∈ st, okv n v
def cl (φ : Int → Nat) (ls : List (Nat × AV)) : List (Nat × Value) := ls.map fun q => (q.1, cv φ q.2)
/-- the method μ, now at pc with these locals, this stack, this store, ends so -/
def R (Z : ZT) (μ : MM) (d : Nat) (pc : Nat) (ls : List (Nat × AV)) (st : List AV) (σ : AS) (o : AO) (σ' : AS) : Prop :=
  Mono σ σ' ∧ (Good Z → Ok (nx σ) ls st → ∀ (p : Program) (e : Env) (Rm : Room) (s : State) (m : MethodId) (args : Array Value) (below : List Frame) (meth : Method) (c : Code) (H : Heap) (locs : List Loc) (cells slots mc ms : Nat) (φ0 φ : Int → Nat) (n0 : Int) (lsM : Array Slot),
    Cx Z μ p e s m args meth c → va_S (AA Z) s.heap H locs → Rel Z φ σ H → (∀ r, 0 ≤ r → r < n0 → φ r = φ0 r) → n0 ≤ nx σ → lv_has lsM μ.2.2.1 (cl φ ls) →
    d + 12 ≤ Rm.frames → 160 * d + 300 ≤ Rm.locals → cells + (nx σ' - nx σ).toNat ≤ mc → slots + (us σ' - us σ).toNat ≤ ms → mc ≤ Rm.cells → ms ≤ Rm.slots →
    W p (zl Z) e Rm s m args below meth c H locs cells slots (vx_MQ below (QcA Z φ0 n0 o σ') (XcA Z φ0 n0 o σ') args s mc ms (AA Z)) (F0 m pc lsM (st.map (cv φ))))
section RR
variable {Z : ZT} {μ : MM} {d pc : Nat} {ls : List (Nat × AV)} {st : List AV} {σ : AS} {o : AO} {σ' : AS}
theorem S_own {s : State} {H : Heap} {locs : List Loc} (h : va_S (AA Z) s.heap H locs) (hd : Desc Z s) : (z0 Z).heap.size ≤ H.size ∧ ∀ q : Nat, q < (z0 Z).heap.size → H[q]? = (z0 Z).heap[q]? :=
  ⟨Nat.le_trans hd.2.1 h.1, fun q hq => (h.2.1 q (Nat.lt_of_lt_of_le hq hd.2.1) (fun z => absurd hq (Nat.not_lt.mpr z))).trans (hd.2.2 q hq)⟩
/-- an instruction that leaves the store alone -/
theorem R.pure {pc' : Nat} {ls' : List (Nat × AV)} {st' : List AV} (h : R Z μ d pc' ls' st' σ o σ') (hok : Ok (nx σ) ls st → Ok (nx σ) ls' st')
    (t : ∀ (p : Program) (e : Env) (Rm : Room) (s : State) (m : MethodId) (args : Array Value) (below : List Frame) (meth : Method) (c : Code) (H : Heap) (locs : List Loc) (cells slots : Nat) (Q : State → Prop) (φ : Int → Nat) (lsM : Array Slot), Good Z → Ok (nx σ) ls st → Cx Z μ p e s m args meth c → Rel Z φ σ H → va_S (AA Z) s.heap H locs → lv_has lsM μ.2.2.1 (cl φ ls) → 12 ≤ Rm.frames → 300 ≤ Rm.locals →
      (∀ lsM' : Array Slot, lv_has lsM' μ.2.2.1 (cl φ ls') → W p (zl Z) e Rm s m args below meth c H locs cells slots Q (F0 m pc' lsM' (st'.map (cv φ)))) → W p (zl Z) e Rm s m args below meth c H locs cells slots Q (F0 m pc lsM (st.map (cv φ)))) : R Z μ d pc ls st σ o σ' := by
  refine ⟨h.1, fun hG hO p e Rm s m args below meth c H locs cells slots mc ms φ0 φ n0 lsM hC hS hR h0 hn hl hf hlo hc1 hc2 hc3 hc4 => ?_⟩
  exact t p e Rm s m args below meth c H locs cells slots _ φ lsM hG hO hC hR hS hl (by omega) (by omega) fun lsM' hl' => h.2 hG (hok hO) p e Rm s m args below meth c H locs cells slots mc ms φ0 φ n0 lsM' hC hS hR h0 hn hl' hf hlo hc1 hc2 hc3 hc4
/-- two ways on -/
theorem R.br {pc1 pc2 : Nat} {st' : List AV} {C : Prop} (h1 : C → R Z μ d pc1 ls st' σ o σ') (h2 : ¬ C → R Z μ d pc2 ls st' σ o σ') (hok : Ok (nx σ) ls st → Ok (nx σ) ls st')
    (t : ∀ (p : Program) (e : Env) (Rm : Room) (s : State) (m : MethodId) (args : Array Value) (below : List Frame) (meth : Method) (c : Code) (H : Heap) (locs : List Loc) (cells slots : Nat) (Q : State → Prop) (φ : Int → Nat) (lsM : Array Slot), Good Z → Ok (nx σ) ls st → Cx Z μ p e s m args meth c → Rel Z φ σ H →
      (C → W p (zl Z) e Rm s m args below meth c H locs cells slots Q (F0 m pc1 lsM (st'.map (cv φ)))) → (¬ C → W p (zl Z) e Rm s m args below meth c H locs cells slots Q (F0 m pc2 lsM (st'.map (cv φ)))) → W p (zl Z) e Rm s m args below meth c H locs cells slots Q (F0 m pc lsM (st.map (cv φ)))) : R Z μ d pc ls st σ o σ' := by
  have hm : Mono σ σ' := by
    by_cases c : C
    · exact (h1 c).1
    · exact (h2 c).1
  refine ⟨hm, fun hG hO p e Rm s m args below meth c H locs cells slots mc ms φ0 φ n0 lsM hC hS hR h0 hn hl hf hlo hc1 hc2 hc3 hc4 => ?_⟩
  exact t p e Rm s m args below meth c H locs cells slots _ φ lsM hG hO hC hR (fun q => (h1 q).2 hG (hok hO) p e Rm s m args below meth c H locs cells slots mc ms φ0 φ n0 lsM hC hS hR h0 hn hl hf hlo hc1 hc2 hc3 hc4) (fun q => (h2 q).2 hG (hok hO) p e Rm s m args below meth c H locs cells slots mc ms φ0 φ n0 lsM hC hS hR h0 hn hl hf hlo hc1 hc2 hc3 hc4)
theorem Ok.pop {n : Int} {v : AV} (h : Ok n ls (v :: st)) : Ok n ls st := ⟨h.1, fun x hx => h.2 x (List.mem_cons_of_mem _ hx)⟩
theorem Ok.push {n : Int} {v : AV} (h : Ok n ls st) (hv : okv n v) : Ok n ls (v :: st) := ⟨h.1, fun x hx => by
  rcases List.mem_cons.mp hx with e | e
  · rw [e]; exact hv
  · exact h.2 x e⟩
theorem Ok.top {n : Int} {v : AV} (h : Ok n ls (v :: st)) : okv n v := h.2 v List.mem_cons_self
theorem cl_at {φ : Int → Nat} {k i : Nat} {v : AV} (h : ls[k]? = some (i, v)) : (cl φ ls)[k]? = some (i, cv φ v) := by
  unfold cl; rw [List.getElem?_map, h]; rfl
theorem Ok.at {n : Int} {k i : Nat} {v : AV} (h : Ok n ls st) (hk : ls[k]? = some (i, v)) : okv n v := h.1 (i, v) (List.mem_of_getElem? hk)
/-- fewer locals -/
theorem R.sub {ls' : List (Nat × AV)} (ks : List Nat) (hk : ks.filterMap (fun k => ls[k]?) = ls') (h : R Z μ d pc ls' st σ o σ') : R Z μ d pc ls st σ o σ' := by
  have hin : ∀ q ∈ ls', q ∈ ls := by
    intro q hq
    rw [← hk] at hq
    obtain ⟨k, -, hk⟩ := List.mem_filterMap.mp hq
    exact List.mem_of_getElem? hk
  refine ⟨h.1, fun hG hO p e Rm s m args below meth c H locs cells slots mc ms φ0 φ n0 lsM hC hS hR h0 hn hl hf hlo hc1 hc2 hc3 hc4 => ?_⟩
  refine h.2 hG ⟨fun q hq => hO.1 q (hin q hq), hO.2⟩ p e Rm s m args below meth c H locs cells slots mc ms φ0 φ n0 lsM hC hS hR h0 hn ⟨hl.1, hl.2.1, fun q hq => ?_⟩ hf hlo hc1 hc2 hc3 hc4
  obtain ⟨q0, h1, rfl⟩ := List.mem_map.mp hq
  exact hl.2.2 _ (List.mem_map.mpr ⟨q0, hin q0 h1, rfl⟩)
end RR
