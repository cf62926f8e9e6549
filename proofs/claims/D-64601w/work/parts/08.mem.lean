/-! RULES OF R: fields -/
set_option maxRecDepth 100000
section RR2
variable {Z : ZT} {μ : MM} {d pc : Nat} {ls : List (Nat × AV)} {st : List AV} {σ : AS} {o : AO} {σ' : AS}
theorem Desc.alike {U : State} (h : Desc Z U) : (z0 Z).vm.Alike U.vm := h.1.alike
/-- a cell carried over to another store and heap -/
theorem CellOk.move {φ φ' : Int → Nat} {σ1 : AS} {H H1 : Heap} {r : Int} (h : CellOk Z φ σ H r) (hn : 0 ≤ nx σ ∧ nx σ ≤ nx σ1) (hφ : ∀ x, 0 ≤ x → x < nx σ → φ' x = φ x) (hr : 0 ≤ r ∧ r < nx σ) (hH : H1[φ r]? = H[φ r]?) (hk : kd σ1 r = kd σ r) (hl : ln σ1 r = ln σ r) (hd : ∀ i, ld σ1 r i = ld σ r i) : CellOk Z φ' σ1 H1 r := by
  obtain ⟨cell, h1, h2, h3, h4, h4b, h5, h6⟩ := h
  have e := hφ r hr.1 hr.2
  refine ⟨cell, by rw [e, hH]; exact h1, h2, h3, by rw [hk, e]; exact h4, by rw [hk, e]; exact h4b, fun c ct hc hct => ?_, fun c t hc ht => ?_⟩
  · rw [hk] at hc
    obtain ⟨q1, q2⟩ := h5 c ct hc hct
    refine ⟨q1, fun i hi => ?_⟩
    obtain ⟨g1, g2⟩ := q2 i hi
    rw [hd i]
    exact ⟨by rw [g1, cv_agree (okt_okv g2) hφ], okt_mono g2 hn.2⟩
  · rw [hk] at hc
    obtain ⟨q1, q2, q3, q4, q5⟩ := h6 c t hc ht
    refine ⟨q1, by rw [hk]; exact q2, by rw [hl]; exact q3, by rw [hl]; exact q4, fun j hj => ?_⟩
    obtain ⟨g1, g2⟩ := q5 j hj
    rw [hd j]
    exact ⟨by rw [g1, cv_agree (okt_okv g2) hφ], okt_mono g2 hn.2⟩
theorem Rel.put {φ : Int → Nat} {H H1 : Heap} {r i v : Int} (hR : Rel Z φ σ H) (hk : kd σ r ≠ 0) (hm : kd σ r < 1000) (hc : CellOk Z φ (wr σ r i v) H1 r) (ho : ∀ q, q ≠ φ r → H1[q]? = H[q]?) : Rel Z φ (wr σ r i v) H1 := by
  refine ⟨hR.1, fun x hx => ?_, hR.2.2⟩
  have hx : kd σ x ≠ 0 := hx
  obtain ⟨h1, h2, h3⟩ := hR.2.1 x hx
  by_cases e : x = r
  · subst e; exact ⟨h1, h2, hc⟩
  · refine ⟨h1, h2, h3.move ⟨Int.le_of_lt hR.1, Int.le_refl _⟩ (fun _ _ _ => rfl) ⟨Int.le_of_lt h1, h2⟩ (ho _ fun q => e (hR.2.2.1 x r hx hk (Or.inr (Or.inl hm)) q)) rfl rfl fun j => ?_⟩
    rw [ld_wr, if_neg (fun q => e q.1)]
theorem Rel.lt {φ : Int → Nat} {H : Heap} {r : Int} (hR : Rel Z φ σ H) (hk : kd σ r ≠ 0) : φ r < H.size := by
  obtain ⟨-, -, cell, h, -⟩ := hR.2.1 r hk
  exact (Array.getElem?_eq_some_iff.mp h).1
theorem ext_agree {φ : Int → Nat} {n : Int} {a : Nat} : ∀ x, 0 ≤ x → x < n → (fun y : Int => if y = n then a else φ y) x = φ x := fun x _ h => if_neg (by omega)
/-- a new cell -/
theorem Rel.new {φ : Int → Nat} {H H1 : Heap} {k : Nat} {n s : Int} {a : Nat} (hR : Rel Z φ σ H) (ho : ∀ q, q < H.size → H1[q]? = H[q]?) (hk : k ≠ 0 → a = H.size ∧ CellOk Z (fun y => if y = nx σ then a else φ y) (al σ k n s) H1 (nx σ)) : Rel Z (fun y => if y = nx σ then a else φ y) (al σ k n s) H1 := by
  have hn := hR.1
  have hold : ∀ x, kd (al σ k n s) x ≠ 0 → x ≠ nx σ → kd σ x ≠ 0 ∧ kd (al σ k n s) x = kd σ x := by
    intro x hx e
    rw [kd_al, if_neg e] at hx
    exact ⟨hx, by rw [kd_al, if_neg e]⟩
  refine ⟨by rw [nx_al]; omega, fun x hx => ?_, fun x y hx hy hs hxy => ?_, by rw [nx_al]; have := hR.2.2.2.1; omega, fun x h0 h1 => ?_⟩
  · by_cases e : x = nx σ
    · subst e
      rw [kd_al, if_pos rfl] at hx
      exact ⟨hn, by rw [nx_al]; omega, (hk hx).2⟩
    · obtain ⟨h0, h1⟩ := hold x hx e
      obtain ⟨g1, g2, g3⟩ := hR.2.1 x h0
      exact ⟨g1, by rw [nx_al]; omega, g3.move ⟨by omega, by rw [nx_al]; omega⟩ ext_agree ⟨by omega, g2⟩ (ho _ (hR.lt h0)) h1 (by rw [ln_al, if_neg e]) (fun i => by rw [ld_al, if_neg e])⟩
  · by_cases ex : x = nx σ
    · by_cases ey : y = nx σ
      · rw [ex, ey]
      · exfalso
        subst ex
        rw [kd_al, if_pos rfl] at hx
        obtain ⟨h0, h1⟩ := hold y hy ey
        have hxy : (if nx σ = nx σ then a else φ (nx σ)) = (if y = nx σ then a else φ y) := hxy
        rw [if_pos rfl, if_neg ey, (hk hx).1] at hxy
        have := hR.lt h0
        omega
    · obtain ⟨hx0, hx1⟩ := hold x hx ex
      by_cases ey : y = nx σ
      · exfalso
        subst ey
        rw [kd_al, if_pos rfl] at hy
        have hxy : (if x = nx σ then a else φ x) = (if nx σ = nx σ then a else φ (nx σ)) := hxy
        rw [if_pos rfl, if_neg ex, (hk hy).1] at hxy
        have := hR.lt hx0
        omega
      · obtain ⟨hy0, hy1⟩ := hold y hy ey
        have hxy : (if x = nx σ then a else φ x) = (if y = nx σ then a else φ y) := hxy
        rw [if_neg ex, if_neg ey] at hxy
        rw [hx1, hy1] at hs
        exact hR.2.2.1 x y hx0 hy0 hs hxy
  · have := hR.2.2.2.1
    exact (ext_agree x h0 (by omega)).trans (hR.2.2.2.2 x h0 h1)
/-- the tables' words at a method's start -/
theorem Good.word {w : Cond} (hG : Good Z) (hw : w ∈ lw_tbl) : w.before #[.ref (zb Z)] (z0 Z) = true := hG.2.2.1 w hw
theorem Good.known {s : State} {c : Nat} {ct : CT} (hG : Good Z) (hD : Desc Z s) (hc : CLS[c]? = some ct) : u_Kn s ct.1 ct.2.1 ct.2.2.1 (zdC Z c) (zdI Z c) := u_Kn_moved hD.alike (hG.1 c ct hc)
/-- a field's row: by its own name, or by a class below (sameField) -/
def sameF (ref : String) (ct : CT) (k : Nat) : Prop := ref = (ct.2.1 k).1 ∨ Cond.sameField ref (ct.2.1 k).1 (ct.2.1 k).2.1 (ct.2.1 k).2.2.1 ∈ lw_all
theorem sameF.found {ref : String} {ct : CT} {k : Nat} {s : State} {args : Array Value} (h : sameF ref ct k) (hts : ∀ w ∈ lw_all, w.before args s = true) : ∀ x, s.fieldFound? (ct.2.1 k).1 (ct.2.1 k).2.1 (ct.2.1 k).2.2.1 = some x → s.fieldFound? ref (ct.2.1 k).2.1 (ct.2.1 k).2.2.1 = some x := by
  intro x hx
  rcases h with h | h
  · rw [h]; exact hx
  · exact u_same (hts _ h) x hx
theorem cl_agree {φ φ' : Int → Nat} {n : Int} (hO : Ok n ls st) (h : ∀ r, 0 ≤ r → r < n → φ' r = φ r) : cl φ' ls = cl φ ls := List.map_congr_left fun q hq => by rw [cv_agree (hO.1 q hq) h]
theorem st_agree {φ φ' : Int → Nat} {n : Int} (hO : Ok n ls st) (h : ∀ r, 0 ≤ r → r < n → φ' r = φ r) : st.map (cv φ') = st.map (cv φ) := List.map_congr_left fun v hv => cv_agree (hO.2 v hv) h
theorem Ok.mono {n n' : Int} (hO : Ok n ls st) (h : n ≤ n') : Ok n' ls st := ⟨fun q hq => okv_mono (hO.1 q hq) h, fun v hv => okv_mono (hO.2 v hv) h⟩
/-- a step of any kind -/
theorem R.step {pc' : Nat} {ls' : List (Nat × AV)} {st' : List AV} {σ1 : AS} (h : R Z μ d pc' ls' st' σ1 o σ') (hm : Mono σ σ1)
    (t : ∀ (p : Program) (e : Env) (Rm : Room) (s : State) (m : MethodId) (args : Array Value) (below : List Frame) (meth : Method) (c : Code) (H : Heap) (locs : List Loc) (cells slots : Nat) (Q : State → Prop) (φ : Int → Nat) (lsM : Array Slot), Good Z → Ok (nx σ) ls st → Cx Z μ p e s m args meth c → Rel Z φ σ H → va_S (AA Z) s.heap H locs → lv_has lsM μ.2.2.1 (cl φ ls) → d + 12 ≤ Rm.frames → 160 * d + 300 ≤ Rm.locals →
      cells + (nx σ1 - nx σ).toNat ≤ Rm.cells → slots + (us σ1 - us σ).toNat ≤ Rm.slots →
      (∀ (φ' : Int → Nat) (H1 : Heap) (locs1 : List Loc) (lsM' : Array Slot), (∀ r, 0 ≤ r → r < nx σ → φ' r = φ r) → Ok (nx σ1) ls' st' → Rel Z φ' σ1 H1 → va_S (AA Z) s.heap H1 locs1 → lv_has lsM' μ.2.2.1 (cl φ' ls') →
        W p (zl Z) e Rm s m args below meth c H1 locs1 (cells + (nx σ1 - nx σ).toNat) (slots + (us σ1 - us σ).toNat) Q (F0 m pc' lsM' (st'.map (cv φ')))) → W p (zl Z) e Rm s m args below meth c H locs cells slots Q (F0 m pc lsM (st.map (cv φ)))) : R Z μ d pc ls st σ o σ' := by
  refine ⟨hm.trans h.1, fun hG hO p e Rm s m args below meth c H locs cells slots mc ms φ0 φ n0 lsM hC hS hR h0 hn hl hf hlo hc1 hc2 hc3 hc4 => ?_⟩
  have a1 := hm.1
  have a2 := hm.2
  have b1 := h.1.1
  have b2 := h.1.2
  refine t p e Rm s m args below meth c H locs cells slots _ φ lsM hG hO hC hR hS hl hf hlo (by omega) (by omega) fun φ' H1 locs1 lsM' hφ hO' hR' hS' hl' => ?_
  exact h.2 hG hO' p e Rm s m args below meth c H1 locs1 _ _ mc ms φ0 φ' n0 lsM' hC hS' hR' (fun r g1 g2 => (hφ r g1 (by omega)).trans (h0 r g1 g2)) (by omega) hl' hf hlo (by omega) (by omega) hc3 hc4
/-- .. that leaves store and counts alone -/
theorem R.same {pc' : Nat} {ls' : List (Nat × AV)} {st' : List AV} (h : R Z μ d pc' ls' st' σ o σ')
    (t : ∀ (p : Program) (e : Env) (Rm : Room) (s : State) (m : MethodId) (args : Array Value) (below : List Frame) (meth : Method) (c : Code) (H : Heap) (locs : List Loc) (cells slots : Nat) (Q : State → Prop) (φ : Int → Nat) (lsM : Array Slot), Good Z → Ok (nx σ) ls st → Cx Z μ p e s m args meth c → Rel Z φ σ H → va_S (AA Z) s.heap H locs → lv_has lsM μ.2.2.1 (cl φ ls) →
      (∀ (lsM' : Array Slot), Ok (nx σ) ls' st' → lv_has lsM' μ.2.2.1 (cl φ ls') →
        W p (zl Z) e Rm s m args below meth c H locs cells slots Q (F0 m pc' lsM' (st'.map (cv φ)))) → W p (zl Z) e Rm s m args below meth c H locs cells slots Q (F0 m pc lsM (st.map (cv φ)))) : R Z μ d pc ls st σ o σ' := by
  refine ⟨h.1, fun hG hO p e Rm s m args below meth c H locs cells slots mc ms φ0 φ n0 lsM hC hS hR h0 hn hl hf hlo hc1 hc2 hc3 hc4 => ?_⟩
  exact t p e Rm s m args below meth c H locs cells slots _ φ lsM hG hO hC hR hS hl fun lsM' hO' hl' => h.2 hG hO' p e Rm s m args below meth c H locs cells slots mc ms φ0 φ n0 lsM' hC hS hR h0 hn hl' hf hlo hc1 hc2 hc3 hc4
/-- .. that writes into the heap and makes nothing -/
theorem R.put {pc' : Nat} {st' : List AV} {r i v : Int} (h : R Z μ d pc' ls st' (wr σ r i v) o σ')
    (t : ∀ (p : Program) (e : Env) (Rm : Room) (s : State) (m : MethodId) (args : Array Value) (below : List Frame) (meth : Method) (c : Code) (H : Heap) (locs : List Loc) (cells slots : Nat) (Q : State → Prop) (φ : Int → Nat) (lsM : Array Slot), Good Z → Ok (nx σ) ls st → Cx Z μ p e s m args meth c → Rel Z φ σ H → va_S (AA Z) s.heap H locs → lv_has lsM μ.2.2.1 (cl φ ls) →
      (∀ (H1 : Heap) (locs1 : List Loc), Rel Z φ (wr σ r i v) H1 → va_S (AA Z) s.heap H1 locs1 →
        W p (zl Z) e Rm s m args below meth c H1 locs1 cells slots Q (F0 m pc' lsM (st'.map (cv φ)))) → W p (zl Z) e Rm s m args below meth c H locs cells slots Q (F0 m pc lsM (st.map (cv φ)))) (hok : Ok (nx σ) ls st → Ok (nx σ) ls st') : R Z μ d pc ls st σ o σ' := by
  refine ⟨h.1, fun hG hO p e Rm s m args below meth c H locs cells slots mc ms φ0 φ n0 lsM hC hS hR h0 hn hl hf hlo hc1 hc2 hc3 hc4 => ?_⟩
  exact t p e Rm s m args below meth c H locs cells slots _ φ lsM hG hO hC hR hS hl fun H1 locs1 hR' hS' => h.2 hG (hok hO) p e Rm s m args below meth c H1 locs1 cells slots mc ms φ0 φ n0 lsM hC hS' hR' h0 hn hl hf hlo hc1 hc2 hc3 hc4
theorem Rel.obj {φ : Int → Nat} {H : Heap} {r : Int} {c : Nat} {ct : CT} (hR : Rel Z φ σ H) (g : kd σ r = c + 1 ∨ kd σ r = c + 1001) (hc : CLS[c]? = some ct) : ∃ cell : Cell, H[φ r]? = some cell ∧ cell.vm ≠ .unknown ∧ cell.vm.isStatics = false ∧ (kd σ r < 1000 → cell.vm = .none ∧ AA Z (φ r)) ∧ ObjOk Z φ σ r c ct cell ∧ kd σ r ≠ 0 ∧ r ≠ 0 := by
  have hl := cls_lt hc
  have hk : kd σ r ≠ 0 := by omega
  obtain ⟨h0, -, cell, h1, h2, h3, h4, -, h5, -⟩ := hR.2.1 r hk
  exact ⟨cell, h1, h2, h3, h4, h5 c ct (by omega) hc, hk, by omega⟩
theorem R_getfield {r : Int} {c k index t : Nat} {ct : CT} {ref : String} (hd : decode μ.2.1 pc = .ok (.getfield index, 3)) (hc : CLS[c]? = some ct) (hk : k < ct.2.2.1) (hlink : Cond.fieldLink μ.1.cls index ref (ct.2.1 k).2.1 (ct.2.1 k).2.2.1 ∈ lw_all) (hsame : sameF ref ct k) (ht : tg (ct.2.2.2 k) = t) (g : kd σ r = c + 1 ∨ kd σ r = c + 1001)
    (kk : R Z μ d (pc + 3) ls ((t, ld σ r k) :: st) σ o σ') : R Z μ d pc ls ((2, r) :: st) σ o σ' := by
  refine R.same kk fun p e Rm s m args below meth c' H locs cells slots Q φ lsM hG hO hC hR hS hl k1 => ?_
  obtain ⟨hx, hb, -, -, -, hown, hts, -, -, hD⟩ := hC
  obtain ⟨cell, h1, h2, -, -, ⟨-, h5⟩, -, h0⟩ := hR.obj g hc
  obtain ⟨g1, g2⟩ := h5 k hk
  rw [ht] at g1
  have hv := okt_okv g2
  rw [ht] at hv
  have hin := (cls_ok ct (List.mem_of_getElem? hc)).2.2.1
  obtain ⟨hSl, hfc, kC, hkC, -⟩ := hG.known hD hc
  obtain ⟨cf, kf, fi, f, hi, hsl⟩ := hSl k hk
  rw [List.map_cons, show cv φ (2, r) = .ref (φ r) from if_neg h0]
  exact W.getf hx hb hown (hts _ hlink) (hsame.found hts _ hi) (u_facts hfc hkC (u_lays hts hin hk) hi).1 h1 h2 (v := cv φ (t, ld σ r k)) (by rw [hsl]; exact g1) rfl rfl hd (k1 lsM (hO.pop.push hv) hl)
/-- a nest mate's -/
theorem R_getfieldN {r : Int} {c k index t : Nat} {ct : CT} {ref host : String} (hd : decode μ.2.1 pc = .ok (.getfield index, 3)) (hc : CLS[c]? = some ct) (hk : k < ct.2.2.1) (hlink : Cond.fieldLinkNest μ.1.cls index ref (ct.2.1 k).2.1 (ct.2.1 k).2.2.1 host ∈ lw_tbl) (hsame : sameF ref ct k) (ht : tg (ct.2.2.2 k) = t) (g : kd σ r = c + 1 ∨ kd σ r = c + 1001)
    (kk : R Z μ d (pc + 3) ls ((t, ld σ r k) :: st) σ o σ') : R Z μ d pc ls ((2, r) :: st) σ o σ' := by
  refine R.same kk fun p e Rm s m args below meth c' H locs cells slots Q φ lsM hG hO hC hR hS hl k1 => ?_
  obtain ⟨hx, hb, -, -, -, hown, hts, -, -, hD⟩ := hC
  obtain ⟨cell, h1, h2, -, -, ⟨-, h5⟩, -, h0⟩ := hR.obj g hc
  obtain ⟨g1, g2⟩ := h5 k hk
  rw [ht] at g1
  have hv := okt_okv g2
  rw [ht] at hv
  have hin := (cls_ok ct (List.mem_of_getElem? hc)).2.2.1
  obtain ⟨hSl, hfc, kC, hkC, -⟩ := hG.known hD hc
  obtain ⟨cf, kf, fi, f, hi, hsl⟩ := hSl k hk
  rw [List.map_cons, show cv φ (2, r) = .ref (φ r) from if_neg h0]
  exact va_Wgetf hx hb hown (va_Nw.use rfl (va_Nw.warmF hD.1 (va_Nw.of rfl (hG.word hlink)))) (hsame.found hts _ hi) (u_facts hfc hkC (u_lays hts hin hk) hi).1 h1 h2 (v := cv φ (t, ld σ r k)) (by rw [hsl]; exact g1) rfl rfl hd (k1 lsM (hO.pop.push hv) hl)
theorem Good.apart {s : State} {args : Array Value} {c : Nat} {ct : CT} (hG : Good Z) (hD : Desc Z s) (hts : ∀ w ∈ lw_all, w.before args s = true) (hc : CLS[c]? = some ct) : ∀ x y, x < ct.2.2.1 → y < ct.2.2.1 → x ≠ y → zdI Z c x ≠ zdI Z c y := by
  intro x y hx hy hne
  obtain ⟨hty, hnm, hin, hdd⟩ := cls_ok ct (List.mem_of_getElem? hc)
  obtain ⟨hS, -⟩ := hG.known hD hc
  obtain ⟨_, _, _, fa, hia, ea⟩ := hS x hx
  obtain ⟨_, _, _, fb, hib, eb⟩ := hS y hy
  rw [← ea, ← eb]
  refine u_apart (u_lays hts hin hx) (u_lays hts hin hy) hia hib ?_
  rw [(State.fieldFound?_type hia (hty x hx)).1, (State.fieldFound?_type hib (hty y hy)).1]
  exact hnm x hx y hy hne
/-- an object's cell with one field written -/
theorem obj_set {φ : Int → Nat} {H H1 : Heap} {r v : Int} {c k : Nat} {ct : CT} {cell : Cell} (hc : CLS[c]? = some ct) (hk : k < ct.2.2.1) (hap : ∀ x y, x < ct.2.2.1 → y < ct.2.2.1 → x ≠ y → zdI Z c x ≠ zdI Z c y) (g : kd σ r = c + 1) (hcell : H[φ r]? = some cell) (hvm : cell.vm = .none) (hA : AA Z (φ r)) (hO : ObjOk Z φ σ r c ct cell) (hv : okt (nx σ) (ct.2.2.2 k) v) (h1 : H1[φ r]? = some (cell.setSlot (zdI Z c k) (cv φ (tg (ct.2.2.2 k), v)))) : CellOk Z φ (wr σ r k v) H1 r := by
  have hl := cls_lt hc
  refine ⟨_, h1, (by show cell.vm ≠ _; rw [hvm]; exact fun q => by cases q), (by show cell.vm.isStatics = false; rw [hvm]; rfl), fun _ => ⟨hvm, hA⟩, fun q => ?_, fun c' ct' hc' hct' => ?_, fun c' t hc' ht => ?_⟩
  · have q : 1000 ≤ kd σ r := q
    omega
  · have hc' : kd σ r % 1000 = c' + 1 := hc'
    have e : c' = c := by omega
    subst e
    cases hc.symm.trans hct'
    refine ⟨hO.1, fun i hi => ?_⟩
    have q := t_set (V := fun i => cv φ (tg (ct.2.2.2 i), ld σ r i)) (fun i hi => (hO.2 i hi).1) hap hk (cv φ (tg (ct.2.2.2 k), v)) i hi
    refine ⟨q.trans ?_, ?_⟩
    · rw [ld_wr]
      unfold updV
      by_cases e : i = k
      · subst e; rw [if_pos rfl, if_pos ⟨rfl, rfl⟩]
      · rw [if_neg e, if_neg (fun z => e (by have := z.2; omega))]
    · rw [ld_wr]
      by_cases e : i = k
      · subst e; rw [if_pos ⟨rfl, rfl⟩]; exact hv
      · rw [if_neg (fun z => e (by have := z.2; omega))]; exact (hO.2 i hi).2
  · have hc' : kd σ r % 1000 = c' + 100 := hc'
    omega
theorem R_putfield {r v : Int} {c k index t : Nat} {ct : CT} {ref : String} (hd : decode μ.2.1 pc = .ok (.putfield index, 3)) (hc : CLS[c]? = some ct) (hk : k < ct.2.2.1) (hfin : (ct.2.1 k).2.2.2 = false) (hlink : Cond.fieldLink μ.1.cls index ref (ct.2.1 k).2.1 (ct.2.1 k).2.2.1 ∈ lw_all) (hsame : sameF ref ct k) (ht : tg (ct.2.2.2 k) = t) (g : kd σ r = c + 1) (hv : okv (nx σ) (t, v) → okt (nx σ) (ct.2.2.2 k) v)
    (kk : R Z μ d (pc + 3) ls st (wr σ r k v) o σ') : R Z μ d pc ls ((t, v) :: (2, r) :: st) σ o σ' := by
  refine R.put kk (fun p e Rm s m args below meth c' H locs cells slots Q φ lsM hG hO hC hR hS hl k1 => ?_) (fun h => h.pop.pop)
  obtain ⟨hx, hb, -, -, -, hown, hts, -, -, hD⟩ := hC
  have hl9 := cls_lt hc
  obtain ⟨cell, h1, h2, -, h4, h5, hk0, h0⟩ := hR.obj (Or.inl g) hc
  obtain ⟨hvm, hA⟩ := h4 (by omega)
  have hv := hv hO.top
  obtain ⟨hty, hnm, hin, hdd⟩ := cls_ok ct (List.mem_of_getElem? hc)
  obtain ⟨hSl, hfc, kC, hkC, hkind⟩ := hG.known hD hc
  obtain ⟨cf, kf, fi, f, hi, hsl⟩ := hSl k hk
  have hlay := hts _ (hin _ (u_in_lay hk))
  unfold u_lay at hlay
  rw [if_neg (by rw [hfin]; decide)] at hlay
  have hst := (u_facts hfc hkC (u_lays hts hin hk) hi).1
  obtain ⟨n1, n2⟩ := okt_store (φ := φ) hv (hdd k hk)
  have h6 := u_store hfc hkC hkind hlay hi (hty k hk) n1 n2
  rw [ht] at h6
  rw [List.map_cons, List.map_cons, show cv φ (2, r) = .ref (φ r) from if_neg h0]
  refine W.putK hx hb (f := f) ⟨hown, hts _ hlink, ⟨_, _, _, hsame.found hts _ hi⟩, hst⟩ (by rw [h5.1]; exact h6) h1 hvm (by rw [hsl]; exact k2_hasslot (h5.2 k hk).1) rfl rfl hd fun H' e1 e2 e3 => ?_
  rw [hsl] at e1 ⊢
  exact k1 H' _ (hR.put hk0 (by omega) (obj_set hc hk (hG.apart hD hts hc) g h1 hvm hA h5 hv (by rw [ht]; exact e1)) e3) (hS.put e2 e3 hA)
theorem R_putfieldN {r v : Int} {c k index t : Nat} {ct : CT} {ref host : String} (hd : decode μ.2.1 pc = .ok (.putfield index, 3)) (hc : CLS[c]? = some ct) (hk : k < ct.2.2.1) (hfin : (ct.2.1 k).2.2.2 = false) (hlink : Cond.fieldLinkNest μ.1.cls index ref (ct.2.1 k).2.1 (ct.2.1 k).2.2.1 host ∈ lw_tbl) (hsame : sameF ref ct k) (ht : tg (ct.2.2.2 k) = t) (g : kd σ r = c + 1) (hv : okv (nx σ) (t, v) → okt (nx σ) (ct.2.2.2 k) v)
    (kk : R Z μ d (pc + 3) ls st (wr σ r k v) o σ') : R Z μ d pc ls ((t, v) :: (2, r) :: st) σ o σ' := by
  refine R.put kk (fun p e Rm s m args below meth c' H locs cells slots Q φ lsM hG hO hC hR hS hl k1 => ?_) (fun h => h.pop.pop)
  obtain ⟨hx, hb, -, -, -, hown, hts, -, -, hD⟩ := hC
  have hl9 := cls_lt hc
  obtain ⟨cell, h1, h2, -, h4, h5, hk0, h0⟩ := hR.obj (Or.inl g) hc
  obtain ⟨hvm, hA⟩ := h4 (by omega)
  have hv := hv hO.top
  obtain ⟨hty, hnm, hin, hdd⟩ := cls_ok ct (List.mem_of_getElem? hc)
  obtain ⟨hSl, hfc, kC, hkC, hkind⟩ := hG.known hD hc
  obtain ⟨cf, kf, fi, f, hi, hsl⟩ := hSl k hk
  have hlay := hts _ (hin _ (u_in_lay hk))
  unfold u_lay at hlay
  rw [if_neg (by rw [hfin]; decide)] at hlay
  have hst := (u_facts hfc hkC (u_lays hts hin hk) hi).1
  obtain ⟨n1, n2⟩ := okt_store (φ := φ) hv (hdd k hk)
  have h6 := u_store hfc hkC hkind hlay hi (hty k hk) n1 n2
  rw [ht] at h6
  rw [List.map_cons, List.map_cons, show cv φ (2, r) = .ref (φ r) from if_neg h0]
  refine va_WputK hx hb (f := f) hown (va_Nw.use rfl (va_Nw.warmF hD.1 (va_Nw.of rfl (hG.word hlink)))) (hsame.found hts _ hi) hst (by rw [h5.1]; exact h6) h1 hvm (by rw [hsl]; exact k2_hasslot (h5.2 k hk).1) rfl rfl hd fun H' e1 e2 e3 => ?_
  rw [hsl] at e1 ⊢
  exact k1 H' _ (hR.put hk0 (by omega) (obj_set hc hk (hG.apart hD hts hc) g h1 hvm hA h5 hv (by rw [ht]; exact e1)) e3) (hS.put e2 e3 hA)
/-- a final field, in the constructor of the class that has it -/
theorem R_putfieldF {r v : Int} {c k index t : Nat} {ct : CT} {ref : String} (hd : decode μ.2.1 pc = .ok (.putfield index, 3)) (hc : CLS[c]? = some ct) (hk : k < ct.2.2.1) (hfin : (ct.2.1 k).2.2.2 = true) (hinit : μ.1.name = "<init>") (hdecl : (ct.2.1 k).1 = μ.1.cls) (hlink : Cond.fieldLink μ.1.cls index ref (ct.2.1 k).2.1 (ct.2.1 k).2.2.1 ∈ lw_all) (hsame : sameF ref ct k) (ht : tg (ct.2.2.2 k) = t) (g : kd σ r = c + 1) (hv : okv (nx σ) (t, v) → okt (nx σ) (ct.2.2.2 k) v)
    (kk : R Z μ d (pc + 3) ls st (wr σ r k v) o σ') : R Z μ d pc ls ((t, v) :: (2, r) :: st) σ o σ' := by
  refine R.put kk (fun p e Rm s m args below meth c' H locs cells slots Q φ lsM hG hO hC hR hS hl k1 => ?_) (fun h => h.pop.pop)
  obtain ⟨hx, hb, -, -, -, hown, hts, hnam, -, hD⟩ := hC
  have hl9 := cls_lt hc
  obtain ⟨cell, h1, h2, -, h4, h5, hk0, h0⟩ := hR.obj (Or.inl g) hc
  obtain ⟨hvm, hA⟩ := h4 (by omega)
  have hv := hv hO.top
  obtain ⟨hty, hnm, hin, hdd⟩ := cls_ok ct (List.mem_of_getElem? hc)
  obtain ⟨hSl, hfc, kC, hkC, hkind⟩ := hG.known hD hc
  obtain ⟨cf, kf, fi, f, hi, hsl⟩ := hSl k hk
  have hlay := hts _ (hin _ (u_in_lay hk))
  unfold u_lay at hlay
  rw [if_pos hfin] at hlay
  have hst := (u_facts hfc hkC (u_lays hts hin hk) hi).1
  have hcf : m.cls = cf := by
    obtain ⟨_, _, c', _, _, _, -, -, hf', -, -, -, hown2, -⟩ := Cond.laysFinal_spec hlay
    have e1 : c' = cf := by have := hi.symm.trans hf'; simp at this; exact this.1.symm
    rw [hdecl] at hown2
    rw [← e1]; exact Option.some.inj (hown.symm.trans hown2)
  obtain ⟨n1, n2⟩ := okt_store (φ := φ) hv (hdd k hk)
  have h6 := u_fits hfc hkC hkind (Or.inr hlay) hi (hty k hk) n1 n2
  rw [ht] at h6
  rw [List.map_cons, List.map_cons, show cv φ (2, r) = .ref (φ r) from if_neg h0]
  refine W.putFinK hx hb hown (hts _ hlink) (hsame.found hts _ hi) hst hcf (hnam.trans hinit) (by rw [h5.1]; exact h6) h1 hvm (by rw [hsl]; exact k2_hasslot (h5.2 k hk).1) rfl rfl hd fun H' e1 e2 e3 => ?_
  rw [hsl] at e1 ⊢
  exact k1 H' _ (hR.put hk0 (by omega) (obj_set hc hk (hG.apart hD hts hc) g h1 hvm hA h5 hv (by rw [ht]; exact e1)) e3) (hS.put e2 e3 hA)
end RR2
