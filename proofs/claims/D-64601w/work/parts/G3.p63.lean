/-! THE COMPONENT's cost: the search -/
set_option maxRecDepth 100000
section CO2
variable {σ σ' y σ0 : AS} {k : Nat} {l : List Ch} {m : Int} {key fr to : Int} {n : Nat} {bs wd pq arr : Int} {G : Gr} {dn : Int → Prop} {dl : Int → Int}
theorem push_wp2 {s c : Nat} {u v : Int} (hn : 1000000 ≤ n) (h0 : CX σ0 k l m) (h : CS σ0 σ bs wd pq arr dn s c) (hc : c ≤ 69) (hs : s ≤ c) {K : AS → Option ((Nat ⊕ Int) × AS)} {Q : (Nat ⊕ Int) × AS → Prop} (hK : ∀ σ' arr', CS σ0 σ' bs wd pq arr' dn (s + 1) (c + 1) → (pqW σ' arr' (s + 1)).Perm ((u, v) :: pqW σ arr s) → (∀ r, Rch σ r → Rch σ' r ∧ ∀ j, ld σ' r j = ld σ r j) → Wp (K σ') Q) : Wp (gd (nx σ ≠ 0) <| c0 (f_X17_init (nx σ) u v (al σ 11 0 2)) fun σ74 => gd (kd σ74 pq = 29) <| c1 (f_J28_add n pq (nx σ) σ74) fun v77 σ78 => K σ78) Q := by
  have := push_wp (u := u) (v := v) (K := K) (Q := Q) hn h0 h hc hs hK
  rw [nm_eq, nm_eq] at this
  exact this
theorem pth_node (hG : okG G) (hf : nodeAt G fr) : ∀ {j : Nat} {v c : Int}, Pth G key fr j v c → nodeAt G v
  | 0, v, c, h => h.1 ▸ hf
  | j + 1, v, c, h => by
    obtain ⟨e, u, c', w, h1, h2, h3⟩ := h
    rw [← h2.2.2.1]
    exact (hG.2.1 e h2.1.2.2).2.2.2.2
/-- the edges of a node that is done now -/
def CI1 (σ0 σ : AS) (k : Nat) (l : List Ch) (m : Int) (bs wd pq arr : Int) (key fr to : Int) (dn : Int → Prop) (dl : F1) (s c : Nat) (pend : Int → Prop) : Prop :=
  CX σ k l m ∧ CS σ0 σ bs wd pq arr dn s c ∧ DjI (run l) key fr dn dl (pqW σ arr s) pend ∧ ¬ dn to ∧ s ≤ c ∧ (∀ p ∈ pqW σ arr s, p.1 ≤ (c - s) * 2147483648)
theorem cs_cx {s c : Nat} (h0 : CX σ0 k l m) (h : CS σ0 σ bs wd pq arr dn s c) : CX σ k l m := cx_ext h0 (h.2.2.1.sub fun _ _ z => z.elim)
theorem cost132 {n : Nat} {u cu r : Int} {Q : (Nat ⊕ Int) × AS → Prop} {K : Int → Int → Int → Int → Int → AS → Option ((Nat ⊕ Int) × AS)} {t : Nat} (hn : 1000000 ≤ n) (hl : l.length ≤ 64) (h0 : CX σ0 k l m) (hk : 0 ≤ key ∧ key < 32) (hu : nodeAt (run l) u) (hdu : dn u) (hdl : dl u = cu) (hm : ∀ x, dn x → dl x ≤ cu) (ht1 : 1 ≤ t) (hcu : 0 ≤ cu ∧ cu ≤ ((t : Int) - 1) * 2147483648) (hK : ∀ σ' arr' s' c', CI1 σ0 σ' k l m bs wd pq arr' key fr to dn dl s' c' (fun _ => False) → c' - s' = t → c' ≤ 1 + ec (run l) dn → Wp (K 1000 to key bs pq σ') Q) : ∀ (d q i : Nat) (σ : AS) (arr : Int) (s c : Nat), d < q → i + d = (outL (run l) u).length → CI1 σ0 σ k l m bs wd pq arr key fr to dn dl s c (fun e => e ∈ (outL (run l) u).drop i) → c - s = t → c + d ≤ 1 + ec (run l) dn → Rch σ r → rW σ r = (cu, u) → Wp (f_X1_cost_132 n K q 1000 to key bs pq r (ld σ (ld σ 1002 u) 2) i σ) Q := by
  intro d
  induction d with
  | zero =>
    intro q i σ arr s c hq hi hw hts hcd hr hrw
    obtain ⟨q, rfl⟩ : ∃ z, q = z + 1 := ⟨q - 1, by omega⟩
    obtain ⟨-, g1, -, -, -⟩ := hw.1.gv hl
    obtain ⟨-, n2, n3, -⟩ := g1 u hu
    unfold f_X1_cost_132
    refine wp_gd n3.1 ?_
    rw [n3.2.2.1]
    refine wp_pos (by omega) (hK σ arr s c ?_ hts (by omega))
    obtain ⟨w1, w2, w3, w4⟩ := hw
    exact ⟨w1, w2, w3.pcongr (fun e _ _ _ _ z => by rw [List.drop_of_length_le (by omega)] at z; exact absurd z List.not_mem_nil), w4⟩
  | succ d ih =>
    intro q i σ arr s c hq hi hw hts hcd hr hrw
    obtain ⟨q, rfl⟩ : ∃ z, q = z + 1 := ⟨q - 1, by omega⟩
    obtain ⟨w1, w2, w3, w4, w5, w6⟩ := hw
    obtain ⟨g0, g1, g2, g3, hG⟩ := w1.gv hl
    obtain ⟨kn, n2, n3, -⟩ := g1 u hu
    obtain ⟨e, he⟩ : ∃ e, (outL (run l) u)[i]? = some e := ⟨_, List.getElem?_eq_getElem (by omega)⟩
    have heD : (outL (run l) u).getD i 0 = e := by rw [List.getD_eq_getElem?_getD, he]; rfl
    have hem : e ∈ outL (run l) u := List.mem_of_getElem? he
    obtain ⟨⟨e1, e2⟩, e3, e4⟩ := mem_outL.mp hem
    have hee : edgeAt (run l) e := ⟨e1, e2, e3⟩
    obtain ⟨s1, s2, s3, s4⟩ := g2 e hee
    have ends := hG.2.1 e e3
    have hb := bnd_run (l := l) (by omega)
    have ecl := ec_le (dn := dn) hb
    have edrop : (outL (run l) u).drop i = e :: (outL (run l) u).drop (i + 1) := by
      obtain ⟨hi', hv⟩ := List.getElem?_eq_some_iff.mp he
      rw [← hv]
      exact List.drop_eq_getElem_cons hi'
    have hpend : ∀ x, x ∈ (outL (run l) u).drop i → x = e ∨ x ∈ (outL (run l) u).drop (i + 1) := fun x hx => by
      rw [edrop] at hx
      exact List.mem_cons.mp hx
    have ili : (outL (run l) u).length ≤ 1000 := by rw [len_out]; exact dg_le.1
    have ei : (i : Int) + 1 = ((i + 1 : Nat) : Int) := by omega
    have to64 : 0 ≤ go (run l) e ∧ go (run l) e < 64 := by
      have a := ends.2.2.2.2
      refine ⟨a.1, ?_⟩
      by_cases z : go (run l) e < (l.length : Int)
      · omega
      · exact absurd (hb.1 _ (by omega)) a.2.2
    have hval := val_wp (n := n) (s := 1) (b := e) (key := key) hn w1 hl (Or.inr ⟨rfl, hee⟩) hk
    rw [if_neg (by decide)] at hval
    have skip : (∀ a v w, dn a → EdgeW (run l) key e a v w → dn v ∧ dl v ≤ dl a + w) → Wp (f_X1_cost_214 n (f_X1_cost_132 n K q) 1000 to key bs pq r (ld σ (ld σ 1002 u) 2) i σ) Q := fun z => by
      unfold f_X1_cost_214
      refine wp_gI (by omega) (wp_nm0 ?_)
      rw [ei]
      exact ih q (i + 1) σ arr s c (by omega) (by omega) ⟨w1, w2, w3.pass hpend z, w4, w5, w6⟩ hts (by omega) hr hrw
    unfold f_X1_cost_132
    refine wp_gd n3.1 ?_
    rw [n3.2.2.1]
    refine wp_neg (by omega) (wp_gd g0.1 ?_)
    rw [g0.2.1]
    refine wp_gd g0.2.2.1 (wp_gd n3.1 (wp_gd ⟨n3.2.1, by omega, by have := n3.2.2.2.1; omega⟩ ?_))
    rw [n3.2.2.2.2.2 i (by omega), heD, g0.2.2.2.2.1]
    refine wp_gd ⟨g0.2.2.2.2.2.2.2.1, e1, by rw [g0.2.2.2.2.2.2.2.2]; exact e2⟩ (wp_nm0 (wp_gd s1 (wp_c1e hval ?_)))
    by_cases cv : nval (lk 1 e key (gp (run l))) < 0
    · refine wp_pos ?_ (skip fun a v w _ hE => ?_)
      · unfold lcmpW
        rw [if_neg (by omega), if_neg (by omega)]
        decide
      · rw [hE.2.2.2.1] at cv
        have := hE.2.2.2.2
        change w < 0 at cv
        omega
    · obtain ⟨w, hw1⟩ : ∃ w, lk 1 e key (gp (run l)) = some w := by
        cases hz : lk 1 e key (gp (run l)) with
        | none => rw [hz] at cv; exact absurd (show (-9223372036854775808 : Int) < 0 by decide) cv
        | some w => exact ⟨w, rfl⟩
      have hwi := lk_int hG hw1
      have env : nval (lk 1 e key (gp (run l))) = w := by rw [hw1]; rfl
      rw [env] at cv ⊢
      refine wp_neg ?_ (wp_gd s1 (wp_gd w2.2.1.1 ?_))
      · unfold lcmpW
        by_cases z : (0 : Int) < w
        · rw [if_pos z]; decide
        · rw [if_neg z, if_pos (by omega)]; decide
      rw [s4]
      obtain ⟨g, hg1, hg2⟩ := bget_wp w2.2.1 to64
      refine wp_c1e hg1 ?_
      by_cases cd : dn (go (run l) e)
      · refine wp_neg (fun z => hg2.mp z cd) (skip fun a v w' ha hE => ?_)
        have eu : a = u := by rw [← hE.2.1, e4]
        have ev : v = go (run l) e := hE.2.2.1.symm
        rw [ev, eu, hdl]
        exact ⟨cd, by have := hm _ cd; have := hE.2.2.2.2; omega⟩
      · refine wp_pos (hg2.mpr cd) (wp_nm0 (wp_nm0 ?_))
        have rne : r ≠ nx σ := by have := hr.2.2; omega
        refine wp_gd (show kd (al σ 11 0 2) r = 11 by rw [kd_al, if_neg rne]; exact hr.1) ?_
        have hcost : f_X17_cost r (al σ 11 0 2) = some (cu, al σ 11 0 2) := by
          unfold f_X17_cost
          rw [gd_pos (show kd (al σ 11 0 2) r = 11 by rw [kd_al, if_neg rne]; exact hr.1), ld_al, if_neg rne]
          have : ld σ r 0 = cu := congrArg Prod.fst hrw
          rw [this]
        refine wp_c1e hcost ?_
        have tb : t ≤ 70 := by omega
        refine wp_gL (by omega) ?_
        have ee : ld σ 1003 e ≠ nx σ := fun z => by
          -- a cell that is known
          have h9 : kd σ (ld σ 1003 e) = 5 := s1
          obtain ⟨Ow, TH, ty, fr', too, mc, L, ⟨no, ed, fm⟩, h1, -⟩ := w1
          have := h1.1.2.2.2.2.2.1 e e1 e2
          have nv : ed e ≠ 0 := fun w => by
            have z' : ed e = nx σ := this.symm.trans z
            have := h1.1.1
            omega
          have := (h1.1.2.2.2.2.2.2.2.1 e nv).2.2.1
          have := h1.1.th this
          omega
        refine wp_gd (show kd (al σ 11 0 2) (ld σ 1003 e) = 5 by rw [kd_al, if_neg ee]; exact s1) ?_
        rw [show ld (al σ 11 0 2) (ld σ 1003 e) 3 = go (run l) e by rw [ld_al, if_neg ee]; exact s4]
        refine push_wp2 (u := cu + w) (v := go (run l) e) hn h0 w2 (by omega) w5 fun σ' arr' hS hP hR => ?_
        have w1' := cs_cx h0 hS
        unfold f_X1_cost_214
        refine wp_gI (by omega) (wp_nm0 ?_)
        rw [ei]
        have hE : EdgeW (run l) key e u (go (run l) e) w := ⟨hee, e4, rfl, hw1, by omega⟩
        have o' : ld σ' (ld σ' 1002 u) 2 = ld σ (ld σ 1002 u) 2 := by
          have f0 : Fr (fun _ => False) σ0 σ := w2.2.2.1
          have f1 : Fr (fun _ => False) σ0 σ' := hS.2.2.1
          obtain ⟨-, G1, -, -, -⟩ := h0.gv hl
          have hx := h0.nx
          have a0 : ld σ 1002 u = ld σ0 1002 u := f0.ld (by omega) (fun z => z) u
          have a1 : ld σ' 1002 u = ld σ0 1002 u := f1.ld (by omega) (fun z => z) u
          have pl : ld σ0 1002 u < nx σ0 := by
            obtain ⟨Ow, TH, ty, fr', too, mc, L, ⟨no, ed, fm⟩, h1, -⟩ := h0
            have e := h1.1.2.2.2.2.1 u hu.1 hu.2.1
            rw [e]
            show no u < nx σ0
            by_cases nv : no u = 0
            · rw [nv]; omega
            · exact (h1.1.th (h1.1.2.2.2.2.2.2.1 u nv).2.2.1).2
          rw [a0, a1, f0.ld pl (fun z => z), f1.ld pl (fun z => z)]
        have key2 := ih q (i + 1) σ' arr' (s + 1) (c + 1) (by omega) (by omega) ⟨w1', hS, w3.push hpend hdu hE (fun x hx => by rw [hdl]; exact hm x hx) (by rw [hdl]; exact hP), w4, by omega, fun p hp => ?_⟩ (by omega) (by omega) (hR r hr).1 ?_
        · rw [o'] at key2
          exact key2
        · have e0 : ((c + 1 : Nat) : Int) - ((s + 1 : Nat) : Int) = t := by omega
          have e5 : (c : Int) - (s : Int) = t := by omega
          rw [e0]
          rcases List.mem_cons.mp (hP.mem_iff.mp hp) with z | z
          · rw [z]
            show cu + w ≤ _
            omega
          · have := w6 p z
            rw [e5] at this
            exact this
        · rw [← hrw]
          unfold rW
          rw [(hR r hr).2, (hR r hr).2]
end CO2
