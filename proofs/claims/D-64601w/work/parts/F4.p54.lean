/-! THE COMPONENT's walk -/
set_option maxRecDepth 100000
/-- the graph as it is seen from the component's heap -/
def GV (σ : AS) (G : Gr) : Prop :=
  (kd σ 1000 = 1 ∧ ld σ 1000 0 = 1001 ∧ kd σ 1001 = 2 ∧ ld σ 1001 0 = 1002 ∧ ld σ 1001 1 = 1003 ∧ kd σ 1002 = 106 ∧ ln σ 1002 = 400 ∧ kd σ 1003 = 107 ∧ ln σ 1003 = 1000) ∧
  (∀ v, nodeAt G v → kd σ (ld σ 1002 v) = 4 ∧ ld σ (ld σ 1002 v) 1 = gl G v ∧ NumOk σ (ld σ (ld σ 1002 v) 2) (outL G v) ∧ NumOk σ (ld σ (ld σ 1002 v) 3) (inL G v)) ∧
  (∀ e, edgeAt G e → kd σ (ld σ 1003 e) = 5 ∧ ld σ (ld σ 1003 e) 1 = gt G e ∧ ld σ (ld σ 1003 e) 2 = gf G e ∧ ld σ (ld σ 1003 e) 3 = go G e) ∧
  (∀ v, 0 ≤ v → v < 400 → (ld σ 1002 v ≠ 0 ↔ nodeAt G v)) ∧
  okG G
section CXG
variable {σ σ' y : AS} {k : Nat} {l : List Ch} {m : Int}
theorem CX.gv (h : CX σ k l m) (hl : l.length ≤ 64) : GV σ (run l) := by
  obtain ⟨Ow, TH, ty, fr, too, mc, L, ⟨no, ed, fm⟩, h1, h2, h3⟩ := h
  obtain ⟨-, -, -, -, -, -, hLK, hG, -⟩ := h1.low (by omega)
  obtain ⟨g1, g2, g3, g4, g5, g6, g7⟩ := h1.1.2.2.1
  have aN := h1.1.2.2.2.2.1
  have aE := h1.1.2.2.2.2.2.1
  refine ⟨⟨h1.2.1.1, h1.2.1.2.1, g1, g2, g3, g4, g5, g6, g7⟩, fun v hv => ?_, fun e he => ?_, fun v a b => ?_, hG⟩
  · obtain ⟨n1, n2, n3, n4⟩ := num_at h1.1 hLK hG hv
    rw [aN v hv.1 hv.2.1]
    have nv : no v ≠ 0 := (hLK.1 v).mpr hv.2.2
    exact ⟨n1, by rw [(h1.1.2.2.2.2.2.2.2.2.2.2.1 _ n2).1]; exact (hLK.2.2.1 v nv).1, n3, n4⟩
  · rw [aE e he.1 he.2.1]
    have nv : ed e ≠ 0 := (hLK.2.1 e).mpr he.2.2
    obtain ⟨-, -, n2, n1, -⟩ := h1.1.2.2.2.2.2.2.2.1 e nv
    obtain ⟨⟨t1, t2, t3⟩, t4⟩ := hLK.2.2.2 e nv
    obtain ⟨s1, s2⟩ := h1.1.2.2.2.2.2.2.2.2.2.2.1 _ n2
    obtain ⟨s3, s4⟩ := s2 n1
    exact ⟨n1, s1.trans t1, s3.trans t2, s4.trans t3⟩
  · rw [aN v a b]
    exact ⟨fun z => ⟨a, b, (hLK.1 v).mp z⟩, fun z => (hLK.1 v).mpr z.2.2⟩
/-- the walk's rows -/
def AR (σ : AS) : Prop := ld σ 1000 11 = 1019 ∧ kd σ 1019 = 100 ∧ ln σ 1019 = 400 ∧ ld σ 1000 12 = 1020 ∧ kd σ 1020 = 100 ∧ ln σ 1020 = 400 ∧ ld σ 1000 14 = 1021 ∧ kd σ 1021 = 100 ∧ ln σ 1021 = 400
def WkL (σ : AS) (M : List (Int × Int)) : Prop := ld σ 1000 13 = M.length ∧ ∀ (i : Nat) (x : Int × Int), M[i]? = some x → ld σ 1019 i = x.1 ∧ ld σ 1020 i = x.2
def WX : Int → Prop := fun r => r = 1000 ∨ (1019 ≤ r ∧ r ≤ 1021)
/-- during a walk: from σ0 on -/
def WI (σ0 σ : AS) (k : Nat) (l : List Ch) (m : Int) (d : F1) (M : List (Int × Int)) : Prop := CX σ k l m ∧ AR σ ∧ WkL σ M ∧ (∀ n, 0 ≤ n → n < 400 → ld σ 1021 n = d n + 1) ∧ Fr WX σ0 σ ∧ nx σ = nx σ0 ∧ us σ = us σ0 ∧ ∀ j, j ≠ 13 → ld σ 1000 j = ld σ0 1000 j
theorem AR.set {r j v : Int} (h : AR σ) (hr : (r = 1000 ∧ j = 13) ∨ (1019 ≤ r ∧ r ≤ 1021)) : AR (wr σ r j v) := by
  obtain ⟨h1, h2, h3, h4, h5, h6, h7, h8, h9⟩ := h
  have e : ∀ i, i ≠ 13 → ld (wr σ r j v) 1000 i = ld σ 1000 i := fun i hi => by rw [ld_wr, if_neg (by omega)]
  exact ⟨by rw [e _ (by decide)]; exact h1, h2, h3, by rw [e _ (by decide)]; exact h4, h5, h6, by rw [e _ (by decide)]; exact h7, h8, h9⟩
theorem CX.set {r j v : Int} (h : CX σ k l m) (hr : (r = 1000 ∧ 2 ≤ j) ∨ (1006 ≤ r ∧ r ≤ 1053)) : CX (wr σ r j v) k l m := by
  refine h.other (Fr.wr (S := fun q => q = r) rfl) (fun q z => by have z' : q = r := z; omega) ⟨?_, ?_⟩
  · rw [ld_wr, if_neg (by omega)]
  · rw [ld_wr, if_neg (by omega)]
theorem WI.reach {σ0 : AS} {d : F1} {M : List (Int × Int)} {v h : Int} (hw : WI σ0 σ k l m d M) : WI σ0 (wr σ 1021 v (h + 2)) k l m (ud d v (h + 1)) M := by
  obtain ⟨h1, h2, h3, h4, h5, h6, h7, h8⟩ := hw
  refine ⟨h1.set (Or.inr ⟨by decide, by decide⟩), h2.set (Or.inr ⟨by decide, by decide⟩), ⟨by rw [ld_wr, if_neg (by omega)]; exact h3.1, fun i x hx => by rw [ld_wr, if_neg (by omega), ld_wr, if_neg (by omega)]; exact h3.2 i x hx⟩, fun i a b => ?_, h5.trans (Fr.wr (Or.inr ⟨by decide, by decide⟩)), h6, h7, fun j hj => by rw [ld_wr, if_neg (by omega)]; exact h8 j hj⟩
  rw [ld_wr, ud_at]
  by_cases c : i = v
  · rw [if_pos ⟨rfl, c⟩, if_pos c]; omega
  · rw [if_neg (fun z => c z.2), if_neg c]; exact h4 i a b
theorem walk165 {n : Nat} {σ0 : AS} {ty l3 l4 h v : Int} {d0 : F1} {M : List (Int × Int)} {K : Int → Int → Int → Int → Int → Int → AS → Option ((Nat ⊕ Int) × AS)} {Q : (Nat ⊕ Int) × AS → Prop} (hl : l.length ≤ 64) (hh : 0 ≤ h ∧ h ≤ 1000) (hv : nodeAt (run l) v) (hd : d0 v = h) (P0 : Int → Prop) (hK : ∀ σ', WI σ0 σ' k l m (mid (run l) ty d0 h (fun e => P0 e ∨ e ∈ outL (run l) v)) M → Wp (K 1000 ty l3 l4 h v σ') Q) : ∀ (c q i : Nat) (σ : AS), c < q → i + c = (outL (run l) v).length → WI σ0 σ k l m (mid (run l) ty d0 h (fun e => P0 e ∨ e ∈ (outL (run l) v).take i)) M → Wp (f_X1_walk_165 n K q 1000 ty l3 l4 h v (ld σ (ld σ 1002 v) 2) i σ) Q := by
  intro c
  induction c with
  | zero =>
    intro q i σ hq hi hw
    obtain ⟨q, rfl⟩ : ∃ z, q = z + 1 := ⟨q - 1, by omega⟩
    obtain ⟨-, n2, n3, -⟩ := (hw.1.gv hl).2.1 v hv
    unfold f_X1_walk_165
    refine wp_gd n3.1 ?_
    rw [n3.2.2.1]
    rw [List.take_of_length_le (by omega)] at hw
    exact wp_pos (by omega) (hK σ hw)
  | succ c ih =>
    intro q i σ hq hi hw
    obtain ⟨q, rfl⟩ : ∃ z, q = z + 1 := ⟨q - 1, by omega⟩
    have gv := hw.1.gv hl
    obtain ⟨g0, g1, g2, -, hG⟩ := gv
    obtain ⟨-, n2, n3, -⟩ := g1 v hv
    have hw' := hw
    obtain ⟨h1, h2, h3, h4, h5, h6, h7, h8⟩ := hw'
    generalize ho : ld σ (ld σ 1002 v) 2 = o at *
    obtain ⟨e, he⟩ : ∃ e, (outL (run l) v)[i]? = some e := ⟨_, List.getElem?_eq_getElem (by omega)⟩
    have heD : (outL (run l) v).getD i 0 = e := by rw [List.getD_eq_getElem?_getD, he]; rfl
    have hem : e ∈ outL (run l) v := List.mem_of_getElem? he
    obtain ⟨⟨e1, e2⟩, e3, e4⟩ := mem_outL.mp hem
    obtain ⟨s1, s2, s3, s4⟩ := g2 e ⟨e1, e2, e3⟩
    have ends := hG.2.1 e e3
    have tk : (outL (run l) v).take (i + 1) = (outL (run l) v).take i ++ [e] := by
      rw [List.take_add_one, he]
      rfl
    have pe : (fun x => P0 x ∨ x ∈ (outL (run l) v).take (i + 1)) = (fun x => (P0 x ∨ x ∈ (outL (run l) v).take i) ∨ x = e) := by
      funext x
      rw [tk, List.mem_append, List.mem_singleton]
      exact propext ⟨fun z => z.elim (fun a => Or.inl (Or.inl a)) (fun a => a.elim (fun b => Or.inl (Or.inr b)) Or.inr), fun z => z.elim (fun a => a.elim Or.inl (fun b => Or.inr (Or.inl b))) (fun b => Or.inr (Or.inr b))⟩
    have ms := mid_step (G := run l) (ty := ty) (h := h) (d := d0) (P := fun x => P0 x ∨ x ∈ (outL (run l) v).take i) (e := e) (by omega)
    rw [← pe] at ms
    have hi1 : (i : Int) < ((outL (run l) v).length : Nat) := by omega
    have ei : (i : Int) + 1 = ((i + 1 : Nat) : Int) := by omega
    have ili : (outL (run l) v).length ≤ 1000 := by rw [len_out]; exact dg_le.1
    have skip : WI σ0 σ k l m (mid (run l) ty d0 h (fun x => P0 x ∨ x ∈ (outL (run l) v).take (i + 1))) M → Wp (f_X1_walk_234 n (f_X1_walk_165 n K q) 1000 ty l3 l4 h v o i σ) Q := fun hs => by
      unfold f_X1_walk_234
      refine wp_gI (by omega) (wp_nm0 ?_)
      have := ih q (i + 1) σ (by omega) (by omega) hs
      rw [ho] at this
      rw [ei]
      exact this
    have hto := h4 (go (run l) e) ends.2.2.2.2.1 ends.2.2.2.2.2.1
    have go1 : mid (run l) ty d0 h (fun x => P0 x ∨ x ∈ (outL (run l) v).take i) (go (run l) e) = -1 → (ty = -1 ∨ gt (run l) e = ty) → Wp (f_X1_walk_220 n (f_X1_walk_234 n (f_X1_walk_165 n K q)) 1000 ty l3 l4 h v o i (ld σ 1003 e) σ) Q := fun a b => by
      unfold f_X1_walk_220
      refine wp_gd g0.1 (wp_gd s1 (wp_gI (by omega) ?_))
      rw [h2.2.2.2.2.2.2.1, s4]
      refine wp_gd ⟨h2.2.2.2.2.2.2.2.1, ends.2.2.2.2.1, by rw [h2.2.2.2.2.2.2.2.2]; exact ends.2.2.2.2.2.1⟩ (wp_nm0 ?_)
      unfold f_X1_walk_234
      refine wp_gI (by omega) (wp_nm0 ?_)
      have w2 := hw.reach (v := go (run l) e) (h := h)
      rw [if_pos ⟨⟨⟨e1, e2, e3⟩, b⟩, by rw [e4]; exact hd, a⟩] at ms
      rw [← ms] at w2
      have := ih q (i + 1) _ (by omega) (by omega) w2
      have eo : ld (wr σ 1021 (go (run l) e) (h + 2)) (ld (wr σ 1021 (go (run l) e) (h + 2)) 1002 v) 2 = o := by
        obtain ⟨-, n2', n3', -⟩ := (w2.1.gv hl).2.1 v hv
        have a1 : ld (wr σ 1021 (go (run l) e) (h + 2)) 1002 v = ld σ 1002 v := by rw [ld_wr, if_neg (by omega)]
        rw [a1]
        have kz := (g1 v hv).1
        rw [ld_wr, if_neg (fun z => by
          have := h2.2.2.2.2.2.2.2.1
          rw [z.1] at kz
          omega)]
        exact ho
      rw [eo] at this
      rw [ei]
      exact this
    unfold f_X1_walk_165
    refine wp_gd n3.1 ?_
    rw [n3.2.2.1]
    refine wp_neg (by omega) (wp_gd g0.1 ?_)
    rw [g0.2.1]
    refine wp_gd g0.2.2.1 (wp_gd n3.1 (wp_gd ⟨n3.2.1, by omega, by have := n3.2.2.2.1; omega⟩ ?_))
    rw [n3.2.2.2.2.2 i (by omega), heD, g0.2.2.2.2.1]
    refine wp_gd ⟨g0.2.2.2.2.2.2.2.1, e1, by rw [g0.2.2.2.2.2.2.2.2]; exact e2⟩ (wp_nm0 (wp_gd g0.1 (wp_gd s1 ?_)))
    rw [h2.2.2.2.2.2.2.1, s4]
    refine wp_gd ⟨h2.2.2.2.2.2.2.2.1, ends.2.2.2.2.1, by rw [h2.2.2.2.2.2.2.2.2]; exact ends.2.2.2.2.2.1⟩ ?_
    rw [hto]
    by_cases ca : mid (run l) ty d0 h (fun x => P0 x ∨ x ∈ (outL (run l) v).take i) (go (run l) e) = -1
    · refine wp_pos (by omega) ?_
      by_cases ct : ty = -1
      · exact wp_pos ct (go1 ca (Or.inl ct))
      · refine wp_neg ct (wp_gd s1 ?_)
        rw [s2]
        by_cases cg : gt (run l) e = ty
        · exact wp_pos cg (go1 ca (Or.inr cg))
        · refine wp_neg cg (skip ?_)
          rw [if_neg (fun z => z.1.2.elim ct cg)] at ms
          rw [ms]; exact hw
    · refine wp_neg (by omega) (skip ?_)
      rw [if_neg (fun z => ca z.2.2)] at ms
      rw [ms]; exact hw
end CXG
