/-! THE COMPONENT's walk: levels -/
set_option maxRecDepth 100000
noncomputable def walkL (G : Gr) (fr ty most : Int) : List (Int × Int) := wls (lev G ty fr 400) (min (most.toNat + 1) 400)
section WK
variable {G : Gr} {ty fr : Int}
theorem mid_eq {d : F1} {h : Int} {P : Int → Prop} {n : Int} (h0 : 0 ≤ h) (hd : ∀ n, d n ≤ h) : mid G ty d h P n = h ↔ d n = h := by
  by_cases q : d n = -1
  · by_cases z : ∃ e, P e ∧ Walks G ty e ∧ d (gf G e) = h ∧ go G e = n
    · rw [mid_new q z]; omega
    · rw [mid_none q z]; omega
  · rw [mid_old q]
theorem lev_D {h : Nat} (hh : h ≤ 400) (n : Int) : lev G ty fr h n = h ↔ lev G ty fr 400 n = h := by
  have := lev_at (G := G) (ty := ty) (fr := fr) (h := 400) (j := (h : Int)) (n := n) (by omega) (by omega)
  rw [this, show ((h : Int)).toNat = h by omega]
theorem lev_all {h : Nat} (hG : okG G) : mid G ty (lev G ty fr h) h (fun e => gf G e < 400) = lev G ty fr (h + 1) := by
  rw [lev_succ]
  refine mid_congr fun e he _ => ⟨fun _ => trivial, fun _ => ?_⟩
  exact (hG.2.1 e he.1.2.2).2.2.2.1.2.1
theorem lev_none {h : Nat} (hG : okG G) : mid G ty (lev G ty fr h) h (fun e => gf G e < 0) = lev G ty fr h := by
  have e : mid G ty (lev G ty fr h) h (fun e => gf G e < 0) = mid G ty (lev G ty fr h) h (fun _ => False) := by
    refine mid_congr fun e he _ => ⟨fun z => ?_, fun z => z.elim⟩
    have := (hG.2.1 e he.1.2.2).2.2.2.1.1
    omega
  rw [e, mid_empty]
theorem lev_node {h : Nat} {v : Int} (hG : okG G) (hv : lev G ty fr h v = h ∨ True) : mid G ty (lev G ty fr h) h (fun e => gf G e < v + 1) = mid G ty (lev G ty fr h) h (fun e => gf G e < v ∨ e ∈ outL G v) := by
  refine mid_congr fun e he _ => ⟨fun z => ?_, fun z => ?_⟩
  · by_cases c : gf G e < v
    · exact Or.inl c
    · exact Or.inr (mem_outL.mpr ⟨⟨he.1.1, he.1.2.1⟩, he.1.2.2, by omega⟩)
  · rcases z with z | z
    · omega
    · have := (mem_outL.mp z).2.2; omega
theorem lev_skip {h : Nat} {v : Int} (hv : lev G ty fr h v ≠ h) : mid G ty (lev G ty fr h) h (fun e => gf G e < v + 1) = mid G ty (lev G ty fr h) h (fun e => gf G e < v) := by
  refine mid_congr fun e _ hd => ⟨fun z => ?_, fun z => by omega⟩
  by_cases c : gf G e = v
  · rw [c] at hd; exact absurd hd hv
  · omega
end WK
section WKL
variable {σ σ' : AS} {k : Nat} {l : List Ch} {m : Int} {σ0 : AS} {ty fr most : Int}
/-- a node is told -/
theorem WI.tell {d : F1} {M : List (Int × Int)} {v h : Int} (hw : WI σ0 σ k l m d M) (hM : M.length < 400) : WI σ0 (wr (wr (wr σ 1019 M.length v) 1000 13 (M.length + 1 : Int)) 1020 M.length h) k l m d (M ++ [(v, h)]) := by
  obtain ⟨h1, h2, h3, h4, h5, h6, h7, h8⟩ := hw
  refine ⟨((h1.set (Or.inr ⟨by decide, by decide⟩)).set (Or.inl ⟨rfl, by decide⟩)).set (Or.inr ⟨by decide, by decide⟩), ((h2.set (Or.inr ⟨by decide, by decide⟩)).set (Or.inl ⟨rfl, rfl⟩)).set (Or.inr ⟨by decide, by decide⟩), ⟨?_, fun i x hx => ?_⟩, fun i a b => ?_, ((h5.trans (Fr.wr (Or.inr ⟨by decide, by decide⟩))).trans (Fr.wr (Or.inl rfl))).trans (Fr.wr (Or.inr ⟨by decide, by decide⟩)), h6, h7, fun j hj => ?_⟩
  · rw [ld_wr, if_neg (by omega), ld_wr, if_pos ⟨rfl, rfl⟩]
    simp
  · rw [ld_wr, if_neg (by omega), ld_wr, if_neg (by omega), ld_wr, ld_wr]
    by_cases c : i < M.length
    · rw [List.getElem?_append_left c] at hx
      rw [if_neg (by omega), if_neg (by omega), ld_wr, if_neg (by omega), ld_wr, if_neg (by omega)]
      exact h3.2 i x hx
    · have e : i = M.length := by
        have := (List.getElem?_eq_some_iff.mp hx).1
        simp at this
        omega
      subst e
      have : (v, h) = x := by simpa using hx
      rw [if_pos ⟨rfl, rfl⟩, if_pos ⟨rfl, rfl⟩, ← this]
      exact ⟨rfl, rfl⟩
  · rw [ld_wr, if_neg (by omega), ld_wr, if_neg (by omega), ld_wr, if_neg (by omega)]
    exact h4 i a b
  · rw [ld_wr, if_neg (by omega), ld_wr, if_neg (by omega), ld_wr, if_neg (by omega)]
    exact h8 j hj
/-- one level, node by node -/
theorem walk90 {n : Nat} {h : Nat} {K : Int → Int → Int → Int → Int → AS → Option ((Nat ⊕ Int) × AS)} {Q : (Nat ⊕ Int) × AS → Prop} (hn : 1000000 ≤ n) (hl : l.length ≤ 64) (hfr : nodeAt (run l) fr) (hh : h ≤ 400) (hK : ∀ σ' (w : Int), WI σ0 σ' k l m (lev (run l) ty fr (h + 1)) (wls (lev (run l) ty fr 400) (h + 1)) → ((w = 1 ∧ ∃ v : Nat, v < 400 ∧ lev (run l) ty fr 400 v = h) ∨ (w = 0 ∧ ∀ v : Nat, v < 400 → lev (run l) ty fr 400 v ≠ h)) → Wp (K 1000 ty most w (h + 1 : Int) σ') Q) : ∀ (c q j : Nat) (w : Int) (σ : AS), c < q → j + c = 400 → WI σ0 σ k l m (mid (run l) ty (lev (run l) ty fr h) h (fun e => gf (run l) e < j)) (wls (lev (run l) ty fr 400) h ++ wlv (lev (run l) ty fr 400) h j) → ((w = 1 ∧ ∃ v : Nat, v < 400 ∧ lev (run l) ty fr 400 v = h) ∨ (w = 0 ∧ ∀ v : Nat, v < j → lev (run l) ty fr 400 v ≠ h)) → Wp (f_X1_walk_90 n K q 1000 ty most w h j σ) Q := by
  intro c
  induction c with
  | zero =>
    intro q j w σ hq hj hw hm
    obtain ⟨q, rfl⟩ : ∃ z, q = z + 1 := ⟨q - 1, by omega⟩
    have ej : j = 400 := by omega
    rw [ej] at hw hm
    have hG := (hw.1.gv hl).2.2.2.2
    unfold f_X1_walk_90
    refine wp_pos (by omega) (wp_gI (by omega) (wp_nm0 (hK σ w ?_ hm)))
    have := lev_all (G := run l) (ty := ty) (fr := fr) (h := h) hG
    rw [← this]
    exact hw
  | succ c ih =>
    intro q j w σ hq hj hw hm
    obtain ⟨q, rfl⟩ : ∃ z, q = z + 1 := ⟨q - 1, by omega⟩
    have hw' := hw
    obtain ⟨h1, h2, h3, h4, h5, h6, h7, h8⟩ := hw'
    obtain ⟨g0, g1, g2, g3, hG⟩ := h1.gv hl
    have ej : (j : Int) + 1 = ((j + 1 : Nat) : Int) := by omega
    have hle : ∀ n, lev (run l) ty fr h n ≤ h := fun n => by
      have := lev_range (G := run l) (ty := ty) (fr := fr) (h := h) (n := n)
      omega
    have hit := mid_eq (G := run l) (ty := ty) (d := lev (run l) ty fr h) (h := (h : Int)) (P := fun e => gf (run l) e < j) (n := j) (by omega) hle
    have hD := lev_D (G := run l) (ty := ty) (fr := fr) hh j
    have hr := h4 j (by omega) (by omega)
    have next : ∀ (w' : Int) (σ' : AS), WI σ0 σ' k l m (mid (run l) ty (lev (run l) ty fr h) h (fun e => gf (run l) e < (j + 1 : Nat))) (wls (lev (run l) ty fr 400) h ++ wlv (lev (run l) ty fr 400) h (j + 1)) → ((w' = 1 ∧ ∃ v : Nat, v < 400 ∧ lev (run l) ty fr 400 v = h) ∨ (w' = 0 ∧ ∀ v : Nat, v < j + 1 → lev (run l) ty fr 400 v ≠ h)) → Wp (f_X1_walk_240 n (f_X1_walk_90 n K q) 1000 ty most w' h j σ') Q := fun w' σ' a b => by
      unfold f_X1_walk_240
      refine wp_gI (by omega) (wp_nm0 ?_)
      rw [ej]
      exact ih q (j + 1) w' σ' (by omega) (by omega) a b
    unfold f_X1_walk_90
    refine wp_neg (by omega) (wp_gd g0.1 ?_)
    rw [h2.2.2.2.2.2.2.1]
    refine wp_gd ⟨h2.2.2.2.2.2.2.2.1, by omega, by rw [h2.2.2.2.2.2.2.2.2]; omega⟩ (wp_gI (by omega) ?_)
    rw [hr]
    by_cases ca : lev (run l) ty fr h j = h
    · have c1 := hit.mpr ca
      have cD := hD.mp ca
      have nv : nodeAt (run l) j := lev_alive hfr hG (by rw [ca]; omega)
      refine wp_pos (by rw [c1]) (wp_gd g0.1 (wp_gd g0.1 ?_))
      have hM : (wls (lev (run l) ty fr 400) h ++ wlv (lev (run l) ty fr 400) h j).length < 400 := by
        have := wlv_le (D := lev (run l) ty fr 400) (h := h) (m := j + 1) (by omega)
        rw [show wlv (lev (run l) ty fr 400) (h : Int) (j + 1) = wlv (lev (run l) ty fr 400) h j ++ [((j : Int), (h : Int))] by
          show wlv (lev (run l) ty fr 400) h j ++ (if lev (run l) ty fr 400 (j : Int) = h then [((j : Int), (h : Int))] else []) = _
          rw [if_pos cD]] at this
        simp only [List.length_append, List.length_cons, List.length_nil] at this ⊢
        omega
      have eM : wls (lev (run l) ty fr 400) h ++ wlv (lev (run l) ty fr 400) h (j + 1) = (wls (lev (run l) ty fr 400) h ++ wlv (lev (run l) ty fr 400) h j) ++ [((j : Int), (h : Int))] := by
        rw [List.append_assoc]
        congr 1
        show wlv (lev (run l) ty fr 400) h j ++ (if lev (run l) ty fr 400 (j : Int) = h then [((j : Int), (h : Int))] else []) = _
        rw [if_pos cD]
      rw [eM] at next
      generalize wls (lev (run l) ty fr 400) h ++ wlv (lev (run l) ty fr 400) h j = M at *
      rw [h2.1, h3.1]
      refine wp_gd ⟨h2.2.1, by omega, by rw [h2.2.2.1]; omega⟩ (wp_nm0 (wp_gd g0.1 (wp_gd g0.1 (wp_nm0 ?_))))
      have x13 : ld (wr σ 1019 M.length j) 1000 13 = M.length := by rw [ld_wr, if_neg (by omega)]; exact h3.1
      have x12 : ld (wr σ 1019 M.length j) 1000 12 = 1020 := by rw [ld_wr, if_neg (by omega)]; exact h2.2.2.2.1
      rw [x13, x12]
      refine wp_gI (by omega) (wp_gd g0.1 (wp_nm0 (wp_gd ⟨h2.2.2.2.2.1, by omega, by show (M.length : Int) < ln σ 1020; rw [h2.2.2.2.2.2.1]; omega⟩ (wp_nm0 ?_))))
      have w2 := hw.tell (v := j) (h := h) hM
      generalize wr (wr (wr σ 1019 M.length j) 1000 13 (M.length + 1 : Int)) 1020 M.length h = σ2 at *
      obtain ⟨G0, G1, G2, G3, -⟩ := w2.1.gv hl
      refine wp_gd G0.1 ?_
      rw [G0.2.1]
      refine wp_gd G0.2.2.1 ?_
      rw [G0.2.2.2.1]
      refine wp_gd ⟨G0.2.2.2.2.2.1, by omega, by rw [G0.2.2.2.2.2.2.1]; omega⟩ (wp_gd (G1 j nv).1 (wp_nm0 ?_))
      refine walk165 (k := k) (m := m) (σ0 := σ0) (M := M ++ [((j : Int), (h : Int))]) (d0 := lev (run l) ty fr h) hl ⟨by omega, by omega⟩ nv ca (fun e => gf (run l) e < j) (fun σ' hw' => ?_) (outL (run l) j).length n 0 σ2 (by have := dg_le (G := run l) (v := j); rw [len_out]; omega) (by omega) ?_
      · refine next 1 σ' ?_ (Or.inl ⟨rfl, j, by omega, cD⟩)
        have := lev_node (G := run l) (ty := ty) (fr := fr) (h := h) (v := j) hG (Or.inr trivial)
        rw [show (fun e => gf (run l) e < ((j + 1 : Nat) : Int)) = (fun e => gf (run l) e < (j : Int) + 1) by rw [ej], this]
        exact hw'
      · have : (fun e => gf (run l) e < (j : Int) ∨ e ∈ (outL (run l) j).take 0) = (fun e => gf (run l) e < (j : Int)) := by
          funext e
          exact propext ⟨fun z => z.elim id (fun a => absurd a List.not_mem_nil), Or.inl⟩
        rw [this]
        exact w2
    · have cD : lev (run l) ty fr 400 j ≠ h := fun z => ca (hD.mpr z)
      refine wp_neg (by have : mid (run l) ty (lev (run l) ty fr h) h (fun e => gf (run l) e < j) j ≠ h := fun z => ca (hit.mp z); omega) (next w σ ?_ ?_)
      · rw [show (fun e => gf (run l) e < ((j + 1 : Nat) : Int)) = (fun e => gf (run l) e < (j : Int) + 1) by rw [ej], lev_skip ca]
        have : wlv (lev (run l) ty fr 400) h (j + 1) = wlv (lev (run l) ty fr 400) h j := by
          show wlv (lev (run l) ty fr 400) h j ++ (if lev (run l) ty fr 400 (j : Int) = h then [((j : Int), (h : Int))] else []) = _
          rw [if_neg cD, List.append_nil]
        rw [this]
        exact hw
      · refine hm.imp id fun q => ⟨q.1, fun v hv => ?_⟩
        by_cases e : v = j
        · rw [e]; exact cD
        · exact q.2 v (by omega)
/-- what a walk ends with -/
def WEnd (σ0 : AS) (k : Nat) (l : List Ch) (m : Int) (M : List (Int × Int)) (y : (Nat ⊕ Int) × AS) : Prop := y.1 = .inr (M.length : Int) ∧ ∃ d, WI σ0 y.2 k l m d M
theorem walk73 {n : Nat} (hn : 1000000 ≤ n) (hl : l.length ≤ 64) (hfr : nodeAt (run l) fr) (hmost : 0 ≤ most) : ∀ (c q h : Nat) (w : Int) (σ : AS), c < q → h + c = 402 → (h : Int) ≤ most + 1 → WI σ0 σ k l m (lev (run l) ty fr h) (wls (lev (run l) ty fr 400) h) → ((w = 1 ∧ ∀ j : Nat, j < h → ∃ v : Nat, v < 400 ∧ lev (run l) ty fr 400 v = j) ∨ (w = 0 ∧ h ≤ 401 ∧ ∃ h', h = h' + 1 ∧ ∀ v : Nat, v < 400 → lev (run l) ty fr 400 v ≠ h')) → Wp (f_X1_walk_73 n q 1000 ty most w h σ) (WEnd σ0 k l m (walkL (run l) fr ty most)) := by
  intro c
  induction c with
  | zero =>
    intro q h w σ hq hj hb hw hm
    rcases hm with ⟨_, hm⟩ | ⟨_, hm, _⟩
    · have := wls_many hm
      have := wls_le (D := lev (run l) ty fr 400) (h := h)
      omega
    · omega
  | succ c ih =>
    intro q h w σ hq hj hb hw hm
    obtain ⟨q, rfl⟩ : ∃ z, q = z + 1 := ⟨q - 1, by omega⟩
    have hw' := hw
    obtain ⟨h1, h2, h3, h4, h5, h6, h7, h8⟩ := hw'
    obtain ⟨g0, g1, g2, g3, hG⟩ := h1.gv hl
    have fin : wls (lev (run l) ty fr 400) h = walkL (run l) fr ty most → Wp (gd (kd σ 1000 = 1) <| some ((Sum.inr (ld σ 1000 13) : Nat ⊕ Int), σ)) (WEnd σ0 k l m (walkL (run l) fr ty most)) := fun e => by
      rw [e] at hw h3
      rw [h3.1]
      exact wp_gd g0.1 (wp_ok ⟨rfl, _, hw⟩)
    unfold f_X1_walk_73
    rcases hm with ⟨w1, hm⟩ | ⟨w0, hb4, h', eh, hm⟩
    · have hle : h ≤ 400 := by
        have a := wls_many hm
        have b := wls_le (D := lev (run l) ty fr 400) (h := h)
        omega
      by_cases cm : most < (h : Int)
      · refine wp_pos cm (fin ?_)
        unfold walkL
        congr 1
        omega
      · refine wp_neg cm (wp_neg (by omega) ?_)
        refine walk90 (k := k) (m := m) (σ0 := σ0) (h := h) (most := most) hn hl hfr hle (fun σ' w' a b => ?_) 400 n 0 0 σ (by omega) (by omega) ?_ (Or.inr ⟨rfl, fun v hv => by omega⟩)
        · have e : (h : Int) + 1 = ((h + 1 : Nat) : Int) := by omega
          rw [e]
          refine ih q (h + 1) w' σ' (by omega) (by omega) (by omega) a ?_
          rcases b with ⟨b1, v, b2, b3⟩ | ⟨b1, b2⟩
          · refine Or.inl ⟨b1, fun j hj => ?_⟩
            by_cases ej : j = h
            · exact ⟨v, b2, by rw [b3, ej]⟩
            · exact hm j (by omega)
          · exact Or.inr ⟨b1, by omega, h, rfl, b2⟩
        · have e1 : wls (lev (run l) ty fr 400) h ++ wlv (lev (run l) ty fr 400) h 0 = wls (lev (run l) ty fr 400) h := List.append_nil _
          rw [e1]
          have := lev_none (G := run l) (ty := ty) (fr := fr) (h := h) hG
          rw [show (fun e => gf (run l) e < ((0 : Nat) : Int)) = (fun e => gf (run l) e < 0) from rfl, this]
          exact hw
    · have emp : ∀ n, lev (run l) ty fr h' n ≠ h' := fun n z => by
        have nv : nodeAt (run l) n := lev_alive hfr hG (by rw [z]; omega)
        have := hm n.toNat (by have := nv.2.1; omega)
        rw [show ((n.toNat : Nat) : Int) = n by have := nv.1; omega] at this
        exact this ((lev_D (by omega) n).mp z)
      have allE := lev_empty' emp
      have stop : ∀ b, h' ≤ b → b ≤ 400 → wls (lev (run l) ty fr 400) b = wls (lev (run l) ty fr 400) h' := fun b b1 b2 => wls_stop b1 fun j j1 j2 n z => allE j j1 n ((lev_D (by omega) n).mpr z)
      have eh2 : wls (lev (run l) ty fr 400) h = wls (lev (run l) ty fr 400) h' := by
        rw [eh]
        show wls (lev (run l) ty fr 400) h' ++ wlv (lev (run l) ty fr 400) h' 400 = _
        rw [wlv_none (fun x hx => hm x hx), List.append_nil]
      have done : wls (lev (run l) ty fr 400) h = walkL (run l) fr ty most := by
        rw [eh2]
        unfold walkL
        exact (stop _ (by omega) (by omega)).symm
      by_cases cm : most < (h : Int)
      · exact wp_pos cm (fin done)
      · exact wp_neg cm (wp_pos w0 (fin done))
theorem walk38 {n : Nat} (hn : 1000000 ≤ n) (hl : l.length ≤ 64) (hfr : nodeAt (run l) fr) (hmost : 0 ≤ most) : ∀ (c q j : Nat) (σ : AS), c < q → j + c = 400 → CX σ k l m → AR σ → ld σ 1000 13 = 0 → (∀ v : Int, 0 ≤ v → v < j → ld σ 1021 v = 0) → Fr WX σ0 σ → nx σ = nx σ0 → us σ = us σ0 → (∀ i, i ≠ 13 → ld σ 1000 i = ld σ0 1000 i) → Wp (f_X1_walk_38 n q 1000 fr ty most j σ) (WEnd σ0 k l m (walkL (run l) fr ty most)) := by
  intro c
  induction c with
  | zero =>
    intro q j σ hq hj h1 h2 h3 h4 h5 h6 h7 h8
    obtain ⟨q, rfl⟩ : ∃ z, q = z + 1 := ⟨q - 1, by omega⟩
    obtain ⟨g0, g1, g2, g3, hG⟩ := h1.gv hl
    unfold f_X1_walk_38
    refine wp_pos (by omega) (wp_gd g0.1 ?_)
    rw [h2.2.2.2.2.2.2.1]
    refine wp_gd ⟨h2.2.2.2.2.2.2.2.1, hfr.1, by rw [h2.2.2.2.2.2.2.2.2]; exact hfr.2.1⟩ (wp_nm0 ?_)
    refine walk73 hn hl hfr hmost 402 n 0 1 _ (by omega) (by omega) (by omega) ?_ (Or.inl ⟨rfl, fun j hj => by omega⟩)
    refine ⟨h1.set (Or.inr ⟨by decide, by decide⟩), h2.set (Or.inr ⟨by decide, by decide⟩), ⟨by rw [ld_wr, if_neg (by omega)]; exact h3, fun i x hx => by cases hx⟩, fun v a b => ?_, h5.trans (Fr.wr (Or.inr ⟨by decide, by decide⟩)), h6, h7, fun i hi => by rw [ld_wr, if_neg (by omega)]; exact h8 i hi⟩
    rw [ld_wr, lev_zero]
    by_cases e : v = fr
    · rw [if_pos ⟨rfl, e⟩, if_pos e]; rfl
    · rw [if_neg (fun z => e z.2), if_neg e, h4 v a (by omega)]; rfl
  | succ c ih =>
    intro q j σ hq hj h1 h2 h3 h4 h5 h6 h7 h8
    obtain ⟨q, rfl⟩ : ∃ z, q = z + 1 := ⟨q - 1, by omega⟩
    obtain ⟨g0, g1, g2, g3, hG⟩ := h1.gv hl
    unfold f_X1_walk_38
    refine wp_neg (by omega) (wp_gd g0.1 ?_)
    rw [h2.2.2.2.2.2.2.1]
    refine wp_gd ⟨h2.2.2.2.2.2.2.2.1, by omega, by rw [h2.2.2.2.2.2.2.2.2]; omega⟩ (wp_nm0 (wp_gI (by omega) (wp_nm0 ?_)))
    rw [show (j : Int) + 1 = ((j + 1 : Nat) : Int) by omega]
    refine ih q (j + 1) _ (by omega) (by omega) (h1.set (Or.inr ⟨by decide, by decide⟩)) (h2.set (Or.inr ⟨by decide, by decide⟩)) (by rw [ld_wr, if_neg (by omega)]; exact h3) (fun v a b => ?_) (h5.trans (Fr.wr (Or.inr ⟨by decide, by decide⟩))) h6 h7 (fun i hi => by rw [ld_wr, if_neg (by omega)]; exact h8 i hi)
    rw [ld_wr]
    by_cases e : v = j
    · rw [if_pos ⟨rfl, e⟩]
    · rw [if_neg (fun z => e z.2)]; exact h4 v a (by omega)
noncomputable def sWalk (G : Gr) (fr ty most : Int) : An := if isN G fr = true then (if (ty = -1 ∨ isS ty = true) ∧ 0 ≤ most then (0, (walkL G fr ty most).length, []) else (2, 0, [])) else (1, 0, [])
/-- a walk's answer; what is told of it -/
theorem X0_walk_law {n : Nat} (hn : 1000000 ≤ n) (h : CX σ k l m) (ho : Out σ) (hA : AR σ) (hl : l.length ≤ 64) : Wp (f_X0_walk n 1000 fr ty most 1053 σ) fun y => y.1 = (sWalk (run l) fr ty most).1 ∧ (y.1 = 0 → ld y.2 1053 0 = (sWalk (run l) fr ty most).2.1 ∧ WkL y.2 (walkL (run l) fr ty most)) ∧ (y.1 ≠ 0 → ld y.2 1000 13 = ld σ 1000 13 ∧ ∀ i, ld y.2 1019 i = ld σ 1019 i ∧ ld y.2 1020 i = ld σ 1020 i) ∧ CX y.2 k l m ∧ Fr (fun r => WX r ∨ r = 1053) σ y.2 ∧ (∀ j, j ≠ 13 → ld y.2 1000 j = ld σ 1000 j) ∧ nx y.2 ≤ nx σ + 2 ∧ us y.2 ≤ us σ + 6 := by
  have hx := h.nx
  obtain ⟨g0, g1, g2, g3, hG⟩ := h.gv hl
  have h' := h
  obtain ⟨Ow, TH, ty', fr', too', mc, L, S, c1, c2, c3⟩ := h'
  obtain ⟨-, -, -, -, -, -, hLK, -, -⟩ := c1.low (by omega)
  have hN := nodeOf_G (v := fr) c1.1 c1.2.1 hLK hG
  have thr : ∀ (E : Nat) (cd : Int), ((E = 1 ∧ cd = 1) ∨ (E = 2 ∧ cd = 2)) → f_X1_walk n 1000 fr ty most σ = some (.inl E, al σ 0 0 6) → (sWalk (run l) fr ty most).1 = cd → Wp (f_X0_walk n 1000 fr ty most 1053 σ) fun y => y.1 = (sWalk (run l) fr ty most).1 ∧ (y.1 = 0 → ld y.2 1053 0 = (sWalk (run l) fr ty most).2.1 ∧ WkL y.2 (walkL (run l) fr ty most)) ∧ (y.1 ≠ 0 → ld y.2 1000 13 = ld σ 1000 13 ∧ ∀ i, ld y.2 1019 i = ld σ 1019 i ∧ ld y.2 1020 i = ld σ 1020 i) ∧ CX y.2 k l m ∧ Fr (fun r => WX r ∨ r = 1053) σ y.2 ∧ (∀ j, j ≠ 13 → ld y.2 1000 j = ld σ 1000 j) ∧ nx y.2 ≤ nx σ + 2 ∧ us y.2 ≤ us σ + 6 := fun E cd hE e1 e2 => by
    have en : nx (al σ 0 0 6) = nx σ + 1 := nx_al
    have eq1 : ∀ r j, r < nx σ → ld (al (al σ 0 0 6) 0 0 0) r j = ld σ r j := fun r j hr => by
      rw [ld_al, if_neg (by rw [en]; omega), ld_al, if_neg (by omega)]
    have res : (fun y : Int × AS => y.1 = (sWalk (run l) fr ty most).1 ∧ (y.1 = 0 → ld y.2 1053 0 = (sWalk (run l) fr ty most).2.1 ∧ WkL y.2 (walkL (run l) fr ty most)) ∧ (y.1 ≠ 0 → ld y.2 1000 13 = ld σ 1000 13 ∧ ∀ i, ld y.2 1019 i = ld σ 1019 i ∧ ld y.2 1020 i = ld σ 1020 i) ∧ CX y.2 k l m ∧ Fr (fun r => WX r ∨ r = 1053) σ y.2 ∧ (∀ j, j ≠ 13 → ld y.2 1000 j = ld σ 1000 j) ∧ nx y.2 ≤ nx σ + 2 ∧ us y.2 ≤ us σ + 6) (cd, al (al σ 0 0 6) 0 0 0) := by
      refine ⟨e2.symm, fun z => ?_, fun _ => ⟨eq1 _ _ (by omega), fun i => ⟨eq1 _ _ (by omega), eq1 _ _ (by omega)⟩⟩, (h.al (by decide)).al (by decide), (Fr.al (by decide)).trans (Fr.al (by decide)), fun j _ => eq1 _ _ (by omega), by rw [nx_al, nx_al]; omega, by rw [us_al, us_al]; omega⟩
      have z' : cd = 0 := z
      omega
    unfold f_X0_walk
    refine wp_gd h.k0 (wp_cy_inl e1 ?_)
    rcases hE with ⟨a, b⟩ | ⟨a, b⟩
    · rw [b] at res
      exact wp_pos a (wp_nm0 (wp_nm0 (wp_ok res)))
    · rw [b] at res
      exact wp_neg (by omega) (wp_pos a (wp_nm0 (wp_nm0 (wp_ok res))))
  have bad : f_X1_walk_26 n (f_X1_walk_27 n) 1000 fr ty most σ = some (.inl 2, al σ 0 0 6) := by
    unfold f_X1_walk_26 f_X1_walk_27 f_X1_need
    rw [if_pos rfl]
    rfl
  by_cases c : isN (run l) fr = true
  · have hfr := isN_iff.mp c
    by_cases ct : ty = -1 ∨ isS ty = true
    · have e18 : f_X1_walk n 1000 fr ty most σ = f_X1_walk_18 n (f_X1_walk_26 n (f_X1_walk_27 n)) (f_X1_walk_27 n) 1000 fr ty most σ := by
        unfold f_X1_walk
        rw [gd_pos h.k0, hN, if_pos c, cx_inr]
        by_cases c1 : ty = -1
        · rw [if_pos c1]
        · rw [if_neg c1, isNumber_eq, if_pos (ct.resolve_left c1), c1_at, if_neg (by decide)]
      by_cases cm : 0 ≤ most
      · have es : sWalk (run l) fr ty most = (0, ((walkL (run l) fr ty most).length : Int), []) := by
          unfold sWalk; rw [if_pos c, if_pos ⟨ct, cm⟩]
        rw [es]
        unfold f_X0_walk
        refine wp_gd h.k0 ?_
        rw [e18]
        unfold f_X1_walk_18
        rw [if_neg (by omega)]
        unfold f_X1_walk_27 f_X1_need
        rw [if_neg (by decide), cx_inr]
        refine wp_cy_inr ?_
        refine wp_gd h.k0 (wp_nm0 ?_)
        refine wp_mono (walk38 (σ0 := σ) hn hl hfr cm 400 n 0 (wr σ 1000 13 0) (by omega) (by omega) (h.set (Or.inl ⟨rfl, by decide⟩)) (hA.set (Or.inl ⟨rfl, rfl⟩)) (by rw [ld_wr, if_pos ⟨rfl, rfl⟩]) (fun v a b => by omega) (Fr.wr (Or.inl rfl)) rfl rfl (fun i hi => by rw [ld_wr, if_neg (fun z => hi z.2)])) fun y hq => ?_
        obtain ⟨y1, d, q1, q2, q3, q4, q5, q6, q7, q8⟩ := hq
        refine ⟨_, y1, wp_gd ⟨by rw [q5.kd (by omega)]; exact ho.1, by decide, by rw [q5.ln (by omega), ho.2]; decide⟩ (wp_nm0 (wp_ok ⟨rfl, fun _ => ⟨by show ld (wr y.2 1053 0 _) 1053 0 = _; rw [ld_wr, if_pos ⟨rfl, rfl⟩], ?_, fun i x hx => ?_⟩, fun z => absurd rfl z, q1.set (Or.inr ⟨by decide, by decide⟩), (q5.sub fun r _ z => Or.inl z).trans (Fr.wr (Or.inr rfl)), fun j hj => ?_, by show nx y.2 ≤ _; omega, by show us y.2 ≤ _; omega⟩))⟩
        · show ld (wr y.2 1053 0 _) 1000 13 = _
          rw [ld_wr, if_neg (by omega)]; exact q3.1
        · show ld (wr y.2 1053 0 _) 1019 i = _ ∧ ld (wr y.2 1053 0 _) 1020 i = _
          rw [ld_wr, if_neg (by omega), ld_wr, if_neg (by omega)]; exact q3.2 i x hx
        · show ld (wr y.2 1053 0 _) 1000 j = _
          rw [ld_wr, if_neg (by omega)]; exact q8 j hj
      · refine thr 2 2 (Or.inr ⟨rfl, rfl⟩) ?_ ?_
        · rw [e18]
          unfold f_X1_walk_18
          rw [if_pos (by omega)]
          exact bad
        · unfold sWalk; rw [if_pos c, if_neg (fun z => cm z.2)]
    · refine thr 2 2 (Or.inr ⟨rfl, rfl⟩) ?_ ?_
      · unfold f_X1_walk
        rw [gd_pos h.k0, hN, if_pos c, cx_inr, if_neg (fun z => ct (Or.inl z)), isNumber_eq, if_neg (fun z => ct (Or.inr z)), c1_at, if_pos rfl]
        exact bad
      · unfold sWalk; rw [if_pos c, if_neg (fun z => ct z.1)]
  · refine thr 1 1 (Or.inl ⟨rfl, rfl⟩) ?_ ?_
    · unfold f_X1_walk
      rw [gd_pos h.k0, hN, if_neg c]
      rfl
    · unfold sWalk; rw [if_neg c]
end WKL
