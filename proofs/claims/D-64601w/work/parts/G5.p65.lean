/-! THE TWIN's cost -/
set_option maxRecDepth 100000
def BIG : Nat := 858993459200
def cnt (f : F1) : Nat := sm (fun v => if f v = -1 then 0 else 1) 400
def Phi (f : F1) : Nat := sm (fun v => if f v = -1 then BIG else (f v).toNat) 400
def CInv (G : Gr) (key fr : Int) (f : F1) : Prop := f fr = 0 ∧ (∀ v, f v ≠ -1 → nodeAt G v ∧ 0 ≤ f v ∧ f v ≤ ((cnt f : Int) - 1) * 2147483648 ∧ ∃ k, Pth G key fr k v (f v))
def satP (G : Gr) (key : Int) (f : F1) (x : Pr) : Prop := x.1 = 1 → x.2.2.1 = key → 0 ≤ x.2.2.2 → f (gf G x.2.1) ≠ -1 → f (go G x.2.1) ≠ -1 ∧ f (go G x.2.1) ≤ f (gf G x.2.1) + x.2.2.2
def CFr (τ τ' : TT) : Prop := ∀ r j, r ≠ 1032 → ¬ (r = 1022 ∧ j = 0) → τ' r j = τ r j
theorem CFr.rf {τ : TT} : CFr τ τ := fun _ _ _ _ => rfl
theorem CFr.trans {τ τ1 τ2 : TT} (h : CFr τ τ1) (h' : CFr τ1 τ2) : CFr τ τ2 := fun r j a b => (h' r j a b).trans (h r j a b)
theorem TI.c {τ τ' : TT} {k : Nat} {l : List Ch} (h : TI τ k l) (hF : CFr τ τ') : TI τ' k l := by
  obtain ⟨h1, h2, h3⟩ := h
  exact ⟨h1.frame (fun r j a b => hF r j (by omega) (by omega)) (hF _ _ (by omega) (by omega)), h2.frame (fun j => hF _ _ (by omega) (by omega)) (hF _ _ (by omega) (by omega)) (hF _ _ (by omega) (by omega)), h3⟩
section TWG
variable {τ τ0 : TT} {n : Nat} {k : Nat} {l : List Ch} {G : Gr} {key fr to : Int}
theorem cnt_le {f : F1} : cnt f ≤ 400 := sm_le (fun x => by by_cases c : f x = -1 <;> simp [c])
/-- an end gets a new cost -/
theorem CInv.relax {f : F1} {u v w c : Int} (h : CInv G key fr f) (hu : f u ≠ -1) (hv : nodeAt G v) (hc : c = f u + w) (hw : 0 ≤ w ∧ w ≤ 2147483647) (hE : ∃ e, EdgeW G key e u v w) (hlt : f v = -1 ∨ c < f v) : CInv G key fr (ud f v c) ∧ Phi (ud f v c) < Phi f := by
  obtain ⟨h0, h1⟩ := h
  obtain ⟨u1, u2, u3, ku, u4⟩ := h1 u hu
  have v400 : 0 ≤ v ∧ v < ((400 : Nat) : Int) := ⟨hv.1, hv.2.1⟩
  have c0 : 0 ≤ c := by omega
  have hcn := sm_one (f := fun x => if f x = -1 then 0 else 1) (g := fun x => if ud f v c x = -1 then 0 else 1) (a := v) (n := 400) (fun i hi => by show (if ud f v c i = -1 then 0 else 1) = _; rw [ud_ne hi]) v400
  have hph := sm_one (f := fun x => if f x = -1 then BIG else (f x).toNat) (g := fun x => if ud f v c x = -1 then BIG else (ud f v c x).toNat) (a := v) (n := 400) (fun i hi => by show (if ud f v c i = -1 then BIG else (ud f v c i).toNat) = _; rw [ud_ne hi]) v400
  change cnt (ud f v c) + _ = cnt f + _ at hcn
  change Phi (ud f v c) + _ = Phi f + _ at hph
  rw [ud_eq, if_neg (show ¬ c = -1 by omega)] at hcn hph
  have cl := cnt_le (f := ud f v c)
  have frv : v = fr → False := fun z => by
    rw [z, h0] at hlt
    rcases hlt with q | q
    · omega
    · omega
  refine ⟨⟨by rw [ud_ne (fun z => frv z.symm)]; exact h0, fun x hx => ?_⟩, ?_⟩
  · rw [ud_at] at hx ⊢
    by_cases e : x = v
    · rw [if_pos e] at hx ⊢
      rw [e]
      refine ⟨hv, c0, ?_, ?_⟩
      · rcases hlt with q | q
        · rw [if_pos q] at hcn
          omega
        · have := (h1 v (by omega)).2.2.1
          rw [if_neg (by omega)] at hcn
          omega
      · obtain ⟨e', hE⟩ := hE
        exact ⟨ku + 1, e', u, f u, w, u4, hE, hc⟩
    · rw [if_neg e] at hx ⊢
      obtain ⟨a1, a2, a3, a4⟩ := h1 x hx
      refine ⟨a1, a2, ?_, a4⟩
      rcases hlt with q | q
      · rw [if_pos q] at hcn
        omega
      · rw [if_neg (by omega)] at hcn
        omega
  · rcases hlt with q | q
    · rw [if_pos q] at hph hcn
      have : c.toNat < BIG := by unfold BIG; omega
      omega
    · rw [if_neg (by omega)] at hph
      omega
def CT1 (τ0 τ : TT) (f : F1) : Prop := (∀ i, 0 ≤ i → i < 400 → τ 1032 i = f i) ∧ CFr τ0 τ ∧ τ 1022 0 = τ0 1022 0
theorem CT1.set {f : F1} {v w : Int} (h : CT1 τ0 τ f) : CT1 τ0 (sa τ 1032 v w) (ud f v w) := by
  refine ⟨fun i a b => ?_, fun r j a b => ?_, ?_⟩
  · rw [sa_at, ud_at]
    by_cases c : i = v
    · rw [if_pos ⟨rfl, c⟩, if_pos c]
    · rw [if_neg (fun z => c z.2), if_neg c]; exact h.1 i a b
  · rw [sa_at, if_neg (fun z => a z.1)]; exact h.2.1 r j a b
  · rw [sa_at, if_neg (by omega)]; exact h.2.2
/-- one look at all properties -/
theorem tcost96 {K : Int → Int → Int → Int → TT → Option (Int × TT)} {Q : Int × TT → Prop} {f0 : F1} (hI : TG τ0 G) (hG : okG G) (hL : (gp G).length ≤ 400) (hK : ∀ τ' f w, CT1 τ0 τ' f → CInv G key fr f → ((w = 0 ∧ f = f0 ∧ ∀ x ∈ gp G, satP G key f x) ∨ (w = 1 ∧ Phi f < Phi f0)) → Wp (K 1022 to key w τ') Q) : ∀ (c q j : Nat) (τ : TT) (f : F1) (w : Int), c < q → j + c = (gp G).length → CT1 τ0 τ f → CInv G key fr f → ((w = 0 ∧ f = f0 ∧ ∀ x ∈ (gp G).take j, satP G key f x) ∨ (w = 1 ∧ Phi f < Phi f0)) → Wp (g_X7_cost_96 n K q 1022 to key w j τ) Q := by
  intro c
  induction c with
  | zero =>
    intro q j τ f w hq hj ht hc hw
    obtain ⟨q, rfl⟩ : ∃ z, q = z + 1 := ⟨q - 1, by omega⟩
    unfold g_X7_cost_96
    rw [ht.2.1 _ _ (by decide) (by omega), hI.2.2.2.1]
    refine wp_pos (by omega) (hK τ f w ht hc ?_)
    rw [List.take_of_length_le (by omega)] at hw
    exact hw
  | succ c ih =>
    intro q j τ f w hq hj ht hc hw
    obtain ⟨q, rfl⟩ : ∃ z, q = z + 1 := ⟨q - 1, by omega⟩
    obtain ⟨t1, t2, t3⟩ := ht
    have ht : CT1 τ0 τ f := ⟨t1, t2, t3⟩
    obtain ⟨x, hx⟩ : ∃ x, (gp G)[j]? = some x := ⟨_, List.getElem?_eq_getElem (by omega)⟩
    obtain ⟨x1, x2, x3, x4⟩ := hI.2.2.2.2 j x hx
    have xm := List.mem_of_getElem? hx
    obtain ⟨xa, xb, xc⟩ := hG.2.2.2.1 x xm
    have e27 : ∀ z, τ 1027 z = τ0 1027 z := fun z => t2 _ _ (by decide) (by omega)
    have tk : (gp G).take (j + 1) = (gp G).take j ++ [x] := by
      rw [List.take_add_one, hx]
      rfl
    have ej : (j : Int) + 1 = ((j + 1 : Nat) : Int) := by omega
    have next : ∀ τ' f' w', CT1 τ0 τ' f' → CInv G key fr f' → ((w' = 0 ∧ f' = f0 ∧ ∀ x ∈ (gp G).take (j + 1), satP G key f' x) ∨ (w' = 1 ∧ Phi f' < Phi f0)) → Wp (g_X7_cost_262 n (g_X7_cost_96 n K q) 1022 to key w' j τ') Q := fun τ' f' w' a b d => by
      unfold g_X7_cost_262
      refine wp_gI (by omega) (wp_nm0 ?_)
      rw [ej]
      exact ih q (j + 1) τ' f' w' (by omega) (by omega) a b d
    have skip : satP G key f x → Wp (g_X7_cost_262 n (g_X7_cost_96 n K q) 1022 to key w j τ) Q := fun z => by
      refine next τ f w ht hc (hw.imp (fun a => ⟨a.1, a.2.1, fun y hy => ?_⟩) id)
      rw [tk, List.mem_append, List.mem_singleton] at hy
      rcases hy with hy | hy
      · exact a.2.2 y hy
      · rw [hy]; exact z
    unfold g_X7_cost_96
    rw [t2 1022 6 (by decide) (by omega), hI.2.2.2.1]
    refine wp_neg (by omega) (wp_gI (by omega) (wp_gI (by omega) (wp_gd ⟨by omega, by omega⟩ ?_)))
    rw [e27, x2]
    refine wp_nm0 (wp_gI (by omega) (wp_gd ⟨by omega, by omega⟩ ?_))
    rw [e27, x1]
    by_cases c1 : x.1 = 0
    · exact wp_pos c1 (skip fun z => by omega)
    refine wp_neg c1 (wp_gI (by omega) (wp_gI (by omega) (wp_gd ⟨by omega, by omega⟩ ?_)))
    rw [e27, x3]
    by_cases c2 : x.2.2.1 = key
    · refine wp_pos c2 (wp_gI (by omega) (wp_gI (by omega) (wp_gd ⟨by omega, by omega⟩ ?_)))
      rw [e27, x4]
      by_cases c3 : x.2.2.2 < 0
      · exact wp_pos c3 (skip fun _ _ z => by omega)
      refine wp_neg c3 ?_
      have x11 : x.1 = 1 := xa.elim (fun z => absurd z.1 c1) (fun z => z.1)
      have hee : edgeAt G x.2.1 := xa.elim (fun z => absurd z.1 c1) (fun z => z.2)
      have ends := hG.2.1 _ hee.2.2
      obtain ⟨u1, u2⟩ := hI.2.2.1 _ hee.1 hee.2.1 hee.2.2
      have e25 : τ 1025 x.2.1 = gf G x.2.1 := (t2 _ _ (by decide) (by omega)).trans u1
      have e26 : τ 1026 x.2.1 = go G x.2.1 := (t2 _ _ (by decide) (by omega)).trans u2
      have f25 := t1 (gf G x.2.1) ends.2.2.2.1.1 ends.2.2.2.1.2.1
      have f26 := t1 (go G x.2.1) ends.2.2.2.2.1 ends.2.2.2.2.2.1
      refine wp_gd ⟨hee.1, hee.2.1⟩ ?_
      rw [e25]
      refine wp_gd ⟨ends.2.2.2.1.1, ends.2.2.2.1.2.1⟩ ?_
      rw [f25]
      by_cases c4 : f (gf G x.2.1) = -1
      · refine wp_pos (by rw [c4]; decide) (skip fun _ _ _ z => absurd c4 z)
      refine wp_neg ?_ (wp_gd ⟨hee.1, hee.2.1⟩ (wp_gd ⟨ends.2.2.2.1.1, ends.2.2.2.1.2.1⟩ (wp_gI (by omega) (wp_gI (by omega) (wp_gd ⟨by omega, by omega⟩ ?_)))))
      · unfold lcmpW
        by_cases z : -1 < f (gf G x.2.1)
        · rw [if_pos z]; decide
        · rw [if_neg z, if_neg c4]; decide
      obtain ⟨a1, a2, a3, a4⟩ := hc.2 _ c4
      have cl := cnt_le (f := f)
      refine wp_gL (by omega) (wp_nm0 (wp_gd ⟨hee.1, hee.2.1⟩ ?_))
      rw [e26]
      refine wp_gd ⟨ends.2.2.2.2.1, ends.2.2.2.2.2.1⟩ ?_
      rw [f26]
      have hE : EdgeW G key x.2.1 (gf G x.2.1) (go G x.2.1) x.2.2.2 := by
        refine ⟨hee, rfl, rfl, ?_, by omega⟩
        rcases pI_spec (s := 1) (b := x.2.1) (k := key) (L := gp G) (j := 0) with ⟨_, p2, _⟩ | ⟨i, y, p1, p2, p3, p4, _⟩
        · exact absurd ⟨x11, rfl, c2⟩ (lk_none.mp p2 x xm)
        · rw [p4]
          have hp := hG.2.2.2.2
          obtain ⟨hj', hjv⟩ := List.getElem?_eq_some_iff.mp hx
          obtain ⟨hi', hiv⟩ := List.getElem?_eq_some_iff.mp p2
          rw [List.pairwise_iff_getElem] at hp
          by_cases e : i = j
          · subst e
            rw [hjv] at hiv
            rw [hiv]
          · exfalso
            by_cases lt : i < j
            · refine hp i j hi' hj' lt ?_
              rw [hjv, hiv]
              exact ⟨p3.1.trans x11.symm, p3.2.1, p3.2.2.trans c2.symm⟩
            · refine hp j i hj' hi' (by omega) ?_
              rw [hjv, hiv]
              exact ⟨x11.trans p3.1.symm, p3.2.1.symm, c2.trans p3.2.2.symm⟩
      have upd : (f (go G x.2.1) = -1 ∨ f (gf G x.2.1) + x.2.2.2 < f (go G x.2.1)) → Wp (g_X7_cost_245 n (g_X7_cost_262 n (g_X7_cost_96 n K q)) 1022 to key j x.2.1 (f (gf G x.2.1) + x.2.2.2) τ) Q := fun z => by
        unfold g_X7_cost_245
        refine wp_gd ⟨hee.1, hee.2.1⟩ ?_
        rw [e26]
        refine wp_gd ⟨ends.2.2.2.2.1, ends.2.2.2.2.2.1⟩ (wp_nm0 ?_)
        obtain ⟨r1, r2⟩ := hc.relax c4 ends.2.2.2.2 rfl ⟨by omega, xc.2⟩ ⟨_, hE⟩ z
        refine next _ _ 1 ht.set r1 (Or.inr ⟨rfl, ?_⟩)
        rcases hw with hw | hw
        · rw [hw.2.1] at r2 ⊢; exact r2
        · have := hw.2; omega
      by_cases c5 : f (go G x.2.1) = -1
      · exact wp_pos (by rw [c5]; decide) (upd (Or.inl c5))
      refine wp_neg ?_ (wp_gd ⟨hee.1, hee.2.1⟩ ?_)
      · unfold lcmpW
        by_cases z : -1 < f (go G x.2.1)
        · rw [if_pos z]; decide
        · rw [if_neg z, if_neg c5]; decide
      refine wp_gd ⟨ends.2.2.2.2.1, ends.2.2.2.2.2.1⟩ ?_
      by_cases c6 : f (gf G x.2.1) + x.2.2.2 < f (go G x.2.1)
      · refine wp_neg ?_ (upd (Or.inr c6))
        unfold lcmpW
        rw [if_neg (by omega), if_neg (by omega)]
        decide
      · refine wp_pos ?_ (skip fun _ _ _ _ => ⟨c5, by omega⟩)
        unfold lcmpW
        by_cases z : f (go G x.2.1) < f (gf G x.2.1) + x.2.2.2
        · rw [if_pos z]; decide
        · rw [if_neg z, if_pos (by omega)]; decide
    · exact wp_neg c2 (skip fun _ z => absurd z c2)
theorem tcostFin {f : F1} (hto : nodeAt G to) (ht : CT1 τ0 τ f) (hc : CInv G key fr f) (hsat : ∀ x ∈ gp G, satP G key f x) {q : Nat} : Wp (g_X7_cost_85 n (q + 1) 1022 to key 0 τ) fun y => IsCost G key fr to y.1 ∧ CFr τ0 y.2 ∧ y.2 1022 0 = τ0 1022 0 := by
  unfold g_X7_cost_85
  refine wp_pos rfl (wp_gd ⟨hto.1, hto.2.1⟩ (wp_ok ⟨?_, ht.2.1, ht.2.2⟩))
  show IsCost G key fr to (τ 1032 to)
  rw [ht.1 to hto.1 hto.2.1]
  refine cost_fix hc.1 (fun v hv => ⟨(hc.2 v hv).2.1, (hc.2 v hv).2.2.2⟩) (fun e u v w hE hu => ?_) to
  obtain ⟨e1, e2, e3, e4, e5⟩ := hE
  rcases pI_spec (s := 1) (b := e) (k := key) (L := gp G) (j := 0) with ⟨_, p2, _⟩ | ⟨i, y, p1, p2, p3, p4, _⟩
  · rw [p2] at e4; cases e4
  · have hy := hsat y (List.mem_of_getElem? p2)
    rw [p4] at e4
    have ew : y.2.2.2 = w := Option.some.inj e4
    have := hy p3.1 p3.2.2 (by rw [ew]; exact e5)
    rw [p3.2.1, e2, e3, ew] at this
    exact this hu
theorem tcost85 (hn : 1000000 ≤ n) (hI : TG τ0 G) (hG : okG G) (hL : (gp G).length ≤ 400) (hto : nodeAt G to) : ∀ (c q : Nat) (τ : TT) (f : F1), Phi f < c → c < q → CT1 τ0 τ f → CInv G key fr f → Wp (g_X7_cost_85 n q 1022 to key 1 τ) fun y => IsCost G key fr to y.1 ∧ CFr τ0 y.2 ∧ y.2 1022 0 = τ0 1022 0 := by
  intro c
  induction c with
  | zero => intro q τ f hP; omega
  | succ c ih =>
    intro q τ f hP hq ht hc
    obtain ⟨q, rfl⟩ : ∃ z, q = z + 1 := ⟨q - 1, by omega⟩
    unfold g_X7_cost_85
    refine wp_neg (by decide) ?_
    refine tcost96 (τ0 := τ0) (G := G) (fr := fr) (f0 := f) hI hG hL (fun τ' f' w' a b d => ?_) (gp G).length n 0 τ f 0 (by omega) (by omega) ht hc (Or.inl ⟨rfl, rfl, fun x hx => absurd hx List.not_mem_nil⟩)
    rcases d with ⟨d1, d2, d3⟩ | ⟨d1, d2⟩
    · obtain ⟨q, rfl⟩ : ∃ z, q = z + 1 := ⟨q - 1, by omega⟩
      rw [d1]
      exact tcostFin hto a b d3
    · rw [d1]
      exact ih q τ' f' (by omega) (by omega) a b
def cinit (fr : Int) : F1 := fun i => if i = fr then 0 else -1
theorem tcost48 (hn : 1000000000000000 ≤ n) (hI : TG τ0 G) (hG : okG G) (hL : (gp G).length ≤ 400) (hto : nodeAt G to) (hfr : nodeAt G fr) : ∀ (c q j : Nat) (τ : TT), c < q → j + c = 400 → (∀ i : Int, 0 ≤ i → i < j → τ 1032 i = if i = fr then 0 else -1) → CFr τ0 τ → τ 1022 0 = τ0 1022 0 → Wp (g_X7_cost_48 n q 1022 fr to key j τ) fun y => IsCost G key fr to y.1 ∧ CFr τ0 y.2 ∧ y.2 1022 0 = τ0 1022 0 := by
  intro c
  induction c with
  | zero =>
    intro q j τ hq hj h1 h2 h3
    obtain ⟨q, rfl⟩ : ∃ z, q = z + 1 := ⟨q - 1, by omega⟩
    unfold g_X7_cost_48
    have cs : cinit fr fr = 0 := if_pos rfl
    have cs' : ∀ v, v ≠ fr → cinit fr v = -1 := fun v hv => if_neg hv
    have hPhi : ∀ m : Nat, sm (fun v => if cinit fr v = -1 then BIG else (cinit fr v).toNat) m ≤ m * BIG := by
      intro m
      induction m with
      | zero => exact Nat.zero_le _
      | succ m ih =>
        have h5 : (if cinit fr (m : Int) = -1 then BIG else (cinit fr (m : Int)).toNat) ≤ BIG := by
          by_cases c : (m : Int) = fr
          · rw [c, cs, if_neg (by decide)]
            exact Nat.zero_le _
          · rw [cs' _ c, if_pos rfl]
            exact Nat.le_refl _
        unfold sm
        rw [Nat.add_mul, Nat.one_mul]
        exact Nat.add_le_add ih h5
    have hP : Phi (cinit fr) ≤ 343597383680000 := hPhi 400
    have cp : 1 ≤ cnt (cinit fr) := by
      have := sm_one (f := fun _ => 0) (g := fun x => if cinit fr x = -1 then 0 else 1) (a := fr) (n := 400) (fun i hi => by show (if cinit fr i = -1 then 0 else 1) = 0; rw [cs' i hi, if_pos rfl]) ⟨hfr.1, hfr.2.1⟩
      rw [sm_zero, cs, if_neg (by decide)] at this
      unfold cnt
      omega
    refine wp_pos (by omega) (tcost85 (by omega) hI hG hL hto 343597383680001 n τ (cinit fr) (by omega) (by omega) ⟨fun i a b => h1 i a (by omega), h2, h3⟩ ⟨cs, fun v hv => ?_⟩)
    by_cases c : v = fr
    · rw [c, cs]
      exact ⟨hfr, Int.le_refl 0, by omega, 0, rfl, rfl⟩
    · exact absurd (cs' v c) hv
  | succ c ih =>
    intro q j τ hq hj h1 h2 h3
    obtain ⟨q, rfl⟩ : ∃ z, q = z + 1 := ⟨q - 1, by omega⟩
    have body : ∀ w : Int, w = (if (j : Int) = fr then 0 else -1) → Wp (g_X7_cost_75 n (g_X7_cost_48 n q) 1022 fr to key j 1032 j w τ) fun y => IsCost G key fr to y.1 ∧ CFr τ0 y.2 ∧ y.2 1022 0 = τ0 1022 0 := fun w hw => by
      unfold g_X7_cost_75
      refine wp_gd ⟨by omega, by show (j : Int) < tn 1032; rw [show tn 1032 = 400 from rfl]; omega⟩ (wp_nm0 (wp_gI (by omega) (wp_nm0 ?_)))
      rw [show (j : Int) + 1 = ((j + 1 : Nat) : Int) by omega]
      refine ih q (j + 1) _ (by omega) (by omega) (fun i a b => ?_) (fun r i a b => ?_) ?_
      · rw [sa_at]
        by_cases c : i = j
        · rw [if_pos ⟨rfl, c⟩, hw, c]
        · rw [if_neg (fun z => c z.2)]; exact h1 i a (by omega)
      · rw [sa_at, if_neg (fun z => a z.1)]; exact h2 r i a b
      · rw [sa_at, if_neg (by omega)]; exact h3
    unfold g_X7_cost_48
    refine wp_neg (by omega) ?_
    by_cases c : (j : Int) = fr
    · exact wp_pos c (body 0 (by rw [if_pos c]))
    · exact wp_neg c (body (-1) (by rw [if_neg c]))
theorem tw_cost (hn : 1000000000000000 ≤ n) (h : TI τ k l) (hl : l.length ≤ 64) : Wp (g_X7_cost n 1022 fr to key τ) fun y => y.2 1022 0 = sCostC (run l) fr to key ∧ (y.2 1022 0 = 0 → IsCost (run l) key fr to y.1) ∧ TI y.2 k l ∧ CFr τ y.2 := by
  obtain ⟨l1, l2, l3, hG⟩ := h.len (by omega)
  have c0 : ∀ c, CFr τ (sa τ 1022 0 c) := fun c r j a b => by rw [sa_at, if_neg b]
  have thr : ∀ c : Int, 0 < c → sCostC (run l) fr to key = c → Wp (g_X7_cost_33 n 1022 fr to key 1022 c τ) fun y => y.2 1022 0 = sCostC (run l) fr to key ∧ (y.2 1022 0 = 0 → IsCost (run l) key fr to y.1) ∧ TI y.2 k l ∧ CFr τ y.2 := fun c hc e => by
    unfold g_X7_cost_33
    refine wp_nm0 ?_
    rw [code_at]
    refine wp_neg (by omega) (wp_ok ⟨by rw [e]; exact code_at (τ := τ) (v := c), fun z => ?_, h.code, c0 c⟩)
    have z' : sa τ 1022 0 c 1022 0 = 0 := z
    rw [code_at] at z'
    omega
  unfold g_X7_cost
  refine wp_t1e (isNode_eq h.1) ?_
  by_cases ca : isN (run l) fr = true
  · rw [if_pos ca]
    refine wp_neg (by decide) (wp_t1e (isNode_eq h.1) ?_)
    by_cases cb : isN (run l) to = true
    · rw [if_pos cb]
      refine wp_neg (by decide) (wp_t1e isSmall_eq ?_)
      by_cases ck : isS key = true
      · rw [if_pos ck]
        refine wp_neg (by decide) ?_
        unfold g_X7_cost_33
        refine wp_nm0 ?_
        rw [code_at]
        refine wp_pos (by decide) ?_
        refine wp_mono (tcost48 (τ0 := sa τ 1022 0 0) (G := run l) hn h.code.1 hG l1 (isN_iff.mp cb) (isN_iff.mp ca) 400 n 0 _ (by omega) (by omega) (fun i a b => by omega) CFr.rf rfl) fun y hq => ?_
        obtain ⟨q1, q2, q3⟩ := hq
        have q4 : y.2 1022 0 = 0 := q3.trans code_at
        refine ⟨?_, fun _ => q1, h.c ((c0 0).trans q2), (c0 0).trans q2⟩
        rw [q4]
        unfold sCostC
        rw [if_pos ⟨ca, cb⟩, if_pos ck]
      · rw [if_neg ck]
        exact wp_pos rfl (thr 2 (by decide) (by unfold sCostC; rw [if_pos ⟨ca, cb⟩, if_neg ck]))
    · rw [if_neg cb]
      refine wp_pos rfl ?_
      unfold g_X7_cost_17
      exact thr 1 (by decide) (by unfold sCostC; rw [if_neg (fun z => cb z.2)])
  · rw [if_neg ca]
    refine wp_pos rfl ?_
    unfold g_X7_cost_17
    exact thr 1 (by decide) (by unfold sCostC; rw [if_neg (fun z => ca z.1)])
end TWG
