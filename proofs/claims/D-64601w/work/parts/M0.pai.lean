/-! CONDITIONS: what both have -/
set_option maxRecDepth 100000
abbrev Cnd : Type := Int × Trm × Trm
def c0d : Cnd := (0, (0, 0, 0), (0, 0, 0))
def CdAt (N0 : Int) (σ : AS) (r : Int) (c : Cnd) : Prop := kd σ r = 15 ∧ r < nx σ ∧ TrAt σ (ld σ r 0) c.2.1 ∧ (StrH σ (ld σ r 1) (sp c.1) ∧ ld σ r 1 + 1 < nx σ ∧ N0 ≤ ld σ r 1) ∧ (((c.1 = 12 ∨ c.1 = 13) ∧ ld σ r 2 = 0) ∨ ((42 ≤ c.1 ∧ c.1 ≤ 47) ∧ TrAt σ (ld σ r 2) c.2.2 ∧ 0 < ld σ r 2))
def CdT (τ : TT) (i : Int) (c : Cnd) : Prop := τ 1038 (7 * i) = c.1 ∧ (((c.1 = 12 ∨ c.1 = 13) ∧ τ 1038 (7 * i + 2) = c.2.1.1 ∧ τ 1038 (7 * i + 3) = c.2.1.2.1 ∧ 0 ≤ c.2.1.1 ∧ 0 ≤ c.2.1.2.1 ∧ c.2.1.2.1 ≤ 31 ∧ c.2.1.2.2 = 0) ∨ ((42 ≤ c.1 ∧ c.1 ≤ 47) ∧ TrT τ 1038 (7 * i + 1) c.2.1 ∧ TrT τ 1038 (7 * i + 4) c.2.2))
def CdV (M : Nat) (c : Cnd) : Prop := c.2.1.1 < M ∧ (42 ≤ c.1 → c.2.2.1 < M)
def CsAt (N0 : Int) (σ : AS) (L : List Int) (cs : List Cnd) : Prop := L.length = cs.length ∧ ∀ i : Nat, i < cs.length → CdAt N0 σ (L.getD i 0) (cs.getD i c0d)
def CsT (τ : TT) (cs : List Cnd) : Prop := τ 1022 34 = cs.length ∧ ∀ i : Nat, i < cs.length → CdT τ i (cs.getD i c0d)
def OKC (T : List Int) (N0 : Int) (σ : AS) (τ : TT) (q : Int) (S : PS) (M : Nat) (cs : List Cnd) : Prop := OKW T σ τ q S M ∧ CsAt N0 σ (S.2 2) cs ∧ CsT τ cs ∧ cs.length ≤ 8 ∧ (ld σ 1007 5 = 0 → ∀ c, c ∈ cs → CdV M c)
/-- what the twin's condition i writes -/
def CnF (i : Int) (τ τ' : TT) : Prop := ∀ r j, ¬ (r = 1022 ∧ ((17 ≤ j ∧ j ≤ 22) ∨ (26 ≤ j ∧ j ≤ 28) ∨ j = 34 ∨ (41 ≤ j ∧ j ≤ 43))) → ¬ (1034 ≤ r ∧ r ≤ 1036) → ¬ (r = 1038 ∧ 7 * i ≤ j ∧ j ≤ 7 * i + 6) → τ' r j = τ r j
theorem CnF.trans {τ τ1 τ2 : TT} {i : Int} (h : CnF i τ τ1) (h' : CnF i τ1 τ2) : CnF i τ τ2 := fun r j x y z => (h' r j x y z).trans (h r j x y z)
theorem NvF.cn {τ τ' : TT} {i : Int} (h : NvF τ τ') : CnF i τ τ' := fun r j h1 h2 _ => h r j (fun w => h1 ⟨w.1, by omega⟩) h2
theorem TmF.cn {τ τ' : TT} {i b : Int} (h : TmF 1038 b τ τ') (hb : 7 * i ≤ b ∧ b + 2 ≤ 7 * i + 6) : CnF i τ τ' := fun r j h1 h2 h3 => h r j (fun w => h1 ⟨w.1, by omega⟩) h2 (fun w => h3 ⟨w.1, by omega, by omega⟩)
theorem cnF_sa {τ : TT} {i j v : Int} (h : 7 * i ≤ j ∧ j ≤ 7 * i + 6) : CnF i τ (sa τ 1038 j v) := fun r j' _ _ z => by
  rw [sa_at, if_neg (fun u => z ⟨u.1, by omega⟩)]
theorem cnF_34 {τ : TT} {i v : Int} : CnF i τ (sa τ 1022 34 v) := fun r j' z _ _ => by
  rw [sa_at, if_neg (fun u => z ⟨u.1, by omega⟩)]
theorem CdAt.pf {N0 : Int} {σ σ' : AS} {r : Int} {c : Cnd} (h : CdAt N0 σ r c) (hF : PF N0 σ σ') : CdAt N0 σ' r c := by
  obtain ⟨h1, h2, h3, h4, h5⟩ := h
  obtain ⟨k1, k2, k3⟩ := hF.old h2 (by omega)
  have hn := hF.1.1
  refine ⟨k1.trans h1, k2, by rw [k3]; exact h3.pf hF, by rw [k3]; exact ⟨hF.2.2 _ _ h4.1 h4.2.1, by omega, h4.2.2⟩, ?_⟩
  rw [k3]
  rcases h5 with h5 | ⟨h5, h6, h7⟩
  · exact Or.inl h5
  · exact Or.inr ⟨h5, h6.pf hF, h7⟩
theorem CsAt.pf {N0 : Int} {σ σ' : AS} {L : List Int} {cs : List Cnd} (h : CsAt N0 σ L cs) (hF : PF N0 σ σ') : CsAt N0 σ' L cs := ⟨h.1, fun i hi => (h.2 i hi).pf hF⟩
theorem CsAt.snoc {N0 : Int} {σ : AS} {L : List Int} {cs : List Cnd} {r : Int} {c : Cnd} (h : CsAt N0 σ L cs) (h1 : CdAt N0 σ r c) : CsAt N0 σ (L ++ [r]) (cs ++ [c]) := by
  obtain ⟨a1, a2⟩ := h
  refine ⟨by simp [a1], fun i hi => ?_⟩
  have hi' : i < cs.length + 1 := by simpa using hi
  rw [getD_snocG (L := L) (by omega), getD_snocG hi', a1]
  by_cases c : i = cs.length
  · rw [if_pos c, if_pos c]; exact h1
  · rw [if_neg c, if_neg c]; exact a2 i (by omega)
theorem CdT.congr {τ τ' : TT} {i : Int} {c : Cnd} (h : CdT τ i c) (h1 : ∀ j, 7 * i ≤ j → j ≤ 7 * i + 6 → τ' 1038 j = τ 1038 j) : CdT τ' i c := by
  obtain ⟨g1, g2⟩ := h
  refine ⟨by rw [h1 _ (by omega) (by omega)]; exact g1, ?_⟩
  rcases g2 with ⟨a1, a2, a3, a4⟩ | ⟨a1, a2, a3⟩
  · exact Or.inl ⟨a1, by rw [h1 _ (by omega) (by omega)]; exact a2, by rw [h1 _ (by omega) (by omega)]; exact a3, a4⟩
  · exact Or.inr ⟨a1, a2.congr fun j g g' => h1 j (by omega) (by omega), a3.congr fun j g g' => h1 j (by omega) (by omega)⟩
theorem CsT.snoc {τ τ' : TT} {cs : List Cnd} {c : Cnd} (h : CsT τ cs) (hF : CnF cs.length τ τ') (h1 : τ' 1022 34 = cs.length + 1) (h2 : CdT τ' cs.length c) : CsT τ' (cs ++ [c]) := by
  refine ⟨by rw [h1]; simp, fun i hi => ?_⟩
  have hi' : i < cs.length + 1 := by simpa using hi
  rw [getD_snocG hi']
  by_cases e : i = cs.length
  · rw [if_pos e, e]; exact h2
  · rw [if_neg e]
    exact (h.2 i (by omega)).congr fun j g1 g2 => hF _ _ (by omega) (by omega) (by omega)
section MC
variable {σ σ0 σ1 σ2 σ3 σ' : AS} {τ τ0 τ' : TT} {n M : Nat} {N0 U0 z z' k q q0 q' p v l r C l1 l2 l4 l5 e var x a b c : Int} {T : List Int} {S : PS}
theorem fill_cond (hp : p ≠ 0) (hk : kd σ p = 15) : ∃ σ', f_X21_init p a b c σ = some σ' ∧ (ld σ' p 0 = a ∧ ld σ' p 1 = b ∧ ld σ' p 2 = c) ∧ nx σ' = nx σ ∧ us σ' = us σ ∧ Fr (fun r => r = p) σ σ' := by
  refine ⟨wr (wr (wr σ p 0 a) p 1 b) p 2 c, ?_, ⟨?_, ?_, ?_⟩, rfl, rfl, Fr.trans (Fr.wr rfl) (Fr.trans (Fr.wr rfl) (Fr.wr rfl))⟩
  · unfold f_X21_init f_J9_init
    rw [gd_pos hp, gd_pos hp, c0_at, gd_pos hk, nm_eq, gd_pos (show kd (wr σ p 0 a) p = 15 from hk), nm_eq, gd_pos (show kd (wr (wr σ p 0 a) p 1 b) p = 15 from hk), nm_eq]
  · simp [ld_wr]
  · simp [ld_wr]
  · simp [ld_wr]
/-- a condition is filled and added -/
theorem sh_cond {K : AS → Option AS} {Q : AS → Prop} (h : ShP T N0 U0 σ z k q S) (hE : EfX N0 σ0 σ) (h0 : N0 + 8 ≤ nx σ0) (hp : nx σ0 ≤ p ∧ p < nx σ ∧ kd σ p = 15) (hz : z ≤ z' ∧ z' ≤ 7) (hl : ((S.2 2).length : Int) + 1 ≤ 8 + z')
    (hK : ∀ σ', ShP T N0 U0 σ' z' (k - 3) q (S.1, updF S.2 2 p) → EfX N0 σ0 σ' → (∀ j, ld σ' 1007 j = ld σ 1007 j) → (kd σ' p = 15 ∧ p < nx σ' ∧ ld σ' p 0 = a ∧ ld σ' p 1 = b ∧ ld σ' p 2 = c) → (∀ r t, TrAt σ r t → TrAt σ' r t) → (∀ s l, StrH σ s l → s + 1 < nx σ → StrH σ' s l ∧ s + 1 < nx σ') → Wp (K σ') Q) :
    Wp (c0 (f_X21_init p a b c σ) fun σ22 => gd (kd σ22 (lref N0 2) = 31) <| c1 (f_J32_add (lref N0 2) p σ22) fun _ σ26 => K σ26) Q := by
  have hN := h.2.2.2.2.2.1
  have hsz := h.2.2.2.2.2.2.2.2.2.1
  obtain ⟨σ3, e3, ⟨f0, f1, f2⟩, n3, u3, F3⟩ := fill_cond (a := a) (b := b) (c := c) (show p ≠ 0 by omega) hp.2.2
  obtain ⟨s3, o3⟩ := sh_part h ⟨by omega, by omega, by omega, by omega⟩ F3 n3 u3
  have kp : kd σ3 p = 15 := by rw [F3.kd (by omega)]; exact hp.2.2
  refine wp_c0e e3 (wp_gd (lsok_kd s3.2.2.2.2.2.2.2.1 (by decide)) (wp_c1 (wp_mono (sh_add (i := 2) (v := p) (z' := z') s3 (by decide) (Or.inr ⟨by omega, by omega, by omega⟩) (by omega) hz.1 ?_) fun y hy => ?_)))
  · unfold updF
    simp
    omega
  · obtain ⟨g1, g2, g3⟩ := hy
    obtain ⟨k1, k2, k3⟩ := g2.1.old (r := p) (by omega) (by omega)
    have j7 : ∀ j, ld y.2 1007 j = ld σ 1007 j := fun j => (g3 j).trans (o3 _ _ (by omega) (by omega))
    have hn0 := hE.1.1.1
    have hny := g2.1.1.1
    refine hK y.2 g1 ⟨(PF.part hE.1 (by omega) hp.1 F3).trans g2.1, fun j => (g2.2.1 j).trans ((o3 _ _ (by omega) (by omega)).trans (hE.2.1 j)), fun j => (g2.2.2.1 j).trans ((o3 _ _ (by omega) (by omega)).trans (hE.2.2.1 j)), fun u => hE.2.2.2 (by rw [← j7]; exact u)⟩ j7 ⟨k1.trans kp, k2, (k3 0).trans f0, (k3 1).trans f1, (k3 2).trans f2⟩ (fun r t ht => ?_) fun s l hs hb => ⟨g2.1.2.2 s l (hs.frame F3 hb (fun w => ?_) fun w => ?_) (by omega), by omega⟩
    · obtain ⟨t1, t2, t3, t4, t5⟩ := ht
      have hne : r ≠ p := fun w => by rw [w, hp.2.2] at t1; omega
      exact (show TrAt σ3 r t from ⟨by rw [F3.kd t2.2]; exact t1, ⟨t2.1, by omega⟩, (o3 _ _ t2.2 hne).trans t3, (o3 _ _ t2.2 hne).trans t4, (o3 _ _ t2.2 hne).trans t5⟩).pf g2.1
    · have w' : s = p := w
      have := hs.2.1.1
      rw [w', hp.2.2] at this; omega
    · have w' : s + 1 = p := w
      have := hs.2.1.2
      rw [w', hp.2.2] at this; omega
end MC
