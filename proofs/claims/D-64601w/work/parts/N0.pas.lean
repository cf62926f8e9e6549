/-! ORDERS: what both have; the failed mode -/
set_option maxRecDepth 100000
abbrev Odr : Type := Trm × Int
def o0d : Odr := (t0d, 0)
def OrAt (σ : AS) (r : Int) (o : Odr) : Prop := kd σ r = 17 ∧ r < nx σ ∧ TrAt σ (ld σ r 0) o.1 ∧ ld σ r 1 = o.2 ∧ (o.2 = 0 ∨ o.2 = 1)
def OsAt (σ : AS) (L : List Int) (os : List Odr) : Prop := L.length = os.length ∧ ∀ i : Nat, i < os.length → OrAt σ (L.getD i 0) (os.getD i o0d)
def OrT (τ : TT) (i : Int) (o : Odr) : Prop := ItT τ 1040 (4 * i) o.1 ∧ τ 1040 (4 * i + 3) = o.2
def OsT (τ : TT) (os : List Odr) : Prop := τ 1022 38 = os.length ∧ ∀ i : Nat, i < os.length → OrT τ i (os.getD i o0d)
def OrV (M : Nat) (its : List Trm) (o : Odr) : Prop := o.1.1 < M ∧ (o.1.1 = -2 → hcI its = 1)
def OKO (T : List Int) (N0 : Int) (σ : AS) (τ : TT) (q : Int) (S : PS) (M : Nat) (cs : List Cnd) (its : List Trm) (os : List Odr) : Prop := OKI T N0 σ τ q S M cs its ∧ OsAt σ (S.2 4) os ∧ OsT τ os ∧ os.length ≤ 8 ∧ (ld σ 1007 5 = 0 → ∀ o, o ∈ os → OrV M its o)
def OaF (τ τ' : TT) : Prop := ∀ r j, ¬ (r = 1022 ∧ ((17 ≤ j ∧ j ≤ 22) ∨ (26 ≤ j ∧ j ≤ 28) ∨ j = 38 ∨ (41 ≤ j ∧ j ≤ 43))) → ¬ (1034 ≤ r ∧ r ≤ 1036) → r ≠ 1040 → τ' r j = τ r j
theorem OaF.rf {τ : TT} : OaF τ τ := fun _ _ _ _ _ => rfl
theorem OaF.trans {τ τ1 τ2 : TT} (h : OaF τ τ1) (h' : OaF τ1 τ2) : OaF τ τ2 := fun r j x y z => (h' r j x y z).trans (h r j x y z)
theorem ItF.oa {τ τ' : TT} {b : Int} (h : ItF 1040 b τ τ') : OaF τ τ' := fun r j x y z => h r j (fun w => x ⟨w.1, by omega⟩) y fun w => z w.1
theorem NvF.oa {τ τ' : TT} (h : NvF τ τ') : OaF τ τ' := fun r j x y _ => h r j (fun w => x ⟨w.1, by omega⟩) y
theorem OrAt.pf {N0 : Int} {σ σ' : AS} {r : Int} {o : Odr} (h : OrAt σ r o) (hF : PF N0 σ σ') : OrAt σ' r o := by
  obtain ⟨h1, h2, h3, h4, h5⟩ := h
  obtain ⟨k1, k2, k3⟩ := hF.old h2 (by omega)
  exact ⟨k1.trans h1, k2, by rw [k3]; exact h3.pf hF, (k3 1).trans h4, h5⟩
theorem OsAt.pf {N0 : Int} {σ σ' : AS} {L : List Int} {os : List Odr} (h : OsAt σ L os) (hF : PF N0 σ σ') : OsAt σ' L os := ⟨h.1, fun i hi => (h.2 i hi).pf hF⟩
theorem OsAt.snoc {σ : AS} {L : List Int} {os : List Odr} {r : Int} {o : Odr} (h : OsAt σ L os) (h1 : OrAt σ r o) : OsAt σ (L ++ [r]) (os ++ [o]) := by
  obtain ⟨a1, a2⟩ := h
  refine ⟨by simp [a1], fun i hi => ?_⟩
  have hi' : i < os.length + 1 := by simpa using hi
  rw [getD_snocG (L := L) (by omega), getD_snocG hi', a1]
  by_cases c : i = os.length
  · rw [if_pos c, if_pos c]; exact h1
  · rw [if_neg c, if_neg c]; exact a2 i (by omega)
theorem OrT.congr {τ τ' : TT} {i : Int} {o : Odr} (h : OrT τ i o) (h1 : ∀ j, 4 * i ≤ j → j ≤ 4 * i + 3 → τ' 1040 j = τ 1040 j) : OrT τ' i o := ⟨h.1.congr fun j a b => h1 j a (by omega), (h1 _ (by omega) (by omega)).trans h.2⟩
section OR
variable {σ σ0 σ1 σ2 σ3 σ' : AS} {τ τ0 τ' : TT} {n M : Nat} {N0 U0 z z' k q q0 q' p v l r C l1 l2 l4 l5 e var x a b c s0 : Int} {T : List Int} {S S' : PS} {cs : List Cnd} {its : List Trm} {os : List Odr}
theorem OKI.move (hO : OKI T N0 σ τ q S M cs its) (hW : OKW T σ' τ' q' S' M) (hS : S'.2 2 = S.2 2 ∧ S'.2 3 = S.2 3) (hE : PF N0 σ σ') (h5 : ld σ' 1007 5 = 0 → ld σ 1007 5 = 0) (h34 : τ' 1022 34 = τ 1022 34 ∧ τ' 1022 36 = τ 1022 36) (h38 : ∀ j, τ' 1038 j = τ 1038 j ∧ τ' 1039 j = τ 1039 j) : OKI T N0 σ' τ' q' S' M cs its := by
  obtain ⟨hC, hA, hT, h8, hV⟩ := hO
  exact ⟨hC.move hW hS.1 hE h5 h34.1 fun j => (h38 j).1, by rw [hS.2]; exact hA.pf hE, ⟨by rw [h34.2]; exact hT.1, fun i hi => (hT.2 i hi).congr fun j _ _ => (h38 j).2⟩, h8, fun u => hV (h5 u)⟩
theorem orders_0 {Q : Nat} {h : Int} : f_X3_orders_43 n (Q + 1) 1007 x 0 h σ = some σ := by
  unfold f_X3_orders_43
  rw [if_pos rfl]
theorem fill_order (hp : p ≠ 0) (hk : kd σ p = 17) (hb : 0 ≤ b ∧ b ≤ 1) : ∃ σ', f_X23_init p a b σ = some σ' ∧ (ld σ' p 0 = a ∧ ld σ' p 1 = b) ∧ nx σ' = nx σ ∧ us σ' = us σ ∧ Fr (fun r => r = p) σ σ' := by
  refine ⟨wr (wr σ p 0 a) p 1 b, ?_, ⟨?_, ?_⟩, rfl, rfl, Fr.trans (Fr.wr rfl) (Fr.wr rfl)⟩
  · unfold f_X23_init f_J9_init
    rw [gd_pos hp, gd_pos hp, c0_at, gd_pos hk, nm_eq, gd_pos (show kd (wr σ p 0 a) p = 17 from hk), gd_pos hb, nm_eq]
  · simp [ld_wr]
  · simp [ld_wr]
/-- an order is filled and added -/
theorem sh_order {K : AS → Option AS} {Q : AS → Prop} (h : ShP T N0 U0 σ z k q S) (hE : EfX N0 σ0 σ) (h0 : N0 + 8 ≤ nx σ0) (hp : nx σ0 ≤ p ∧ p < nx σ ∧ kd σ p = 17) (hb : 0 ≤ b ∧ b ≤ 1) (hz : z ≤ z' ∧ z' ≤ 7) (hl : ((S.2 4).length : Int) + 1 ≤ 8 + z')
    (hK : ∀ σ', ShP T N0 U0 σ' z' (k - 3) q (S.1, updF S.2 4 p) → EfX N0 σ0 σ' → (∀ j, ld σ' 1007 j = ld σ 1007 j) → (kd σ' p = 17 ∧ p < nx σ' ∧ ld σ' p 0 = a ∧ ld σ' p 1 = b) → (∀ r t, TrAt σ r t → TrAt σ' r t) → Wp (K σ') Q) :
    Wp (c0 (f_X23_init p a b σ) fun σ22 => gd (kd σ22 (lref N0 4) = 31) <| c1 (f_J32_add (lref N0 4) p σ22) fun _ σ26 => K σ26) Q := by
  have hN := h.2.2.2.2.2.1
  have hsz := h.2.2.2.2.2.2.2.2.2.1
  obtain ⟨σ3, e3, ⟨f0, f1⟩, n3, u3, F3⟩ := fill_order (a := a) (b := b) (show p ≠ 0 by omega) hp.2.2 hb
  obtain ⟨s3, o3⟩ := sh_part h ⟨by omega, by omega, by omega, by omega⟩ F3 n3 u3
  have kp : kd σ3 p = 17 := by rw [F3.kd (by omega)]; exact hp.2.2
  refine wp_c0e e3 (wp_gd (lsok_kd s3.2.2.2.2.2.2.2.1 (by decide)) (wp_c1 (wp_mono (sh_add (i := 4) (v := p) (z' := z') s3 (by decide) (Or.inr ⟨by omega, by omega, by omega⟩) (by omega) hz.1 ?_) fun y hy => ?_)))
  · unfold updF
    simp
    omega
  · obtain ⟨g1, g2, g3⟩ := hy
    obtain ⟨k1, k2, k3⟩ := g2.1.old (r := p) (by omega) (by omega)
    have j7 : ∀ j, ld y.2 1007 j = ld σ 1007 j := fun j => (g3 j).trans (o3 _ _ (by omega) (by omega))
    have hn0 := hE.1.1.1
    refine hK y.2 g1 ⟨(PF.part hE.1 (by omega) hp.1 F3).trans g2.1, fun j => (g2.2.1 j).trans ((o3 _ _ (by omega) (by omega)).trans (hE.2.1 j)), fun j => (g2.2.2.1 j).trans ((o3 _ _ (by omega) (by omega)).trans (hE.2.2.1 j)), fun u => hE.2.2.2 (by rw [← j7]; exact u)⟩ j7 ⟨k1.trans kp, k2, (k3 0).trans f0, (k3 1).trans f1⟩ (fun r t ht => ?_)
    obtain ⟨t1, t2, t3, t4, t5⟩ := ht
    have hne : r ≠ p := fun w => by rw [w, hp.2.2] at t1; omega
    exact (show TrAt σ3 r t from ⟨by rw [F3.kd t2.2]; exact t1, ⟨t2.1, by omega⟩, (o3 _ _ t2.2 hne).trans t3, (o3 _ _ t2.2 hne).trans t4, (o3 _ _ t2.2 hne).trans t5⟩).pf g2.1
theorem FlR.n6 (h : FlR T N0 U0 z k S σ τ) : ld σ N0 6 = lref N0 4 := by
  obtain ⟨q, h1, h2⟩ := h
  exact h1.n5.2
theorem o127_fail (hn : 1000000 ≤ n) (hb : BtOk T) (h : FlR T N0 U0 z k S σ τ) (hz : z ≤ 6) {Q : Nat} {hc : Int} : Wp (f_X3_orders_127 n (f_X3_orders_43 n (Q + 1)) 1007 x hc v σ) fun σ' => Fl T N0 U0 (z + 1) k σ' τ ∧ EfX N0 σ σ' := by
  obtain ⟨g1, g2, g3, g4, g5, -⟩ := h.nN
  unfold f_X3_orders_127
  refine wp_gd h.g ?_
  rw [g3]
  refine wp_gd g4 (wp_nm0 (wp_nm0 ?_))
  rw [h.n6]
  obtain ⟨f1, E1, k1, n1⟩ := h.al (K := 17) (m := 2) (by decide)
  generalize al σ 17 0 2 = σ1 at *
  refine wp_gd f1.g (wp_c1e (f1.takes hn hb (r := 71) (C := 18) (by decide) (by unfold spC; omega)) (wp_gd (by omega) ?_))
  obtain ⟨q, h1, h2⟩ := id f1
  have hsz := h1.2.2.2.2.2.2.2.2.2.1
  refine sh_order (z' := z + 1) h1 E1.x g1 ⟨Int.le_refl _, by omega, k1⟩ ⟨by decide, by decide⟩ ⟨by omega, by omega⟩ (by omega) fun σ2 s1 s2 s3 _ _ => ?_
  have f2 : FlR T N0 U0 (z + 1) (k + 1 - 3) (S.1, updF S.2 4 (nx σ)) σ2 τ := by
    refine ⟨q, s1, ?_⟩
    unfold CF
    rw [s3, s3]
    exact h2
  refine wp_gd f2.g (wp_c1e (f2.takes hn hb (r := 37) (C := 34) (by decide) (by unfold spC; omega)) ?_)
  exact wp_of_eq orders_0 ⟨⟨_, f2.mono (by omega)⟩, s2⟩
theorem o111_fail (hn : 1000000 ≤ n) (hb : BtOk T) (h : FlR T N0 U0 z k S σ τ) (hz : z ≤ 6) {Q : Nat} {hc : Int} : Wp (f_X3_orders_111 n (f_X3_orders_43 n (Q + 1)) 1007 x hc σ) fun σ' => Fl T N0 U0 (z + 1) (k + 1) σ' τ ∧ EfX N0 σ σ' := by
  unfold f_X3_orders_111
  refine wp_gd h.g (wp_ite (fun _ => wp_gd h.g (wp_c1 (wp_mono (item_fail hn hb h) fun y hy => ?_))) fun _ => ?_)
  · exact wp_mono (o127_fail hn hb hy.1 hz) fun σ' h' => ⟨h'.1, hy.2.1.x.trans h'.2⟩
  · refine wp_mono (o127_fail hn hb h hz) fun σ' h' => ?_
    obtain ⟨⟨S', f⟩, E⟩ := h'
    exact ⟨⟨S', f.mono (by omega)⟩, E⟩
theorem o74_fail (hn : 1000000 ≤ n) (hb : BtOk T) (h : FlR T N0 U0 z k S σ τ) (hz : z ≤ 6) {Q : Nat} {hc : Int} : Wp (f_X3_orders_74 n (f_X3_orders_43 n (Q + 1)) 1007 x hc σ) fun σ' => Fl T N0 U0 (z + 1) (k + 1) σ' τ ∧ EfX N0 σ σ' := by
  obtain ⟨g1, g2, g3, g4, g5, g6, g7⟩ := h.nN
  unfold f_X3_orders_74
  refine wp_gd h.g (wp_ite (fun c0 => wp_gd h.g ?_) fun _ => o111_fail hn hb h hz)
  rw [g6]
  exact wp_gd g7 (wp_c1e (h.is hn hb c0 (r := 65) (C := 15) (by decide) (by unfold spC; omega)) (wp_pos rfl (o111_fail hn hb h hz)))
theorem orders_fail (hn : 1000000 ≤ n) (hb : BtOk T) (h : FlR T N0 U0 z k S σ τ) (hz : z ≤ 6) {Q : Nat} {hc : Int} : Wp (f_X3_orders_43 n (Q + 2) 1007 x 1 hc σ) fun σ' => Fl T N0 U0 (z + 1) (k + 1) σ' τ ∧ EfX N0 σ σ' := by
  obtain ⟨q, h1, h2⟩ := id h
  obtain ⟨g1, g2, g3, g4, g5, g6, g7⟩ := h1.nN
  have g8 := h1.n5.2
  have L1 := h1.2.2.2.2.2.2.2.1
  have k74 := o74_fail (x := x) hn hb h hz (Q := Q) (hc := hc)
  unfold f_X3_orders_43
  refine wp_neg (by decide) (wp_gd h.g ?_)
  rw [g3]
  refine wp_gd g4 ?_
  rw [g8]
  refine wp_gd (lsok_kd L1 (by decide)) (wp_c1e (L1.size (by decide)) (wp_ite (fun _ => wp_gd h.g (wp_c1e (begins_eq hn hb h1) ?_)) fun _ => k74))
  by_cases c0 : ld σ 1007 3 = 0
  · have e : (if tkC T q = 1 ∨ tkC T q = 15 then (1 : Int) else 0) = 0 := if_neg (by have := (h2.code0 c0).1; omega)
    rw [e]
    exact wp_pos rfl k74
  · refine wp_ite (fun _ => k74) fun _ => wp_gd h.g (wp_c0e (h.fail c0) k74)
end OR
