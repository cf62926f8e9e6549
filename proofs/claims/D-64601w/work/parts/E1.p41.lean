/-! THE COMPONENT's put and remove -/
set_option maxRecDepth 100000
section PutS
variable {σ σ' : AS} {Ow Ow' : F1} {v p r key : Int} {L : List Int} {TH : Int → Prop} {fm : Int → F1} {no ed ty fr too : F1} {mc cN cE cP : Int} {S : Int → Prop}
theorem GI.stay (h : GI σ Ow TH fm no ed ty fr too mc cN cE cP) (hF : Fr S σ σ') (hO : ∀ r, r < nx σ → Ow' r = Ow r) (hS0 : ∀ r, S r → 1004 ≤ r) (hS : ∀ r, 1054 ≤ r → S r → Ow r < 8) : GI σ' Ow' TH fm no ed ty fr too mc cN cE cP := by
  have s3 := h.2.2.1
  have s4 := h.2.2.2.1
  have hx := h.1
  have e : ∀ j, ld σ' 1001 j = ld σ 1001 j := hF.ld (by omega) (fun z => by have := hS0 _ z; omega)
  exact h.frame hF hO (fun r z => by have := hS0 r z; omega) ⟨by rw [e]; exact s3.2.1, by rw [e]; exact s3.2.2.1, by rw [e]; exact s4.1, by rw [e]; exact s4.2.1, by rw [e]; exact s4.2.2⟩ hS (Int.le_refl _)
/-- a record that is there goes onto the stack -/
theorem push_rec {n : Nat} (hn : 1000000 ≤ n) (h1 : GI σ Ow TH fm no ed ty fr too mc cN cE cP) (h2 : StkOk σ Ow L) (h3 : Rec σ Ow r) (hL : L.length < 64) : Wp (f_J1_push n 1004 r σ) fun τ => ∃ Ow' : F1, GI τ Ow' TH fm no ed ty fr too mc cN cE cP ∧ StkOk τ Ow' (r :: L) ∧ Fr (SD Ow) σ τ ∧ (∀ r, r < nx σ → Ow' r = Ow r) ∧ nx τ ≤ nx σ + 1 ∧ us τ ≤ us σ + 130 := by
  refine wp_mono (h2.push hn h1.1 h3 hL) fun τ hq => ?_
  obtain ⟨Ow2, g1, g2, g3, g4, g5, g6⟩ := hq
  have hr : ∀ r, SD Ow r → r = 1004 ∨ (1005 ≤ r ∧ Ow r = 2) := fun r z => z
  exact ⟨Ow2, h1.stay g2 g3 (fun r z => by have := hr r z; omega) (fun r x z => by have := hr r z; omega), g1, g2, g3, g5, g6⟩
/-- an Integer for a value -/
theorem valueOf_wp (h : GI σ Ow TH fm no ed ty fr too mc cN cE cP) (hs : StkOk σ Ow L) (hz : ∀ r, r < 1054 → r ≠ 1005 → Ow r = 0) : Wp (f_J17_valueOf v σ) fun y => ∃ Ow' : F1, Box y.2 Ow' y.1 ∧ ld y.2 y.1 0 = v ∧ GI y.2 Ow' TH fm no ed ty fr too mc cN cE cP ∧ StkOk y.2 Ow' L ∧ Fr (fun _ => False) σ y.2 ∧ (∀ r, r < nx σ → Ow' r = Ow r) ∧ nx y.2 ≤ nx σ + 1 ∧ us y.2 ≤ us σ + 1 := by
  have hx := h.1
  have mk : Wp (f_J17_valueOf_23 v σ) fun y => ∃ Ow' : F1, Box y.2 Ow' y.1 ∧ ld y.2 y.1 0 = v ∧ GI y.2 Ow' TH fm no ed ty fr too mc cN cE cP ∧ StkOk y.2 Ow' L ∧ Fr (fun _ => False) σ y.2 ∧ (∀ r, r < nx σ → Ow' r = Ow r) ∧ nx y.2 ≤ nx σ + 1 ∧ us y.2 ≤ us σ + 1 := by
    unfold f_J17_valueOf_23
    refine wp_nm (fun p ep => ?_)
    refine wp_nm (fun σ1 e1 => ?_)
    have F1 : Fr (fun _ => False) σ σ1 := by rw [e1]; exact Fr.al (by decide)
    have k1 : kd σ1 p = 25 := by rw [e1, ep, kd_al, if_pos rfl]
    have n1 : nx σ1 = nx σ + 1 := by rw [e1, nx_al]
    have u1 : us σ1 = us σ + 1 := by rw [e1]; rfl
    clear e1
    have p0 : p ≠ 0 := by omega
    refine wp_gd p0 ?_
    refine wp_c0e (s := wr σ1 p 0 v) ?_ ?_
    · unfold f_J17_init f_J16_init
      rw [gd_pos p0]
      show c0 (gd (p ≠ 0) _) _ = _
      rw [gd_pos p0]
      show gd (kd σ1 p = 25) _ = _
      rw [gd_pos k1]
      rfl
    have F2 : Fr (fun _ => False) σ (wr σ1 p 0 v) := F1.tr2 (Fr.wr (S := fun q => q = p) rfl) fun q x z => by have z' : q = p := z; omega
    have O2 : ∀ r, r < nx σ → ud Ow p 0 r = Ow r := fun r hr => ud_ne (by omega)
    refine wp_ok ⟨ud Ow p 0, ⟨p0, by show p < nx σ1; omega, ud_eq, Or.inl k1, by right; omega⟩, by show ld (wr σ1 p 0 v) p 0 = v; rw [ld_wr, if_pos ⟨rfl, rfl⟩], h.stay F2 O2 (fun r z => z.elim) (fun r _ z => z.elim), hs.frame hx F2 O2 (fun r z => z.elim), F2, O2, by show nx σ1 ≤ _; omega, by show us σ1 ≤ _; omega⟩
  by_cases c : -128 ≤ v ∧ v ≤ 127
  · refine wp_of_eq (valueOf_eq h.2.1 c.1 c.2) ?_
    obtain ⟨i1, i2⟩ := int_at h.2.1 c.1 c.2
    exact ⟨Ow, ⟨by show 328 + v ≠ 0; omega, by show 328 + v < nx σ; omega, hz _ (by show 328 + v < 1054; omega) (by show 328 + v ≠ 1005; omega), Or.inr i1, Or.inl (by show 328 + v < 1000; omega)⟩, i2, h, hs, Fr.rf, fun _ _ => rfl, by show nx σ ≤ _; omega, by show us σ ≤ _; omega⟩
  · unfold f_J17_valueOf
    by_cases c1 : v < -128
    · rw [if_pos c1]; exact mk
    · rw [if_neg c1, if_pos (by omega)]; exact mk
theorem thing_eq (h : GI σ Ow TH fm no ed ty fr too mc cN cE cP) (hs : StkOk σ Ow L) {a : Int} : f_X1_thing 1000 a v σ = if (if a = 0 then no v else ed v) = 0 then some (.inl 1, al σ 0 0 6) else some (.inr (if a = 0 then no v else ed v), σ) := by
  unfold f_X1_thing
  by_cases c : a = 0
  · rw [if_pos c, if_pos c, gd_pos hs.1, nodeOf_eq h hs]
    by_cases z : no v = 0
    · rw [if_pos z]; rfl
    · rw [if_neg z]; rfl
  · rw [if_neg c, if_neg c, gd_pos hs.1, edgeOf_eq h hs]
    by_cases z : ed v = 0
    · rw [if_pos z]; rfl
    · rw [if_neg z]; rfl
theorem thing_at (h : GI σ Ow TH fm no ed ty fr too mc cN cE cP) {a : Int} (hp : (if a = 0 then no v else ed v) = p) (h0 : p ≠ 0) : TH p ∧ (kd σ p = 4 ∨ kd σ p = 5) := by
  by_cases c : a = 0
  · rw [if_pos c] at hp
    rw [← hp] at h0 ⊢
    obtain ⟨_, _, b1, b2⟩ := h.2.2.2.2.2.2.1 v h0
    exact ⟨b1, Or.inl b2⟩
  · rw [if_neg c] at hp
    rw [← hp] at h0 ⊢
    obtain ⟨_, _, b1, b2, _⟩ := h.2.2.2.2.2.2.2.1 v h0
    exact ⟨b1, Or.inr b2⟩
/-- what a change of a property leaves -/
def Put10 (σ : AS) (Ow : F1) (TH : Int → Prop) (fm : Int → F1) (no ed ty fr too : F1) (mc cN cE cP : Int) (L : List Int) (p key w : Int) (y : AS) : Prop :=
  ∃ (Ow' : F1) (r : Int), GI y Ow' TH (fun q => if q = p then ud (fm p) key w else fm q) no ed ty fr too (mc + 1) cN cE (cP + (if w = 0 then 0 else 1) - (if fm p key = 0 then 0 else 1)) ∧ StkOk y Ow' (r :: L) ∧ kd y r = 10 ∧ ld y r 0 = p ∧ ld y r 1 = key ∧ ld y r 2 = fm p key ∧ (w = 0 ∨ Box y Ow' w) ∧ Fr (fun q => (1001 ≤ q ∧ q ≤ 1005) ∨ (1054 ≤ q ∧ 2 ≤ Ow q)) σ y ∧ (∀ q, q < nx σ → Ow' q = Ow q) ∧ nx y ≤ nx σ + 4 ∧ us y ≤ us σ + 150
/-- a record of a property's change is made and pushed -/
def Rec10 (σ : AS) (Ow : F1) (TH : Int → Prop) (fm : Int → F1) (no ed ty fr too : F1) (mc cN cE cP : Int) (L : List Int) (p key w : Int) (τ : AS) : Prop := ∃ Ow' : F1, GI τ Ow' TH fm no ed ty fr too mc cN cE cP ∧ StkOk τ Ow' (nx σ :: L) ∧ Fr (SD Ow) σ τ ∧ (∀ r, r < nx σ → Ow' r = Ow r) ∧ kd τ (nx σ) = 10 ∧ ld τ (nx σ) 0 = p ∧ ld τ (nx σ) 1 = key ∧ ld τ (nx σ) 2 = w ∧ nx τ ≤ nx σ + 2 ∧ us τ ≤ us σ + 140
theorem rec10_push {β : Type} {n : Nat} {w : Int} {K : AS → Option β} {Q : β → Prop} (hn : 1000000 ≤ n) (h : GI σ Ow TH fm no ed ty fr too mc cN cE cP) (hs : StkOk σ Ow L) (hL : L.length < 64) (hK : ∀ τ, Rec10 σ Ow TH fm no ed ty fr too mc cN cE cP L p key w τ → Wp (K τ) Q) : Wp (nm (nx σ) fun r14 => nm (al σ 10 0 3) fun σ16 => gd (r14 ≠ 0) <| c0 (f_X16_init r14 p key w σ16) fun σ20 => gd (kd σ20 (ld σ 1000 1) = 23) <| c0 (f_J1_push n (ld σ 1000 1) r14 σ20) fun σ24 => K σ24) Q := by
  have hx := h.1
  have x1 := hs.2.2.1
  rw [x1]
  refine wp_nm (fun r er => ?_)
  refine wp_nm (fun σ4 e4 => ?_)
  have F4 : Fr (fun _ => False) σ σ4 := by rw [e4]; exact Fr.al (by decide)
  have k4 : kd σ4 r = 10 := by rw [e4, er, kd_al, if_pos rfl]
  have n4 : nx σ4 = nx σ + 1 := by rw [e4, nx_al]
  have u4 : us σ4 = us σ + 3 := by rw [e4]; rfl
  clear e4
  have r0 : r ≠ 0 := by omega
  refine wp_gd r0 ?_
  refine wp_c0e (s := wr (wr (wr σ4 r 0 p) r 1 key) r 2 w) ?_ ?_
  · unfold f_X16_init f_J9_init
    rw [gd_pos r0]
    show c0 (gd (r ≠ 0) (some σ4)) _ = _
    rw [gd_pos r0]
    show gd (kd σ4 r = 10) _ = _
    rw [gd_pos k4]
    show gd (kd σ4 r = 10) _ = _
    rw [gd_pos k4]
    show gd (kd σ4 r = 10) _ = _
    rw [gd_pos k4]
    rfl
  have F5 : Fr (fun _ => False) σ (wr (wr (wr σ4 r 0 p) r 1 key) r 2 w) := F4.tr2 (((Fr.wr (S := fun q => q = r) rfl).trans (Fr.wr rfl)).trans (Fr.wr rfl)) fun q x z => by have z' : q = r := z; omega
  have l5 : ld (wr (wr (wr σ4 r 0 p) r 1 key) r 2 w) r 0 = p := by rw [ld_wr, if_neg (fun z => by omega), ld_wr, if_neg (fun z => by omega), ld_wr, if_pos ⟨rfl, rfl⟩]
  have l6 : ld (wr (wr (wr σ4 r 0 p) r 1 key) r 2 w) r 1 = key := by rw [ld_wr, if_neg (fun z => by omega), ld_wr, if_pos ⟨rfl, rfl⟩]
  have l7 : ld (wr (wr (wr σ4 r 0 p) r 1 key) r 2 w) r 2 = w := by rw [ld_wr, if_pos ⟨rfl, rfl⟩]
  have k5 : kd (wr (wr (wr σ4 r 0 p) r 1 key) r 2 w) r = 10 := k4
  have n5 : nx (wr (wr (wr σ4 r 0 p) r 1 key) r 2 w) = nx σ + 1 := n4
  have u5 : us (wr (wr (wr σ4 r 0 p) r 1 key) r 2 w) = us σ + 3 := u4
  generalize wr (wr (wr σ4 r 0 p) r 1 key) r 2 w = σ5 at *
  refine wp_gd (by rw [F5.kd (by omega)]; exact hs.2.2.2.1.1) ?_
  subst er
  refine wp_c0 ?_
  refine wp_mono (rec_push hn h hs F5 n5 (by rw [k5]; decide) hL) fun τ hq => ?_
  obtain ⟨Ow2, p1, p2, p3, p4, p5, p6, p7, p8⟩ := hq
  exact hK τ ⟨Ow2, p1, p2, p3, p4, by rw [p5]; exact k5, by rw [p6]; exact l5, by rw [p6]; exact l6, by rw [p6]; exact l7, p7, by show us τ ≤ _; omega⟩
set_option maxHeartbeats 4000000 in
theorem X1_put_ok {n : Nat} {a b w : Int} (hn : 1000000 ≤ n) (h : GI σ Ow TH fm no ed ty fr too mc cN cE cP) (hs : StkOk σ Ow L) (hz : ∀ r, r < 1054 → r ≠ 1005 → Ow r = 0) (hp : (if a = 0 then no b else ed b) = p) (hp0 : p ≠ 0) (hk : 0 ≤ key ∧ key < 32) (hmc : mc ≤ 100000) (hcP : 0 ≤ cP ∧ cP < 3000) (hL : L.length < 64) : Wp (f_X1_put n 1000 a b key w σ) fun y => y.1 = .inr (if fm p key = 0 then 0 else 1) ∧ ∃ u : Int, u ≠ 0 ∧ ld y.2 u 0 = w ∧ Put10 σ Ow TH fm no ed ty fr too mc cN cE cP L p key u y.2 := by
  have hx := h.1
  have k0 := hs.1
  have x0 := hs.2.1
  have x1 := hs.2.2.1
  obtain ⟨g1, -⟩ := h.2.2.1
  have c4 := h.2.2.2.1.2.2
  obtain ⟨hth, hkp⟩ := thing_at h hp hp0
  unfold f_X1_put
  refine wp_gd k0 ?_
  rw [thing_eq h hs, hp, if_neg hp0, cx_inr]
  unfold f_X1_isNumber f_X1_need
  rw [if_neg (by omega), if_neg (by omega), c1_at, if_neg (by decide), cx_inr]
  refine wp_gd k0 ?_
  rw [x0]
  refine wp_gd g1 ?_
  rw [c4]
  refine wp_pos (by omega) ?_
  unfold f_X1_put_43 f_X1_put_48 f_X1_room
  rw [if_neg (by decide), cx_inr]
  refine wp_gd k0 ?_
  refine wp_c1 ?_
  refine wp_mono (valueOf_wp (v := w) h hs hz) fun y1 hq => ?_
  obtain ⟨Ow1, b1, b2, G1, S1, F1, O1, n1, u1⟩ := hq
  generalize y1.1 = u at *
  generalize y1.2 = σ1 at *
  rw [x0]
  have m1 := F1.1
  have k1 : kd σ1 1000 = 1 := S1.1
  have u0 : u ≠ 0 := b1.1
  refine wp_gd G1.2.2.1.1 ?_
  refine wp_c1 ?_
  refine wp_mono (change_wp (n := n) (by omega) G1 hth hk (Or.inr b1) hmc ⟨hcP.1, by omega⟩) fun y2 hq => ?_
  obtain ⟨e2, Ow2, G2, O2, O2n, F2, n2, u2⟩ := hq
  rw [e2]
  generalize y2.2 = σ2 at *
  have hT1 := G1.2.2.2.2.2.2.2.2.2.2.2 p hth
  have hSM : ∀ q, SMap σ1 Ow1 p q → 1054 ≤ q ∧ (Ow1 q = 8 * p + 1 ∨ Ow1 q = 8 * p + 4) := fun q z => SMap.own hT1 q z
  have p54 := hT1.1
  have S2 : StkOk σ2 Ow2 L := S1.frame (by omega) F2 O2 (fun r z => by
    rcases z with z | z
    · omega
    · have := hSM r z; omega)
  have B2 : Box σ2 Ow2 u := b1.frame F2 O2
  have v2 : ld σ2 u 0 = w := by
    rw [F2.ld b1.2.1 (fun z => ?_), b2]
    rcases z with z | z
    · have := b1.2.2.2.2; omega
    · have := hSM u z; have := b1.2.2.1; omega
  refine wp_gd S2.1 ?_
  have m2 := F2.1
  refine rec10_push (p := p) (key := key) (w := fm p key) hn G2 S2 hL fun τ hq => ?_
  obtain ⟨Ow3, G3, S3', F3, O3, r1, r2, r3, r4, n3, u3⟩ := hq
  have hr3 : ∀ r, SD Ow2 r → r = 1004 ∨ (1005 ≤ r ∧ Ow2 r = 2) := fun r z => z
  have fin : ∀ c : Int, c = (if fm p key = 0 then 0 else 1) → Wp (some ((Sum.inr c : Nat ⊕ Int), τ)) fun y => y.1 = .inr (if fm p key = 0 then 0 else 1) ∧ ∃ u : Int, u ≠ 0 ∧ ld y.2 u 0 = w ∧ Put10 σ Ow TH fm no ed ty fr too mc cN cE cP L p key u y.2 := fun c hc => by
    refine wp_ok ⟨by rw [hc], u, u0, ?_, Ow3, nx σ2, ?_, S3', r1, r2, r3, r4, Or.inr (B2.frame F3 O3), ?_, fun q hq => by rw [O3 q (by omega), O2 q (by omega), O1 q hq], by show nx τ ≤ _; omega, by show us τ ≤ _; omega⟩
    · rw [F3.ld B2.2.1 (fun z => ?_)]
      · exact v2
      · have := hr3 _ z; have := B2.2.2.1; have := B2.2.2.2.2; omega
    · rw [if_neg u0] at G3 ⊢
      exact G3
    · refine ((F1.sub (S' := fun q => (1001 ≤ q ∧ q ≤ 1005) ∨ (1054 ≤ q ∧ 2 ≤ Ow q)) fun r _ z => z.elim).tr2 F2 fun r x z => ?_).tr2 F3 fun r x z => ?_
      · rcases z with z | z
        · left; omega
        · have := hSM r z
          have := O1 r x
          right; omega
      · have := hr3 r z
        by_cases c5 : r = 1004 ∨ r = 1005
        · left; omega
        · have e5 : Ow2 r = Ow r := by rw [O2 r (by omega), O1 r x]
          by_cases c6 : 1054 ≤ r
          · right; omega
          · have := hz r (by omega) (by omega)
            omega
  by_cases c : fm p key = 0
  · rw [if_pos c]; exact fin 0 (by rw [if_pos c])
  · rw [if_neg c]; exact fin 1 (by rw [if_neg c])
end PutS
