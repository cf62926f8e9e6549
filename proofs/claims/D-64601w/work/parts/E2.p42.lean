/-! THE COMPONENT's remove -/
set_option maxRecDepth 100000
section RemS
variable {σ σ' : AS} {Ow Ow' : F1} {v p r key : Int} {L : List Int} {TH : Int → Prop} {fm : Int → F1} {no ed ty fr too : F1} {mc cN cE cP : Int} {S : Int → Prop}
set_option maxHeartbeats 4000000 in
theorem rem_body {n : Nat} (hn : 1000000 ≤ n) (h : GI σ Ow TH fm no ed ty fr too mc cN cE cP) (hs : StkOk σ Ow L) (hz : ∀ r, r < 1054 → r ≠ 1005 → Ow r = 0) (hth : TH p) (hk : 0 ≤ key ∧ key < 32) (hmc : mc ≤ 100000) (hcP : 0 ≤ cP ∧ cP ≤ 100000) (hL : L.length < 64) : Wp (gd (kd σ 1000 = 1) <| nm (nx σ) fun r23 => nm (al σ 10 0 3) fun σ25 => gd (kd σ25 1000 = 1) <| gd (kd σ25 (ld σ25 1000 0) = 2) <| c1 (f_X2_change n (ld σ25 1000 0) p key 0 σ25) fun v29 σ30 => gd (r23 ≠ 0) <| c0 (f_X16_init r23 p key v29 σ30) fun σ34 => gd (kd σ34 (ld σ 1000 1) = 23) <| c0 (f_J1_push n (ld σ 1000 1) r23 σ34) fun σ38 => some ((Sum.inr (1 : Int) : Nat ⊕ Int), σ38)) fun y => y.1 = .inr 1 ∧ Put10 σ Ow TH fm no ed ty fr too mc cN cE cP L p key 0 y.2 := by
  have hx := h.1
  have k0 := hs.1
  have x0 := hs.2.1
  have x1 := hs.2.2.1
  refine wp_gd k0 ?_
  rw [x1]
  refine wp_nm (fun r er => ?_)
  refine wp_nm (fun σ1 e1 => ?_)
  have F1 : Fr (fun _ => False) σ σ1 := by rw [e1]; exact Fr.al (by decide)
  have k1 : kd σ1 r = 10 := by rw [e1, er, kd_al, if_pos rfl]
  have n1 : nx σ1 = nx σ + 1 := by rw [e1, nx_al]
  have u1 : us σ1 = us σ + 3 := by rw [e1]; rfl
  clear e1
  have r0 : r ≠ 0 := by omega
  have O1 : ∀ q, q < nx σ → ud Ow r 1 q = Ow q := fun q hq => ud_ne (by omega)
  have G1 : GI σ1 (ud Ow r 1) TH fm no ed ty fr too mc cN cE cP := h.stay F1 O1 (fun r z => z.elim) (fun r _ z => z.elim)
  have S1 : StkOk σ1 (ud Ow r 1) L := hs.frame hx F1 O1 (fun r z => z.elim)
  have w1 : ud Ow r 1 r = 1 := ud_eq
  generalize ud Ow r 1 = Ow1 at *
  have x01 := S1.2.1
  refine wp_gd S1.1 ?_
  rw [x01]
  refine wp_gd G1.2.2.1.1 ?_
  refine wp_c1 ?_
  refine wp_mono (change_wp (n := n) (by omega) G1 hth hk (Or.inl rfl) hmc hcP) fun y2 hq => ?_
  obtain ⟨e2, Ow2, G2, O2, O2n, F2, n2, u2⟩ := hq
  rw [e2]
  generalize y2.2 = σ2 at *
  have hT1 := G1.2.2.2.2.2.2.2.2.2.2.2 p hth
  have hSM : ∀ q, SMap σ1 Ow1 p q → 1054 ≤ q ∧ (Ow1 q = 8 * p + 1 ∨ Ow1 q = 8 * p + 4) := fun q z => SMap.own hT1 q z
  have p54 := hT1.1
  have S2 : StkOk σ2 Ow2 L := S1.frame (by omega) F2 O2 (fun r z => by
    rcases z with z | z
    · omega
    · have := hSM r z; omega)
  have k2 : kd σ2 r = 10 := by rw [F2.kd (by omega)]; exact k1
  have w2 : Ow2 r = 1 := by rw [O2 r (by omega)]; exact w1
  have m2 := F2.1
  refine wp_gd r0 ?_
  refine wp_c0e (s := wr (wr (wr σ2 r 0 p) r 1 key) r 2 (fm p key)) ?_ ?_
  · unfold f_X16_init f_J9_init
    rw [gd_pos r0]
    show c0 (gd (r ≠ 0) (some σ2)) _ = _
    rw [gd_pos r0]
    show gd (kd σ2 r = 10) _ = _
    rw [gd_pos k2]
    show gd (kd σ2 r = 10) _ = _
    rw [gd_pos k2]
    show gd (kd σ2 r = 10) _ = _
    rw [gd_pos k2]
    rfl
  have F5 : Fr (fun q => q = r) σ2 (wr (wr (wr σ2 r 0 p) r 1 key) r 2 (fm p key)) := ((Fr.wr (S := fun q => q = r) rfl).trans (Fr.wr rfl)).trans (Fr.wr rfl)
  have l5 : ld (wr (wr (wr σ2 r 0 p) r 1 key) r 2 (fm p key)) r 0 = p := by rw [ld_wr, if_neg (fun z => by omega), ld_wr, if_neg (fun z => by omega), ld_wr, if_pos ⟨rfl, rfl⟩]
  have l6 : ld (wr (wr (wr σ2 r 0 p) r 1 key) r 2 (fm p key)) r 1 = key := by rw [ld_wr, if_neg (fun z => by omega), ld_wr, if_pos ⟨rfl, rfl⟩]
  have l7 : ld (wr (wr (wr σ2 r 0 p) r 1 key) r 2 (fm p key)) r 2 = fm p key := by rw [ld_wr, if_pos ⟨rfl, rfl⟩]
  have k5 : kd (wr (wr (wr σ2 r 0 p) r 1 key) r 2 (fm p key)) r = 10 := k2
  have n5 : nx (wr (wr (wr σ2 r 0 p) r 1 key) r 2 (fm p key)) = nx σ2 := rfl
  have u5 : us (wr (wr (wr σ2 r 0 p) r 1 key) r 2 (fm p key)) = us σ2 := rfl
  generalize wr (wr (wr σ2 r 0 p) r 1 key) r 2 (fm p key) = σ5 at *
  have G5 := G2.stay F5 (fun _ _ => rfl) (fun q z => by have z' : q = r := z; omega) (fun q _ z => by have z' : q = r := z; rw [z', w2]; decide)
  have S5 : StkOk σ5 Ow2 L := S2.frame (by omega) F5 (fun _ _ => rfl) (fun q z => by have z' : q = r := z; rw [z', w2]; omega)
  refine wp_gd S5.2.2.2.1.1 ?_
  refine wp_c0 ?_
  refine wp_mono (push_rec hn G5 S5 (r := r) ⟨by omega, by omega, w2, by omega, by omega⟩ hL) fun τ hq => ?_
  obtain ⟨Ow3, G3, S3', F3, O3, n3, u3⟩ := hq
  have hr3 : ∀ r, SD Ow2 r → r = 1004 ∨ (1005 ≤ r ∧ Ow2 r = 2) := fun r z => z
  have rno : ¬ SD Ow2 r := fun z => by have := hr3 r z; omega
  have e3 := F3.ld (r := r) (by omega) rno
  refine wp_ok ⟨rfl, Ow3, r, ?_, S3', by rw [F3.kd (by omega)]; exact k5, by rw [e3]; exact l5, by rw [e3]; exact l6, by rw [e3]; exact l7, Or.inl rfl, ?_, fun q hq => by rw [O3 q (by omega), O2 q (by omega), O1 q hq], by show nx τ ≤ _; omega, by show us τ ≤ _; omega⟩
  · rw [if_pos rfl] at G3 ⊢
    exact G3
  · refine (((F1.sub (S' := fun q => (1001 ≤ q ∧ q ≤ 1005) ∨ (1054 ≤ q ∧ 2 ≤ Ow q)) fun r _ z => z.elim).tr2 F2 fun r x z => ?_).tr2 F5 fun q x z => ?_).tr2 F3 fun q x z => ?_
    · rcases z with z | z
      · left; omega
      · have := hSM r z
        have := O1 r x
        right; omega
    · have z' : q = r := z
      omega
    · have := hr3 q z
      by_cases c5 : q = 1004 ∨ q = 1005
      · left; omega
      · have e5 : Ow2 q = Ow q := by rw [O2 q (by omega), O1 q x]
        by_cases c6 : 1054 ≤ q
        · right; omega
        · have := hz q (by omega) (by omega)
          omega
theorem X1_remove_ok {n : Nat} {a b : Int} (hn : 1000000 ≤ n) (h : GI σ Ow TH fm no ed ty fr too mc cN cE cP) (hs : StkOk σ Ow L) (hz : ∀ r, r < 1054 → r ≠ 1005 → Ow r = 0) (hp : (if a = 0 then no b else ed b) = p) (hp0 : p ≠ 0) (hk : 0 ≤ key ∧ key < 32) (hmc : mc ≤ 100000) (hcP : 0 ≤ cP ∧ cP ≤ 100000) (hL : L.length < 64) : Wp (f_X1_remove n 1000 a b key σ) fun y => if fm p key = 0 then y = (.inr 0, σ) else y.1 = .inr 1 ∧ Put10 σ Ow TH fm no ed ty fr too mc cN cE cP L p key 0 y.2 := by
  obtain ⟨hth, hkp⟩ := thing_at h hp hp0
  have hT := h.2.2.2.2.2.2.2.2.2.2.2 p hth
  have hm := hT.2.2.2.2.2.2.1
  have eV : f_J17_valueOf key σ = some (328 + key, σ) := valueOf_eq h.2.1 (by omega) (by omega)
  have eC := containsKey_eq h.2.1 (n := n) (by omega) hk hm
  have kt := hm.1
  unfold f_X1_remove
  refine wp_gd hs.1 ?_
  rw [thing_eq h hs, hp, if_neg hp0, cx_inr]
  unfold f_X1_isNumber f_X1_need
  rw [if_neg (by omega), if_neg (by omega), c1_at, if_neg (by decide), cx_inr]
  have body : Wp (c1 (f_J17_valueOf key σ) fun v14 σ15 => gd (kd σ15 (ld σ p 0) = 26) <| c1 (f_J8_containsKey n (ld σ p 0) v14 σ15) fun v18 σ19 => if v18 = 0 then (some (.inr 0, σ19)) else (gd (kd σ19 1000 = 1) <| nm (nx σ19) fun r23 => nm (al σ19 10 0 3) fun σ25 => gd (kd σ25 1000 = 1) <| gd (kd σ25 (ld σ25 1000 0) = 2) <| c1 (f_X2_change n (ld σ25 1000 0) p key 0 σ25) fun v29 σ30 => gd (r23 ≠ 0) <| c0 (f_X16_init r23 p key v29 σ30) fun σ34 => gd (kd σ34 (ld σ19 1000 1) = 23) <| c0 (f_J1_push n (ld σ19 1000 1) r23 σ34) fun σ38 => some ((Sum.inr (1 : Int) : Nat ⊕ Int), σ38))) fun y => if fm p key = 0 then y = (.inr 0, σ) else y.1 = .inr 1 ∧ Put10 σ Ow TH fm no ed ty fr too mc cN cE cP L p key 0 y.2 := by
    rw [eV, c1_at]
    refine wp_gd kt ?_
    rw [eC, c1_at]
    by_cases c : fm p key = 0
    · rw [if_pos c, if_pos rfl]
      exact wp_ok (by rw [if_pos c])
    · rw [if_neg c, if_neg (by decide)]
      exact wp_mono (rem_body hn h hs hz hth hk hmc hcP hL) fun y hq => by rw [if_neg c]; exact hq
  rcases hkp with k | k
  · exact wp_pos k body
  · exact wp_neg (by omega) (wp_gd k body)
end RemS
