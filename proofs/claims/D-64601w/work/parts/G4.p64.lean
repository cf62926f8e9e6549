/-! THE COMPONENT's cost: the whole call -/
set_option maxRecDepth 100000
section CO3
variable {σ σ' y σ0 : AS} {k : Nat} {l : List Ch} {m : Int} {key fr to : Int} {n : Nat} {bs wd pq arr : Int} {G : Gr}
def CEnd (σ0 : AS) (k : Nat) (l : List Ch) (m key fr to : Int) (y : (Nat ⊕ Int) × AS) : Prop := (∃ r, y.1 = .inr r ∧ IsCost (run l) key fr to r) ∧ CX y.2 k l m ∧ Fr (fun _ => False) σ0 y.2 ∧ nx y.2 ≤ nx σ0 + 200 ∧ us y.2 ≤ us σ0 + 8000
theorem cost52 (hn : 1000000 ≤ n) (hl : l.length ≤ 64) (h0 : CX σ0 k l m) (hk : 0 ≤ key ∧ key < 32) (hfr : nodeAt (run l) fr) : ∀ (d q : Nat) (σ : AS) (arr : Int) (s c : Nat) (dn : Int → Prop) (dl : F1), d < q → d + c = 70 + s → CI1 σ0 σ k l m bs wd pq arr key fr to dn dl s c (fun _ => False) → c ≤ 1 + ec (run l) dn → Wp (f_X1_cost_52 n q 1000 to key bs pq σ) (CEnd σ0 k l m key fr to) := by
  intro d
  induction d with
  | zero =>
    intro q σ arr s c dn dl hq hd hw hc
    have := ec_le (dn := dn) (bnd_run (l := l) (by omega))
    omega
  | succ d ih =>
    intro q σ arr s c dn dl hq hd hw hc
    obtain ⟨q, rfl⟩ : ∃ z, q = z + 1 := ⟨q - 1, by omega⟩
    obtain ⟨w1, w2, w3, w4, w5, w6⟩ := hw
    have hb := bnd_run (l := l) (by omega)
    have ecl := ec_le (dn := dn) hb
    obtain ⟨g0, g1, g2, g3, hG⟩ := w1.gv hl
    have w2' := w2
    obtain ⟨hP, hB, hF, ⟨o1, o2, o3, o4⟩, ⟨s1, s2, s3, s4⟩, hnx, hus⟩ := w2'
    have fin : ∀ (r : Int) (σ' : AS), IsCost (run l) key fr to r → Fr (fun _ => False) σ0 σ' → nx σ' ≤ nx σ → us σ' ≤ us σ → CEnd σ0 k l m key fr to (.inr r, σ') := fun r σ' a b c1 c2 => ⟨⟨r, rfl, a⟩, cx_ext h0 (b.sub fun _ _ z => z.elim), b, by show nx σ' ≤ _; omega, by show us σ' ≤ _; omega⟩
    have eE : f_J0_isEmpty pq σ = some (if s = 0 then 1 else 0, σ) := by
      unfold f_J0_isEmpty f_J28_size
      rw [gd_pos hP.1.1, gd_pos hP.1.1, c1_at, hP.1.2.2.1]
      by_cases z : s = 0
      · rw [if_pos z, if_pos (by omega)]
      · rw [if_neg z, if_neg (by omega)]
    unfold f_X1_cost_52
    refine wp_gd hP.1.1 (wp_c1e eE ?_)
    by_cases cs : s = 0
    · rw [if_pos cs]
      refine wp_neg (by decide) (wp_ok (fin (-1) σ ?_ hF (Int.le_refl _) (Int.le_refl _)))
      rw [cs] at w3
      exact DjI.empty w3 w4
    · rw [if_neg cs]
      obtain ⟨s, rfl⟩ : ∃ z, s = z + 1 := ⟨s - 1, by omega⟩
      refine wp_pos rfl (wp_gd hP.1.1 (wp_c1 (wp_mono (poll_wp hn hP (by omega) (by omega)) fun y hq' => ?_)))
      obtain ⟨p1, p2, p3, p4, p5, p6, p7⟩ := hq'
      generalize y.1 = r at *
      generalize y.2 = σ1 at *
      have sp := w2.sep p1
      have xr : ∀ j, ld σ1 r j = ld σ r j := p5.ld p1.2.2 (fun z => z.elim sp.1 sp.2.1)
      have k1 : kd σ1 r = 11 := by rw [p5.kd p1.2.2]; exact p1.1
      have hrw1 : rW σ1 r = rW σ r := by unfold rW; rw [xr, xr]
      have F1 : Fr (fun _ => False) σ0 σ1 := hF.tr2 p5 fun z a b => by
        have := hP.2.2.2.2.2
        rcases b with b | b <;> omega
      have hB1 : BsOk σ1 bs wd dn := hB.frame p5 fun z b => by
        rcases b with b | b
        · rw [b]; exact ⟨s1, s2⟩
        · rw [b]; exact ⟨s3, s4⟩
      have w1' : CX σ1 k l m := cx_ext h0 (F1.sub fun _ _ z => z.elim)
      have hmem : rW σ r ∈ pqW σ arr (s + 1) := p4.mem_iff.mpr List.mem_cons_self
      obtain ⟨hcost, kk, hpth⟩ := w3.1 _ hmem
      have hnode := pth_node hG hfr hpth
      have hle := w6 _ hmem
      have e0 : ((c : Nat) : Int) - ((s + 1 : Nat) : Int) = ((c - (s + 1) : Nat) : Int) := by omega
      rw [e0] at hle
      generalize hcu : (rW σ r).1 = cu at *
      generalize hu : (rW σ r).2 = u at *
      have eru : rW σ r = (cu, u) := by rw [← hcu, ← hu]
      have l0 : ld σ1 r 0 = cu := by rw [xr]; exact hcu
      have l1 : ld σ1 r 1 = u := by rw [xr]; exact hu
      have u64 : 0 ≤ u ∧ u < 64 := by
        refine ⟨hnode.1, ?_⟩
        by_cases z : u < (l.length : Int)
        · omega
        · exact absurd (hb.1 _ (by omega)) hnode.2.2
      have hmin : ∀ p ∈ pqW σ arr (s + 1), cu ≤ p.1 := fun p hp => by
        have := p2 p hp
        have e : ld σ r 0 = cu := hcu
        rw [e] at this
        exact this
      have en : f_X17_node r σ1 = some (u, σ1) := by unfold f_X17_node; rw [gd_pos k1, l1]
      have ec1 : f_X17_cost r σ1 = some (cu, σ1) := by unfold f_X17_cost; rw [gd_pos k1, l0]
      rw [eru] at p4
      have hP1 : PqOk σ1 pq arr s (2 * (c : Int) - s) := by
        rw [show 2 * (c : Int) - s = 2 * (c : Int) - ((s + 1 : Nat) : Int) + 1 by omega]
        exact p3
      have hS1 : CS σ0 σ1 bs wd pq arr dn s c := ⟨hP1, hB1, F1, ⟨o1, o2, o3, o4⟩, ⟨s1, s2, s3, s4⟩, by omega, by omega⟩
      have hr1 : Rch σ1 r := ⟨k1, p1.2.1, by have := p1.2.2; omega⟩
      have w6' : ∀ p ∈ pqW σ1 arr s, p.1 ≤ ((c : Int) - (s : Int)) * 2147483648 := fun p hp => by
        have := w6 p (p4.mem_iff.mpr (List.mem_cons_of_mem _ hp))
        omega
      refine wp_gd (Or.inr k1) (wp_gd k1 (wp_c1e en ?_))
      by_cases cto : u = to
      · refine wp_pos cto (wp_gd k1 (wp_c1e ec1 (wp_ok (fin cu σ1 ?_ F1 (by omega) (by omega)))))
        exact w3.found w4 (by rw [← cto, ← eru]; exact hmem) hmin
      · refine wp_neg cto (wp_gd k1 (wp_c1e en (wp_gd hB1.1 ?_)))
        obtain ⟨g, hg1, hg2⟩ := bget_wp hB1 u64
        refine wp_c1e hg1 ?_
        by_cases cd : dn u
        · refine wp_neg (fun z => hg2.mp z cd) ?_
          exact ih q σ1 arr s c dn dl (by omega) (by omega) ⟨w1', hS1, w3.skip cd p4, w4, by omega, w6'⟩ hc
        · refine wp_pos (hg2.mpr cd) (wp_gd k1 (wp_c1e en (wp_gd hB1.1 ?_)))
          refine wp_c0 (wp_mono (bset_wp hB1 u64) fun σ2 hq2 => ?_)
          obtain ⟨b1, b2, b3, b4⟩ := hq2
          have F2 : Fr (fun _ => False) σ0 σ2 := F1.tr2 b2 fun z a b => by rcases b with b | b <;> omega
          have hkb : kd σ1 bs = 28 := hB1.1
          have hkw : kd σ1 wd = 101 := hB1.2.2.1
          obtain ⟨hP2, eW2⟩ := hP1.frame b2 (fun z b => by
            rcases b with b | b
            · rw [b]; exact ⟨fun w => s1 w.symm, fun w => s3 w.symm, by omega⟩
            · rw [b]; exact ⟨fun w => s2 w.symm, fun w => s4 w.symm, by omega⟩)
          have hS2 : CS σ0 σ2 bs wd pq arr (fun x => x = u ∨ dn x) s c := ⟨hP2, b1, F2, ⟨o1, o2, o3, o4⟩, ⟨s1, s2, s3, s4⟩, by omega, by omega⟩
          have w2c := cs_cx h0 hS2
          obtain ⟨G0, G1, G2, G3, -⟩ := w2c.gv hl
          have rn : ¬ (r = bs ∨ r = wd) := fun z => z.elim sp.2.2.1 sp.2.2.2
          have hr2 : Rch σ2 r := ⟨by rw [b2.kd hr1.2.2]; exact k1, p1.2.1, by have := hr1.2.2; omega⟩
          have hrw2 : rW σ2 r = (cu, u) := by
            unfold rW
            rw [b2.ld hr1.2.2 rn, b2.ld hr1.2.2 rn, l0, l1]
          have en2 : f_X17_node r σ2 = some (u, σ2) := by
            unfold f_X17_node
            rw [gd_pos hr2.1]
            have : ld σ2 r 1 = u := congrArg Prod.snd hrw2
            rw [this]
          refine wp_gd G0.1 ?_
          rw [G0.2.1]
          refine wp_gd G0.2.2.1 (wp_gd hr2.1 (wp_c1e en2 ?_))
          rw [G0.2.2.2.1]
          refine wp_gd ⟨G0.2.2.2.2.2.1, hnode.1, by rw [G0.2.2.2.2.2.2.1]; exact hnode.2.1⟩ (wp_gd (G1 u hnode).1 (wp_nm0 ?_))
          have hm4 := w3.2.2.2.1
          have dj := w3.take cd p4 hmin
          have hdu : ud dl u cu u = cu := ud_eq
          have ect := ec_take (G := run l) cd
          have eclo := len_out (G := run l) (v := u)
          refine cost132 (σ0 := σ0) (k := k) (m := m) (fr := fr) (wd := wd) (dn := fun x => x = u ∨ dn x) (dl := ud dl u cu) (cu := cu) (t := c - s) hn hl h0 hk hnode (Or.inl rfl) hdu (fun x hx => ?_) (by omega) ⟨hcost, by omega⟩ (fun σ3 arr3 s3 c3 h3 h4 h5 => ?_) (outL (run l) u).length n 0 σ2 arr s c (by have := dg_le (G := run l) (v := u); rw [len_out]; omega) (by omega) ⟨w2c, hS2, ?_, fun z => z.elim (fun w => cto w.symm) w4, by omega, ?_⟩ rfl (by omega) hr2 hrw2
          · rcases hx with hx | hx
            · rw [hx, ud_eq]; exact Int.le_refl _
            · by_cases z : x = u
              · rw [z, ud_eq]; exact Int.le_refl _
              · rw [ud_ne z]
                have := hm4 x hx (rW σ r) hmem
                rw [eru] at this
                exact this
          · have : c3 ≤ 1 + ec (run l) (fun x => x = u ∨ dn x) := h5
            have hle3 := h3.2.2.2.2.1
            exact ih q σ3 arr3 s3 c3 _ _ (by omega) (by omega) h3 h5
          · rw [eW2]
            refine dj.pcongr fun e a v w hE hp => ?_
            rw [List.drop_zero]
            exact mem_outL.mpr ⟨⟨hE.1.1, hE.1.2.1⟩, hE.1.2.2, hp⟩
          · rw [eW2]
            exact w6'
noncomputable def sCostC (G : Gr) (fr to key : Int) : Int := if isN G fr = true ∧ isN G to = true then (if isS key = true then 0 else 2) else 1
theorem X0_cost_law (hn : 1000000 ≤ n) (h : CX σ k l m) (ho : Out σ) (hl : l.length ≤ 64) : Wp (f_X0_cost n 1000 fr to key 1053 σ) fun y => y.1 = sCostC (run l) fr to key ∧ (y.1 = 0 → IsCost (run l) key fr to (ld y.2 1053 0)) ∧ CX y.2 k l m ∧ Fr (fun r => r = 1053) σ y.2 ∧ nx y.2 ≤ nx σ + 300 ∧ us y.2 ≤ us σ + 21000 := by
  have hx := h.nx
  obtain ⟨g0, g1, g2, g3, hG⟩ := h.gv hl
  have h' := h
  obtain ⟨Ow, TH, ty', fr', too', mc, L, S, c1, c2, c3⟩ := h'
  obtain ⟨-, -, -, -, -, -, hLK, -, -⟩ := c1.low (by omega)
  have hN : ∀ v, f_X1_nodeOf 1000 v σ = if isN (run l) v = true then some (.inr (S.1 v), σ) else some (.inl 1, al σ 0 0 6) := fun v => nodeOf_G c1.1 c1.2.1 hLK hG
  have thr : ∀ (E : Nat) (cd : Int), ((E = 1 ∧ cd = 1) ∨ (E = 2 ∧ cd = 2)) → f_X1_cost n 1000 fr to key σ = some (.inl E, al σ 0 0 6) → sCostC (run l) fr to key = cd → Wp (f_X0_cost n 1000 fr to key 1053 σ) fun y => y.1 = sCostC (run l) fr to key ∧ (y.1 = 0 → IsCost (run l) key fr to (ld y.2 1053 0)) ∧ CX y.2 k l m ∧ Fr (fun r => r = 1053) σ y.2 ∧ nx y.2 ≤ nx σ + 300 ∧ us y.2 ≤ us σ + 21000 := fun E cd hE e1 e2 => by
    have res : (fun y : Int × AS => y.1 = sCostC (run l) fr to key ∧ (y.1 = 0 → IsCost (run l) key fr to (ld y.2 1053 0)) ∧ CX y.2 k l m ∧ Fr (fun r => r = 1053) σ y.2 ∧ nx y.2 ≤ nx σ + 300 ∧ us y.2 ≤ us σ + 21000) (cd, al (al σ 0 0 6) 0 0 0) := by
      refine ⟨e2.symm, fun z => ?_, (h.al (by decide)).al (by decide), (Fr.al (by decide)).trans (Fr.al (by decide)), by rw [nx_al, nx_al]; omega, by rw [us_al, us_al]; omega⟩
      have z' : cd = 0 := z
      omega
    unfold f_X0_cost
    refine wp_gd h.k0 (wp_cy_inl e1 ?_)
    rcases hE with ⟨a, b⟩ | ⟨a, b⟩
    · rw [b] at res
      exact wp_pos a (wp_nm0 (wp_nm0 (wp_ok res)))
    · rw [b] at res
      exact wp_neg (by omega) (wp_pos a (wp_nm0 (wp_nm0 (wp_ok res))))
  by_cases ca : isN (run l) fr = true
  · by_cases cb : isN (run l) to = true
    · by_cases ck : isS key = true
      · have es : sCostC (run l) fr to key = 0 := by unfold sCostC; rw [if_pos ⟨ca, cb⟩, if_pos ck]
        rw [es]
        have hfr := isN_iff.mp ca
        unfold f_X0_cost
        refine wp_gd h.k0 (wp_cy_inr ?_)
        unfold f_X1_cost
        refine wp_gd h.k0 ?_
        rw [hN, if_pos ca, cx_inr]
        refine wp_gd h.k0 ?_
        rw [hN, if_pos cb, cx_inr, isNumber_eq, if_pos ck, c1_at]
        unfold f_X1_need
        rw [if_neg (by decide), cx_inr]
        -- the bit set
        refine wp_nm (fun bs eb => wp_nm (fun σ1 e1 => ?_))
        have F1 : Fr (fun _ => False) σ σ1 := by rw [e1]; exact Fr.al (by decide)
        have k1 : kd σ1 bs = 28 := by rw [e1, eb, kd_al, if_pos rfl]
        have n1 : nx σ1 = nx σ + 1 := by rw [e1, nx_al]
        have u1 : us σ1 = us σ + 3 := by rw [e1]; rfl
        clear e1
        have b0 : bs ≠ 0 := by omega
        refine wp_gd b0 ?_
        have hbs : Wp (f_J26_init bs σ1) fun σ2 => BsOk σ2 bs (bs + 1) (fun _ => False) ∧ Fr (fun r => r = bs) σ1 σ2 ∧ nx σ2 = nx σ1 + 1 ∧ us σ2 = us σ1 + 1 := by
          unfold f_J26_init
          refine wp_gd b0 (wp_gd k1 (wp_nm0 (wp_gd k1 (wp_nm0 (wp_gd k1 ?_)))))
          unfold f_J26_initWords f_J26_wordIndex
          have e63 : ishrW (64 - 1) 6 = 0 := shr6_eq (k := 63) ⟨by decide, by decide⟩
          refine wp_c0 (wp_gI (by decide) ?_)
          rw [e63]
          refine wp_c1e rfl (wp_gI (by decide) (wp_gd ⟨by decide, by decide⟩ (wp_nm0 (wp_nm0 ?_))))
          have nn : nx (wr (wr σ1 bs 1 0) bs 2 0) = bs + 1 := by show nx σ1 = _; omega
          rw [nn]
          have kb : kd (al (wr (wr σ1 bs 1 0) bs 2 0) 101 (0 + 1) (0 + 1)) bs = 28 := by rw [kd_al, nn, if_neg (by omega)]; exact k1
          refine wp_gd kb (wp_nm0 (wp_ok (wp_gd kb (wp_nm0 (wp_ok ?_)))))
          refine ⟨⟨kb, ?_, ?_, ?_, Or.inl ⟨?_, ?_⟩, fun v a b => ?_, ?_, ?_⟩, ?_, ?_, ?_⟩
          · rw [ld_wr, if_neg (by omega), ld_wr, if_pos ⟨rfl, rfl⟩]
          · show kd (al (wr (wr σ1 bs 1 0) bs 2 0) 101 (0 + 1) (0 + 1)) (bs + 1) = 101
            rw [kd_al, nn, if_pos rfl]
          · show ln (al (wr (wr σ1 bs 1 0) bs 2 0) 101 (0 + 1) (0 + 1)) (bs + 1) = 1
            rw [ln_al, nn, if_pos rfl]; rfl
          · rw [ld_wr, if_neg (by omega), ld_wr, if_neg (by omega), ld_al, nn, if_neg (by omega), ld_wr, if_neg (by omega), ld_wr, if_pos ⟨rfl, rfl⟩]
          · rw [ld_wr, if_neg (by omega), ld_wr, if_neg (by omega), ld_al, nn, if_pos rfl]
          · rw [ld_wr, if_neg (by omega), ld_wr, if_neg (by omega), ld_al, nn, if_pos rfl]
            exact ⟨fun z => hasB_zero z, fun z => z.elim⟩
          · show bs < nx (al (wr (wr σ1 bs 1 0) bs 2 0) 101 (0 + 1) (0 + 1))
            rw [nx_al, nn]; omega
          · show bs + 1 < nx (al (wr (wr σ1 bs 1 0) bs 2 0) 101 (0 + 1) (0 + 1))
            rw [nx_al, nn]; omega
          · have A : Fr (fun r => r = bs) σ1 (wr (wr σ1 bs 1 0) bs 2 0) := (Fr.wr (S := fun r => r = bs) rfl).trans (Fr.wr rfl)
            have B : Fr (fun r => r = bs) (wr (wr σ1 bs 1 0) bs 2 0) (al (wr (wr σ1 bs 1 0) bs 2 0) 101 (0 + 1) (0 + 1)) := Fr.al (by decide)
            exact ((A.trans B).trans (Fr.wr rfl)).trans (Fr.wr rfl)
          · show nx (al (wr (wr σ1 bs 1 0) bs 2 0) 101 (0 + 1) (0 + 1)) = _
            rw [nx_al, nn]; omega
          · show us (al (wr (wr σ1 bs 1 0) bs 2 0) 101 (0 + 1) (0 + 1)) = _
            rw [us_al]; rfl
        refine wp_c0 (wp_mono hbs fun σ2 hq2 => ?_)
        obtain ⟨hB2, F2, n2, u2⟩ := hq2
        have F2' : Fr (fun _ => False) σ σ2 := F1.tr2 F2 fun r x z => by have z' : r = bs := z; omega
        -- the queue
        refine wp_nm (fun pq ep => wp_nm (fun σ3 e3 => ?_))
        have F3 : Fr (fun _ => False) σ2 σ3 := by rw [e3]; exact Fr.al (by decide)
        have k3 : kd σ3 pq = 29 := by rw [e3, ep, kd_al, if_pos rfl]
        have z3 : ∀ j, ld σ3 pq j = 0 := fun j => by rw [e3, ep, ld_al, if_pos rfl]
        have n3 : nx σ3 = nx σ2 + 1 := by rw [e3, nx_al]
        have u3 : us σ3 = us σ2 + 4 := by rw [e3]; rfl
        clear e3
        have p0 : pq ≠ 0 := by omega
        refine wp_gd p0 ?_
        have hpq : Wp (f_J28_init pq σ3) fun σ4 => PqOk σ4 pq (pq + 1) 0 0 ∧ Fr (fun r => r = pq) σ3 σ4 ∧ nx σ4 = nx σ3 + 1 ∧ us σ4 = us σ3 + 11 := by
          unfold f_J28_init f_J28_init_2 f_J27_init f_J0_init
          refine wp_gd p0 (wp_c0 (wp_gd p0 (wp_c0 (wp_gd p0 (wp_c0e (gd_pos p0) (wp_ok ?_))))))
          refine wp_pos (by decide) (wp_gd ⟨by decide, by decide⟩ (wp_nm0 (wp_nm0 ?_)))
          have nn : nx σ3 = pq + 1 := by omega
          have kb : kd (al σ3 105 11 11) pq = 29 := by rw [kd_al, if_neg (by omega)]; exact k3
          refine wp_gd kb (wp_nm0 (wp_gd kb (wp_nm0 (wp_ok (wp_ok ?_)))))
          rw [nn]
          have lz : ∀ j, ld (wr (wr (al σ3 105 11 11) pq 0 (pq + 1)) pq 2 0) (pq + 1) j = 0 := fun j => by
            rw [ld_wr, if_neg (by omega), ld_wr, if_neg (by omega), ld_al, nn, if_pos rfl]
          have lp : ∀ j, j ≠ 0 → j ≠ 2 → ld (wr (wr (al σ3 105 11 11) pq 0 (pq + 1)) pq 2 0) pq j = 0 := fun j a b => by
            rw [ld_wr, if_neg (fun z => b z.2), ld_wr, if_neg (fun z => a z.2), ld_al, if_neg (by omega), z3]
          refine ⟨⟨⟨kb, ?_, lp 1 (by decide) (by decide), ?_, by rw [lp 3 (by decide) (by decide)]; decide, by rw [lp 3 (by decide) (by decide)]; decide⟩, ⟨?_, ?_, ?_⟩, fun i a b => by omega, fun i a b => lz i, fun i a b => by omega, by omega, ?_, by omega, ?_⟩, ?_, ?_, ?_⟩
          · rw [ld_wr, if_neg (by omega), ld_wr, if_pos ⟨rfl, rfl⟩]
          · rw [ld_wr, if_pos ⟨rfl, rfl⟩]
          · show kd (al σ3 105 11 11) (pq + 1) = 105
            rw [kd_al, nn, if_pos rfl]
          · show ln (al σ3 105 11 11) (pq + 1) = 11 ∨ _
            rw [ln_al, nn, if_pos rfl]; exact Or.inl rfl
          · show _ ≤ ln (al σ3 105 11 11) (pq + 1)
            rw [ln_al, nn, if_pos rfl]; decide
          · show pq < nx (al σ3 105 11 11)
            rw [nx_al]; omega
          · show pq + 1 < nx (al σ3 105 11 11)
            rw [nx_al]; omega
          · have B : Fr (fun r => r = pq) σ3 (al σ3 105 11 11) := Fr.al (by decide)
            exact (B.trans (Fr.wr rfl)).trans (Fr.wr rfl)
          · show nx (al σ3 105 11 11) = _
            rw [nx_al]; omega
          · show us (al σ3 105 11 11) = _
            rw [us_al]
        refine wp_c0 (wp_mono hpq fun σ4 hq4 => ?_)
        obtain ⟨hP4, F4, n4, u4⟩ := hq4
        have F34 : Fr (fun _ => False) σ2 σ4 := F3.tr2 F4 fun r x z => by have z' : r = pq := z; omega
        have F4' : Fr (fun _ => False) σ σ4 := F2'.tr2 F34 fun _ _ z => z
        have hB4 : BsOk σ4 bs (bs + 1) (fun _ => False) := hB2.frame F34 (fun _ z => z.elim)
        have hS : CS σ σ4 bs (bs + 1) pq (pq + 1) (fun _ => False) 0 0 := ⟨hP4, hB4, F4', ⟨by omega, by omega, by omega, by omega⟩, ⟨by omega, by omega, by omega, by omega⟩, by omega, by omega⟩
        refine push_wp (u := 0) (v := fr) hn h hS (by omega) (by omega) fun σ5 arr5 hS5 hP5 hR5 => ?_
        have hW : pqW σ5 arr5 1 = [(0, fr)] := List.perm_singleton.mp hP5
        have dj : DjI (run l) key fr (fun _ => False) (fun _ => 0) (pqW σ5 arr5 (0 + 1)) (fun _ => False) := by
          rw [hW]
          exact DjI.start
        refine wp_mono (cost52 (σ0 := σ) (fr := fr) (to := to) hn hl h (isS_iff.mp ck) hfr 70 n σ5 arr5 1 1 (fun _ => False) (fun _ => 0) (by omega) (by omega) ⟨cs_cx h hS5, hS5, dj, fun z => z, by omega, fun p hp => ?_⟩ (by omega)) fun y hq => ?_
        · have hp' : p ∈ pqW σ5 arr5 1 := hp
          rw [hW] at hp'
          rw [List.mem_singleton.mp hp']
          show (0 : Int) ≤ (((1 : Nat) : Int) - ((1 : Nat) : Int)) * 2147483648
          decide
        · obtain ⟨⟨r, r1, r2⟩, q2, q3, q4, q5⟩ := hq
          refine ⟨r, r1, wp_gd ⟨by rw [q3.kd (by omega)]; exact ho.1, by decide, by rw [q3.ln (by omega), ho.2]; decide⟩ (wp_nm0 (wp_ok ⟨rfl, fun _ => ?_, q2.set (Or.inr ⟨by decide, by decide⟩), (q3.sub fun _ _ z => z.elim).trans (Fr.wr rfl), by show nx y.2 ≤ _; omega, by show us y.2 ≤ _; omega⟩))⟩
          show IsCost (run l) key fr to (ld (wr y.2 1053 0 r) 1053 0)
          rw [ld_wr, if_pos ⟨rfl, rfl⟩]
          exact r2
      · refine thr 2 2 (Or.inr ⟨rfl, rfl⟩) ?_ ?_
        · unfold f_X1_cost
          rw [gd_pos h.k0, hN, if_pos ca, cx_inr, gd_pos h.k0, hN, if_pos cb, cx_inr, isNumber_eq, if_neg ck, c1_at]
          unfold f_X1_need
          rw [if_pos rfl]
          rfl
        · unfold sCostC; rw [if_pos ⟨ca, cb⟩, if_neg ck]
    · refine thr 1 1 (Or.inl ⟨rfl, rfl⟩) ?_ ?_
      · unfold f_X1_cost
        rw [gd_pos h.k0, hN, if_pos ca, cx_inr, gd_pos h.k0, hN, if_neg cb]
        rfl
      · unfold sCostC; rw [if_neg (fun z => cb z.2)]
  · refine thr 1 1 (Or.inl ⟨rfl, rfl⟩) ?_ ?_
    · unfold f_X1_cost
      rw [gd_pos h.k0, hN, if_neg ca]
      rfl
    · unfold sCostC; rw [if_neg (fun z => ca z.1)]
end CO3
