/-! THE MATCHER: arrive -/
set_option maxRecDepth 100000
def cU (mode c : Int) (R : MR) : Int := if mode = 1 then (if c + R.1 ≤ 10001 then c + R.1 else 10001) else c
def LU (mode : Int) (L : List (Int → Int)) (R : MR) : List (Int → Int) := if mode = 1 then L else L ++ R.2
def Okc (mode c : Int) (L : List (Int → Int)) (R : MR) : Prop := 0 ≤ c ∧ c ≤ 10001 ∧ (mode = 1 ∨ (mode = 0 ∧ c ≤ 10000 ∧ L.length + R.2.length ≤ 10000))
theorem cU_m0 {mode c : Int} (h : c ≤ 10001) : cU mode c m0 = c := by
  unfold cU
  by_cases a : mode = 1
  · rw [if_pos a]
    show (if c + ((0 : Nat) : Int) ≤ 10001 then c + ((0 : Nat) : Int) else 10001) = c
    rw [if_pos (by omega)]; omega
  · rw [if_neg a]
theorem LU_m0 {mode : Int} {L : List (Int → Int)} : LU mode L m0 = L := by
  unfold LU
  by_cases a : mode = 1
  · rw [if_pos a]
  · rw [if_neg a]
    exact List.append_nil _
theorem cU_add {mode c : Int} {A B : MR} : cU mode (cU mode c A) B = cU mode c (madd A B) := by
  unfold cU
  by_cases a : mode = 1
  · rw [if_pos a, if_pos a, if_pos a]
    show _ = if c + ((A.1 + B.1 : Nat) : Int) ≤ 10001 then c + ((A.1 + B.1 : Nat) : Int) else 10001
    by_cases b : c + (A.1 : Int) ≤ 10001
    · rw [if_pos b]
      by_cases d : c + (A.1 : Int) + (B.1 : Int) ≤ 10001
      · rw [if_pos d, if_pos (by omega)]; omega
      · rw [if_neg d, if_neg (by omega)]
    · rw [if_neg b]
      by_cases d : (10001 : Int) + (B.1 : Int) ≤ 10001
      · rw [if_pos d, if_neg (by omega)]; omega
      · rw [if_neg d, if_neg (by omega)]
  · rw [if_neg a, if_neg a, if_neg a]
theorem LU_add {mode : Int} {L : List (Int → Int)} {A B : MR} : LU mode (LU mode L A) B = LU mode L (madd A B) := by
  unfold LU
  by_cases a : mode = 1
  · rw [if_pos a, if_pos a, if_pos a]
  · rw [if_neg a, if_neg a, if_neg a]
    exact List.append_assoc _ _ _
theorem Okc.up {mode c : Int} {L : List (Int → Int)} {A B : MR} (h : Okc mode c L (madd A B)) : Okc mode c L A ∧ Okc mode (cU mode c A) (LU mode L A) B := by
  obtain ⟨h0, h1, h2⟩ := h
  have e : (madd A B).2.length = A.2.length + B.2.length := by show (A.2 ++ B.2).length = _; rw [List.length_append]
  refine ⟨⟨h0, h1, h2.imp id fun u => ⟨u.1, u.2.1, by have := u.2.2; omega⟩⟩, ?_⟩
  unfold cU LU
  rcases h2 with u | ⟨u, v, w⟩
  · rw [if_pos u]
    refine ⟨?_, ?_, Or.inl u⟩
    · split <;> omega
    · split <;> omega
  · rw [if_neg (by omega), if_neg (by omega)]
    refine ⟨h0, h1, Or.inr ⟨u, v, ?_⟩⟩
    rw [List.length_append]; omega
/-- full: nothing changes -/
theorem cU_full {mode c : Int} {R : MR} {L : List (Int → Int)} (h : Okc mode c L R) (hf : ¬ c ≤ 10000) : cU mode c R = c ∧ LU mode L R = L := by
  obtain ⟨h0, h1, h2⟩ := h
  have hm : mode = 1 := by
    rcases h2 with u | u
    · exact u
    · exact absurd u.2.1 hf
  have hc : c = 10001 := by omega
  unfold cU LU
  rw [if_pos hm, if_pos hm, hc]
  refine ⟨?_, rfl⟩
  by_cases d : (10001 : Int) + (R.1 : Int) ≤ 10001
  · rw [if_pos d]; omega
  · rw [if_neg d]
/-- the matcher's state -/
def MS (σ0 σ : AS) (k : Nat) (l : List Ch) (m : Int) (S : PS) (K : Int → Bool) (ps : List Part) (cs : List Cnd) (its : List Trm) (os : List Odr) (M : Nat) (mode : Int) (env : Int → Int) (us : List Int) (c : Int) (L : List (Int → Int)) : Prop :=
  MQs σ0 σ k l m S K ps cs its os M ∧ (∀ i : Int, 0 ≤ i → i < 8 → ld σ 1016 i = env i) ∧ (∀ e : Int, 0 ≤ e → e < 1000 → ld σ 1017 e = if e ∈ us then 1 else 0) ∧ ld σ 1014 6 = mode ∧ ld σ 1014 7 = c ∧ RW σ (run l) K its os L
def EvT (G : Gr) (K : Int → Bool) (env : Int → Int) (M : Nat) : Prop := ∀ i : Int, 0 ≤ i → i < M → env i ≠ -1 → (K i = true → edgeAt G (env i)) ∧ (K i ≠ true → nodeAt G (env i))
section MD
variable {σ σ0 σ1 σ2 σ3 σ' : AS} {n M k i : Nat} {l : List Ch} {m r a : Int} {S : PS} {ps : List Part} {cs : List Cnd} {its : List Trm} {os : List Odr} {t : Trm} {K : Int → Bool} {env : Int → Int} {us : List Int} {mode c : Int} {L : List (Int → Int)} {p : Part} {v nn : Int}
theorem RW.fr {G : Gr} (h : RW σ G K its os L) (ho : ∀ r i, 1009 ≤ r → r ≤ 1013 → ld σ' r i = ld σ r i) : RW σ' G K its os L := by
  obtain ⟨h1, h2⟩ := h
  refine ⟨(ho _ _ (by decide) (by decide)).trans h1, fun i hi => ?_⟩
  obtain ⟨x1, x2, x3, x4⟩ := h2 i hi
  exact ⟨(ho _ _ (by decide) (by decide)).trans x1, (ho _ _ (by decide) (by decide)).trans x2, fun j hj => (ho _ _ (by decide) (by decide)).trans (x3 j hj), fun j hj => (ho _ _ (by decide) (by decide)).trans (x4 j hj)⟩
/-- a number of the matcher is written -/
theorem MS.wr_env (h : MS σ0 σ k l m S K ps cs its os M mode env us c L) (hv : 0 ≤ v ∧ v < 8) : MS σ0 (wr σ 1016 v a) k l m S K ps cs its os M mode (ud env v a) us c L ∧ MFr (nx σ0) σ (wr σ 1016 v a) := by
  obtain ⟨h1, h2, h3, h4, h5, h6⟩ := h
  have F : MFr (nx σ0) σ (wr σ 1016 v a) := MFr.wr' h1.2.2.2.1 h1.1.2.2 (by decide) (fun u => absurd u (by decide)) (fun u => absurd u (by decide))
  have o : ∀ r i, ¬ (r = 1016 ∧ i = v) → ld (wr σ 1016 v a) r i = ld σ r i := fun r i hh => by rw [ld_wr, if_neg hh]
  refine ⟨⟨h1.fr F, fun i i0 i8 => ?_, fun e e0 e1 => (o _ _ (by omega)).trans (h3 e e0 e1), (o _ _ (by omega)).trans h4, (o _ _ (by omega)).trans h5, h6.fr fun r i g1 g2 => o _ _ (by omega)⟩, F⟩
  rw [ld_wr]
  unfold ud
  by_cases e : i = v
  · rw [if_pos ⟨rfl, e⟩, if_pos e]
  · rw [if_neg (fun u => e u.2), if_neg e]; exact h2 i i0 i8
theorem MS.wr_at (h : MS σ0 σ k l m S K ps cs its os M mode env us c L) : MS σ0 (wr σ 1015 v a) k l m S K ps cs its os M mode env us c L ∧ MFr (nx σ0) σ (wr σ 1015 v a) := by
  obtain ⟨h1, h2, h3, h4, h5, h6⟩ := h
  have F : MFr (nx σ0) σ (wr σ 1015 v a) := MFr.wr' h1.2.2.2.1 h1.1.2.2 (by decide) (fun u => absurd u (by decide)) (fun u => absurd u (by decide))
  have o : ∀ r i, ¬ (r = 1015 ∧ i = v) → ld (wr σ 1015 v a) r i = ld σ r i := fun r i hh => by rw [ld_wr, if_neg hh]
  exact ⟨⟨h1.fr F, fun i i0 i8 => (o _ _ (by omega)).trans (h2 i i0 i8), fun e e0 e1 => (o _ _ (by omega)).trans (h3 e e0 e1), (o _ _ (by omega)).trans h4, (o _ _ (by omega)).trans h5, h6.fr fun r i g1 g2 => o _ _ (by omega)⟩, F⟩
theorem MS.wr_c (h : MS σ0 σ k l m S K ps cs its os M mode env us c L) : MS σ0 (wr σ 1014 7 a) k l m S K ps cs its os M mode env us a L ∧ MFr (nx σ0) σ (wr σ 1014 7 a) := by
  obtain ⟨h1, h2, h3, h4, h5, h6⟩ := h
  have F : MFr (nx σ0) σ (wr σ 1014 7 a) := MFr.wr' h1.2.2.2.1 h1.1.2.2 (by decide) (fun _ => by decide) (fun u => absurd u (by decide))
  have o : ∀ r i, ¬ (r = 1014 ∧ i = 7) → ld (wr σ 1014 7 a) r i = ld σ r i := fun r i hh => by rw [ld_wr, if_neg hh]
  exact ⟨⟨h1.fr F, fun i i0 i8 => (o _ _ (by omega)).trans (h2 i i0 i8), fun e e0 e1 => (o _ _ (by omega)).trans (h3 e e0 e1), (o _ _ (by omega)).trans h4, by rw [ld_wr, if_pos ⟨rfl, rfl⟩], h6.fr fun r i g1 g2 => o _ _ (by omega)⟩, F⟩
theorem MS.envc (h : MS σ0 σ k l m S K ps cs its os M mode env us c L) {env' : Int → Int} (he : ∀ i : Int, 0 ≤ i → i < 8 → env' i = env i) : MS σ0 σ k l m S K ps cs its os M mode env' us c L :=
  ⟨h.1, fun i i0 i8 => (h.2.1 i i0 i8).trans (he i i0 i8).symm, h.2.2⟩
theorem isFull_eq (h : MS σ0 σ k l m S K ps cs its os M mode env us c L) : f_X6_isFull 1014 σ = some (if c ≤ 10000 then 0 else 1, σ) := by
  obtain ⟨h1, h2, h3, h4, h5, h6⟩ := h
  unfold f_X6_isFull
  rw [gd_pos h1.2.2.2.1.1.2.2.2.2.2.1, h5]
  by_cases a : c ≤ 10000
  · rw [if_pos a, if_pos a]
  · rw [if_neg a, if_neg a]
/-- what a call leaves -/
def MP (σ0 σ : AS) (k : Nat) (l : List Ch) (m : Int) (S : PS) (K : Int → Bool) (ps : List Part) (cs : List Cnd) (its : List Trm) (os : List Odr) (M : Nat) (mode : Int) (env : Int → Int) (us : List Int) (c : Int) (L : List (Int → Int)) (R : MR) (σ' : AS) : Prop :=
  MS σ0 σ' k l m S K ps cs its os M mode env us (cU mode c R) (LU mode L R) ∧ MFr (nx σ0) σ σ'
theorem MP.stay (h : MS σ0 σ k l m S K ps cs its os M mode env us c L) (hc : c ≤ 10001) : MP σ0 σ k l m S K ps cs its os M mode env us c L m0 σ := ⟨by rw [cU_m0 hc, LU_m0]; exact h, MFr.rf⟩
theorem MP.full {R : MR} (h : MS σ0 σ k l m S K ps cs its os M mode env us c L) (hO : Okc mode c L R) (hf : ¬ c ≤ 10000) : MP σ0 σ k l m S K ps cs its os M mode env us c L R σ := by
  obtain ⟨e1, e2⟩ := cU_full hO hf
  exact ⟨by rw [e1, e2]; exact h, MFr.rf⟩
theorem lk_arrive {H : (Int → Int) → Bool} {Kp : MK} {V : Int → (Int → Int) → Prop} {rN : Int → Int → AS → Option AS} (hn : 1000000 ≤ n) (hW : ∀ i : Nat, i < cs.length → CnW (cs.getD i c0d) M) (h8 : cs.length ≤ 8) (hi : i < ps.length ∧ ps.length ≤ 12) (hp : ps.getD i p0 = p) (hv : pV p = -1 ∨ (0 ≤ pV p ∧ pV p < M)) (hM8 : M ≤ 8)
    (hH : (mode = 1 ∧ H = tt) ∨ (mode = 0 ∧ H = cH (run l) K cs)) (hVT : ∀ x e, V x e → EvT (run l) K e M)
    (hN : ∀ (σ : AS) (env : Int → Int) (us : List Int) (c : Int) (L : List (Int → Int)) (cur : Int), MS σ0 σ k l m S K ps cs its os M mode env us c L → Okc mode c L (Kp cur env us) → ld σ 1015 i = cur → V cur env → Wp (rN 1014 (i + 1) σ) (MP σ0 σ k l m S K ps cs its os M mode env us c L (Kp cur env us)))
    (h : MS σ0 σ k l m S K ps cs its os M mode env us c L) (hnd : nodeAt (run l) nn) (hV : canA (run l) p env nn = true → V nn (bnd env (pV p) nn)) (hO : Okc mode c L (arrC (run l) p H Kp nn env us)) : Wp (b_X6_arrive n rN 1014 i nn σ) (MP σ0 σ k l m S K ps cs its os M mode env us c L (arrC (run l) p H Kp nn env us)) := by
  obtain ⟨h1, h2, h3, h4, h5, h6⟩ := id h
  obtain ⟨k14, e2, k0, e7, hL⟩ := h1.n4
  have hkd := h1.2.2.2.1
  have hfd := h1.2.2.2.2.1
  have hPs := h1.2.2.2.2.2.2.1
  have hgv := h1.gv
  obtain ⟨nd1, nd2, nd3, nd4⟩ := (hPs.2.2 i hi.1).1
  rw [hp] at nd3 nd4
  have hget := hL.get (i := 0) (by decide) (j := i) (by have := hPs.1; omega)
  rw [Int.toNat_natCast] at hget
  have e0 : ld σ (nx σ0) 0 = lref (nx σ0) 0 := by rw [e7 0 (by decide) (by decide)]; show _ = nx σ0 + 1; omega
  generalize hr : (S.2 0).getD i 0 = r at *
  have eV : f_X19_variable r σ = some (pV p, σ) := by unfold f_X19_variable; rw [gd_pos nd1, nd3]
  have eLb : f_X19_label r σ = some (pL p, σ) := by unfold f_X19_label; rw [gd_pos nd1, nd4]
  have kd16 := hkd.1.2.2.2.2.2.2.2.1
  have ln16 := hkd.2.2.2.2.2.2.1
  have e144 := hfd.1.2.2.2.2.1
  have e143 := hfd.1.2.2.2.1
  have gnd := hgv.2.1 nn hnd
  -- behind the count: bind, go on, unbind
  have go : ∀ (σ1 : AS) (c1' : Int) (B : MR), MS σ0 σ1 k l m S K ps cs its os M mode env us c1' L → MFr (nx σ0) σ σ1 → canA (run l) p env nn = true → B = (if H (bnd env (pV p) nn) = true then Kp nn (bnd env (pV p) nn) us else m0) → Okc mode c1' L B → Wp (b_X6_arrive_113 n rN 1014 i nn (pV p) σ1) fun σ' => MP σ0 σ1 k l m S K ps cs its os M mode env us c1' L B σ' := fun σ1 c1' B s1 F1 hcan hB hOB => by
    have hVn := hV hcan
    have kd1 := s1.1.2.2.2.1
    have fd1 := s1.1.2.2.2.2.1
    -- the stretch 150: env is bound
    have run150 : ∀ (σ2 : AS) (s0 : Int), (s0 = 0 ∨ s0 = 1) → MS σ0 σ2 k l m S K ps cs its os M mode (bnd env (pV p) nn) us c1' L → MFr (nx σ0) σ1 σ2 → (s0 = 0 → ∀ i : Int, 0 ≤ i → i < 8 → env i = bnd env (pV p) nn i) → (s0 = 1 → (0 ≤ pV p ∧ pV p < M) ∧ env (pV p) = -1) → Wp (b_X6_arrive_150 n rN 1014 i nn (pV p) s0 σ2) fun σ' => MP σ0 σ1 k l m S K ps cs its os M mode env us c1' L B σ' := fun σ2 s0 hs0 s2 F2 hz ho => by
      have kd2 := s2.1.2.2.2.1
      have fd2 := s2.1.2.2.2.2.1
      -- unbind
      have unb : ∀ (σ3 : AS), MP σ0 σ2 k l m S K ps cs its os M mode (bnd env (pV p) nn) us c1' L B σ3 → Wp (b_X6_arrive_178 n rN 1014 (pV p) s0 σ3) fun σ' => MP σ0 σ1 k l m S K ps cs its os M mode env us c1' L B σ' := fun σ3 hm3 => by
        obtain ⟨s3, F3⟩ := hm3
        unfold b_X6_arrive_178
        refine wp_ite (fun z => wp_ok ⟨s3.envc fun i i0 i8 => hz z i i0 i8, F2.trans F3⟩) fun z => ?_
        obtain ⟨o1, o2⟩ := ho (by omega)
        have kd3 := s3.1.2.2.2.1
        refine wp_gd kd3.1.2.2.2.2.2.1 ?_
        rw [s3.1.2.2.2.2.1.1.2.2.2.2.1]
        refine wp_gd ⟨kd3.1.2.2.2.2.2.2.2.1, o1.1, by rw [kd3.2.2.2.2.2.2.1]; omega⟩ (wp_nm0 (wp_ok ?_))
        obtain ⟨s4, F4⟩ := s3.wr_env (v := pV p) (a := -1) ⟨o1.1, by omega⟩
        refine ⟨s4.envc fun i i0 i8 => ?_, F2.trans (F3.trans F4)⟩
        have eb : bnd env (pV p) nn = ud env (pV p) nn := by unfold bnd; rw [if_neg (show ¬ pV p = -1 by omega)]
        rw [eb]
        show env i = if i = pV p then -1 else if i = pV p then nn else env i
        by_cases e : i = pV p
        · rw [if_pos e, e]; exact o2
        · rw [if_neg e, if_neg e]
      -- node, then unbind
      have nxt : ∀ (σ3 : AS), MS σ0 σ3 k l m S K ps cs its os M mode (bnd env (pV p) nn) us c1' L → MFr (nx σ0) σ2 σ3 → ld σ3 1015 i = nn → H (bnd env (pV p) nn) = true → Wp (b_X6_arrive_171 n rN (b_X6_arrive_178 n rN) 1014 i (pV p) s0 σ3) fun σ' => MP σ0 σ1 k l m S K ps cs its os M mode env us c1' L B σ' := fun σ3 s3 F3 hat hh => by
        unfold b_X6_arrive_171
        rw [gI_pos (by omega)]
        rw [if_pos hh] at hB
        refine wp_gd s3.1.2.2.2.1.1.2.2.2.2.2.1 (wp_c0 (wp_mono (hN σ3 _ us c1' L nn s3 (by rw [← hB]; exact hOB) hat hVn) fun σ4 hm4 => unb σ4 ?_))
        rw [← hB] at hm4
        exact ⟨hm4.1, F3.trans hm4.2⟩
      unfold b_X6_arrive_150
      refine wp_gd kd2.1.2.2.2.2.2.1 ?_
      rw [fd2.1.2.2.2.1]
      refine wp_gd ⟨kd2.1.2.2.2.2.2.2.1, by omega, by rw [kd2.2.2.2.2.2.1]; omega⟩ (wp_nm0 ?_)
      obtain ⟨s3, F3⟩ := s2.wr_at (v := (i : Int)) (a := nn)
      have hat : ld (wr σ2 1015 i nn) 1015 i = nn := by rw [ld_wr, if_pos ⟨rfl, rfl⟩]
      generalize wr σ2 1015 i nn = σ3 at *
      refine wp_gd s3.1.2.2.2.1.1.2.2.2.2.2.1 ?_
      rw [s3.2.2.2.1]
      rcases hH with ⟨hm, hH⟩ | ⟨hm, hH⟩
      · refine wp_neg (by omega) (nxt σ3 s3 F3 hat (by rw [hH]; rfl))
      · refine wp_pos hm (wp_gd s3.1.2.2.2.1.1.2.2.2.2.2.1 (wp_c1 (wp_mono (allHold_wp hn hW h8 s3.1 ⟨s3.2.1, hVT _ _ hVn⟩) fun y hy => ?_)))
        obtain ⟨y1, y2, y3⟩ := hy
        have s4 : MS σ0 y.2 k l m S K ps cs its os M mode (bnd env (pV p) nn) us c1' L := ⟨s3.1.fr y2, fun i i0 i8 => (y3 _ _ (by decide)).trans (s3.2.1 i i0 i8), fun e e0 e1 => (y3 _ _ (by decide)).trans (s3.2.2.1 e e0 e1), (y3 _ _ (by decide)).trans s3.2.2.2.1, (y3 _ _ (by decide)).trans s3.2.2.2.2.1, s3.2.2.2.2.2.fr fun r i g1 g2 => y3 r i (by omega)⟩
        by_cases hh : cH (run l) K cs (bnd env (pV p) nn) = true
        · rw [if_pos hh] at y1
          exact wp_neg (by omega) (nxt y.2 s4 (F3.trans y2) ((y3 _ _ (by decide)).trans hat) (by rw [hH]; exact hh))
        · rw [if_neg hh] at y1
          refine wp_pos y1 (unb y.2 ?_)
          rw [hH, if_neg hh] at hB
          rw [hB]
          rw [hB] at hOB
          exact ⟨by rw [cU_m0 hOB.2.1, LU_m0]; exact s4, F3.trans y2⟩
    have h135 : ∀ s0 : Int, (s0 = 0 ∧ (∀ i : Int, 0 ≤ i → i < 8 → env i = bnd env (pV p) nn i)) ∨ (s0 = 1 ∧ (0 ≤ pV p ∧ pV p < M) ∧ env (pV p) = -1) → Wp (b_X6_arrive_135 n rN 1014 i nn (pV p) s0 σ1) fun σ' => MP σ0 σ1 k l m S K ps cs its os M mode env us c1' L B σ' := fun s0 hs0 => by
      unfold b_X6_arrive_135
      rcases hs0 with ⟨z, hz⟩ | ⟨z, o1, o2⟩
      · rw [z]
        exact wp_pos rfl (run150 σ1 0 (Or.inl rfl) (s1.envc fun i i0 i8 => (hz i i0 i8).symm) MFr.rf (fun _ => hz) (fun u => absurd u (by decide)))
      · rw [z]
        refine wp_neg (by decide) (wp_gd kd1.1.2.2.2.2.2.1 ?_)
        rw [fd1.1.2.2.2.2.1]
        refine wp_gd ⟨kd1.1.2.2.2.2.2.2.2.1, o1.1, by rw [kd1.2.2.2.2.2.2.1]; omega⟩ (wp_nm0 ?_)
        obtain ⟨s2, F2⟩ := s1.wr_env (v := pV p) (a := nn) ⟨o1.1, by omega⟩
        have eb : bnd env (pV p) nn = ud env (pV p) nn := by unfold bnd; rw [if_neg (by omega)]
        rw [← eb] at s2
        exact run150 _ 1 (Or.inr rfl) s2 F2 (fun u => absurd u (by decide)) (fun _ => ⟨o1, o2⟩)
    unfold b_X6_arrive_113 b_X6_arrive_134
    by_cases cv : pV p = -1
    · refine wp_pos cv (h135 0 (Or.inl ⟨rfl, fun i _ _ => ?_⟩))
      unfold bnd
      rw [if_pos cv]
    · have hv2 : 0 ≤ pV p ∧ pV p < M := hv.resolve_left cv
      refine wp_neg cv (wp_gd kd1.1.2.2.2.2.2.1 ?_)
      rw [fd1.1.2.2.2.2.1]
      refine wp_gd ⟨kd1.1.2.2.2.2.2.2.2.1, hv2.1, by rw [kd1.2.2.2.2.2.2.1]; omega⟩ ?_
      rw [s1.2.1 _ hv2.1 (by omega)]
      refine wp_ite (fun z => h135 1 (Or.inr ⟨rfl, hv2, z⟩)) fun z => h135 0 (Or.inl ⟨rfl, fun i _ _ => ?_⟩)
      unfold canA at hcan
      rw [decide_eq_true_eq] at hcan
      have := hcan.1
      unfold bnd ud
      rw [if_neg cv]
      by_cases e : i = pV p
      · rw [if_pos e, e]
        rcases this with u | u | u
        · exact absurd u cv
        · exact absurd u z
        · exact u
      · rw [if_neg e]
  -- the count
  have h96 : canA (run l) p env nn = true → c ≤ 10000 → Wp (b_X6_arrive_96 n rN 1014 i nn (pV p) σ) (MP σ0 σ k l m S K ps cs its os M mode env us c L (arrC (run l) p H Kp nn env us)) := fun hcan hnf => by
    have eA : arrC (run l) p H Kp nn env us = madd (1, []) (if H (bnd env (pV p) nn) = true then Kp nn (bnd env (pV p) nn) us else m0) := by
      unfold arrC
      rw [if_pos hcan]
    rw [eA] at hO ⊢
    obtain ⟨hO1, hO2⟩ := hO.up
    have fin : ∀ σ', MP σ0 σ k l m S K ps cs its os M mode env us (cU mode c (1, [])) (LU mode L (1, [])) (if H (bnd env (pV p) nn) = true then Kp nn (bnd env (pV p) nn) us else m0) σ' → MP σ0 σ k l m S K ps cs its os M mode env us c L (madd (1, []) (if H (bnd env (pV p) nn) = true then Kp nn (bnd env (pV p) nn) us else m0)) σ' := fun σ' hm => by
      obtain ⟨s, F⟩ := hm
      rw [cU_add, LU_add] at s
      exact ⟨s, F⟩
    have eL : LU mode L (1, []) = L := by
      unfold LU
      by_cases a : mode = 1
      · rw [if_pos a]
      · rw [if_neg a]; exact List.append_nil _
    rw [eL] at fin hO2
    unfold b_X6_arrive_96
    refine wp_gd k14 ?_
    rw [h4]
    rcases hH with ⟨hm, hH'⟩ | ⟨hm, hH'⟩
    · refine wp_neg (by omega) (wp_gd k14 ?_)
      rw [h5, gI_pos (by have := hO.1; omega)]
      refine wp_gd k14 (wp_nm0 ?_)
      obtain ⟨s2, F2⟩ := h.wr_c (a := c + 1)
      have ec : cU mode c (1, []) = c + 1 := by
        unfold cU
        rw [if_pos hm]
        show (if c + ((1 : Nat) : Int) ≤ 10001 then c + ((1 : Nat) : Int) else 10001) = c + 1
        rw [if_pos (by omega)]; omega
      rw [ec] at fin hO2
      refine wp_mono (go _ (c + 1) _ s2 F2 hcan rfl hO2) fun σ' hm' => fin σ' ⟨hm'.1, F2.trans hm'.2⟩
    · refine wp_pos hm ?_
      have ec : cU mode c (1, []) = c := by
        unfold cU
        rw [if_neg (by omega)]
      rw [ec] at fin hO2
      exact wp_mono (go σ c _ h MFr.rf hcan rfl hO2) fin
  have h54 : ∀ s0 : Int, (s0 = 0 ∧ ¬ (pV p = -1 ∨ env (pV p) = -1 ∨ env (pV p) = nn)) ∨ (s0 = 1 ∧ (pV p = -1 ∨ env (pV p) = -1 ∨ env (pV p) = nn)) → Wp (b_X6_arrive_54 n rN 1014 i nn r (pV p) s0 σ) (MP σ0 σ k l m S K ps cs its os M mode env us c L (arrC (run l) p H Kp nn env us)) := fun s0 hs0 => by
    have no : ¬ canA (run l) p env nn = true → Wp (some σ) (MP σ0 σ k l m S K ps cs its os M mode env us c L (arrC (run l) p H Kp nn env us)) := fun hc => by
      have eA : arrC (run l) p H Kp nn env us = m0 := by unfold arrC; rw [if_neg hc]
      rw [eA]
      exact wp_ok (MP.stay h hO.2.1)
    unfold b_X6_arrive_54
    refine wp_gd k14 (wp_c1e (isFull_eq h) ?_)
    by_cases hf : c ≤ 10000
    · rw [if_pos hf]
      refine wp_pos rfl ?_
      rcases hs0 with ⟨z, hz⟩ | ⟨z, hz⟩
      · rw [z]
        refine wp_pos rfl (no fun u => hz ?_)
        unfold canA at u
        rw [decide_eq_true_eq] at u
        exact u.1
      · rw [z]
        refine wp_neg (by decide) (wp_gd nd1 (wp_c1e eLb ?_))
        refine wp_ite (fun cl => h96 ?_ hf) fun cl => ?_
        · unfold canA
          exact decide_eq_true ⟨hz, Or.inl cl⟩
        · refine wp_gd k14 ?_
          rw [hfd.1.1]
          refine wp_gd hgv.1.2.2.1 ?_
          rw [hgv.1.2.2.2.1]
          refine wp_gd ⟨hgv.1.2.2.2.2.2.1, hnd.1, by rw [hgv.1.2.2.2.2.2.2.1]; exact hnd.2.1⟩ (wp_gd gnd.1 (wp_gd nd1 (wp_c1e eLb ?_)))
          rw [gnd.2.1]
          refine wp_ite (fun e => h96 ?_ hf) fun e => no fun u => ?_
          · unfold canA
            exact decide_eq_true ⟨hz, Or.inr e⟩
          · unfold canA at u
            rw [decide_eq_true_eq] at u
            exact u.2.elim cl e
    · rw [if_neg hf]
      exact wp_neg (by decide) (wp_ok (MP.full h hO hf))
  unfold b_X6_arrive b_X6_arrive_49
  refine wp_gd k14 ?_
  rw [e2]
  refine wp_gd k0 ?_
  rw [e0]
  refine wp_gd (lsok_kd hL (by decide)) (wp_c1e hget (wp_gd (Or.inr nd1) (wp_gd nd1 (wp_c1e eV ?_))))
  refine wp_ite (fun cv => h54 1 (Or.inr ⟨rfl, Or.inl cv⟩)) fun cv => ?_
  have hv2 : 0 ≤ pV p ∧ pV p < M := hv.resolve_left cv
  refine wp_gd k14 ?_
  rw [e144]
  refine wp_gd ⟨kd16, hv2.1, by rw [ln16]; omega⟩ ?_
  rw [h2 _ hv2.1 (by omega)]
  refine wp_ite (fun z => h54 1 (Or.inr ⟨rfl, Or.inr (Or.inl z)⟩)) fun z => wp_gd k14 ?_
  refine wp_gd ⟨kd16, hv2.1, by rw [ln16]; omega⟩ ?_
  exact wp_ite (fun e => h54 1 (Or.inr ⟨rfl, Or.inr (Or.inr e)⟩)) fun e => h54 0 (Or.inl ⟨rfl, fun u => by rcases u with u | u | u; exact cv u; exact z u; exact e u⟩)
end MD
