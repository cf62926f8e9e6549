/-! THE TAPE: feed, end (the chain of twenty bytes is printed by a program) -/
set_option maxRecDepth 100000
def byt (v k : Int) : Int := i2bW (ishrW v k)
theorem byt_rng {v k : Int} : -128 ≤ byt v k ∧ byt v k ≤ 127 := by
  unfold byt i2bW
  rw [Int8.toInt_toInt32]
  have h1 := Int8.le_toInt (Int32.ofInt (ishrW v k)).toInt8
  have h2 := Int8.toInt_lt (Int32.ofInt (ishrW v k)).toInt8
  exact ⟨by omega, by omega⟩
def byts (v : Int) : List Int := [byt v 24, byt v 16, byt v 8, byt v 0]
def TpC (σ : AS) (T : List Int) : Prop := ld σ 1000 2 = 1006 ∧ kd σ 1006 = 102 ∧ ln σ 1006 = 2000 ∧ ld σ 1000 3 = T.length ∧ T.length ≤ 2000 ∧ ∀ i : Nat, i < T.length → ld σ 1006 i = T.getD i 0
def TpT (τ : TT) (T : List Int) : Prop := τ 1022 16 = T.length ∧ ∀ i : Nat, i < T.length → τ 1033 i = T.getD i 0
def TpX : Int → Prop := fun r => r = 1000 ∨ r = 1006
def TpF (τ τ' : TT) : Prop := ∀ r j, r ≠ 1033 → ¬ (r = 1022 ∧ (j = 0 ∨ j = 16)) → τ' r j = τ r j
theorem TpF.rf {τ : TT} : TpF τ τ := fun _ _ _ _ => rfl
theorem TpF.trans {τ τ1 τ2 : TT} (h : TpF τ τ1) (h' : TpF τ1 τ2) : TpF τ τ2 := fun r j a b => (h' r j a b).trans (h r j a b)
theorem TI.t {τ τ' : TT} {k : Nat} {l : List Ch} (h : TI τ k l) (hF : TpF τ τ') : TI τ' k l := by
  obtain ⟨h1, h2, h3⟩ := h
  exact ⟨h1.frame (fun r j a b => hF r j (by omega) (by omega)) (hF _ _ (by omega) (by omega)), h2.frame (fun j => hF _ _ (by omega) (by omega)) (hF _ _ (by omega) (by omega)) (hF _ _ (by omega) (by omega)), h3⟩
theorem getD_snoc {T : List Int} {b : Int} {i : Nat} (h : i < T.length + 1) : (T ++ [b]).getD i 0 = if i = T.length then b else T.getD i 0 := by
  by_cases c : i = T.length
  · rw [if_pos c, c]; exact getD_mid
  · rw [if_neg c, List.getD_eq_getElem?_getD, List.getD_eq_getElem?_getD, List.getElem?_append_left (by omega)]
section TAPE
variable {σ σ0 : AS} {τ τ0 : TT} {T : List Int} {n : Nat} {k : Nat} {l : List Ch} {m : Int}
/-- the component while it feeds -/
def FdC (σ0 σ : AS) (T : List Int) : Prop := TpC σ T ∧ Fr TpX σ0 σ ∧ nx σ = nx σ0 ∧ us σ = us σ0 ∧ ∀ j, j ≠ 3 → ld σ 1000 j = ld σ0 1000 j
theorem word_step {v kk : Int} {q : Nat} {Q : AS → Prop} (hk : kd σ 1000 = 1) (h : FdC σ0 σ T) (hT : T.length < 2000) (h0 : 0 ≤ kk ∧ kk ≤ 100) (hK : ∀ σ', kd σ' 1000 = 1 → FdC σ0 σ' (T ++ [byt v kk]) → Wp (f_X1_word_3 n q 1000 v (kk + -8) σ') Q) : Wp (f_X1_word_3 n (q + 1) 1000 v kk σ) Q := by
  obtain ⟨⟨a1, a2, a3, a4, a5, a6⟩, b1, b2, b3, b4⟩ := h
  unfold f_X1_word_3
  refine wp_neg (by omega) (wp_gd hk (wp_gd hk ?_))
  rw [a4, a1]
  refine wp_nm0 (wp_gI (by omega) (wp_gd hk (wp_nm0 (wp_gd ⟨a2, by omega, by show (T.length : Int) < ln σ 1006; omega⟩ (wp_gd byt_rng (wp_nm0 (wp_gI (by omega) (wp_nm0 ?_))))))))
  refine hK _ hk ⟨⟨?_, a2, a3, ?_, by simp; omega, fun i hi => ?_⟩, (b1.trans (Fr.wr (Or.inl rfl))).trans (Fr.wr (Or.inr rfl)), b2, b3, fun j hj => ?_⟩
  · rw [ld_wr, if_neg (by omega), ld_wr, if_neg (by omega)]; exact a1
  · rw [ld_wr, if_neg (by omega), ld_wr, if_pos ⟨rfl, rfl⟩]; simp
  · have hi' : i < T.length + 1 := by simpa using hi
    rw [getD_snoc hi', ld_wr]
    by_cases c : i = T.length
    · rw [if_pos ⟨rfl, by rw [c]⟩, if_pos c]; rfl
    · rw [if_neg (fun z => c (by omega)), if_neg c, ld_wr, if_neg (by omega)]
      exact a6 i (by omega)
  · rw [ld_wr, if_neg (by omega), ld_wr, if_neg (fun z => hj z.2)]; exact b4 j hj
theorem word_wp {v : Int} (hn : 1000000 ≤ n) (hk : kd σ 1000 = 1) (h : FdC σ0 σ T) (hT : T.length + 4 ≤ 2000) : Wp (f_X1_word n 1000 v σ) fun σ' => kd σ' 1000 = 1 ∧ FdC σ0 σ' (T ++ byts v) := by
  obtain ⟨q, rfl⟩ : ∃ z, n = z + 5 := ⟨n - 5, by omega⟩
  unfold f_X1_word
  refine word_step (q := q + 4) hk h (by omega) ⟨by decide, by decide⟩ fun σ1 k1 h1 => ?_
  rw [show (24 : Int) + -8 = 16 from rfl]
  refine word_step (q := q + 3) k1 h1 (by simp; omega) ⟨by decide, by decide⟩ fun σ2 k2 h2 => ?_
  rw [show (16 : Int) + -8 = 8 from rfl]
  refine word_step (q := q + 2) k2 h2 (by simp; omega) ⟨by decide, by decide⟩ fun σ3 k3 h3 => ?_
  rw [show (8 : Int) + -8 = 0 from rfl]
  refine word_step (q := q + 1) k3 h3 (by simp; omega) ⟨by decide, by decide⟩ fun σ4 k4 h4 => ?_
  unfold f_X1_word_3
  refine wp_pos (by decide) (wp_ok ⟨k4, ?_⟩)
  rw [List.append_assoc, List.append_assoc, List.append_assoc] at h4
  exact h4
def fed (a b c d e : Int) : List Int := byts a ++ byts b ++ byts c ++ byts d ++ byts e
theorem X0_feed_law {a b c d e : Int} (hn : 1000000 ≤ n) (h : CX σ k l m) (ho : Out σ) (hT : TpC σ T) (hl : T.length + 20 ≤ 2000) : Wp (f_X0_feed n 1000 a b c d e 1053 σ) fun y => y.1 = 0 ∧ ld y.2 1053 0 = T.length + 20 ∧ TpC y.2 (T ++ fed a b c d e) ∧ CX y.2 k l m ∧ Fr (fun r => TpX r ∨ r = 1053) σ y.2 ∧ (∀ j, j ≠ 3 → ld y.2 1000 j = ld σ 1000 j) ∧ nx y.2 = nx σ ∧ us y.2 = us σ := by
  have hx := h.nx
  unfold f_X0_feed
  refine wp_gd h.k0 (wp_cy_inr ?_)
  unfold f_X1_feed
  refine wp_gd h.k0 ?_
  rw [hT.2.2.2.1]
  refine wp_gI (by omega) (wp_neg (by omega) ?_)
  unfold f_X1_feed_18 f_X1_room
  rw [if_neg (by decide), cx_inr]
  refine wp_gd h.k0 (wp_c0 (wp_mono (word_wp (v := a) hn h.k0 ⟨hT, Fr.rf, rfl, rfl, fun _ _ => rfl⟩ (by omega)) fun σ1 h1 => wp_gd h1.1 ?_))
  refine wp_c0 (wp_mono (word_wp (v := b) hn h1.1 h1.2 (by simp [byts]; omega)) fun σ2 h2 => wp_gd h2.1 ?_)
  refine wp_c0 (wp_mono (word_wp (v := c) hn h2.1 h2.2 (by simp [byts]; omega)) fun σ3 h3 => wp_gd h3.1 ?_)
  refine wp_c0 (wp_mono (word_wp (v := d) hn h3.1 h3.2 (by simp [byts]; omega)) fun σ4 h4 => wp_gd h4.1 ?_)
  refine wp_c0 (wp_mono (word_wp (v := e) hn h4.1 h4.2 (by simp [byts]; omega)) fun σ5 h5 => wp_gd h5.1 (wp_ok ⟨_, rfl, ?_⟩))
  obtain ⟨-, ⟨⟨a1, a2, a3, a4, a5, a6⟩, b1, b2, b3, b4⟩⟩ := h5
  have eT : T ++ byts a ++ byts b ++ byts c ++ byts d ++ byts e = T ++ fed a b c d e := by
    unfold fed
    simp only [List.append_assoc]
  rw [eT] at a4 a5 a6
  have elen : ((T ++ fed a b c d e).length : Int) = T.length + 20 := by simp [fed, byts]
  rw [elen] at a4
  have hcx : CX σ5 k l m := h.other b1 (fun r z => by have z' : r = 1000 ∨ r = 1006 := z; omega) ⟨b4 0 (by decide), b4 1 (by decide)⟩
  refine wp_gd ⟨by rw [b1.kd (by omega)]; exact ho.1, by decide, by rw [b1.ln (by omega), ho.2]; decide⟩ (wp_nm0 (wp_ok ⟨rfl, ?_, ⟨?_, a2, a3, ?_, a5, fun i hi => ?_⟩, hcx.set (Or.inr ⟨by decide, by decide⟩), (b1.sub fun _ _ z => Or.inl z).trans (Fr.wr (Or.inr rfl)), fun j hj => ?_, b2, b3⟩))
  · show ld (wr σ5 1053 0 _) 1053 0 = _
    rw [ld_wr, if_pos ⟨rfl, rfl⟩, a4]
  · show ld (wr σ5 1053 0 _) 1000 2 = _
    rw [ld_wr, if_neg (by omega)]; exact a1
  · show ld (wr σ5 1053 0 _) 1000 3 = _
    rw [ld_wr, if_neg (by omega), elen]; exact a4
  · show ld (wr σ5 1053 0 _) 1006 i = _
    rw [ld_wr, if_neg (by omega)]; exact a6 i hi
  · show ld (wr σ5 1053 0 _) 1000 j = _
    rw [ld_wr, if_neg (by omega)]; exact b4 j hj
theorem rem4 : ∀ j : Fin 20, iremW ((j : Nat) : Int) 4 = ((j : Nat) : Int) % 4 := by decide +kernel
def FdT (τ0 τ : TT) (T : List Int) : Prop := TpT τ T ∧ TpF τ0 τ ∧ τ 1022 0 = τ0 1022 0
theorem feed_step {K : Int → Int → Int → Int → Int → Int → Int → TT → Option (Int × TT)} {a b c d e v : Int} {Q : Int × TT → Prop} (j : Fin 20) (kk : Int) (hkk : kk = 24 - 8 * (((j : Nat) : Int) % 4)) (h : FdT τ0 τ T) (hT : T.length < 2000) (hK : ∀ τ', FdT τ0 τ' (T ++ [byt v kk]) → Wp (K 1022 a b c d e (((j : Nat) : Int) + 1) τ') Q) : Wp (g_X7_feed_87 n K 1022 a b c d e ((j : Nat) : Int) v τ) Q := by
  obtain ⟨⟨a1, a2⟩, b1, b2⟩ := h
  unfold g_X7_feed_87
  rw [rem4 j, a1, ← hkk]
  have hj := j.isLt
  refine wp_gI (by omega) (wp_gI (by omega) (wp_gd ⟨by omega, by omega⟩ (wp_gd byt_rng (wp_nm0 ?_))))
  have e16 : sa τ 1033 T.length (i2bW (ishrW v kk)) 1022 16 = T.length := by rw [sa_at, if_neg (by omega)]; exact a1
  rw [e16]
  refine wp_gI (by omega) (wp_nm0 (wp_gI (by omega) (wp_nm0 (hK _ ⟨⟨?_, fun i hi => ?_⟩, fun r i x y => ?_, ?_⟩))))
  · rw [sa_at, if_pos ⟨rfl, rfl⟩]; simp
  · have hi' : i < T.length + 1 := by simpa using hi
    rw [getD_snoc hi', sa_at, if_neg (by omega), sa_at]
    by_cases z : i = T.length
    · rw [if_pos ⟨rfl, by rw [z]⟩, if_pos z]; rfl
    · rw [if_neg (fun w => z (by omega)), if_neg z]
      exact a2 i (by omega)
  · rw [sa_at, if_neg (fun w => y ⟨w.1, Or.inr w.2⟩), sa_at, if_neg (fun w => x w.1)]; exact b1 r i x y
  · rw [sa_at, if_neg (by omega), sa_at, if_neg (by omega)]; exact b2
theorem tw_feed {a b c d e : Int} (hn : 1000000 ≤ n) (h : TI τ k l) (hT : TpT τ T) (hl : T.length + 20 ≤ 2000) : Wp (g_X7_feed n 1022 a b c d e τ) fun y => y.2 1022 0 = 0 ∧ y.1 = T.length + 20 ∧ TpT y.2 (T ++ fed a b c d e) ∧ TI y.2 k l ∧ TpF τ y.2 := by
  obtain ⟨q, rfl⟩ : ∃ z, n = z + 21 := ⟨n - 21, by omega⟩
  unfold g_X7_feed
  rw [hT.1]
  refine wp_gI (by omega) (wp_pos (by omega) ?_)
  unfold g_X7_feed_19
  refine wp_nm0 ?_
  rw [code_at]
  refine wp_pos (by decide) ?_
  have F0 : TpF τ (sa τ 1022 0 0) := fun r j x y => by rw [sa_at, if_neg (fun z => y ⟨z.1, Or.inl z.2⟩)]
  have h0 : FdT (sa τ 1022 0 0) (sa τ 1022 0 0) T := ⟨⟨by rw [sa_at, if_neg (by omega)]; exact hT.1, fun i hi => by rw [sa_at, if_neg (by omega)]; exact hT.2 i hi⟩, TpF.rf, rfl⟩
  unfold g_X7_feed_34
  refine (wp_neg (by decide) (wp_neg (by decide) (feed_step (v := a) 0 24 rfl h0 (by have := hl; omega) fun τ1 h1 => ?_)))
  rw [show (((0 : Fin 20) : Nat) : Int) + 1 = 1 from rfl]
  unfold g_X7_feed_34
  refine (wp_neg (by decide) (wp_neg (by decide) (feed_step (v := a) 1 16 rfl h1 (by have := hl; simp only [List.length_append, List.length_cons, List.length_nil]; omega) fun τ2 h2 => ?_)))
  rw [show (((1 : Fin 20) : Nat) : Int) + 1 = 2 from rfl]
  unfold g_X7_feed_34
  refine (wp_neg (by decide) (wp_neg (by decide) (feed_step (v := a) 2 8 rfl h2 (by have := hl; simp only [List.length_append, List.length_cons, List.length_nil]; omega) fun τ3 h3 => ?_)))
  rw [show (((2 : Fin 20) : Nat) : Int) + 1 = 3 from rfl]
  unfold g_X7_feed_34
  refine (wp_neg (by decide) (wp_neg (by decide) (feed_step (v := a) 3 0 rfl h3 (by have := hl; simp only [List.length_append, List.length_cons, List.length_nil]; omega) fun τ4 h4 => ?_)))
  rw [show (((3 : Fin 20) : Nat) : Int) + 1 = 4 from rfl]
  unfold g_X7_feed_34
  refine (wp_neg (by decide) (wp_pos (by decide) (wp_neg (by decide) (feed_step (v := b) 4 24 rfl h4 (by have := hl; simp only [List.length_append, List.length_cons, List.length_nil]; omega) fun τ5 h5 => ?_))))
  rw [show (((4 : Fin 20) : Nat) : Int) + 1 = 5 from rfl]
  unfold g_X7_feed_34
  refine (wp_neg (by decide) (wp_pos (by decide) (wp_neg (by decide) (feed_step (v := b) 5 16 rfl h5 (by have := hl; simp only [List.length_append, List.length_cons, List.length_nil]; omega) fun τ6 h6 => ?_))))
  rw [show (((5 : Fin 20) : Nat) : Int) + 1 = 6 from rfl]
  unfold g_X7_feed_34
  refine (wp_neg (by decide) (wp_pos (by decide) (wp_neg (by decide) (feed_step (v := b) 6 8 rfl h6 (by have := hl; simp only [List.length_append, List.length_cons, List.length_nil]; omega) fun τ7 h7 => ?_))))
  rw [show (((6 : Fin 20) : Nat) : Int) + 1 = 7 from rfl]
  unfold g_X7_feed_34
  refine (wp_neg (by decide) (wp_pos (by decide) (wp_neg (by decide) (feed_step (v := b) 7 0 rfl h7 (by have := hl; simp only [List.length_append, List.length_cons, List.length_nil]; omega) fun τ8 h8 => ?_))))
  rw [show (((7 : Fin 20) : Nat) : Int) + 1 = 8 from rfl]
  unfold g_X7_feed_34
  refine (wp_neg (by decide) (wp_pos (by decide) (wp_pos (by decide) (wp_neg (by decide) (feed_step (v := c) 8 24 rfl h8 (by have := hl; simp only [List.length_append, List.length_cons, List.length_nil]; omega) fun τ9 h9 => ?_)))))
  rw [show (((8 : Fin 20) : Nat) : Int) + 1 = 9 from rfl]
  unfold g_X7_feed_34
  refine (wp_neg (by decide) (wp_pos (by decide) (wp_pos (by decide) (wp_neg (by decide) (feed_step (v := c) 9 16 rfl h9 (by have := hl; simp only [List.length_append, List.length_cons, List.length_nil]; omega) fun τ10 h10 => ?_)))))
  rw [show (((9 : Fin 20) : Nat) : Int) + 1 = 10 from rfl]
  unfold g_X7_feed_34
  refine (wp_neg (by decide) (wp_pos (by decide) (wp_pos (by decide) (wp_neg (by decide) (feed_step (v := c) 10 8 rfl h10 (by have := hl; simp only [List.length_append, List.length_cons, List.length_nil]; omega) fun τ11 h11 => ?_)))))
  rw [show (((10 : Fin 20) : Nat) : Int) + 1 = 11 from rfl]
  unfold g_X7_feed_34
  refine (wp_neg (by decide) (wp_pos (by decide) (wp_pos (by decide) (wp_neg (by decide) (feed_step (v := c) 11 0 rfl h11 (by have := hl; simp only [List.length_append, List.length_cons, List.length_nil]; omega) fun τ12 h12 => ?_)))))
  rw [show (((11 : Fin 20) : Nat) : Int) + 1 = 12 from rfl]
  unfold g_X7_feed_34
  refine (wp_neg (by decide) (wp_pos (by decide) (wp_pos (by decide) (wp_pos (by decide) (wp_neg (by decide) (feed_step (v := d) 12 24 rfl h12 (by have := hl; simp only [List.length_append, List.length_cons, List.length_nil]; omega) fun τ13 h13 => ?_))))))
  rw [show (((12 : Fin 20) : Nat) : Int) + 1 = 13 from rfl]
  unfold g_X7_feed_34
  refine (wp_neg (by decide) (wp_pos (by decide) (wp_pos (by decide) (wp_pos (by decide) (wp_neg (by decide) (feed_step (v := d) 13 16 rfl h13 (by have := hl; simp only [List.length_append, List.length_cons, List.length_nil]; omega) fun τ14 h14 => ?_))))))
  rw [show (((13 : Fin 20) : Nat) : Int) + 1 = 14 from rfl]
  unfold g_X7_feed_34
  refine (wp_neg (by decide) (wp_pos (by decide) (wp_pos (by decide) (wp_pos (by decide) (wp_neg (by decide) (feed_step (v := d) 14 8 rfl h14 (by have := hl; simp only [List.length_append, List.length_cons, List.length_nil]; omega) fun τ15 h15 => ?_))))))
  rw [show (((14 : Fin 20) : Nat) : Int) + 1 = 15 from rfl]
  unfold g_X7_feed_34
  refine (wp_neg (by decide) (wp_pos (by decide) (wp_pos (by decide) (wp_pos (by decide) (wp_neg (by decide) (feed_step (v := d) 15 0 rfl h15 (by have := hl; simp only [List.length_append, List.length_cons, List.length_nil]; omega) fun τ16 h16 => ?_))))))
  rw [show (((15 : Fin 20) : Nat) : Int) + 1 = 16 from rfl]
  unfold g_X7_feed_34
  refine (wp_neg (by decide) (wp_pos (by decide) (wp_pos (by decide) (wp_pos (by decide) (wp_pos (by decide) (feed_step (v := e) 16 24 rfl h16 (by have := hl; simp only [List.length_append, List.length_cons, List.length_nil]; omega) fun τ17 h17 => ?_))))))
  rw [show (((16 : Fin 20) : Nat) : Int) + 1 = 17 from rfl]
  unfold g_X7_feed_34
  refine (wp_neg (by decide) (wp_pos (by decide) (wp_pos (by decide) (wp_pos (by decide) (wp_pos (by decide) (feed_step (v := e) 17 16 rfl h17 (by have := hl; simp only [List.length_append, List.length_cons, List.length_nil]; omega) fun τ18 h18 => ?_))))))
  rw [show (((17 : Fin 20) : Nat) : Int) + 1 = 18 from rfl]
  unfold g_X7_feed_34
  refine (wp_neg (by decide) (wp_pos (by decide) (wp_pos (by decide) (wp_pos (by decide) (wp_pos (by decide) (feed_step (v := e) 18 8 rfl h18 (by have := hl; simp only [List.length_append, List.length_cons, List.length_nil]; omega) fun τ19 h19 => ?_))))))
  rw [show (((18 : Fin 20) : Nat) : Int) + 1 = 19 from rfl]
  unfold g_X7_feed_34
  refine (wp_neg (by decide) (wp_pos (by decide) (wp_pos (by decide) (wp_pos (by decide) (wp_pos (by decide) (feed_step (v := e) 19 0 rfl h19 (by have := hl; simp only [List.length_append, List.length_cons, List.length_nil]; omega) fun τ20 h20 => ?_))))))
  rw [show (((19 : Fin 20) : Nat) : Int) + 1 = 20 from rfl]
  unfold g_X7_feed_34
  refine wp_pos (by decide) (wp_ok ?_)
  obtain ⟨⟨a1, a2⟩, b1, b2⟩ := h20
  have eT : ((((((((((((((((((((T ++ [byt a 24]) ++ [byt a 16]) ++ [byt a 8]) ++ [byt a 0]) ++ [byt b 24]) ++ [byt b 16]) ++ [byt b 8]) ++ [byt b 0]) ++ [byt c 24]) ++ [byt c 16]) ++ [byt c 8]) ++ [byt c 0]) ++ [byt d 24]) ++ [byt d 16]) ++ [byt d 8]) ++ [byt d 0]) ++ [byt e 24]) ++ [byt e 16]) ++ [byt e 8]) ++ [byt e 0]) = T ++ fed a b c d e := by
    simp [fed, byts]
  rw [eT] at a1 a2
  have elen : ((T ++ fed a b c d e).length : Int) = T.length + 20 := by simp [fed, byts]
  exact ⟨b2.trans code_at, by show τ20 1022 16 = _; rw [a1, elen], ⟨a1, a2⟩, h.t (F0.trans b1), F0.trans b1⟩
theorem take_getD {T : List Int} {a i : Nat} (h : i < a) : (T.take a).getD i 0 = T.getD i 0 := by
  rw [List.getD_eq_getElem?_getD, List.getD_eq_getElem?_getD, List.getElem?_take, if_pos h]
theorem X0_end_law {a : Int} (h : CX σ k l m) (hT : TpC σ T) : Wp (f_X0_end 1000 a σ) fun y => (if 0 ≤ a ∧ a ≤ T.length then y.1 = 0 ∧ TpC y.2 (T.take a.toNat) else y.1 = 1 ∧ TpC y.2 T) ∧ CX y.2 k l m ∧ Fr (fun r => r = 1000) σ y.2 ∧ (∀ j, j ≠ 3 → ld y.2 1000 j = ld σ 1000 j) ∧ nx y.2 ≤ nx σ + 2 ∧ us y.2 ≤ us σ + 6 := by
  have hx := h.nx
  obtain ⟨a1, a2, a3, a4, a5, a6⟩ := hT
  have thr : ¬ (0 ≤ a ∧ a ≤ (T.length : Int)) → Wp (cy (f_X1_end_16 f_X1_end_17 1000 a σ) (fun E5 σ3 => if E5 = 2 then (nm (nx σ3) fun r7 => nm (al σ3 0 0 0) fun σ9 => some (1, σ9)) else (none)) fun _ σ3 => some ((0 : Int), σ3)) fun y => (if 0 ≤ a ∧ a ≤ T.length then y.1 = 0 ∧ TpC y.2 (T.take a.toNat) else y.1 = 1 ∧ TpC y.2 T) ∧ CX y.2 k l m ∧ Fr (fun r => r = 1000) σ y.2 ∧ (∀ j, j ≠ 3 → ld y.2 1000 j = ld σ 1000 j) ∧ nx y.2 ≤ nx σ + 2 ∧ us y.2 ≤ us σ + 6 := fun c => by
    refine wp_cy_inl (E := 2) (s := al σ 0 0 6) rfl (wp_pos rfl (wp_nm0 (wp_nm0 (wp_ok ?_))))
    have F : Fr (fun _ => False) σ (al (al σ 0 0 6) 0 0 0) := (Fr.al (by decide)).trans (Fr.al (by decide))
    refine ⟨?_, (h.al (by decide)).al (by decide), F.sub fun _ _ z => z.elim, fun j _ => F.ld (by omega) (fun z => z) j, by rw [nx_al, nx_al]; omega, by rw [us_al, us_al]; omega⟩
    rw [if_neg c]
    refine ⟨rfl, by rw [F.ld (by omega) (fun z => z)]; exact a1, by rw [F.kd (by omega)]; exact a2, by rw [F.ln (by omega)]; exact a3, by rw [F.ld (by omega) (fun z => z)]; exact a4, a5, fun i hi => by rw [F.ld (by omega) (fun z => z)]; exact a6 i hi⟩
  unfold f_X0_end
  refine wp_gd h.k0 ?_
  unfold f_X1_end
  by_cases c1 : a < 0
  · rw [if_pos c1]
    exact thr (by omega)
  · rw [if_neg c1, gd_pos h.k0, a4]
    by_cases c2 : (T.length : Int) < a
    · rw [if_pos c2]
      exact thr (by omega)
    · rw [if_neg c2]
      unfold f_X1_end_17 f_X1_need
      rw [if_neg (by decide), cx_inr, gd_pos h.k0, nm_eq]
      refine wp_cy_inr (wp_ok ⟨(), rfl, wp_ok ⟨?_, h.set (Or.inl ⟨rfl, by decide⟩), Fr.wr rfl, fun j hj => by rw [ld_wr, if_neg (fun z => hj z.2)], by show nx σ ≤ _; omega, by show us σ ≤ _; omega⟩⟩)
      rw [if_pos (by omega)]
      have lt : (T.take a.toNat).length = a.toNat := by rw [List.length_take]; omega
      refine ⟨rfl, by rw [ld_wr, if_neg (by omega)]; exact a1, a2, a3, by rw [ld_wr, if_pos ⟨rfl, rfl⟩, lt]; omega, by omega, fun i hi => ?_⟩
      rw [ld_wr, if_neg (by omega), take_getD (by omega)]
      exact a6 i (by omega)
theorem tw_end {a : Int} (h : TI τ k l) (hT : TpT τ T) : Wp (g_X7_end 1022 a τ) fun y => (if 0 ≤ a ∧ a ≤ T.length then y 1022 0 = 0 ∧ TpT y (T.take a.toNat) else y 1022 0 = 1 ∧ TpT y T) ∧ TI y k l ∧ TpF τ y := by
  obtain ⟨a1, a2⟩ := hT
  have F0 : ∀ c, TpF τ (sa τ 1022 0 c) := fun c r j x y => by rw [sa_at, if_neg (fun z => y ⟨z.1, Or.inl z.2⟩)]
  have F1 : ∀ (τ' : TT) c, TpF τ' (sa τ' 1022 16 c) := fun τ' c r j x y => by rw [sa_at, if_neg (fun z => y ⟨z.1, Or.inr z.2⟩)]
  have thr : ¬ (0 ≤ a ∧ a ≤ (T.length : Int)) → Wp (g_X7_end_13 g_X7_end_18 1022 a 1022 τ) fun y => (if 0 ≤ a ∧ a ≤ T.length then y 1022 0 = 0 ∧ TpT y (T.take a.toNat) else y 1022 0 = 1 ∧ TpT y T) ∧ TI y k l ∧ TpF τ y := fun c => by
    unfold g_X7_end_13 g_X7_end_18
    refine wp_nm0 ?_
    rw [code_at]
    have e16 : sa τ 1022 0 1 1022 16 = T.length := by rw [sa_at, if_neg (by omega)]; exact a1
    refine wp_neg (by decide) (wp_nm0 (wp_ok ⟨?_, h.t ((F0 1).trans (F1 _ _)), (F0 1).trans (F1 _ _)⟩))
    rw [if_neg c, e16]
    refine ⟨by rw [sa_at, if_neg (by omega)]; exact code_at, by rw [sa_at, if_pos ⟨rfl, rfl⟩], fun i hi => ?_⟩
    rw [sa_at, if_neg (by omega), sa_at, if_neg (by omega)]
    exact a2 i hi
  unfold g_X7_end
  by_cases c1 : a < 0
  · exact wp_pos c1 (thr (by omega))
  · refine wp_neg c1 ?_
    rw [a1]
    by_cases c2 : a ≤ (T.length : Int)
    · refine wp_pos c2 ?_
      unfold g_X7_end_18
      refine wp_nm0 ?_
      rw [code_at]
      refine wp_pos rfl (wp_nm0 (wp_ok ⟨?_, h.t ((F0 0).trans (F1 _ _)), (F0 0).trans (F1 _ _)⟩))
      rw [if_pos (by omega)]
      have lt : (T.take a.toNat).length = a.toNat := by rw [List.length_take]; omega
      refine ⟨by rw [sa_at, if_neg (by omega)]; exact code_at, by rw [sa_at, if_pos ⟨rfl, rfl⟩, lt]; omega, fun i hi => ?_⟩
      rw [sa_at, if_neg (by omega), sa_at, if_neg (by omega), take_getD (by omega)]
      exact a2 i (by omega)
    · exact wp_neg c2 (thr (by omega))
end TAPE
