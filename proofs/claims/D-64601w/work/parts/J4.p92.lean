/-! THE TWIN'S nameOf -/
set_option maxRecDepth 100000
/-- the next token, or none -/
def NxR (T : List Int) (q : Int) (w : Int × TT) : Prop := (w.1 = 1 ∧ TkT w.2 T q) ∨ (w.1 = 0 ∧ tkC T q = 50 ∧ Flw w.2 1 q)
/-- what the twin's nameOf writes -/
def NoF (τ τ' : TT) : Prop := ∀ r j, ¬ (r = 1022 ∧ ((17 ≤ j ∧ j ≤ 22) ∨ (26 ≤ j ∧ j ≤ 28) ∨ j = 41)) → ¬ (1034 ≤ r ∧ r ≤ 1036) → τ' r j = τ r j
section NO
variable {τ : TT} {n : Nat} {q a : Int} {T : List Int} {NL : List (List Int)}
theorem tw_next2 (hn : 1000000 ≤ n) (hb : BtOk T) (hT : TpT τ T) (h21 : τ 1022 21 = tkE T q) (h0 : 0 ≤ q ∧ q ≤ T.length) : Wp (g_X7_next n 1022 τ) fun w => LxF τ w.2 ∧ NxR T (nxq T q) w := by
  have hE := tkE_le (T := T) h0.2
  refine wp_mono (tw_next hn hb hT h21 ⟨by omega, hE.2.1⟩) fun w hw => ⟨hw.2.2, ?_⟩
  by_cases c : tkC T (nxq T q) = 50
  · obtain ⟨e1, e2⟩ := hw.2.1 c
    exact Or.inr ⟨e1, c, e2⟩
  · exact Or.inl (hw.1 c)
def wrg (τ : TT) (c p : Int) : TT := if τ 1022 28 ≤ p then τ else sa (sa τ 1022 27 c) 1022 28 p
theorem wrong_eq {c p : Int} : g_X7_wrong 1022 c p τ = some (wrg τ c p) := by
  unfold g_X7_wrong wrg
  split
  · rfl
  · rfl
theorem wrg_at {c p r j : Int} (h : ¬ (r = 1022 ∧ (j = 27 ∨ j = 28))) : wrg τ c p r j = τ r j := by
  unfold wrg
  split
  · rfl
  · rw [sa_at, if_neg (fun w => h ⟨w.1, Or.inr w.2⟩), sa_at, if_neg (fun w => h ⟨w.1, Or.inl w.2⟩)]
/-- the tail: kind and place are noted, the next token is read -/
theorem nameOf_86 (hn : 1000000 ≤ n) (hb : BtOk T) (hT : TpT τ T) (h21 : τ 1022 21 = tkE T q) (h0 : 0 ≤ q ∧ q ≤ T.length) {i : Nat} (hi : i < 9) {v : Int} : Wp (g_X7_nameOf_86 n 1022 i 1036 i v τ) fun w => LxF (sa (sa τ 1036 i v) 1022 41 i) w.2 ∧ NxR T (nxq T q) w := by
  unfold g_X7_nameOf_86
  refine wp_gd ⟨by omega, by show (i : Int) < 9; omega⟩ (wp_nm0 (wp_nm0 (wp_t1 (wp_mono (tw_next2 (q := q) hn hb ?_ ?_ h0) fun w hw => wp_gd ?_ (wp_ok hw)))))
  · refine ⟨?_, fun j hj => ?_⟩
    · rw [sa_at, if_neg (by omega), sa_at, if_neg (by omega)]; exact hT.1
    · rw [sa_at, if_neg (by omega), sa_at, if_neg (by omega)]; exact hT.2 j hj
  · rw [sa_at, if_neg (by omega), sa_at, if_neg (by omega)]; exact h21
  · rcases hw.2 with u | u <;> omega
/-- the outcome -/
def NoQ (T : List Int) (NL : List (List Int)) (τ : TT) (q a : Int) (w : Int × TT) : Prop :=
  (slc T q (tkE T q) ∈ NL → NxR T (nxq T q) w ∧ LxF (sa (sa (if a = 2 ∨ τ 1036 (pos (slc T q (tkE T q)) NL) = 2 then wrg (sa τ 1022 41 (-1)) 4 q else sa τ 1022 41 (-1)) 1036 (pos (slc T q (tkE T q)) NL) (τ 1036 (pos (slc T q (tkE T q)) NL))) 1022 41 (pos (slc T q (tkE T q)) NL)) w.2) ∧
  (¬ slc T q (tkE T q) ∈ NL → NL.length < 8 → NxR T (nxq T q) w ∧ LxF (sa (sa (addT (sa τ 1022 41 (-1)) NL.length q (tkE T q)) 1036 NL.length a) 1022 41 NL.length) w.2) ∧
  (¬ slc T q (tkE T q) ∈ NL → NL.length = 8 → w.1 = 0 ∧ Flw w.2 3 q ∧ NoF τ w.2)
theorem tw_nameOf (hn : 1000000 ≤ n) (hb : BtOk T) (hT : TpT τ T) (hk : TkT τ T q) (h1 : tkC T q = 1) (hN : NmT τ T NL) (hK : ∀ i : Nat, i < NL.length → τ 1036 i ≠ 0) : Wp (g_X7_nameOf n 1022 a τ) (NoQ T NL τ q a) := by
  obtain ⟨k1, k2, k3, k4, k5, k6, k7⟩ := hk
  have hE := tkE_le (T := T) k7
  have s0 : ∀ r j, ¬ (r = 1022 ∧ j = 41) → sa τ 1022 41 (-1) r j = τ r j := fun r j h => by rw [sa_at, if_neg h]
  unfold g_X7_nameOf
  refine wp_nm0 ?_
  have hT0 : TpT (sa τ 1022 41 (-1)) T := ⟨by rw [s0 _ _ (by omega)]; exact hT.1, fun i hi => by rw [s0 _ _ (by omega)]; exact hT.2 i hi⟩
  have hN0 : NmT (sa τ 1022 41 (-1)) T NL := hN.congr (s0 _ _ (by omega)) fun i => ⟨s0 _ _ (by omega), s0 _ _ (by omega)⟩
  have e19 : sa τ 1022 41 (-1) 1022 19 = 1 := by rw [s0 _ _ (by omega), k2]; exact h1
  have e20 : sa τ 1022 41 (-1) 1022 20 = q := by rw [s0 _ _ (by omega)]; exact k1
  have e21 : sa τ 1022 41 (-1) 1022 21 = tkE T q := by rw [s0 _ _ (by omega)]; exact k3
  have e36 : ∀ i, sa τ 1022 41 (-1) 1036 i = τ 1036 i := fun i => s0 _ _ (by omega)
  refine wp_pos e19 (wp_nm0 ?_)
  rw [tw_name hn hT0 hb hN0 e20 e21 ⟨k6, hE.1⟩ hE.2.1]
  generalize hτ0 : sa τ 1022 41 (-1) = τ0 at *
  unfold NoQ
  rw [hτ0, e20]
  by_cases hm : slc T q (tkE T q) ∈ NL
  · rw [if_pos hm, t1_at]
    have hp := pos_mem.mpr hm
    have h8 := hN.2.1
    generalize hpp : pos (slc T q (tkE T q)) NL = i at *
    have hki := hK i hp
    refine wp_neg (by omega) (wp_gd ⟨by omega, by omega⟩ (wp_neg (by rw [e36]; exact hki) ?_))
    have fin : ∀ τ1 : TT, (∀ r j, ¬ (r = 1022 ∧ (j = 27 ∨ j = 28)) → τ1 r j = τ0 r j) → Wp (g_X7_nameOf_62 n 1022 a i τ1) fun w => LxF (sa (sa τ1 1036 i (τ 1036 i)) 1022 41 i) w.2 ∧ NxR T (nxq T q) w := fun τ1 h1' => by
      unfold g_X7_nameOf_62
      have e : τ1 1036 i = τ 1036 i := (h1' _ _ (by omega)).trans (e36 i)
      rw [e]
      refine wp_gd ⟨by omega, by omega⟩ (wp_neg hki (wp_gd ⟨by omega, by omega⟩ ?_))
      exact nameOf_86 hn hb ⟨by rw [h1' _ _ (by omega)]; exact hT0.1, fun j hj => by rw [h1' _ _ (by omega)]; exact hT0.2 j hj⟩ (by rw [h1' _ _ (by omega)]; exact e21) ⟨k6, k7⟩ (by omega)
    have viaW : (a = 2 ∨ τ 1036 i = 2) → Wp (g_X7_nameOf_56 n (g_X7_nameOf_62 n) 1022 a q i τ0) fun w => (slc T q (tkE T q) ∈ NL → NxR T (nxq T q) w ∧ LxF (sa (sa (if a = 2 ∨ τ 1036 i = 2 then wrg τ0 4 q else τ0) 1036 i (τ 1036 i)) 1022 41 i) w.2) ∧ (¬ slc T q (tkE T q) ∈ NL → NL.length < 8 → NxR T (nxq T q) w ∧ LxF (sa (sa (addT τ0 NL.length q (tkE T q)) 1036 NL.length a) 1022 41 NL.length) w.2) ∧ (¬ slc T q (tkE T q) ∈ NL → NL.length = 8 → w.1 = 0 ∧ Flw w.2 3 q ∧ NoF τ w.2) := fun hw => by
      unfold g_X7_nameOf_56
      rw [if_pos hw]
      exact wp_t0e wrong_eq (wp_mono (fin _ fun r j h => wrg_at h) fun w h => ⟨fun _ => ⟨h.2, h.1⟩, fun u => absurd hm u, fun u => absurd hm u⟩)
    refine wp_ite (fun ha => viaW (Or.inl ha)) fun ha => wp_gd ⟨by omega, by omega⟩ ?_
    rw [e36]
    refine wp_ite (fun hk2 => viaW (Or.inr hk2)) fun hk2 => ?_
    rw [if_neg (fun u => u.elim ha hk2)]
    exact wp_mono (fin τ0 fun _ _ _ => rfl) fun w h => ⟨fun _ => ⟨h.2, h.1⟩, fun u => absurd hm u, fun u => absurd hm u⟩
  · rw [if_neg hm]
    by_cases c8 : NL.length = 8
    · rw [if_pos c8, t1_at]
      refine wp_pos rfl (wp_ok ⟨fun u => absurd u hm, fun _ u => by omega, fun _ _ => ⟨rfl, ⟨?_, ?_⟩, fun r j w _ => by
        show sa (sa τ0 1022 17 3) 1022 18 q r j = τ r j
        rw [sa_at, if_neg (fun u => w ⟨u.1, by omega⟩), sa_at, if_neg (fun u => w ⟨u.1, by omega⟩)]
        exact s0 r j (fun u => w ⟨u.1, by omega⟩)⟩⟩)
      · show sa (sa τ0 1022 17 3) 1022 18 q 1022 17 = 3
        exact flw_sa.1
      · show sa (sa τ0 1022 17 3) 1022 18 q 1022 18 = q
        exact flw_sa.2
    · have h8 := hN.2.1
      rw [if_neg c8, t1_at]
      have e0 : addT τ0 NL.length q (tkE T q) 1036 NL.length = 0 := by
        unfold addT
        rw [sa_at, if_neg (by omega), sa_at, if_pos ⟨rfl, rfl⟩]
      have ea : ∀ j, ¬ j = 26 → addT τ0 NL.length q (tkE T q) 1022 j = τ0 1022 j := fun j hj => by
        unfold addT
        rw [sa_at, if_neg (by omega), sa_at, if_neg (by omega), sa_at, if_neg (by omega), sa_at, if_neg (by omega)]
      have eb : ∀ j, addT τ0 NL.length q (tkE T q) 1033 j = τ0 1033 j := fun j => by
        unfold addT
        rw [sa_at, if_neg (by omega), sa_at, if_neg (by omega), sa_at, if_neg (by omega), sa_at, if_neg (by omega)]
      refine wp_neg (by omega) (wp_gd ⟨by omega, by omega⟩ (wp_pos e0 ?_))
      unfold g_X7_nameOf_62
      refine wp_gd ⟨by omega, by omega⟩ (wp_pos e0 ?_)
      refine wp_mono (nameOf_86 (q := q) hn hb ⟨by rw [ea _ (by omega)]; exact hT0.1, fun j hj => by rw [eb]; exact hT0.2 j hj⟩ (by rw [ea _ (by omega)]; exact e21) ⟨k6, k7⟩ (by omega)) fun w h => ⟨fun u => absurd u hm, fun _ _ => ⟨h.2, h.1⟩, fun _ u => absurd u c8⟩
end NO
