/-! THE GRAPH: a property changes -/
set_option maxRecDepth 100000
section GC
variable {σ σ' : AS} {Ow Ow' : F1} {S : Int → Prop} {p r key : Int} {TH : Int → Prop} {fm : Int → F1} {no ed ty fr too : F1} {mc mc' cN cE cP cN' cE' cP' : Int}
/-- nothing of the things is written -/
theorem GI.frame (h : GI σ Ow TH fm no ed ty fr too mc cN cE cP) (hF : Fr S σ σ') (hO : ∀ r, r < nx σ → Ow' r = Ow r) (hS0 : ∀ r, S r → 1000 ≤ r ∧ r ≠ 1002 ∧ r ≠ 1003) (h1 : ld σ' 1001 0 = 1002 ∧ ld σ' 1001 1 = 1003 ∧ ld σ' 1001 2 = cN' ∧ ld σ' 1001 3 = cE' ∧ ld σ' 1001 4 = cP') (hS : ∀ r, 1054 ≤ r → S r → Ow r < 8) (hm : mc ≤ mc') : GI σ' Ow' TH fm no ed ty fr too mc' cN' cE' cP' := by
  obtain ⟨a1, a2, a3, a4, a5, a6, a7, a8, a9, a10, a11, a12⟩ := h
  have n1 := hF.1
  have lt : ∀ q, TH q → q < nx σ := fun q hq => (a12 q hq).2.1
  have pe : ∀ q, TH q → ∀ j, ld σ' q j = ld σ q j := fun q hq => hF.ld (lt q hq) (fun z => by
    have b := a12 q hq
    have := hS q b.1 z
    have := b.2.2.1
    have := b.1
    omega)
  refine ⟨by omega, a2.frame hF a1 (fun r z => (hS0 r z).1), ⟨by rw [hF.kd (by omega)]; exact a3.1, h1.1, h1.2.1, by rw [hF.kd (by omega)]; exact a3.2.2.2.1, by rw [hF.ln (by omega)]; exact a3.2.2.2.2.1, by rw [hF.kd (by omega)]; exact a3.2.2.2.2.2.1, by rw [hF.ln (by omega)]; exact a3.2.2.2.2.2.2⟩, h1.2.2, fun i x y => ?_, fun i x y => ?_, fun i x => ?_, fun i x => ?_, a9, a10, fun q hq => ?_, fun q hq => ?_⟩
  · rw [hF.ld (by omega) (fun z => (hS0 _ z).2.1 rfl)]; exact a5 i x y
  · rw [hF.ld (by omega) (fun z => (hS0 _ z).2.2 rfl)]; exact a6 i x y
  · obtain ⟨b1, b2, b3, b4⟩ := a7 i x
    exact ⟨b1, b2, b3, by rw [hF.kd (lt _ b3)]; exact b4⟩
  · obtain ⟨b1, b2, b3, b4, b5, b6⟩ := a8 i x
    exact ⟨b1, b2, b3, by rw [hF.kd (lt _ b3)]; exact b4, b5, b6⟩
  · rw [pe q hq, pe q hq, pe q hq, hF.kd (lt q hq)]
    exact a11 q hq
  · exact (a12 q hq).frame hF hO (fun r x y z => by
      have := hS r x y
      have := (a12 q hq).1
      omega) hm
/-- one thing's map changes -/
theorem GI.map {g : F1} (h : GI σ Ow TH fm no ed ty fr too mc cN cE cP) (hp : TH p) (hF : Fr (SMap σ Ow p) σ σ') (hO : ∀ r, r < nx σ → Ow' r = Ow r) (hm : MapOk σ' (ld σ p 0) (fun q => 1054 ≤ q ∧ Ow' q = 8 * p + 1) g mc') (hb : ∀ i, g i ≠ 0 → Box σ' Ow' (g i)) (hmc : mc ≤ mc') : GI σ' Ow' TH (fun q => if q = p then g else fm q) no ed ty fr too mc' cN cE cP := by
  obtain ⟨a1, a2, a3, a4, a5, a6, a7, a8, a9, a10, a11, a12⟩ := h
  have n1 := hF.1
  have own := SMap.own (a12 p hp)
  have lt : ∀ q, TH q → q < nx σ := fun q hq => (a12 q hq).2.1
  have pe : ∀ q, TH q → ∀ j, ld σ' q j = ld σ q j := fun q hq => hF.ld (lt q hq) (fun z => by
    have b := (a12 q hq).2.2.1
    have := own q z
    omega)
  have fx : ∀ q, 1000 ≤ q → q < 1054 → ∀ j, ld σ' q j = ld σ q j := fun q x y => hF.ld (by omega) (fun z => by have := own q z; omega)
  refine ⟨by omega, a2.frame hF a1 (fun r z => by have := own r z; omega), ⟨by rw [hF.kd (by omega)]; exact a3.1, by rw [fx 1001 (by decide) (by decide)]; exact a3.2.1, by rw [fx 1001 (by decide) (by decide)]; exact a3.2.2.1, by rw [hF.kd (by omega)]; exact a3.2.2.2.1, by rw [hF.ln (by omega)]; exact a3.2.2.2.2.1, by rw [hF.kd (by omega)]; exact a3.2.2.2.2.2.1, by rw [hF.ln (by omega)]; exact a3.2.2.2.2.2.2⟩, by rw [fx 1001 (by decide) (by decide), fx 1001 (by decide) (by decide), fx 1001 (by decide) (by decide)]; exact a4, fun i x y => ?_, fun i x y => ?_, fun i x => ?_, fun i x => ?_, a9, a10, fun q hq => ?_, fun q hq => ?_⟩
  · rw [fx 1002 (by decide) (by decide)]; exact a5 i x y
  · rw [fx 1003 (by decide) (by decide)]; exact a6 i x y
  · obtain ⟨b1, b2, b3, b4⟩ := a7 i x
    exact ⟨b1, b2, b3, by rw [hF.kd (lt _ b3)]; exact b4⟩
  · obtain ⟨b1, b2, b3, b4, b5, b6⟩ := a8 i x
    exact ⟨b1, b2, b3, by rw [hF.kd (lt _ b3)]; exact b4, b5, b6⟩
  · rw [pe q hq, pe q hq, pe q hq, hF.kd (lt q hq)]
    exact a11 q hq
  · by_cases c : q = p
    · subst c
      dsimp only
      rw [if_pos rfl]
      exact (a12 q hq).map hF hO hm hb
    · dsimp only
      rw [if_neg c]
      exact (a12 q hq).frame hF hO (fun r x y z => by have := own r y; omega) hmc
/-- what a change of a property leaves -/
def ChP (σ : AS) (Ow : F1) (TH : Int → Prop) (fm : Int → F1) (no ed ty fr too : F1) (mc cN cE cP p key r : Int) (y : Int × AS) : Prop :=
  y.1 = fm p key ∧ ∃ Ow' : F1, GI y.2 Ow' TH (fun q => if q = p then ud (fm p) key r else fm q) no ed ty fr too (mc + 1) cN cE (cP + (if r = 0 then 0 else 1) - (if fm p key = 0 then 0 else 1)) ∧ (∀ q, q < nx σ → Ow' q = Ow q) ∧ (∀ q, nx σ ≤ q → q < nx y.2 → Ow' q = 8 * p + 1) ∧ Fr (fun q => q = 1001 ∨ SMap σ Ow p q) σ y.2 ∧ nx y.2 ≤ nx σ + 1 ∧ us y.2 ≤ us σ + 6
theorem change_wp {n : Nat} (hn : 100 ≤ n) (h : GI σ Ow TH fm no ed ty fr too mc cN cE cP) (hp : TH p) (hk : 0 ≤ key ∧ key < 32) (hr : r = 0 ∨ Box σ Ow r) (hmc : mc ≤ 100000) (hcP : 0 ≤ cP ∧ cP ≤ 100000) : Wp (f_X2_change n 1001 p key r σ) (ChP σ Ow TH fm no ed ty fr too mc cN cE cP p key r) := by
  have hI := h.2.1
  have hth := h.2.2.2.2.2.2.2.2.2.2.2 p hp
  have own := SMap.own hth
  have h1054 := h.1
  obtain ⟨g1, g2, g3⟩ := h.2.2.1
  have cP4 := h.2.2.2.1.2.2
  have vb : ∀ (σ1 : AS), Fr (SMap σ Ow p) σ σ1 → fm p key = 0 ∨ kd σ1 (fm p key) = 25 ∨ kd σ1 (fm p key) = 1025 := fun σ1 hF => by
    by_cases c : fm p key = 0
    · exact Or.inl c
    · have b := hth.2.2.2.2.2.2.2.1 key c
      rw [hF.kd b.2.1]
      exact Or.inr b.2.2.2.1
  -- behind the map's change
  have fin : ∀ σ1 : AS, Fr (SMap σ Ow p) σ σ1 → nx σ1 ≤ nx σ + 1 → us σ1 ≤ us σ + 6 → MapOk σ1 (ld σ p 0) (fun q => (1054 ≤ q ∧ Ow q = 8 * p + 1) ∨ (nx σ ≤ q ∧ q < nx σ1)) (ud (fm p) key r) (mc + 1) → Wp (f_X2_change_36 n 1001 r (fm p key) σ1) (ChP σ Ow TH fm no ed ty fr too mc cN cE cP p key r) := by
    intro σ1 hF hn1 hu1 hM
    have hO : ∀ q, q < nx σ → (fun q => if nx σ ≤ q ∧ q < nx σ1 then 8 * p + 1 else Ow q) q = Ow q := fun q hq => if_neg (by omega)
    have hG : GI σ1 (fun q => if nx σ ≤ q ∧ q < nx σ1 then 8 * p + 1 else Ow q) TH (fun q => if q = p then ud (fm p) key r else fm q) no ed ty fr too (mc + 1) cN cE cP := by
      refine h.map hp hF hO (hM.frame (Int.le_refl _) (Int.le_refl _) ⟨rfl, fun _ => rfl⟩ fun q hq hlt => ⟨?_, rfl, fun _ => rfl⟩) (fun i hi => ?_) (by omega)
      · rcases hq with hq | hq
        · refine ⟨hq.1, ?_⟩
          show (if nx σ ≤ q ∧ q < nx σ1 then 8 * p + 1 else Ow q) = _
          by_cases c : nx σ ≤ q ∧ q < nx σ1
          · rw [if_pos c]
          · rw [if_neg c]; exact hq.2
        · refine ⟨by omega, ?_⟩
          show (if nx σ ≤ q ∧ q < nx σ1 then 8 * p + 1 else Ow q) = _
          rw [if_pos hq]
      · have hB : Box σ Ow (ud (fm p) key r i) := by
          rw [ud_at] at hi ⊢
          by_cases c : i = key
          · rw [if_pos c] at hi ⊢; exact hr.resolve_left hi
          · rw [if_neg c] at hi ⊢; exact hth.2.2.2.2.2.2.2.1 i hi
        exact hB.frame hF hO
    have k1 : kd σ1 1001 = 2 := by rw [hF.kd (by omega)]; exact g1
    have e4 : ld σ1 1001 4 = cP := hG.2.2.2.1.2.2
    have last : ∀ v, v = cP + (if r = 0 then 0 else 1) - (if fm p key = 0 then 0 else 1) → ChP σ Ow TH fm no ed ty fr too mc cN cE cP p key r (fm p key, wr σ1 1001 4 v) := by
      intro v ev
      have s3 := hG.2.2.1
      have s4 := hG.2.2.2.1
      refine ⟨rfl, _, hG.frame (S := fun q => q = 1001) (Fr.wr rfl) (Ow' := fun q => if nx σ ≤ q ∧ q < nx σ1 then 8 * p + 1 else Ow q) (fun _ _ => rfl) (fun q z => by rw [z]; decide) ⟨?_, ?_, ?_, ?_, ?_⟩ (fun q z1 z2 => by omega) (Int.le_refl _), hO, fun q z1 z2 => if_pos ⟨z1, z2⟩, (hF.sub fun q _ z => Or.inr z).trans (Fr.wr (Or.inl rfl)), hn1, hu1⟩
      · rw [ld_wr, if_neg (fun z => by omega)]; exact s3.2.1
      · rw [ld_wr, if_neg (fun z => by omega)]; exact s3.2.2.1
      · rw [ld_wr, if_neg (fun z => by omega)]; exact s4.1
      · rw [ld_wr, if_neg (fun z => by omega)]; exact s4.2.1
      · rw [ld_wr, if_pos ⟨rfl, rfl⟩]; exact ev
    unfold f_X2_change_36 f_X2_change_52
    refine wp_gd k1 ?_
    rw [e4]
    by_cases c1 : r = 0
    · refine wp_pos c1 ?_
      by_cases c2 : fm p key = 0
      · refine wp_pos c2 ?_
        refine wp_gI (by omega) ?_
        refine wp_gI (by omega) ?_
        refine wp_gd k1 ?_
        refine wp_nm0 ?_
        exact wp_ok (last _ (by rw [if_pos c1, if_pos c2]; omega))
      · refine wp_neg c2 ?_
        refine wp_gI (by omega) ?_
        refine wp_gI (by omega) ?_
        refine wp_gd k1 ?_
        refine wp_nm0 ?_
        exact wp_ok (last _ (by rw [if_pos c1, if_neg c2]; omega))
    · refine wp_neg c1 ?_
      by_cases c2 : fm p key = 0
      · refine wp_pos c2 ?_
        refine wp_gI (by omega) ?_
        refine wp_gI (by omega) ?_
        refine wp_gd k1 ?_
        refine wp_nm0 ?_
        exact wp_ok (last _ (by rw [if_neg c1, if_pos c2]; omega))
      · refine wp_neg c2 ?_
        refine wp_gI (by omega) ?_
        refine wp_gI (by omega) ?_
        refine wp_gd k1 ?_
        refine wp_nm0 ?_
        exact wp_ok (last _ (by rw [if_neg c1, if_neg c2]; omega))
  have hmap := hth.2.2.2.2.2.2.1
  have kt := hmap.1
  have rem : r = 0 → Wp (c1 (f_J17_valueOf key σ) fun v34 σ35 => gd (kd σ35 (ld σ p 0) = 26) <| c1 (f_J8_remove n (ld σ p 0) v34 σ35) fun v38 σ39 => gd (v38 = 0 ∨ kd σ39 v38 = 25 ∨ kd σ39 v38 = 1025) <| f_X2_change_36 n 1001 r v38 σ39) (ChP σ Ow TH fm no ed ty fr too mc cN cE cP p key r) := by
    intro hr0
    refine wp_c1e (valueOf_eq hI (by omega) (by omega)) ?_
    refine wp_gd kt ?_
    refine wp_c1 ?_
    refine wp_mono (remove_wp hn hI hk hmc hmap) fun y hy => ?_
    obtain ⟨y1, y2, y3, y4, y5⟩ := hy
    rw [y1]
    refine wp_gd (vb _ y3) ?_
    refine fin y.2 y3 (by omega) (by omega) (by rw [hr0]; exact y2.frame (Int.le_refl _) (Int.le_refl _) ⟨rfl, fun _ => rfl⟩ (fun q hq _ => ⟨Or.inl hq, rfl, fun _ => rfl⟩))
  have put : r ≠ 0 → Wp (c1 (f_J17_valueOf key σ) fun v34 σ35 => gd (kd σ35 (ld σ p 0) = 26) <| c1 (f_J8_put n (ld σ p 0) v34 r σ35) fun v38 σ39 => gd (v38 = 0 ∨ kd σ39 v38 = 25 ∨ kd σ39 v38 = 1025) <| f_X2_change_36 n 1001 r v38 σ39) (ChP σ Ow TH fm no ed ty fr too mc cN cE cP p key r) := by
    intro hr0
    refine wp_c1e (valueOf_eq hI (by omega) (by omega)) ?_
    refine wp_gd kt ?_
    refine wp_c1 ?_
    refine wp_mono (put_wp hn hI hk (by omega) hth.2.2.2.2.1 hr0 hmc hmap) fun y hy => ?_
    obtain ⟨y1, y2, y3, y4, y5⟩ := hy
    rw [y1]
    refine wp_gd (vb _ y3) ?_
    exact fin y.2 y3 y4 y5 y2
  unfold f_X2_change
  by_cases c1 : r = 0
  · refine wp_pos c1 ?_
    by_cases c2 : kd σ p = 4
    · exact wp_pos c2 (rem c1)
    · refine wp_neg c2 ?_
      refine wp_gd (hth.2.2.2.2.2.2.2.2.resolve_right fun z => c2 z.1) ?_
      exact rem c1
  · refine wp_neg c1 ?_
    by_cases c2 : kd σ p = 4
    · exact wp_pos c2 (put c1)
    · refine wp_neg c2 ?_
      refine wp_gd (hth.2.2.2.2.2.2.2.2.resolve_right fun z => c2 z.1) ?_
      exact put c1
end GC
