/-! THE COMPONENT: changes taken back; crash, sync -/
set_option maxRecDepth 100000
section UND
variable {σ y : AS} {Ow Ow' : F1} {v p r key : Int} {L : List Int} {TH : Int → Prop} {fm : Int → F1} {no ed ty fr too : F1} {mc mc' : Int} {X : Int → Prop} {S S' : Sn} {l l0 : List Ch} {c : Ch}
/-- ahead of taking back r -/
def Pre (σ : AS) (Ow : F1) (TH : Int → Prop) (ty fr too : F1) (mc : Int) (L : List Int) (S : Sn) (l0 : List Ch) (r : Int) : Prop :=
  GI σ Ow TH S.2.2 S.1 S.2.1 ty fr too mc (cN S) (cE S) (cP S) ∧ StkOk σ Ow L ∧ RecC σ Ow TH fr too r S ∧ Hist σ Ow TH ty fr too L (und σ r S) l0 ∧ okL l0 ∧ OwZ Ow ∧ (0 ≤ mc ∧ mc ≤ 100000) ∧ (cN S ≤ 64 ∧ cE S ≤ 64 ∧ cP S ≤ 64) ∧ ∀ i, S.2.1 i ≠ 0 → i < 64
def UndP (σ : AS) (TH : Int → Prop) (ty fr too : F1) (mc : Int) (L : List Int) (S : Sn) (l0 : List Ch) (r : Int) (y : AS) : Prop :=
  ∃ Ow' mc', CI y Ow' TH ty fr too mc' L (und σ r S) l0 ∧ mc' ≤ mc + 1 ∧ Fr FG σ y ∧ nx y ≤ nx σ + 2 ∧ us y ≤ us σ + 300
theorem Pre.fin (h : Pre σ Ow TH ty fr too mc L S l0 r) (hF : Fr X σ y) (hO : ∀ r, r < nx σ → Ow' r = Ow r) (hX : ∀ q, X q → (1001 ≤ q ∧ q ≤ 1003) ∨ (1054 ≤ q ∧ 3 ≤ Ow q)) (hG : GI y Ow' TH (und σ r S).2.2 (und σ r S).1 (und σ r S).2.1 ty fr too mc' (cN (und σ r S)) (cE (und σ r S)) (cP (und σ r S))) (hm : mc ≤ mc' ∧ mc' ≤ mc + 1) (hn : nx y ≤ nx σ + 2) (hu : us y ≤ us σ + 300) : UndP σ TH ty fr too mc L S l0 r y := by
  obtain ⟨h1, h2, h3, h4, h5, h6, h7, h8, h9⟩ := h
  have hx := h1.1
  have hk := h1.kp hF hO (fun q z => by have := hX q z; omega)
  refine ⟨Ow', mc', ⟨hG, h2.frame hx hF hO (fun q z => by have := hX q z; omega), h4.keep hk (fun q hq => ?_) (h1.sn.undo h3) ⟨rfl, rfl, fun _ _ => rfl⟩, h5, fun q a b => by rw [hO q (by omega)]; exact h6 q a b, by omega⟩, hm.2, hF.sub (fun q _ z => by have := hX q z; unfold FG; omega), hn, hu⟩
  have z := h2.2.2.2.2.2.2.2.2.2 q hq
  refine ⟨hF.kd z.2.1, hF.ld z.2.1 fun w => ?_⟩
  have := hX q w
  have := z.2.2.1
  have := z.1
  omega
theorem und6_wp (h : Pre σ Ow TH ty fr too mc L (no, ed, fm) l0 r) (k : kd σ r = 6) : Wp (f_X11_undo r 1001 σ) (UndP σ TH ty fr too mc L (no, ed, fm) l0 r) := by
  have h' := h
  obtain ⟨h1, h2, h3, h4, h5, h6, h7, h8, h9⟩ := h'
  change GI σ Ow TH fm no ed ty fr too mc _ _ _ at h1
  obtain ⟨a1, a2⟩ : no (ld σ r 0) ≠ 0 ∧ ∀ e, ed e ≠ 0 → fr (ed e) ≠ ld σ r 0 ∧ too (ed e) ≠ ld σ r 0 := by
    rcases h3 with q | q | q | q | q
    · exact q.2
    all_goals omega
  have e := und6 (S := (no, ed, fm)) k
  unfold f_X11_undo
  refine wp_gd k ?_
  refine wp_gd h1.2.2.1.1 ?_
  refine wp_c0 ?_
  refine wp_mono (leave_wp h1 a1 a2 ⟨by omega, by omega⟩ ⟨by omega, by omega⟩) fun y hq => ?_
  obtain ⟨G2, F2, n2, u2⟩ := hq
  obtain ⟨q1, q2, -⟩ := h1.2.2.2.2.2.2.1 _ a1
  refine wp_ok (h.fin F2 (fun _ _ => rfl) (fun q z => by have z' : q = 1001 ∨ q = 1002 ∨ q = 1003 := z; omega) ?_ ⟨Int.le_refl mc, by omega⟩ (by omega) (by omega))
  rw [e]
  show GI y Ow TH fm (ud no (ld σ r 0) 0) ed ty fr too mc (cN (ud no (ld σ r 0) 0, ed, fm) : Nat) (cE (ud no (ld σ r 0) 0, ed, fm) : Nat) (cP (ud no (ld σ r 0) 0, ed, fm) : Nat)
  generalize ld σ r 0 = v at *
  have eN : ((cN (ud no v 0, ed, fm) : Nat) : Int) = cN (no, ed, fm) - 1 := by
    have := sm_udI (f := no) (v := v) (w := 0) (n := 400) ⟨q1, q2⟩
    rw [if_neg a1, if_pos rfl] at this
    unfold cN
    show ((sm (has (ud no v 0)) 400 : Nat) : Int) = ((sm (has no) 400 : Nat) : Int) - 1
    omega
  have eP : ((cP (ud no v 0, ed, fm) : Nat) : Int) = cP (no, ed, fm) - sm (has (fm (no v))) 32 := by
    have a := cP_node (no := no) (ed := ed) (fm := fm) (v := v) (p := 0) ⟨q1, q2⟩
    have z1 : szT fm (no v) = sm (has (fm (no v))) 32 := if_neg a1
    have z0 : szT fm 0 = 0 := if_pos rfl
    omega
  rw [eN, eP]
  exact G2
theorem und7_wp {n : Nat} (hn : 1000000 ≤ n) (h : Pre σ Ow TH ty fr too mc L (no, ed, fm) l0 r) (k : kd σ r = 7) : Wp (f_X13_undo n r 1001 σ) (UndP σ TH ty fr too mc L (no, ed, fm) l0 r) := by
  have h' := h
  obtain ⟨h1, h2, h3, h4, h5, h6, h7, h8, h9⟩ := h'
  change GI σ Ow TH fm no ed ty fr too mc _ _ _ at h1
  have a1 : ed (ld σ r 0) ≠ 0 := by
    rcases h3 with q | q | q | q | q
    · omega
    · exact q.2
    all_goals omega
  have e := und7 (S := (no, ed, fm)) k
  unfold f_X13_undo
  refine wp_gd k ?_
  refine wp_gd h1.2.2.1.1 ?_
  refine wp_c0 ?_
  refine wp_mono (cut_wp hn h1 rfl a1 ⟨by omega, by omega⟩ ⟨by omega, by omega⟩) fun y hq => ?_
  obtain ⟨Ow', G2, F2, O2, O2n, n2, u2⟩ := hq
  obtain ⟨q1, q2, -⟩ := h1.2.2.2.2.2.2.2.1 _ a1
  refine wp_ok (h.fin F2 O2 (fun q z => by
    rcases z with z | z | z
    · omega
    · omega
    · unfold SN at z; omega) ?_ ⟨Int.le_refl mc, by omega⟩ (by omega) (by omega))
  rw [e]
  show GI y Ow' TH fm no (ud ed (ld σ r 0) 0) ty fr too mc (cN (no, ud ed (ld σ r 0) 0, fm) : Nat) (cE (no, ud ed (ld σ r 0) 0, fm) : Nat) (cP (no, ud ed (ld σ r 0) 0, fm) : Nat)
  generalize ld σ r 0 = v at *
  have eN : ((cE (no, ud ed v 0, fm) : Nat) : Int) = cE (no, ed, fm) - 1 := by
    have := sm_udI (f := ed) (v := v) (w := 0) (n := 1000) ⟨q1, q2⟩
    rw [if_neg a1, if_pos rfl] at this
    unfold cE
    show ((sm (has (ud ed v 0)) 1000 : Nat) : Int) = ((sm (has ed) 1000 : Nat) : Int) - 1
    omega
  have eP : ((cP (no, ud ed v 0, fm) : Nat) : Int) = cP (no, ed, fm) - sm (has (fm (ed v))) 32 := by
    have a := cP_edge (no := no) (ed := ed) (fm := fm) (v := v) (p := 0) ⟨q1, q2⟩
    have z1 : szT fm (ed v) = sm (has (fm (ed v))) 32 := if_neg a1
    have z0 : szT fm 0 = 0 := if_pos rfl
    omega
  rw [eN, eP]
  exact G2
theorem und8_wp (h : Pre σ Ow TH ty fr too mc L (no, ed, fm) l0 r) (k : kd σ r = 8) : Wp (f_X14_undo r 1001 σ) (UndP σ TH ty fr too mc L (no, ed, fm) l0 r) := by
  have h' := h
  obtain ⟨h1, h2, h3, h4, h5, h6, h7, h8, h9⟩ := h'
  change GI σ Ow TH fm no ed ty fr too mc _ _ _ at h1
  obtain ⟨a1, a2, a3, a4, a5⟩ : (0 ≤ ld σ r 0 ∧ ld σ r 0 < 400) ∧ no (ld σ r 0) = 0 ∧ TH (ld σ r 1) ∧ kd σ (ld σ r 1) = 4 ∧ ∀ i, no i ≠ ld σ r 1 := by
    rcases h3 with q | q | q | q | q
    · omega
    · omega
    · exact q.2
    all_goals omega
  have e := und8 (S := (no, ed, fm)) k
  unfold f_X14_undo
  refine wp_gd k ?_
  refine wp_gd k ?_
  refine wp_gd h1.2.2.1.1 ?_
  refine wp_c0 ?_
  refine wp_mono (enter_wp h1 a1 a2 a3 a4 a5 ⟨by omega, by omega⟩ ⟨by omega, by omega⟩) fun y hq => ?_
  obtain ⟨G2, F2, n2, u2⟩ := hq
  refine wp_ok (h.fin F2 (fun _ _ => rfl) (fun q z => by have z' : q = 1001 ∨ q = 1002 ∨ q = 1003 := z; omega) ?_ ⟨Int.le_refl mc, by omega⟩ (by omega) (by omega))
  rw [e]
  show GI y Ow TH fm (ud no (ld σ r 0) (ld σ r 1)) ed ty fr too mc (cN (ud no (ld σ r 0) (ld σ r 1), ed, fm) : Nat) (cE (ud no (ld σ r 0) (ld σ r 1), ed, fm) : Nat) (cP (ud no (ld σ r 0) (ld σ r 1), ed, fm) : Nat)
  have p0 := (h1.th a3).1
  generalize ld σ r 0 = v at *
  generalize ld σ r 1 = p at *
  have eN : ((cN (ud no v p, ed, fm) : Nat) : Int) = cN (no, ed, fm) + 1 := by
    have := sm_udI (f := no) (v := v) (w := p) (n := 400) a1
    rw [if_pos a2, if_neg (by omega)] at this
    unfold cN
    show ((sm (has (ud no v p)) 400 : Nat) : Int) = ((sm (has no) 400 : Nat) : Int) + 1
    omega
  have eP : ((cP (ud no v p, ed, fm) : Nat) : Int) = cP (no, ed, fm) + sm (has (fm p)) 32 := by
    have a := cP_node (no := no) (ed := ed) (fm := fm) (v := v) (p := p) a1
    have z1 : szT fm p = sm (has (fm p)) 32 := if_neg (by omega)
    have z0 : szT fm 0 = 0 := if_pos rfl
    rw [a2] at a
    omega
  rw [eN, eP]
  exact G2
theorem und9_wp {n : Nat} (hn : 1000000 ≤ n) (h : Pre σ Ow TH ty fr too mc L (no, ed, fm) l0 r) (k : kd σ r = 9) : Wp (f_X15_undo n r 1001 σ) (UndP σ TH ty fr too mc L (no, ed, fm) l0 r) := by
  have h' := h
  obtain ⟨h1, h2, h3, h4, h5, h6, h7, h8, h9⟩ := h'
  change GI σ Ow TH fm no ed ty fr too mc _ _ _ at h1
  obtain ⟨a1, a2, a3, a4, a5, a6, a7⟩ : (0 ≤ ld σ r 0 ∧ ld σ r 0 < 1000) ∧ ed (ld σ r 0) = 0 ∧ TH (ld σ r 1) ∧ kd σ (ld σ r 1) = 5 ∧ (∀ i, ed i ≠ ld σ r 1) ∧ no (fr (ld σ r 1)) ≠ 0 ∧ no (too (ld σ r 1)) ≠ 0 := by
    rcases h3 with q | q | q | q | q
    · omega
    · omega
    · omega
    · exact q.2
    · omega
  have e := und9 (S := (no, ed, fm)) k
  unfold f_X15_undo
  refine wp_gd k ?_
  refine wp_gd k ?_
  refine wp_gd h1.2.2.1.1 ?_
  refine wp_c0 ?_
  refine wp_mono (enter2_wp (M := 64) hn h1 a1 a2 a3 a4 a5 a6 a7 h9 ⟨by decide, by decide⟩ ⟨by omega, by omega⟩ ⟨by omega, by omega⟩) fun y hq => ?_
  obtain ⟨Ow', G2, F2, O2, O2n, n2, u2⟩ := hq
  refine wp_ok (h.fin F2 O2 (fun q z => by
    rcases z with z | z | z
    · omega
    · omega
    · unfold SN at z; omega) ?_ ⟨Int.le_refl mc, by omega⟩ (by omega) (by omega))
  rw [e]
  show GI y Ow' TH fm no (ud ed (ld σ r 0) (ld σ r 1)) ty fr too mc (cN (no, ud ed (ld σ r 0) (ld σ r 1), fm) : Nat) (cE (no, ud ed (ld σ r 0) (ld σ r 1), fm) : Nat) (cP (no, ud ed (ld σ r 0) (ld σ r 1), fm) : Nat)
  have p0 := (h1.th a3).1
  generalize ld σ r 0 = v at *
  generalize ld σ r 1 = p at *
  have eN : ((cE (no, ud ed v p, fm) : Nat) : Int) = cE (no, ed, fm) + 1 := by
    have := sm_udI (f := ed) (v := v) (w := p) (n := 1000) a1
    rw [if_pos a2, if_neg (by omega)] at this
    unfold cE
    show ((sm (has (ud ed v p)) 1000 : Nat) : Int) = ((sm (has ed) 1000 : Nat) : Int) + 1
    omega
  have eP : ((cP (no, ud ed v p, fm) : Nat) : Int) = cP (no, ed, fm) + sm (has (fm p)) 32 := by
    have a := cP_edge (no := no) (ed := ed) (fm := fm) (v := v) (p := p) a1
    have z1 : szT fm p = sm (has (fm p)) 32 := if_neg (by omega)
    have z0 : szT fm 0 = 0 := if_pos rfl
    rw [a2] at a
    omega
  rw [eN, eP]
  exact G2
theorem und10_wp {n : Nat} (hn : 1000000 ≤ n) (h : Pre σ Ow TH ty fr too mc L (no, ed, fm) l0 r) (k : kd σ r = 10) : Wp (f_X16_undo n r 1001 σ) (UndP σ TH ty fr too mc L (no, ed, fm) l0 r) := by
  have h' := h
  obtain ⟨h1, h2, h3, h4, h5, h6, h7, h8, h9⟩ := h'
  change GI σ Ow TH fm no ed ty fr too mc _ _ _ at h1
  obtain ⟨a1, a2, a3, a4⟩ : TH (ld σ r 0) ∧ (0 ≤ ld σ r 1 ∧ ld σ r 1 < 32) ∧ (ld σ r 2 = 0 ∨ Box σ Ow (ld σ r 2)) ∧ ((∃ i, no i = ld σ r 0) ∨ ∃ i, ed i = ld σ r 0) := by
    rcases h3 with q | q | q | q | q
    · omega
    · omega
    · omega
    · omega
    · exact q.2
  have e := und10 (S := (no, ed, fm)) k
  unfold f_X16_undo
  refine wp_gd k ?_
  refine wp_gd k ?_
  refine wp_gd k ?_
  refine wp_gd h1.2.2.1.1 ?_
  refine wp_c1 ?_
  refine wp_mono (change_wp (n := n) (by omega) h1 a1 a2 a3 h7.2 ⟨by omega, by omega⟩) fun y hq => ?_
  obtain ⟨e2, Ow', G2, O2, O2n, F2, n2, u2⟩ := hq
  have hT1 := h1.2.2.2.2.2.2.2.2.2.2.2 _ a1
  have hSM : ∀ q, SMap σ Ow (ld σ r 0) q → 1054 ≤ q ∧ (Ow q = 8 * (ld σ r 0) + 1 ∨ Ow q = 8 * (ld σ r 0) + 4) := fun q z => SMap.own hT1 q z
  have p0 := (h1.th a1).1
  have p1 := h1.one (by omega) a4
  refine wp_ok (h.fin F2 O2 (fun q z => by
    rcases z with z | z
    · omega
    · have := hSM q z; omega) ?_ ⟨(show mc ≤ mc + 1 by omega), by omega⟩ (by omega) (by omega))
  rw [e]
  have ef : (fun q => if q = ld σ r 0 then ud (fm q) (ld σ r 1) (ld σ r 2) else fm q) = (fun q => if q = ld σ r 0 then ud (fm (ld σ r 0)) (ld σ r 1) (ld σ r 2) else fm q) := by
    funext q
    by_cases c : q = ld σ r 0
    · rw [if_pos c, if_pos c, c]
    · rw [if_neg c, if_neg c]
  show GI y.2 Ow' TH (fun q => if q = ld σ r 0 then ud (fm q) (ld σ r 1) (ld σ r 2) else fm q) no ed ty fr too (mc + 1) (cN (no, ed, fun q => if q = ld σ r 0 then ud (fm q) (ld σ r 1) (ld σ r 2) else fm q) : Nat) (cE (no, ed, fun q => if q = ld σ r 0 then ud (fm q) (ld σ r 1) (ld σ r 2) else fm q) : Nat) (cP (no, ed, fun q => if q = ld σ r 0 then ud (fm q) (ld σ r 1) (ld σ r 2) else fm q) : Nat)
  rw [ef]
  generalize ld σ r 0 = p at *
  generalize ld σ r 1 = key at *
  generalize ld σ r 2 = w at *
  have eP : ((cP (no, ed, fun q => if q = p then ud (fm p) key w else fm q) : Nat) : Int) = cP (no, ed, fm) + (if w = 0 then 0 else 1) - (if fm p key = 0 then 0 else 1) := by
    have := cP_prop (fm := fm) (w := w) a2 (by omega) p1
    by_cases e1 : w = 0
    · by_cases e2 : fm p key = 0
      · rw [if_pos e1, if_pos e2] at this ⊢; omega
      · rw [if_pos e1, if_neg e2] at this ⊢; omega
    · by_cases e2 : fm p key = 0
      · rw [if_neg e1, if_pos e2] at this ⊢; omega
      · rw [if_neg e1, if_neg e2] at this ⊢; omega
  rw [eP]
  exact G2
/-- the loop of crash -/
theorem crash_loop {n : Nat} (hn : 1000000 ≤ n) {stay : Nat} : ∀ (L : List Int) (q : Nat) (g mc : Int) (σ : AS) (Ow : F1) (S : Sn) (l : List Ch), L.length < q → stay ≤ L.length → CI σ Ow TH ty fr too mc L S l → l.length ≤ 64 → mc + L.length ≤ 100000 → 0 ≤ g ∧ g + L.length ≤ 1000 → Wp (f_X1_crash_25 n q 1000 stay g σ) fun y => y.1 = .inr (g + (L.length - stay : Nat)) ∧ ∃ Ow' mc' S', CI y.2 Ow' TH ty fr too mc' [] S' (l.take (l.length - (L.length - stay))) ∧ mc' ≤ mc + L.length ∧ Fr FG σ y.2 ∧ nx y.2 ≤ nx σ + 2 * L.length ∧ us y.2 ≤ us σ + 300 * L.length := by
  intro L
  induction L with
  | nil =>
    intro q g mc σ Ow S l hq hs h hl hm hg
    obtain ⟨q, rfl⟩ : ∃ z, q = z + 1 := ⟨q - 1, by have : 0 < q := hq; omega⟩
    have s0 : stay = 0 := by have : stay ≤ 0 := hs; omega
    obtain ⟨h1, h2, h3, h4, h5, h6⟩ := h
    unfold f_X1_crash_25
    refine wp_gd h2.1 ?_
    rw [h2.2.2.1]
    refine wp_gd h2.2.2.2.1.1 ?_
    rw [f_J1_size_eq h2.2.2.2.1 (by have := h2.2.2.2.2.2.2.2.2.1; omega), c1_at]
    refine wp_pos (by show ((0 : Nat) : Int) ≤ _; omega) ?_
    refine wp_gd h2.1 ?_
    rw [h2.2.2.1]
    refine wp_gd h2.2.2.2.1.1 ?_
    refine wp_c0 ?_
    refine wp_mono (StkOk.clear hn h2 h1.1) fun y hq => ?_
    obtain ⟨S2, F2, n2, u2⟩ := hq
    have hr3 : ∀ r, SD Ow r → r = 1004 ∨ (1005 ≤ r ∧ Ow r = 2) := fun r z => z
    refine wp_ok ⟨by rw [s0]; show Sum.inr g = Sum.inr (g + 0); rw [Int.add_zero], Ow, mc, S, ⟨h1.stay F2 (fun _ _ => rfl) (fun r z => by have := hr3 r z; omega) (fun r x z => by have := hr3 r z; omega), S2, ?_, okL_take h4, h5, h6⟩, by show mc ≤ mc + 0; omega, F2.sub (fun q _ z => ?_), by show nx y ≤ nx σ + 2 * 0; omega, by show us y ≤ us σ + 300 * 0; omega⟩
    · obtain ⟨no, ed, fm⟩ := S
      have : l.take (l.length - (List.length ([] : List Int) - stay)) = l := by
        rw [List.take_of_length_le]
        show l.length ≤ l.length - (0 - stay)
        omega
      rw [this]
      exact h3.frame h1 (fun r hr => absurd hr List.not_mem_nil) F2 (fun _ _ => rfl) (fun q z => by have := hr3 q z; omega)
    · have := hr3 q z
      unfold FG
      by_cases c5 : q ≤ 1005
      · omega
      · by_cases c6 : 1054 ≤ q
        · omega
        · have := h5 q (by omega) (by omega); omega
  | cons r L ih =>
    intro q g mc σ Ow S l hq hs h hl hm hg
    obtain ⟨q, rfl⟩ : ∃ z, q = z + 1 := ⟨q - 1, by have := hq; omega⟩
    have low := h.low hl
    obtain ⟨l1, l2, l3, l4, l5, l6, -⟩ := low
    have h' := h
    obtain ⟨h1, h2, h3, h4, h5, h6⟩ := h'
    have hx := h1.1
    have hlen : (r :: L).length = L.length + 1 := rfl
    unfold f_X1_crash_25
    refine wp_gd h2.1 ?_
    rw [h2.2.2.1]
    refine wp_gd h2.2.2.2.1.1 ?_
    rw [f_J1_size_eq h2.2.2.2.1 (by have := h2.2.2.2.2.2.2.2.2.1; omega), c1_at]
    by_cases cs : stay = L.length + 1
    · refine wp_pos (by rw [hlen, cs]; omega) ?_
      refine wp_gd h2.1 ?_
      rw [h2.2.2.1]
      refine wp_gd h2.2.2.2.1.1 ?_
      refine wp_c0 ?_
      refine wp_mono (StkOk.clear hn h2 h1.1) fun y hq => ?_
      obtain ⟨S2, F2, n2, u2⟩ := hq
      have hr3 : ∀ r, SD Ow r → r = 1004 ∨ (1005 ≤ r ∧ Ow r = 2) := fun r z => z
      refine wp_ok ⟨by rw [hlen, cs, Nat.sub_self]; show Sum.inr g = Sum.inr (g + 0); rw [Int.add_zero], Ow, mc, S, ⟨h1.stay F2 (fun _ _ => rfl) (fun r z => by have := hr3 r z; omega) (fun r x z => by have := hr3 r z; omega), S2, ?_, okL_take h4, h5, h6⟩, by omega, F2.sub (fun q _ z => ?_), by show nx y ≤ _; omega, by show us y ≤ _; omega⟩
      · obtain ⟨no, ed, fm⟩ := S
        have : l.take (l.length - ((r :: L).length - stay)) = l := by
          rw [List.take_of_length_le]
          omega
        rw [this]
        have hk := h1.kp F2 (fun _ _ => rfl) (fun q z => by have := hr3 q z; omega)
        exact h3.lk.keep hk h1.sn ⟨rfl, rfl, fun _ _ => rfl⟩
      · have := hr3 q z
        unfold FG
        by_cases c5 : q ≤ 1005
        · omega
        · by_cases c6 : 1054 ≤ q
          · omega
          · have := h5 q (by omega) (by omega); omega
    · refine wp_neg (by omega) ?_
      refine wp_gd h2.1 ?_
      rw [h2.2.2.1]
      refine wp_gd h2.2.2.2.1.1 ?_
      obtain ⟨hrec, σ1, e1, S1, F1, n1, u1⟩ := h2.pop hx
      rw [e1, c1_at]
      have hr3 : ∀ r, SD Ow r → r = 1004 ∨ (1005 ≤ r ∧ Ow r = 2) := fun r z => z
      have rno : ¬ SD Ow r := fun z => by have := hr3 r z; have := hrec.2.2.1; have := hrec.1; omega
      have kr : kd σ1 r = kd σ r := F1.kd hrec.2.1
      have lr : ∀ j, ld σ1 r j = ld σ r j := F1.ld hrec.2.1 rno
      obtain ⟨hlk, l0, c, el, hRC, hH⟩ := h3
      have G1 := h1.stay F1 (fun _ _ => rfl) (fun r z => by have := hr3 r z; omega) (fun r x z => by have := hr3 r z; omega)
      have hk := h1.kp F1 (fun _ _ => rfl) (fun q z => by have := hr3 q z; omega)
      have eu : und σ1 r S = und σ r S := und_eq kr lr
      have pre : Pre σ1 Ow TH ty fr too mc L S l0 r := by
        refine ⟨G1, S1, hRC.keep hk h1.sn ⟨rfl, rfl, fun _ _ => rfl⟩ kr lr, ?_, ?_, h5, ⟨h6, by omega⟩, ⟨l1, l2, l3⟩, fun i hi => (l6 i hi).2⟩
        · rw [eu]
          refine hH.keep hk (fun q hq => ?_) (h1.sn.undo hRC) ⟨rfl, rfl, fun _ _ => rfl⟩
          have z := h2.2.2.2.2.2.2.2.2.2 q (List.mem_cons_of_mem _ hq)
          exact ⟨F1.kd z.2.1, F1.ld z.2.1 fun w => by have := hr3 q w; have := z.2.2.1; have := z.1; omega⟩
        · rw [el] at h4
          have := okL_take (n := l0.length) h4
          rw [List.take_left] at this
          exact this
      have l0l : l.length = l0.length + 1 := by rw [el]; simp
      -- what is left
      have rest : ∀ σ2, UndP σ1 TH ty fr too mc L S l0 r σ2 → Wp (gI (g + 1) <| nm (g + 1) fun u85 => f_X1_crash_25 n q 1000 stay u85 σ2) fun y => y.1 = .inr (g + ((r :: L).length - stay : Nat)) ∧ ∃ Ow' mc' S', CI y.2 Ow' TH ty fr too mc' [] S' (l.take (l.length - ((r :: L).length - stay))) ∧ mc' ≤ mc + (r :: L).length ∧ Fr FG σ y.2 ∧ nx y.2 ≤ nx σ + 2 * (r :: L).length ∧ us y.2 ≤ us σ + 300 * (r :: L).length := fun σ2 hu => by
        obtain ⟨Ow2, mc2, C2, m2, F2, n2, u2⟩ := hu
        rw [eu] at C2
        refine wp_gI (by omega) ?_
        refine wp_nm0 ?_
        have hg1000 : L.length ≤ 64 := by omega
        refine wp_mono (ih q (g + 1) mc2 σ2 Ow2 _ l0 (by omega) (by omega) C2 (by omega) (by omega) ⟨by omega, by omega⟩) fun y hy => ?_
        obtain ⟨r1, Ow3, mc3, S3, C3, m3, F3, n3, u3⟩ := hy
        refine ⟨?_, Ow3, mc3, S3, ?_, by omega, ?_, by omega, by omega⟩
        · rw [r1]
          congr 1
          omega
        · have : l.take (l.length - ((r :: L).length - stay)) = l0.take (l0.length - (L.length - stay)) := by
            rw [el, List.take_append_of_le_length (by simp; omega)]
            congr 1
            simp
            omega
          rw [this]
          exact C3
        · refine ((F1.sub (S' := FG) fun q _ z => ?_).tr2 F2 fun q _ z => z).tr2 F3 fun q _ z => z
          have := hr3 q z
          unfold FG
          by_cases c5 : q ≤ 1005
          · omega
          · by_cases c6 : 1054 ≤ q
            · omega
            · have := h5 q (by omega) (by omega); omega
      have x0 := S1.2.1
      rcases (show kd σ1 r = 6 ∨ kd σ1 r = 7 ∨ kd σ1 r = 8 ∨ kd σ1 r = 9 ∨ kd σ1 r = 10 by have := hrec.2.2.2; rw [kr]; omega) with k | k | k | k | k
      · refine wp_pos k (wp_gd (Or.inr k) (wp_gd S1.1 ?_))
        rw [x0]
        exact wp_c0 (wp_mono (und6_wp pre k) fun σ2 hu => rest σ2 hu)
      · refine wp_neg (by omega) (wp_pos k (wp_gd (Or.inr k) (wp_gd S1.1 ?_)))
        rw [x0]
        exact wp_c0 (wp_mono (und7_wp hn pre k) fun σ2 hu => rest σ2 hu)
      · refine wp_neg (by omega) (wp_neg (by omega) (wp_pos k (wp_gd (Or.inr k) (wp_gd S1.1 ?_))))
        rw [x0]
        exact wp_c0 (wp_mono (und8_wp pre k) fun σ2 hu => rest σ2 hu)
      · refine wp_neg (by omega) (wp_neg (by omega) (wp_neg (by omega) (wp_pos k (wp_gd (Or.inr k) (wp_gd S1.1 ?_)))))
        rw [x0]
        exact wp_c0 (wp_mono (und9_wp hn pre k) fun σ2 hu => rest σ2 hu)
      · refine wp_neg (by omega) (wp_neg (by omega) (wp_neg (by omega) (wp_neg (by omega) (wp_gd k (wp_gd (Or.inr k) (wp_gd S1.1 ?_))))))
        rw [x0]
        exact wp_c0 (wp_mono (und10_wp hn pre k) fun σ2 hu => rest σ2 hu)
end UND
section CRA
variable {σ y : AS} {Ow : F1} {L : List Int} {TH : Int → Prop} {ty fr too : F1} {mc : Int} {S : Sn} {l : List Ch}
theorem CI.crash {n : Nat} {a : Int} (hn : 1000000 ≤ n) (h : CI σ Ow TH ty fr too mc L S l) (hl : l.length ≤ 64) (hm : mc ≤ 90000) : Wp (f_X1_crash n 1000 a σ) fun y => if 0 ≤ a ∧ a ≤ L.length then y.1 = .inr (L.length - a) ∧ ∃ Ow' mc' S', CI y.2 Ow' TH ty fr too mc' [] S' (l.take (l.length - (L.length - a.toNat))) ∧ mc' ≤ mc + L.length ∧ Fr FG σ y.2 ∧ nx y.2 ≤ nx σ + 128 ∧ us y.2 ≤ us σ + 20000 else y = (.inl 2, al σ 0 0 6) := by
  have h2 := h.2.1
  have ll := h.2.2.1.len
  unfold f_X1_crash
  have thr : Wp (f_X1_crash_19 n (f_X1_crash_20 n) 1000 a σ) fun y => y = (.inl 2, al σ 0 0 6) := by
    unfold f_X1_crash_19 f_X1_crash_20 f_X1_need
    rw [if_pos rfl]
    exact wp_ok rfl
  by_cases c : 0 ≤ a ∧ a ≤ L.length
  · refine wp_neg (by omega) ?_
    refine wp_gd h2.1 ?_
    rw [h2.2.2.1]
    refine wp_gd h2.2.2.2.1.1 ?_
    rw [f_J1_size_eq h2.2.2.2.1 (by have := h2.2.2.2.2.2.2.2.2.1; omega), c1_at]
    refine wp_neg (by omega) ?_
    unfold f_X1_crash_20 f_X1_need
    rw [if_neg (by decide), cx_inr]
    obtain ⟨s, hs⟩ : ∃ s : Nat, (s : Int) = a := ⟨a.toNat, by omega⟩
    rw [← hs]
    refine wp_mono (crash_loop (stay := s) hn L n 0 mc σ Ow S l (by omega) (by omega) h hl (by omega) ⟨Int.le_refl 0, by omega⟩) fun y hq => ?_
    rw [if_pos (by omega)]
    obtain ⟨r1, Ow3, mc3, S3, C3, m3, F3, n3, u3⟩ := hq
    refine ⟨by rw [r1]; congr 1; omega, Ow3, mc3, S3, ?_, m3, F3, by omega, by omega⟩
    rw [show ((s : Int)).toNat = s by omega]
    exact C3
  · rw [show (fun y : (Nat ⊕ Int) × AS => if 0 ≤ a ∧ a ≤ (L.length : Int) then y.1 = .inr (L.length - a) ∧ ∃ Ow' mc' S', CI y.2 Ow' TH ty fr too mc' [] S' (l.take (l.length - (L.length - a.toNat))) ∧ mc' ≤ mc + L.length ∧ Fr FG σ y.2 ∧ nx y.2 ≤ nx σ + 128 ∧ us y.2 ≤ us σ + 20000 else y = (.inl 2, al σ 0 0 6)) = fun y => y = (.inl 2, al σ 0 0 6) from funext fun y => if_neg c]
    by_cases c1 : a < 0
    · exact wp_pos c1 thr
    · refine wp_neg c1 ?_
      refine wp_gd h2.1 ?_
      rw [h2.2.2.1]
      refine wp_gd h2.2.2.2.1.1 ?_
      rw [f_J1_size_eq h2.2.2.2.1 (by have := h2.2.2.2.2.2.2.2.2.1; omega), c1_at]
      exact wp_pos (by omega) thr
theorem CI.sync {n : Nat} (hn : 1000000 ≤ n) (h : CI σ Ow TH ty fr too mc L S l) : Wp (f_X1_sync n 1000 σ) fun y => y.1 = L.length ∧ CI y.2 Ow TH ty fr too mc [] S l ∧ Fr FG σ y.2 ∧ nx y.2 = nx σ ∧ us y.2 = us σ := by
  obtain ⟨h1, h2, h3, h4, h5, h6⟩ := h
  unfold f_X1_sync
  refine wp_gd h2.1 ?_
  rw [h2.2.2.1]
  refine wp_gd h2.2.2.2.1.1 ?_
  rw [f_J1_size_eq h2.2.2.2.1 (by have := h2.2.2.2.2.2.2.2.2.1; omega), c1_at]
  refine wp_gd h2.1 ?_
  rw [h2.2.2.1]
  refine wp_gd h2.2.2.2.1.1 ?_
  refine wp_c0 ?_
  refine wp_mono (StkOk.clear hn h2 h1.1) fun y hq => ?_
  obtain ⟨S2, F2, n2, u2⟩ := hq
  have hr3 : ∀ r, SD Ow r → r = 1004 ∨ (1005 ≤ r ∧ Ow r = 2) := fun r z => z
  refine wp_ok ⟨rfl, ⟨h1.stay F2 (fun _ _ => rfl) (fun r z => by have := hr3 r z; omega) (fun r x z => by have := hr3 r z; omega), S2, ?_, h4, h5, h6⟩, F2.sub (fun q _ z => ?_), n2, u2⟩
  · obtain ⟨no, ed, fm⟩ := S
    have hk := h1.kp F2 (fun _ _ => rfl) (fun q z => by have := hr3 q z; omega)
    exact h3.lk.keep hk h1.sn ⟨rfl, rfl, fun _ _ => rfl⟩
  · have := hr3 q z
    unfold FG
    by_cases c5 : q ≤ 1005
    · omega
    · by_cases c6 : 1054 ≤ q
      · omega
      · have := h5 q (by omega) (by omega); omega
end CRA
