/-! THE PRIORITY QUEUE: add, poll; THE BIT SET -/
set_option maxRecDepth 100000
def PqOk (σ : AS) (pq arr : Int) (s : Nat) (w : Int) : Prop :=
  (kd σ pq = 29 ∧ ld σ pq 0 = arr ∧ ld σ pq 1 = s ∧ ld σ pq 2 = 0 ∧ 0 ≤ ld σ pq 3 ∧ ld σ pq 3 ≤ w) ∧
  (kd σ arr = 105 ∧ (ln σ arr = 11 ∨ ln σ arr = 24 ∨ ln σ arr = 50 ∨ ln σ arr = 102) ∧ (s : Int) ≤ ln σ arr) ∧
  (∀ i : Int, 0 ≤ i → i < s → Rch σ (ld σ arr i)) ∧ (∀ i : Int, (s : Int) ≤ i → i < ln σ arr → ld σ arr i = 0) ∧ HeapI (kge σ) (ld σ arr) 0 s ∧
  (1054 ≤ pq ∧ pq < nx σ ∧ 1054 ≤ arr ∧ arr < nx σ)
def rW (σ : AS) (r : Int) : Int × Int := (ld σ r 0, ld σ r 1)
def pqW (σ : AS) (arr : Int) (s : Nat) : List (Int × Int) := (fl (ld σ arr) s).map (rW σ)
theorem rch_fl {σ : AS} {f : F1} {s : Nat} {r : Int} (h : ∀ i : Int, 0 ≤ i → i < s → Rch σ (f i)) (hr : r ∈ fl f s) : Rch σ r := by
  obtain ⟨i, h1, h2⟩ := fl_mem.mp hr
  rw [← h2]
  exact h i (by omega) (by omega)
theorem map_rW {σ σ' : AS} {L : List Int} (h : ∀ r ∈ L, ∀ j, ld σ' r j = ld σ r j) : L.map (rW σ') = L.map (rW σ) := by
  refine List.map_congr_left fun r hr => ?_
  unfold rW
  rw [h r hr, h r hr]
section PQ2
variable {σ σ' : AS} {pq arr x w bs wd : Int} {s n : Nat} {X : Int → Prop} {DN : Int → Prop}
theorem PqOk.frame (h : PqOk σ pq arr s w) (hF : Fr X σ σ') (hX : ∀ r, X r → r ≠ pq ∧ r ≠ arr ∧ kd σ r ≠ 11) : PqOk σ' pq arr s w ∧ pqW σ' arr s = pqW σ arr s := by
  obtain ⟨⟨a1, a2, a3, a4, a5, a6⟩, ⟨b1, b2, b3⟩, c, d, e, f1, f2, f3, f4⟩ := h
  have n1 := hF.1
  have xp : ∀ j, ld σ' pq j = ld σ pq j := hF.ld f2 (fun z => (hX _ z).1 rfl)
  have xa : ∀ j, ld σ' arr j = ld σ arr j := hF.ld f4 (fun z => (hX _ z).2.1 rfl)
  have xaf : ld σ' arr = ld σ arr := funext xa
  have xr : ∀ r, Rch σ r → Rch σ' r ∧ ∀ j, ld σ' r j = ld σ r j := fun r q => ⟨⟨by rw [hF.kd q.2.2]; exact q.1, q.2.1, by have := q.2.2; omega⟩, hF.ld q.2.2 (fun z => (hX _ z).2.2 q.1)⟩
  refine ⟨⟨⟨by rw [hF.kd f2]; exact a1, by rw [xp]; exact a2, by rw [xp]; exact a3, by rw [xp]; exact a4, by rw [xp]; exact a5, by rw [xp]; exact a6⟩, ⟨by rw [hF.kd f4]; exact b1, by rw [hF.ln f4]; exact b2, by rw [hF.ln f4]; exact b3⟩, fun i h1 h2 => by rw [xa]; exact (xr _ (c i h1 h2)).1, fun i h1 h2 => by rw [xa]; exact d i h1 (by rw [← hF.ln f4]; exact h2), ?_, f1, by omega, f3, by omega⟩, ?_⟩
  · rw [xaf]
    refine heap_congr e fun i j h1 h2 h3 h4 q => ?_
    unfold kge at *
    rw [(xr _ (c i h1 h2)).2, (xr _ (c i h1 h2)).2, (xr _ (c j h3 h4)).2, (xr _ (c j h3 h4)).2]
    exact q
  · unfold pqW
    rw [xaf]
    exact map_rW fun r hr => (xr r (rch_fl c hr)).2
/-- a new one, where there is room -/
theorem offer43_wp (hn : 1000000 ≤ n) (h : PqOk σ pq arr s w) (hx : Rch σ x) (hs : (s : Int) < ln σ arr) : Wp (f_J28_offer_43 n pq x s σ) fun y => y.1 = 1 ∧ PqOk y.2 pq arr (s + 1) w ∧ (pqW y.2 arr (s + 1)).Perm (rW σ x :: pqW σ arr s) ∧ Fr (fun r => r = pq ∨ r = arr) σ y.2 ∧ nx y.2 = nx σ ∧ us y.2 = us σ := by
  obtain ⟨⟨a1, a2, a3, a4, a5, a6⟩, ⟨b1, b2, b3⟩, c, d, e, f1, f2, f3, f4⟩ := h
  have pa : pq ≠ arr := fun z => by rw [z, b1] at a1; omega
  unfold f_J28_offer_43
  refine wp_gd a1 ?_
  unfold f_J28_siftUp
  refine wp_c0 (wp_gd a1 (wp_pos a4 (wp_gd a1 ?_)))
  rw [a2]
  unfold f_J28_siftUpComparable
  refine wp_c0 (wp_gd (Or.inr hx.1) ?_)
  have hU : UpI (kge σ) (ud (ld σ arr) s x) ((s + 1 : Nat) : Int) s := by
    have := up_start (x := x) e (by omega)
    rw [show ((s + 1 : Nat) : Int) = (s : Int) + 1 by omega]
    exact this
  refine wp_mono (siftUp_wp (en := s + 1) (by omega) s n s σ (by omega) (by omega) b1 (by omega) (by omega) (by omega) f4 hx (fun i h1 h2 h3 => c i h1 (by omega)) hU) fun σ1 hq => ?_
  obtain ⟨q1, q2, q3, q4, q5, q6⟩ := hq
  refine wp_ok (wp_gI (by omega) (wp_gd (by rw [q4.kd f2]; exact a1) (wp_nm0 (wp_ok ?_))))
  have xp : ∀ j, ld σ1 pq j = ld σ pq j := q4.ld f2 pa
  have F2 : Fr (fun r => r = pq ∨ r = arr) σ (wr σ1 pq 1 ((s : Int) + 1)) := (q4.sub fun r _ z => Or.inr z).trans (Fr.wr (Or.inl rfl))
  have eA : ld (wr σ1 pq 1 ((s : Int) + 1)) arr = ld σ1 arr := by
    funext j
    rw [ld_wr, if_neg (fun z => pa z.1.symm)]
  have eP : ∀ j, j ≠ 1 → ld (wr σ1 pq 1 ((s : Int) + 1)) pq j = ld σ pq j := fun j hj => by rw [ld_wr, if_neg (fun z => hj z.2), xp]
  have eP1 : ld (wr σ1 pq 1 ((s : Int) + 1)) pq 1 = ((s + 1 : Nat) : Int) := by rw [ld_wr, if_pos ⟨rfl, rfl⟩]; omega
  have xr : ∀ r, Rch σ r → Rch (wr σ1 pq 1 ((s : Int) + 1)) r ∧ ∀ j, ld (wr σ1 pq 1 ((s : Int) + 1)) r j = ld σ r j := fun r q => by
    have r1 : r ≠ pq := fun z => by have := q.1; rw [z, a1] at this; omega
    have r2 : r ≠ arr := fun z => by have := q.1; rw [z, b1] at this; omega
    exact ⟨⟨by rw [F2.kd q.2.2]; exact q.1, q.2.1, by have := F2.1; have := q.2.2; omega⟩, F2.ld q.2.2 (fun z => z.elim r1 r2)⟩
  have hperm : (fl (ld σ1 arr) (s + 1)).Perm (fl (ud (ld σ arr) s x) (s + 1)) := fl_perm q2
  have ef : fl (ud (ld σ arr) s x) (s + 1) = fl (ld σ arr) s ++ [x] := by
    rw [fl_succ, ud_eq, fl_congr (f := ud (ld σ arr) s x) (g := ld σ arr) (fun i hi => ud_ne (by omega))]
  have mem : ∀ i : Int, 0 ≤ i → i < (s + 1 : Nat) → Rch σ (ld σ1 arr i) := fun i h1 h2 => by
    have m1 : ld σ1 arr i ∈ fl (ld σ1 arr) (s + 1) := fl_mem.mpr ⟨i.toNat, by omega, by rw [show ((i.toNat : Nat) : Int) = i by omega]⟩
    have m2 := hperm.mem_iff.mp m1
    rw [ef, List.mem_append, List.mem_singleton] at m2
    rcases m2 with m2 | m2
    · exact rch_fl c m2
    · rw [m2]; exact hx
  have n2 : nx (wr σ1 pq 1 ((s : Int) + 1)) = nx σ1 := rfl
  have u2 : us (wr σ1 pq 1 ((s : Int) + 1)) = us σ1 := rfl
  generalize wr σ1 pq 1 ((s : Int) + 1) = σ2 at *
  have l2 : ln σ2 arr = ln σ arr := F2.ln f4
  refine ⟨rfl, ⟨⟨by rw [F2.kd f2]; exact a1, by rw [eP _ (by decide)]; exact a2, eP1, by rw [eP _ (by decide)]; exact a4, by rw [eP _ (by decide)]; exact a5, by rw [eP _ (by decide)]; exact a6⟩, ⟨by rw [F2.kd f4]; exact b1, by rw [l2]; exact b2, by rw [l2]; omega⟩, fun i h1 h2 => by rw [eA]; exact (xr _ (mem i h1 h2)).1, fun i h1 h2 => ?_, ?_, f1, by have := F2.1; show pq < nx σ2; omega, f3, by have := F2.1; show arr < nx σ2; omega⟩, ?_, F2, ?_, ?_⟩
  · show ld σ2 arr i = 0
    rw [eA, q3 i (Or.inr h1)]
    exact d i (by omega) (by rw [← l2]; exact h2)
  · show HeapI (kge σ2) (ld σ2 arr) 0 ((s + 1 : Nat) : Int)
    rw [eA]
    refine heap_congr q1 fun i j h1 h2 h3 h4 q => ?_
    have r1 := (xr _ (mem i h1 h2)).2
    have r2 := (xr _ (mem j h3 h4)).2
    unfold kge at *
    rw [r1, r1, r2, r2]
    exact q
  · show (pqW σ2 arr (s + 1)).Perm _
    unfold pqW
    rw [eA, map_rW (σ := σ) (fun r hr => (xr r (rch_fl mem hr)).2)]
    refine (hperm.map (rW σ)).trans ?_
    rw [ef, List.map_append]
    exact List.perm_append_comm
  · show nx σ2 = _; omega
  · show us σ2 = _; omega
/-- more room -/
theorem pqGrow_wp (h : PqOk σ pq arr s w) (hs : (s : Int) = ln σ arr) (h70 : s ≤ 70) : Wp (f_J28_grow pq ((s : Int) + 1) σ) fun σ' => PqOk σ' pq (nx σ) s w ∧ (s : Int) < ln σ' (nx σ) ∧ pqW σ' (nx σ) s = pqW σ arr s ∧ Fr (fun r => r = pq) σ σ' ∧ nx σ' = nx σ + 1 ∧ us σ' ≤ us σ + 102 := by
  have h' := h
  obtain ⟨⟨a1, a2, a3, a4, a5, a6⟩, ⟨b1, b2, b3⟩, c, d, e, f1, f2, f3, f4⟩ := h'
  have pa : pq ≠ arr := fun z => by rw [z, b1] at a1; omega
  unfold f_J28_grow
  refine wp_gd a1 ?_
  rw [a2]
  refine wp_gd (Or.inl b1) (wp_nm0 ?_)
  rw [← hs]
  refine wp_gI (by omega) (wp_neg (by omega) (wp_gI (by omega) ?_))
  unfold f_J28_grow_25 f_J21_newLength f_J12_max
  rw [if_pos (by omega), c1_at]
  have eL : (s : Int) + ((s : Int) + 2) = 2 * s + 2 := by omega
  rw [eL, gI_pos (by omega), nm_eq, if_neg (by omega), if_neg (by omega), c1_at]
  refine wp_gd a1 ?_
  rw [a2, f_J11_copyOf_eq b1 f4 (by omega) (by omega) (by omega) (fun i h1 h2 => ?_), c1_at]
  · rw [← hs]
    generalize hσ1 : cpy (al σ 105 (2 * (s : Int) + 2) (2 * (s : Int) + 2)) arr 0 (nx σ) 0 s = σ1
    have F1 : Fr (fun _ => False) σ σ1 := by
      rw [← hσ1]
      exact (Fr.al (by omega)).tr2 (Fr.cpy (S := fun r => r = nx σ) rfl) fun r x z => by have z' : r = nx σ := z; omega
    have n1 : nx σ1 = nx σ + 1 := by rw [← hσ1]; rfl
    have u1 : us σ1 = us σ + (2 * s + 2) := by rw [← hσ1]; rfl
    have k1 : kd σ1 (nx σ) = 105 := by rw [← hσ1]; show (if nx σ = nx σ then 105 else _) = 105; rw [if_pos rfl]
    have l1 : ln σ1 (nx σ) = 2 * s + 2 := by rw [← hσ1]; show (if nx σ = nx σ then _ else _) = _; rw [if_pos rfl]
    have d1 : ∀ j, ld σ1 (nx σ) j = if 0 ≤ j ∧ j < s then ld σ arr j else 0 := fun j => by
      rw [← hσ1, ld_cpy]
      by_cases q : 0 ≤ j ∧ j < (s : Int)
      · rw [if_pos ⟨rfl, by omega, by omega⟩, if_pos q, ld_al, if_neg (by omega)]
        congr 1; omega
      · rw [if_neg (fun z => q ⟨by omega, by omega⟩), if_neg q, ld_al, if_pos rfl]
    clear hσ1
    refine wp_gd (by rw [F1.kd f2]; exact a1) (wp_nm0 (wp_ok ?_))
    have F2 : Fr (fun r => r = pq) σ (wr σ1 pq 0 (nx σ)) := (F1.sub fun r _ z => z.elim).trans (Fr.wr rfl)
    have eA : ∀ j, ld (wr σ1 pq 0 (nx σ)) (nx σ) j = ld σ1 (nx σ) j := fun j => by rw [ld_wr, if_neg (fun z => by omega)]
    have eP : ∀ j, j ≠ 0 → ld (wr σ1 pq 0 (nx σ)) pq j = ld σ pq j := fun j hj => by rw [ld_wr, if_neg (fun z => hj z.2), F1.ld f2 (fun z => z)]
    have eP0 : ld (wr σ1 pq 0 (nx σ)) pq 0 = nx σ := by rw [ld_wr, if_pos ⟨rfl, rfl⟩]
    have n2 : nx (wr σ1 pq 0 (nx σ)) = nx σ1 := rfl
    have u2 : us (wr σ1 pq 0 (nx σ)) = us σ1 := rfl
    have k2 : kd (wr σ1 pq 0 (nx σ)) (nx σ) = kd σ1 (nx σ) := rfl
    have l2 : ln (wr σ1 pq 0 (nx σ)) (nx σ) = ln σ1 (nx σ) := rfl
    generalize wr σ1 pq 0 (nx σ) = σ2 at *
    have xr : ∀ r, Rch σ r → Rch σ2 r ∧ ∀ j, ld σ2 r j = ld σ r j := fun r q => by
      have r1 : r ≠ pq := fun z => by have := q.1; rw [z, a1] at this; omega
      exact ⟨⟨by rw [F2.kd q.2.2]; exact q.1, q.2.1, by have := q.2.2; omega⟩, F2.ld q.2.2 r1⟩
    have eB : ∀ i : Int, 0 ≤ i → i < s → ld σ2 (nx σ) i = ld σ arr i := fun i h1 h2 => by rw [eA, d1, if_pos ⟨h1, h2⟩]
    have eW : fl (ld σ2 (nx σ)) s = fl (ld σ arr) s := fl_congr fun i hi => eB i (by omega) (by omega)
    refine ⟨⟨⟨by rw [F2.kd f2]; exact a1, eP0, by rw [eP _ (by decide)]; exact a3, by rw [eP _ (by decide)]; exact a4, by rw [eP _ (by decide)]; exact a5, by rw [eP _ (by decide)]; exact a6⟩, ⟨by rw [k2]; exact k1, by rw [l2, l1]; omega, by rw [l2, l1]; omega⟩, fun i h1 h2 => by rw [eB i h1 h2]; exact (xr _ (c i h1 h2)).1, fun i h1 h2 => by rw [eA, d1, if_neg (by omega)], ?_, f1, by omega, by omega, by omega⟩, by rw [l2, l1]; omega, ?_, F2, by omega, by omega⟩
    · intro i h1 h2 h3
      rw [eB _ (by omega) (by omega), eB _ (by omega) h2]
      have := e i h1 h2 h3
      have r1 := (xr _ (c ((i - 1) / 2) (by omega) (by omega))).2
      have r2 := (xr _ (c i (by omega) h2)).2
      unfold kge at *
      rw [r1, r1, r2, r2]
      exact this
    · unfold pqW
      rw [eW]
      exact map_rW fun r hr => (xr r (rch_fl c hr)).2
  · by_cases q : i < (s : Int)
    · have := c i h1 q
      exact ⟨elOk_rch this.1, this.2.2⟩
    · omega
theorem add_wp (hn : 1000000 ≤ n) (h : PqOk σ pq arr s w) (hx : Rch σ x) (h70 : s ≤ 70) (hw : w ≤ 100000) : Wp (f_J28_add n pq x σ) fun y => ∃ arr', PqOk y.2 pq arr' (s + 1) (w + 1) ∧ (pqW y.2 arr' (s + 1)).Perm (rW σ x :: pqW σ arr s) ∧ Fr (fun r => r = pq ∨ r = arr) σ y.2 ∧ (arr' = arr ∨ arr' = nx σ) ∧ nx y.2 ≤ nx σ + 1 ∧ us y.2 ≤ us σ + 102 := by
  have h' := h
  obtain ⟨⟨a1, a2, a3, a4, a5, a6⟩, ⟨b1, b2, b3⟩, c, d, e, f1, f2, f3, f4⟩ := h'
  have pa : pq ≠ arr := fun z => by rw [z, b1] at a1; omega
  have x0 : x ≠ 0 := by have := hx.2.1; omega
  unfold f_J28_add
  refine wp_gd a1 (wp_c1 ?_)
  unfold f_J28_offer
  refine wp_neg x0 (wp_gd a1 (wp_gI (by omega) (wp_gd a1 (wp_nm0 ?_))))
  have F0 : Fr (fun r => r = pq) σ (wr σ pq 3 (ld σ pq 3 + 1)) := Fr.wr rfl
  have h0 : PqOk (wr σ pq 3 (ld σ pq 3 + 1)) pq arr s (w + 1) ∧ pqW (wr σ pq 3 (ld σ pq 3 + 1)) arr s = pqW σ arr s := by
    have eP : ∀ j, j ≠ 3 → ld (wr σ pq 3 (ld σ pq 3 + 1)) pq j = ld σ pq j := fun j hj => by rw [ld_wr, if_neg (fun z => hj z.2)]
    have eP3 : ld (wr σ pq 3 (ld σ pq 3 + 1)) pq 3 = ld σ pq 3 + 1 := by rw [ld_wr, if_pos ⟨rfl, rfl⟩]
    have eA : ld (wr σ pq 3 (ld σ pq 3 + 1)) arr = ld σ arr := by
      funext j
      rw [ld_wr, if_neg (fun z => pa z.1.symm)]
    have eR : ∀ r, Rch σ r → ∀ j, ld (wr σ pq 3 (ld σ pq 3 + 1)) r j = ld σ r j := fun r q j => by
      rw [ld_wr, if_neg (fun z => by have := q.1; rw [z.1, a1] at this; omega)]
    refine ⟨⟨⟨a1, by rw [eP _ (by decide)]; exact a2, by rw [eP _ (by decide)]; exact a3, by rw [eP _ (by decide)]; exact a4, by rw [eP3]; omega, by rw [eP3]; omega⟩, ⟨b1, b2, b3⟩, fun i h1 h2 => by rw [eA]; exact c i h1 h2, fun i h1 h2 => by rw [eA]; exact d i h1 h2, ?_, f1, f2, f3, f4⟩, ?_⟩
    · rw [eA]
      refine heap_congr e fun i j h1 h2 h3 h4 q => ?_
      unfold kge at *
      rw [eR _ (c i h1 h2), eR _ (c i h1 h2), eR _ (c j h3 h4), eR _ (c j h3 h4)]
      exact q
    · unfold pqW
      rw [eA]
      exact map_rW fun r hr => eR r (rch_fl c hr)
  have hx0 : Rch (wr σ pq 3 (ld σ pq 3 + 1)) x := hx
  have ex0 : rW (wr σ pq 3 (ld σ pq 3 + 1)) x = rW σ x := by
    have : ∀ j, ld (wr σ pq 3 (ld σ pq 3 + 1)) x j = ld σ x j := fun j => by rw [ld_wr, if_neg (fun z => by have := hx.1; rw [z.1, a1] at this; omega)]
    unfold rW
    rw [this, this]
  have n0 : nx (wr σ pq 3 (ld σ pq 3 + 1)) = nx σ := rfl
  have u0 : us (wr σ pq 3 (ld σ pq 3 + 1)) = us σ := rfl
  have l0 : ln (wr σ pq 3 (ld σ pq 3 + 1)) arr = ln σ arr := rfl
  generalize wr σ pq 3 (ld σ pq 3 + 1) = σ0 at *
  obtain ⟨h0, w0⟩ := h0
  have h0' := h0
  obtain ⟨⟨A1, A2, A3, A4, A5, A6⟩, ⟨B1, B2, B3⟩, -⟩ := h0'
  refine wp_gd A1 (wp_nm0 (wp_gd A1 ?_))
  rw [A2]
  refine wp_gd (Or.inl B1) ?_
  rw [A3]
  by_cases cs : (s : Int) < ln σ0 arr
  · refine wp_pos cs (wp_mono (offer43_wp hn h0 hx0 cs) fun y hq => ?_)
    obtain ⟨q0, q1, q2, q3, q4, q5⟩ := hq
    rw [w0, ex0] at q2
    refine wp_gd (by rw [q0]; decide) (wp_ok ⟨arr, q1, q2, (F0.sub fun r _ z => Or.inl z).trans q3, Or.inl rfl, by show nx y.2 ≤ _; omega, by show us y.2 ≤ _; omega⟩)
  · refine wp_neg cs (wp_gI (by omega) (wp_gd A1 (wp_c0 ?_)))
    refine wp_mono (pqGrow_wp h0 (by omega) h70) fun σ1 hq => ?_
    obtain ⟨p1, p2, p3, p4, p5, p6⟩ := hq
    have hx1 : Rch σ1 x := ⟨by rw [p4.kd hx0.2.2]; exact hx0.1, hx0.2.1, by have := hx0.2.2; omega⟩
    have ex1 : rW σ1 x = rW σ0 x := by
      have : ∀ j, ld σ1 x j = ld σ0 x j := p4.ld hx0.2.2 (fun z => by have z' : x = pq := z; have := hx0.1; rw [z', A1] at this; omega)
      unfold rW
      rw [this, this]
    refine wp_mono (offer43_wp hn p1 hx1 p2) fun y hq => ?_
    obtain ⟨q0, q1, q2, q3, q4, q5⟩ := hq
    rw [p3, w0, ex1, ex0] at q2
    refine wp_gd (by rw [q0]; decide) (wp_ok ⟨nx σ0, q1, q2, ?_, Or.inr n0, by show nx y.2 ≤ _; omega, by show us y.2 ≤ _; omega⟩)
    refine ((F0.sub fun r _ z => Or.inl z).tr2 p4 fun r _ z => Or.inl z).tr2 q3 fun r x z => ?_
    rcases z with z | z
    · exact Or.inl z
    · omega
end PQ2
