/-! THE PRIORITY QUEUE -/
set_option maxRecDepth 100000
theorem shl1 : ∀ k : Fin 300, ishlW ((k : Nat) : Int) 1 = 2 * ((k : Nat) : Int) := by decide +kernel
theorem ushr1 : ∀ k : Fin 300, iushrW ((k : Nat) : Int) 1 = ((k : Nat) : Int) / 2 := by decide +kernel
theorem shl1_eq {k : Int} (h : 0 ≤ k ∧ k < 300) : ishlW k 1 = 2 * k := by
  have := shl1 ⟨k.toNat, by omega⟩
  have e : (((⟨k.toNat, by omega⟩ : Fin 300) : Nat) : Int) = k := by show ((k.toNat : Nat) : Int) = k; omega
  rw [e] at this
  exact this
theorem ushr1_eq {k : Int} (h : 0 ≤ k ∧ k < 300) : iushrW k 1 = k / 2 := by
  have := ushr1 ⟨k.toNat, by omega⟩
  have e : (((⟨k.toNat, by omega⟩ : Fin 300) : Nat) : Int) = k := by show ((k.toNat : Nat) : Int) = k; omega
  rw [e] at this
  exact this
/-- a Reach: its cost, its node -/
def Rch (σ : AS) (r : Int) : Prop := kd σ r = 11 ∧ 1054 ≤ r ∧ r < nx σ
theorem elOk_rch {σ : AS} {r : Int} (h : kd σ r = 11) : elOk σ (.object "java/lang/Object") r := Or.inr ⟨10, Or.inl h, ⟨_, rfl, Or.inr (by decide +kernel)⟩⟩
/-- a stands above b -/
def kge (σ : AS) (a b : Int) : Prop := ld σ a 0 < ld σ b 0 ∨ (ld σ a 0 = ld σ b 0 ∧ ld σ a 1 ≤ ld σ b 1)
theorem kge_rf {σ : AS} (x : Int) : kge σ x x := Or.inr ⟨rfl, Int.le_refl _⟩
theorem kge_tr {σ : AS} (x y z : Int) (h : kge σ x y) (h' : kge σ y z) : kge σ x z := by unfold kge at *; omega
theorem heap_congr {ge ge' : Int → Int → Prop} {b : F1} {en : Int} (h : HeapI ge b 0 en) (k : ∀ i j, 0 ≤ i → i < en → 0 ≤ j → j < en → ge (b i) (b j) → ge' (b i) (b j)) : HeapI ge' b 0 en := fun i h1 h2 h3 => k _ _ h3 (by omega) (by omega) h2 (h i h1 h2 h3)
section PQ
variable {σ σ' : AS} {a b x pq arr : Int} {n : Nat}
theorem rcmp (ha : kd σ a = 11) (hb : kd σ b = 11) : ∃ c, f_X17_compareTo a b σ = some (c, σ) ∧ (c ≤ 0 → kge σ a b) ∧ (0 ≤ c → kge σ b a) := by
  unfold f_X17_compareTo f_X17_compareTo_2 lcmpW kge
  rw [gd_pos (Or.inr hb), gd_pos ha, gd_pos ha, gd_pos hb]
  by_cases c1 : ld σ b 0 < ld σ a 0
  · rw [if_pos c1, if_neg (by decide), gd_pos ha, gd_pos hb]
    unfold f_J19_compare lcmpW
    rw [if_pos c1, if_pos (by decide), if_neg (by decide)]
    exact ⟨1, rfl, fun z => by omega, fun _ => Or.inl c1⟩
  · rw [if_neg c1]
    by_cases c2 : ld σ a 0 = ld σ b 0
    · rw [if_pos c2, if_pos rfl, gd_pos ha, gd_pos hb]
      unfold f_J17_compare
      by_cases c3 : ld σ b 1 ≤ ld σ a 1
      · rw [if_pos c3]
        by_cases c4 : ld σ a 1 = ld σ b 1
        · rw [if_pos c4]
          exact ⟨0, rfl, fun _ => Or.inr ⟨c2, by omega⟩, fun _ => Or.inr ⟨c2.symm, by omega⟩⟩
        · rw [if_neg c4]
          exact ⟨1, rfl, fun z => by omega, fun _ => Or.inr ⟨c2.symm, by omega⟩⟩
      · rw [if_neg c3]
        exact ⟨-1, rfl, fun _ => Or.inr ⟨c2, by omega⟩, fun z => by omega⟩
    · rw [if_neg c2, if_neg (by decide), gd_pos ha, gd_pos hb]
      unfold f_J19_compare lcmpW
      rw [if_neg c1, if_neg c2, if_neg (by decide)]
      exact ⟨-1, rfl, fun _ => Or.inl (by omega), fun z => by omega⟩
/-- behind a sift: a heap of the same things -/
def Sift (σ : AS) (arr : Int) (f0 : F1) (en : Nat) (σ' : AS) : Prop := HeapI (kge σ) (ld σ' arr) 0 en ∧ (∀ z, cn (ld σ' arr) z en = cn f0 z en) ∧ (∀ j : Int, (j < 0 ∨ (en : Int) ≤ j) → ld σ' arr j = ld σ arr j) ∧ Fr (fun r => r = arr) σ σ' ∧ nx σ' = nx σ ∧ us σ' = us σ
theorem kge_fr {arr : Int} (hF : Fr (fun r => r = arr) σ σ') (k : kd σ arr = 105) {x y : Int} (hx : Rch σ x) (hy : Rch σ y) : kge σ' x y ↔ kge σ x y := by
  have ex : ∀ j, ld σ' x j = ld σ x j := hF.ld hx.2.2 (fun z => by have := hx.1; rw [z, k] at this; omega)
  have ey : ∀ j, ld σ' y j = ld σ y j := hF.ld hy.2.2 (fun z => by have := hy.1; rw [z, k] at this; omega)
  unfold kge
  rw [ex, ex, ey, ey]
theorem siftUp_wp {en : Nat} (h300 : en ≤ 200) : ∀ (m q : Nat) (k : Int) (σ : AS), k.toNat ≤ m → m < q → kd σ arr = 105 → (en : Int) ≤ ln σ arr → 0 ≤ k → k < en → arr < nx σ → Rch σ x → (∀ i : Int, 0 ≤ i → i < en → i ≠ k → Rch σ (ld σ arr i)) → UpI (kge σ) (ud (ld σ arr) k x) en k → Wp (f_J28_siftUpComparable_5 n q k arr x σ) (Sift σ arr (ud (ld σ arr) k x) en) := by
  intro m
  induction m with
  | zero =>
    intro q k σ hk hq ka hl k0 k1 hr hx hR hU
    obtain ⟨q, rfl⟩ : ∃ z, q = z + 1 := ⟨q - 1, by omega⟩
    unfold f_J28_siftUpComparable_5
    refine wp_pos (by omega) (wp_gd ⟨ka, k0, by omega⟩ (wp_gdc (elOk_rch hx.1) (wp_nm0 (wp_ok ?_))))
    have e : ld (wr σ arr k x) arr = ud (ld σ arr) k x := by
      funext j
      rw [ld_wr, ud_at]
      by_cases c : j = k
      · rw [if_pos ⟨rfl, c⟩, if_pos c]
      · rw [if_neg (fun z => c z.2), if_neg c]
    refine ⟨by rw [e]; exact up_end hU (Or.inl (by omega)), fun z => by rw [e], fun j hj => by rw [e, ud_ne (by omega)], Fr.wr rfl, rfl, rfl⟩
  | succ m ih =>
    intro q k σ hk hq ka hl k0 k1 hr hx hR hU
    obtain ⟨q, rfl⟩ : ∃ z, q = z + 1 := ⟨q - 1, by omega⟩
    have e : ld (wr σ arr k x) arr = ud (ld σ arr) k x := by
      funext j
      rw [ld_wr, ud_at]
      by_cases c : j = k
      · rw [if_pos ⟨rfl, c⟩, if_pos c]
      · rw [if_neg (fun z => c z.2), if_neg c]
    have stop : k ≤ 0 ∨ kge σ (ud (ld σ arr) k x ((k - 1) / 2)) (ud (ld σ arr) k x k) → Sift σ arr (ud (ld σ arr) k x) en (wr σ arr k x) := fun hs => ⟨by rw [e]; exact up_end hU hs, fun z => by rw [e], fun j hj => by rw [e, ud_ne (by omega)], Fr.wr rfl, rfl, rfl⟩
    unfold f_J28_siftUpComparable_5
    by_cases c0 : k ≤ 0
    · exact wp_pos c0 (wp_gd ⟨ka, k0, by omega⟩ (wp_gdc (elOk_rch hx.1) (wp_nm0 (wp_ok (stop (Or.inl c0))))))
    · refine wp_neg c0 (wp_gI (by omega) ?_)
      rw [ushr1_eq (by omega)]
      refine wp_nm0 ?_
      generalize hp : (k - 1) / 2 = p at *
      have hrp := hR p (by omega) (by omega) (by omega)
      obtain ⟨c, e1, e2, e3⟩ := rcmp hx.1 hrp.1
      refine wp_gd ⟨Or.inl ka, by omega, by omega⟩ (wp_nm0 (wp_gd hx.1 (wp_c1e e1 ?_)))
      have up : ud (ld σ arr) k x p = ld σ arr p := ud_ne (by omega)
      have uk : ud (ld σ arr) k x k = x := ud_eq
      by_cases c1 : c < 0
      · refine wp_pos c1 (wp_gd ⟨ka, k0, by omega⟩ (wp_gdc (elOk_rch hrp.1) (wp_nm0 ?_)))
        have F1 : Fr (fun r => r = arr) σ (wr σ arr k (ld σ arr p)) := Fr.wr rfl
        have e4 : ld (wr σ arr k (ld σ arr p)) arr = ud (ld σ arr) k (ld σ arr p) := by
          funext j
          rw [ld_wr, ud_at]
          by_cases c : j = k
          · rw [if_pos ⟨rfl, c⟩, if_pos c]
          · rw [if_neg (fun z => c z.2), if_neg c]
        have rch : ∀ r, Rch σ r → Rch (wr σ arr k (ld σ arr p)) r := fun r q => q
        have hv : ud (ud (ld σ arr) k (ld σ arr p)) p x = swp (ud (ld σ arr) k x) k p := swp_hole (by omega)
        have hU2 : UpI (kge σ) (ud (ud (ld σ arr) k (ld σ arr p)) p x) en p := by
          rw [hv]
          have := up_step hU kge_tr (by omega) (by omega) (by rw [hp, up, uk]; exact e2 (by omega))
          rw [hp] at this
          exact this
        have hR2 : ∀ i : Int, 0 ≤ i → i < en → i ≠ p → Rch (wr σ arr k (ld σ arr p)) (ld (wr σ arr k (ld σ arr p)) arr i) := fun i a b z => by
          rw [e4, ud_at]
          by_cases c : i = k
          · rw [if_pos c]; exact hrp
          · rw [if_neg c]; exact hR i a b c
        have hall : ∀ i : Int, 0 ≤ i → i < en → Rch σ (ud (ud (ld σ arr) k (ld σ arr p)) p x i) := fun i a b => by
          rw [ud_at]
          by_cases c : i = p
          · rw [if_pos c]; exact hx
          · rw [if_neg c]
            have := hR2 i a b c
            rw [e4] at this
            exact this
        have hU3 : UpI (kge (wr σ arr k (ld σ arr p))) (ud (ld (wr σ arr k (ld σ arr p)) arr) p x) en p := by
          rw [e4]
          exact ⟨fun i h1 h2 h3 => (kge_fr F1 ka (hall _ (by omega) (by omega)) (hall _ (by omega) h2)).mpr (hU2.1 i h1 h2 h3), fun i h1 h2 h3 h4 => (kge_fr F1 ka (hall _ (by omega) (by omega)) (hall _ (by omega) h2)).mpr (hU2.2 i h1 h2 h3 h4)⟩
        refine wp_mono (ih q p _ (by omega) (by omega) ka hl (by omega) (by omega) hr hx hR2 hU3) fun σ' hq' => ?_
        obtain ⟨q1, q2, q3, q4, q5, q6⟩ := hq'
        have cnE : ∀ z, cn (ud (ld (wr σ arr k (ld σ arr p)) arr) p x) z en = cn (ud (ld σ arr) k x) z en := fun z => by
          rw [e4]
          have h1 : ((k.toNat : Nat) : Int) = k := by omega
          have h2 : ((p.toNat : Nat) : Int) = p := by omega
          have := cn_hole (f := ld σ arr) (x := z) (v := x) (n := en) (k := k.toNat) (c := p.toNat) (by omega) (by omega) (by omega)
          rw [h1, h2] at this
          exact this
        have frq : Fr (fun r => r = arr) σ σ' := F1.trans q4
        refine ⟨?_, fun z => (q2 z).trans (cnE z), fun j hj => ?_, frq, q5, q6⟩
        · refine heap_congr q1 fun i j a1 a2 a3 a4 w => ?_
          have mem : ∀ i : Int, 0 ≤ i → i < en → Rch σ (ld σ' arr i) := fun i a b => by
            have hperm := fl_perm (f := ld σ' arr) (g := ud (ud (ld σ arr) k (ld σ arr p)) p x) (n := en) (fun z => by rw [q2, e4])
            have m1 : ld σ' arr i ∈ fl (ld σ' arr) en := fl_mem.mpr ⟨i.toNat, by omega, by rw [show ((i.toNat : Nat) : Int) = i by omega]⟩
            obtain ⟨t, t1, t2⟩ := fl_mem.mp (hperm.mem_iff.mp m1)
            rw [← t2]
            exact hall t (by omega) (by omega)
          exact (kge_fr F1 ka (mem i a1 a2) (mem j a3 a4)).mp w
        · rw [q3 j hj, e4, ud_ne (by omega)]
      · exact wp_neg c1 (wp_gd ⟨ka, k0, by omega⟩ (wp_gdc (elOk_rch hx.1) (wp_nm0 (wp_ok (stop (Or.inr (by rw [up, uk]; exact e3 (by omega))))))))
theorem siftDown_wp {en : Nat} (h300 : en ≤ 200) : ∀ (m q : Nat) (k : Int) (σ : AS), en - k.toNat ≤ m → m < q → kd σ arr = 105 → (en : Int) ≤ ln σ arr → 0 ≤ k → k < en → arr < nx σ → Rch σ x → (∀ i : Int, 0 ≤ i → i < en → i ≠ k → Rch σ (ld σ arr i)) → HoleI (kge σ) (ud (ld σ arr) k x) 0 en k → Wp (f_J28_siftDownComparable_11 n q k arr en x ((en : Int) / 2) σ) (Sift σ arr (ud (ld σ arr) k x) en) := by
  intro m
  induction m with
  | zero => intro q k σ hk hq ka hl k0 k1; omega
  | succ m ih =>
    intro q k σ hk hq ka hl k0 k1 hr hx hR hU
    obtain ⟨q, rfl⟩ : ∃ z, q = z + 1 := ⟨q - 1, by omega⟩
    have ew : ∀ w, ld (wr σ arr k w) arr = ud (ld σ arr) k w := fun w => by
      funext j
      rw [ld_wr, ud_at]
      by_cases c : j = k
      · rw [if_pos ⟨rfl, c⟩, if_pos c]
      · rw [if_neg (fun z => c z.2), if_neg c]
    have stop : (∀ i : Int, 1 ≤ i → i < en → (i - 1) / 2 = k → kge σ (ud (ld σ arr) k x k) (ud (ld σ arr) k x i)) → Sift σ arr (ud (ld σ arr) k x) en (wr σ arr k x) := fun hs => ⟨by rw [ew]; exact hole_end hU hs, fun z => by rw [ew], fun j hj => by rw [ew, ud_ne (by omega)], Fr.wr rfl, rfl, rfl⟩
    have uk : ud (ld σ arr) k x k = x := ud_eq
    -- going down to c
    have down : ∀ c : Int, (c = 2 * k + 1 ∨ c = 2 * k + 2) → c < en → (∀ i : Int, 1 ≤ i → i < en → (i - 1) / 2 = k → kge σ (ld σ arr c) (ld σ arr i)) → Wp (f_J28_siftDownComparable_68 n (f_J28_siftDownComparable_11 n q) k arr en x ((en : Int) / 2) c (ld σ arr c) σ) (Sift σ arr (ud (ld σ arr) k x) en) := fun c hc hce hbest => by
      have hrc := hR c (by omega) hce (by omega)
      obtain ⟨d, e1, e2, e3⟩ := rcmp hx.1 hrc.1
      unfold f_J28_siftDownComparable_68
      refine wp_gd hx.1 (wp_c1e e1 ?_)
      by_cases c1 : 0 < d
      · refine wp_pos c1 (wp_gd ⟨ka, k0, by omega⟩ (wp_gdc (elOk_rch hrc.1) (wp_nm0 ?_)))
        have F1 : Fr (fun r => r = arr) σ (wr σ arr k (ld σ arr c)) := Fr.wr rfl
        have hv : ud (ud (ld σ arr) k (ld σ arr c)) c x = swp (ud (ld σ arr) k x) k c := swp_hole (by omega)
        have uc : ud (ld σ arr) k x c = ld σ arr c := ud_ne (by omega)
        have hU2 : HoleI (kge σ) (ud (ud (ld σ arr) k (ld σ arr c)) c x) 0 en c := by
          rw [hv]
          refine hole_step hU k0 hc hce (fun i a b z => ?_) ?_
          · rw [uc, ud_ne (show i ≠ k by omega)]; exact hbest i a b z
          · rw [uc, uk]; exact e3 (by omega)
        have hR2 : ∀ i : Int, 0 ≤ i → i < en → i ≠ c → Rch (wr σ arr k (ld σ arr c)) (ld (wr σ arr k (ld σ arr c)) arr i) := fun i a b z => by
          rw [ew, ud_at]
          by_cases w : i = k
          · rw [if_pos w]; exact hrc
          · rw [if_neg w]; exact hR i a b w
        have hall : ∀ i : Int, 0 ≤ i → i < en → Rch σ (ud (ud (ld σ arr) k (ld σ arr c)) c x i) := fun i a b => by
          rw [ud_at]
          by_cases w : i = c
          · rw [if_pos w]; exact hx
          · rw [if_neg w]
            have := hR2 i a b w
            rw [ew] at this
            exact this
        have hU3 : HoleI (kge (wr σ arr k (ld σ arr c))) (ud (ld (wr σ arr k (ld σ arr c)) arr) c x) 0 en c := by
          rw [ew]
          exact ⟨fun i h1 h2 h3 h4 => (kge_fr F1 ka (hall _ (by omega) (by omega)) (hall _ (by omega) h2)).mpr (hU2.1 i h1 h2 h3 h4), fun i h1 h2 h3 h4 h5 => (kge_fr F1 ka (hall _ (by omega) (by omega)) (hall _ (by omega) h2)).mpr (hU2.2 i h1 h2 h3 h4 h5)⟩
        refine wp_mono (ih q c _ (by omega) (by omega) ka hl (by omega) (by omega) hr hx hR2 hU3) fun σ' hq' => ?_
        obtain ⟨q1, q2, q3, q4, q5, q6⟩ := hq'
        have cnE : ∀ z, cn (ud (ld (wr σ arr k (ld σ arr c)) arr) c x) z en = cn (ud (ld σ arr) k x) z en := fun z => by
          rw [ew]
          have h1 : ((k.toNat : Nat) : Int) = k := by omega
          have h2 : ((c.toNat : Nat) : Int) = c := by omega
          have := cn_hole (f := ld σ arr) (x := z) (v := x) (n := en) (k := k.toNat) (c := c.toNat) (by omega) (by omega) (by omega)
          rw [h1, h2] at this
          exact this
        refine ⟨?_, fun z => (q2 z).trans (cnE z), fun j hj => ?_, F1.trans q4, q5, q6⟩
        · refine heap_congr q1 fun i j a1 a2 a3 a4 w => ?_
          have mem : ∀ i : Int, 0 ≤ i → i < en → Rch σ (ld σ' arr i) := fun i a b => by
            have hperm := fl_perm (f := ld σ' arr) (g := ud (ud (ld σ arr) k (ld σ arr c)) c x) (n := en) (fun z => by rw [q2, ew])
            have m1 : ld σ' arr i ∈ fl (ld σ' arr) en := fl_mem.mpr ⟨i.toNat, by omega, by rw [show ((i.toNat : Nat) : Int) = i by omega]⟩
            obtain ⟨t, t1, t2⟩ := fl_mem.mp (hperm.mem_iff.mp m1)
            rw [← t2]
            exact hall t (by omega) (by omega)
          exact (kge_fr F1 ka (mem i a1 a2) (mem j a3 a4)).mp w
        · rw [q3 j hj, ew, ud_ne (by omega)]
      · refine wp_neg c1 (wp_gd ⟨ka, k0, by omega⟩ (wp_gdc (elOk_rch hx.1) (wp_nm0 (wp_ok (stop fun i a b z => ?_)))))
        rw [uk, ud_ne (show i ≠ k by omega)]
        exact kge_tr _ _ _ (e2 (by omega)) (hbest i a b z)
    unfold f_J28_siftDownComparable_11
    by_cases c0 : (en : Int) / 2 ≤ k
    · exact wp_pos c0 (wp_gd ⟨ka, k0, by omega⟩ (wp_gdc (elOk_rch hx.1) (wp_nm0 (wp_ok (stop fun i a b z => by omega)))))
    · refine wp_neg c0 ?_
      rw [shl1_eq (by omega)]
      have hr1 := hR (2 * k + 1) (by omega) (by omega) (by omega)
      refine wp_gI (by omega) (wp_nm0 (wp_gd ⟨Or.inl ka, by omega, by omega⟩ (wp_nm0 (wp_gI (by omega) (wp_nm0 ?_)))))
      by_cases c1 : (en : Int) ≤ 2 * k + 1 + 1
      · refine wp_pos c1 (down (2 * k + 1) (Or.inl rfl) (by omega) fun i a b z => ?_)
        rw [show i = 2 * k + 1 by omega]
        exact kge_rf _
      · have hr2 := hR (2 * k + 1 + 1) (by omega) (by omega) (by omega)
        obtain ⟨d, e1, e2, e3⟩ := rcmp hr1.1 hr2.1
        refine wp_neg c1 (wp_gd (Or.inr hr1.1) (wp_gd ⟨Or.inl ka, by omega, by omega⟩ (wp_gd hr1.1 (wp_c1e e1 ?_))))
        by_cases c2 : d ≤ 0
        · refine wp_pos c2 (down (2 * k + 1) (Or.inl rfl) (by omega) fun i a b z => ?_)
          by_cases w : i = 2 * k + 1
          · rw [w]; exact kge_rf _
          · rw [show i = 2 * k + 1 + 1 by omega]; exact e2 c2
        · refine wp_neg c2 (wp_gd ⟨Or.inl ka, by omega, by omega⟩ (wp_nm0 (down (2 * k + 1 + 1) (Or.inr (by omega)) (by omega) fun i a b z => ?_)))
          by_cases w : i = 2 * k + 1
          · rw [w]; exact e3 (by omega)
          · rw [show i = 2 * k + 1 + 1 by omega]; exact kge_rf _
end PQ
