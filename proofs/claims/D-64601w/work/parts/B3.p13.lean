/-! TreeMap: put, whole -/
set_option maxRecDepth 100000
/-- what put leaves -/
def PutP (σ : AS) (t : Int) (D : Int → Prop) (f : Int → Int) (mc v r : Int) (p : Int × AS) : Prop :=
  p.1 = f v ∧ MapOk p.2 t (fun q => D q ∨ (nx σ ≤ q ∧ q < nx p.2)) (ud f v r) (mc + 1) ∧ Fr (fun q => q = t ∨ D q) σ p.2 ∧ nx p.2 ≤ nx σ + 1 ∧ us p.2 ≤ us σ + 6
theorem MapT.same {σ σ' : AS} {t : Int} {N : Int → Prop} {k lo hi ow : F1} (h : MapT σ t N k lo hi ow) (e : ∀ q, N q → ld σ' q 2 = ld σ q 2 ∧ ld σ' q 3 = ld σ q 3 ∧ ld σ' q 4 = ld σ q 4) (et : ld σ' t 3 = ld σ t 3) : MapT σ' t N k lo hi ow := by
  unfold MapT
  rw [et]
  exact tree_congr h (fun q => Iff.rfl) (fun q hq => ⟨rfl, (e q hq).1, (e q hq).2.1, (e q hq).2.2, rfl, rfl⟩) fun i => rfl
section PT
variable {N : Int → Prop} {k lo hi ow : F1} {t v r mc : Int} {σ : AS} {D : Int → Prop} {f : Int → Int}
theorem put_find {n : Nat} (hn : 100 ≤ n) (hI : IntC σ) (hv : 0 ≤ v ∧ v < 32) (hnx : 1000 ≤ nx σ) (htn : t < nx σ) (hr0 : r ≠ 0) (hmc : mc ≤ 100000) (hM : MapOk σ t D f mc) (hN : MapN σ N) (hT : MapT σ t N k lo hi ow) (hk : ∀ q, N q → D q ∧ q < nx σ ∧ ld σ q 0 = 328 + k q / 2 ∧ ld σ q 1 = f (k q / 2) ∧ f (k q / 2) ≠ 0) (hall : ∀ i, f i ≠ 0 → ∃ q, N q ∧ k q = 2 * i) : ∀ (m q : Nat) (x : Int), N x → (hi x - lo x).toNat < m → m + 1 ≤ q → lo x < 2 * v → 2 * v < hi x → Wp (f_J8_put_2_123 n q t (328 + v) r 1 x (328 + v) σ) (PutP σ t D f mc v r) := by
  obtain ⟨M1, M2, M3, M4, M5, M6⟩ := hM
  have nt : ∀ q, N q → q ≠ t := fun q hq z => by rw [z] at hq; have := (hN t hq).1; omega
  have hsz : ∀ g : Int → Int, sm (has g) 32 ≤ 32 := fun g => sm_le (fun x => by unfold has; by_cases c : g x = 0 <;> simp [c])
  have add : ∀ (x d : Int), N x → ((d = 0 ∧ ld σ x 3 = 0 ∧ k x < 2 * v ∧ 2 * v < hi x) ∨ (d ≠ 0 ∧ ld σ x 2 = 0 ∧ lo x < 2 * v ∧ 2 * v < k x)) → Wp (f_J8_put_2_216 n t (328 + v) r x d σ) (PutP σ t D f mc v r) := by
    intro x d hx hd
    have s32 := hsz f
    have e : ow (2 * v) = x := by
      rcases hd with ⟨_, d2, d3, d4⟩ | ⟨_, d2, d3, d4⟩
      · exact hT.2.2.2.2.1 x hx d2 _ d3 d4
      · exact hT.2.2.2.1 x hx d2 _ d3 d4
    have fv : f v = 0 := by
      by_cases c : f v = 0
      · exact c
      · obtain ⟨q, q1, q2⟩ := hall v c
        have z : ow (k q) = q := hT.2.2.2.2.2.1 q q1
        rw [q2, e] at z
        rw [← z] at q2
        omega
    unfold f_J8_put_2_216
    refine wp_gd M1 ?_
    refine wp_c0 ?_
    refine wp_mono (addEntry_wp (i := 2 * v) (key := 328 + v) (r := r) (d := d) hn hnx M1 htn hN hT hx (fun q hq => (hk q hq).2.1) (by omega) (by omega) ⟨v, rfl⟩ hd) fun σ' hq => ?_
    obtain ⟨⟨lo2, hi2, ow2, g1⟩, g2, g3, g4, g5, g6, g7, g8, g9, g10, g11, g12⟩ := hq
    have hcnt := sm_ud (f := f) (v := r) (n := 32) (a := v.toNat) (by omega)
    have ev : ((v.toNat : Nat) : Int) = v := by omega
    rw [ev, if_pos fv, if_neg hr0] at hcnt
    refine wp_ok ⟨fv.symm, ⟨(g5 t htn).1.trans M1, g7.trans M2, by rw [g9]; omega, by rw [g8, M4]; omega, fun i hi => ?_, Or.inr ⟨_, _, lo2, hi2, ow2, g2, g1, fun q hq => ?_, fun i hi => ?_⟩⟩, ⟨by show nx σ ≤ nx σ'; omega, by show us σ ≤ us σ'; omega, g5, fun q a b j => ?_⟩, by show nx σ' ≤ _; omega, by show us σ' ≤ _; omega⟩
    · rw [ud_at] at hi
      by_cases c : i = v
      · rw [c]; exact hv
      · rw [if_neg c] at hi; exact M5 i hi
    · have en : ¬ N (nx σ) := fun z => by have := (hk _ z).2.1; omega
      by_cases c : q = nx σ
      · rw [if_pos c, c, g11, g12]
        have e2 : 2 * v / 2 = v := by omega
        rw [e2, ud_eq]
        exact ⟨Or.inr ⟨Int.le_refl _, by show nx σ < nx σ'; omega⟩, by show nx σ < nx σ'; omega, rfl, rfl, hr0⟩
      · have hq : N q := hq.resolve_right c
        obtain ⟨b1, b2, b3, b4, b5⟩ := hk q hq
        obtain ⟨d1, d2⟩ := g10 q hq
        rw [if_neg c]
        have e2 : k q / 2 ≠ v := fun z => by rw [z] at b5; exact b5 fv
        rw [ud_ne e2]
        exact ⟨Or.inl b1, by show q < nx σ'; omega, d1.trans b3, d2.trans b4, b5⟩
    · rw [ud_at] at hi
      by_cases c : i = v
      · exact ⟨nx σ, Or.inr rfl, by rw [if_pos rfl, c]⟩
      · rw [if_neg c] at hi
        obtain ⟨q, q1, q2⟩ := hall i hi
        exact ⟨q, Or.inl q1, by rw [if_neg (fun z => by have := (hk q q1).2.1; omega)]; exact q2⟩
    · exact g6 q a (fun z => b (Or.inr (hk q z).1)) (fun z => b (Or.inl z)) j
  intro m
  induction m with
  | zero => intro q x _ h; omega
  | succ m ih =>
    intro q x hx hm hq h1 h2
    obtain ⟨q, rfl⟩ : ∃ z, q = z + 1 := ⟨q - 1, by omega⟩
    have bx := hT.1 x hx
    obtain ⟨j, ej⟩ := (hT.2.2.2.2.2.2.1 x hx).1
    have iv := int_at hI (v := v) (by omega) (by omega)
    have ek : ld σ x 0 = 328 + j := by rw [(hk x hx).2.2.1, ej]; omega
    have ij := int_at hI (v := j) (by omega) (by omega)
    unfold f_J8_put_2_123
    refine wp_gd (hN x hx).1 ?_
    refine wp_gd (Or.inr iv.1) ?_
    rw [ek]
    refine wp_c1e (compareTo_eq (Or.inr iv.1) (Or.inr ij.1)) ?_
    rw [iv.2, ij.2]
    by_cases c1 : v < j
    · rw [if_pos c1]
      refine wp_neg (by decide) ?_
      refine wp_gd (hN x hx).1 ?_
      refine wp_nm0 ?_
      unfold f_J8_put_2_196
      by_cases c2 : ld σ x 2 = 0
      · refine wp_pos c2 ?_
        refine wp_neg (by decide) ?_
        exact add x 1 hx (Or.inr ⟨by decide, c2, h1, by omega⟩)
      · refine wp_neg c2 ?_
        obtain ⟨a1, a2, a3, a4⟩ := hT.2.1 x hx c2
        dsimp only at a1 a2 a3 a4
        exact ih q (ld σ x 2) a1 (by rw [a3, a4]; omega) (by omega) (by omega) (by omega)
    · rw [if_neg c1]
      by_cases c3 : v = j
      · rw [if_pos c3]
        refine wp_pos (by decide) ?_
        refine wp_pos (by decide) ?_
        refine wp_gd (hN x hx).1 ?_
        refine wp_nm0 ?_
        refine wp_neg (by decide) ?_
        refine wp_gd (hN x hx).1 ?_
        refine wp_nm0 ?_
        obtain ⟨b1, b2, b3, b4, b5⟩ := hk x hx
        have e2 : k x / 2 = v := by omega
        rw [e2] at b3 b4 b5
        have hxt := nt x hx
        have hcnt := sm_ud (f := f) (v := r) (n := 32) (a := v.toNat) (by omega)
        have ev : ((v.toNat : Nat) : Int) = v := by omega
        rw [ev, if_neg b5, if_neg hr0] at hcnt
        have C : ∀ q j, ¬ (q = x ∧ j = 1) → ld (wr σ x 1 r) q j = ld σ q j := fun q j hq => by rw [ld_wr, if_neg hq]
        refine wp_ok ⟨b4, ⟨M1, ?_, ?_, ?_, fun i hi => ?_, Or.inr ⟨N, k, lo, hi, ow, fun q hq => ?_, ?_, fun q hq => ?_, fun i hi => ?_⟩⟩, Fr.wr (Or.inr b1), by show nx σ ≤ nx σ + 1; omega, by show us σ ≤ us σ + 6; omega⟩
        · show ld (wr σ x 1 r) t 2 = 0
          rw [C t 2 (by omega)]; exact M2
        · show 0 ≤ ld (wr σ x 1 r) t 5 ∧ ld (wr σ x 1 r) t 5 ≤ mc + 1
          rw [C t 5 (by omega)]; omega
        · show ld (wr σ x 1 r) t 4 = _
          rw [C t 4 (by omega), M4]; omega
        · rw [ud_at] at hi
          by_cases c : i = v
          · rw [c]; exact hv
          · rw [if_neg c] at hi; exact M5 i hi
        · show kd σ q = 27 ∧ 0 ≤ ld (wr σ x 1 r) q 5 ∧ ld (wr σ x 1 r) q 5 ≤ 1
          rw [C q 5 (by omega)]; exact hN q hq
        · exact hT.same (fun q hq => ⟨C q 2 (by omega), C q 3 (by omega), C q 4 (by omega)⟩) (C t 3 (by omega))
        · obtain ⟨d1, d2, d3, d4, d5⟩ := hk q hq
          show (D q ∨ _) ∧ q < nx σ ∧ ld (wr σ x 1 r) q 0 = _ ∧ ld (wr σ x 1 r) q 1 = _ ∧ _
          rw [C q 0 (by omega)]
          by_cases c : q = x
          · subst c
            rw [e2, ud_eq, ld_wr, if_pos ⟨rfl, rfl⟩]
            exact ⟨Or.inl d1, d2, b3, rfl, hr0⟩
          · rw [C q 1 (fun z => c z.1)]
            have e3 : k q / 2 ≠ v := fun z => by
              obtain ⟨jq, ejq⟩ := (hT.2.2.2.2.2.2.1 q hq).1
              have z1 : ow (k q) = q := hT.2.2.2.2.2.1 q hq
              have z2 : ow (k x) = x := hT.2.2.2.2.2.1 x hx
              have z3 : k q = k x := by omega
              rw [z3, z2] at z1
              exact c z1.symm
            rw [ud_ne e3]
            exact ⟨Or.inl d1, d2, d3, d4, d5⟩
        · rw [ud_at] at hi
          by_cases c : i = v
          · exact ⟨x, hx, by omega⟩
          · rw [if_neg c] at hi
            exact hall i hi
      · rw [if_neg c3]
        refine wp_pos (by decide) ?_
        refine wp_neg (by decide) ?_
        refine wp_gd (hN x hx).1 ?_
        refine wp_nm0 ?_
        unfold f_J8_put_2_196
        by_cases c2 : ld σ x 3 = 0
        · refine wp_pos c2 ?_
          refine wp_pos (by decide) ?_
          exact add x 0 hx (Or.inl ⟨rfl, c2, by omega, h2⟩)
        · refine wp_neg c2 ?_
          obtain ⟨a1, a2, a3, a4⟩ := hT.2.2.1 x hx c2
          dsimp only at a1 a2 a3 a4
          exact ih q (ld σ x 3) a1 (by rw [a3, a4]; omega) (by omega) (by omega) (by omega)
theorem put_wp {n : Nat} (hn : 100 ≤ n) (hI : IntC σ) (hv : 0 ≤ v ∧ v < 32) (hnx : 1000 ≤ nx σ) (htn : t < nx σ) (hr0 : r ≠ 0) (hmc : mc ≤ 100000) (hM : MapOk σ t D f mc) : Wp (f_J8_put n t (328 + v) r σ) (PutP σ t D f mc v r) := by
  have iv := int_at hI (v := v) (by omega) (by omega)
  have hM' := hM
  obtain ⟨M1, M2, M3, M4, M5, M6⟩ := hM
  unfold f_J8_put
  refine wp_gd M1 ?_
  refine wp_c1 ?_
  unfold f_J8_put_2
  refine wp_gd M1 ?_
  refine wp_nm0 ?_
  rcases M6 with ⟨a, b⟩ | ⟨N, k, lo, hi, ow, a1, a2, a3, a4⟩
  · refine wp_pos a ?_
    refine wp_gd M1 ?_
    refine wp_c0 ?_
    unfold f_J8_addEntryToEmptyMap f_J8_compare f_J25_init
    refine wp_gd M1 ?_
    refine wp_c1 ?_
    refine wp_gd M1 ?_
    refine wp_pos M2 ?_
    refine wp_gd (Or.inr (Or.inr iv.1)) ?_
    refine wp_gd (Or.inr iv.1) ?_
    refine wp_c1e (compareTo_eq (Or.inr iv.1) (Or.inr iv.1)) ?_
    refine wp_ok ?_
    have he0 : nx σ ≠ 0 := by omega
    have het : nx σ ≠ t := by omega
    refine wp_nm (fun e1 ee => ?_)
    rw [ee]
    refine wp_nm0 ?_
    refine wp_gd he0 ?_
    refine wp_c0 ?_
    have k1 : kd (al σ 27 0 6) (nx σ) = 27 := by rw [kd_al, if_pos rfl]
    refine wp_gd he0 ?_
    refine wp_gd k1 ?_
    refine wp_nm0 ?_
    refine wp_gd k1 ?_
    refine wp_nm0 ?_
    refine wp_gd k1 ?_
    refine wp_nm0 ?_
    refine wp_gd k1 ?_
    refine wp_nm0 ?_
    refine wp_ok ?_
    have A : ∀ q, q ≠ nx σ → kd (wr (wr (wr (wr (al σ 27 0 6) (nx σ) 5 1) (nx σ) 0 (328 + v)) (nx σ) 1 r) (nx σ) 4 0) q = kd σ q ∧ ln (wr (wr (wr (wr (al σ 27 0 6) (nx σ) 5 1) (nx σ) 0 (328 + v)) (nx σ) 1 r) (nx σ) 4 0) q = ln σ q ∧ ∀ j, ld (wr (wr (wr (wr (al σ 27 0 6) (nx σ) 5 1) (nx σ) 0 (328 + v)) (nx σ) 1 r) (nx σ) 4 0) q j = ld σ q j := by
      intro q hq
      refine ⟨by rw [kd_wr, kd_wr, kd_wr, kd_wr, kd_al, if_neg hq], by rw [ln_wr, ln_wr, ln_wr, ln_wr, ln_al, if_neg hq], fun j => ?_⟩
      rw [ld_wr, if_neg (fun z => hq z.1), ld_wr, if_neg (fun z => hq z.1), ld_wr, if_neg (fun z => hq z.1), ld_wr, if_neg (fun z => hq z.1), ld_al, if_neg hq]
    have B : ∀ j, ld (wr (wr (wr (wr (al σ 27 0 6) (nx σ) 5 1) (nx σ) 0 (328 + v)) (nx σ) 1 r) (nx σ) 4 0) (nx σ) j = if j = 4 then 0 else if j = 1 then r else if j = 0 then 328 + v else if j = 5 then 1 else 0 := by
      intro j
      simp only [ld_wr, ld_al, true_and, if_true]
    have kE : kd (wr (wr (wr (wr (al σ 27 0 6) (nx σ) 5 1) (nx σ) 0 (328 + v)) (nx σ) 1 r) (nx σ) 4 0) (nx σ) = 27 := k1
    have nE : nx (wr (wr (wr (wr (al σ 27 0 6) (nx σ) 5 1) (nx σ) 0 (328 + v)) (nx σ) 1 r) (nx σ) 4 0) = nx σ + 1 := rfl
    have uE : us (wr (wr (wr (wr (al σ 27 0 6) (nx σ) 5 1) (nx σ) 0 (328 + v)) (nx σ) 1 r) (nx σ) 4 0) = us σ + 6 := rfl
    generalize wr (wr (wr (wr (al σ 27 0 6) (nx σ) 5 1) (nx σ) 0 (328 + v)) (nx σ) 1 r) (nx σ) 4 0 = σ1 at *
    generalize hE : nx σ = E at *
    have tA := A t (fun z => het z.symm)
    have kt1 : kd σ1 t = 26 := tA.1.trans M1
    refine wp_gd kt1 ?_
    refine wp_nm0 ?_
    refine wp_gd kt1 ?_
    refine wp_nm0 ?_
    refine wp_gd kt1 ?_
    have e5 : ld (wr (wr σ1 t 3 E) t 4 1) t 5 = ld σ t 5 := by rw [ld_wr, if_neg (fun z => by omega), ld_wr, if_neg (fun z => by omega), tA.2.2]
    rw [e5]
    refine wp_gI (by omega) ?_
    refine wp_gd kt1 ?_
    refine wp_nm0 ?_
    have T : ∀ j, ld (wr (wr (wr σ1 t 3 E) t 4 1) t 5 (ld σ t 5 + 1)) t j = if j = 5 then ld σ t 5 + 1 else if j = 4 then 1 else if j = 3 then E else ld σ t j := by
      intro j
      simp only [ld_wr, true_and, tA.2.2]
    have C : ∀ q, q ≠ t → ∀ j, ld (wr (wr (wr σ1 t 3 E) t 4 1) t 5 (ld σ t 5 + 1)) q j = ld σ1 q j := fun q hq j => by rw [ld_wr, if_neg (fun z => hq z.1), ld_wr, if_neg (fun z => hq z.1), ld_wr, if_neg (fun z => hq z.1)]
    have kS : ∀ q, kd (wr (wr (wr σ1 t 3 E) t 4 1) t 5 (ld σ t 5 + 1)) q = kd σ1 q := fun q => rfl
    have lS : ∀ q, ln (wr (wr (wr σ1 t 3 E) t 4 1) t 5 (ld σ t 5 + 1)) q = ln σ1 q := fun q => rfl
    have nS : nx (wr (wr (wr σ1 t 3 E) t 4 1) t 5 (ld σ t 5 + 1)) = E + 1 := nE
    have uS : us (wr (wr (wr σ1 t 3 E) t 4 1) t 5 (ld σ t 5 + 1)) = us σ + 6 := uE
    generalize wr (wr (wr σ1 t 3 E) t 4 1) t 5 (ld σ t 5 + 1) = σ2 at *
    have hcnt := sm_ud (f := f) (v := r) (n := 32) (a := v.toNat) (by omega)
    have ev : ((v.toNat : Nat) : Int) = v := by omega
    rw [ev, if_pos (b v), if_neg hr0] at hcnt
    have h0 : sm (has f) 32 = 0 := by
      have : ∀ n, sm (has f) n = 0 := by
        intro n
        induction n with
        | zero => rfl
        | succ n ih => show sm (has f) n + has f n = 0; rw [ih]; unfold has; rw [if_pos (b n)]
      exact this 32
    refine wp_ok (wp_ok (wp_ok ⟨(b v).symm, ⟨?_, ?_, ?_, ?_, fun i hi => ?_, Or.inr ⟨fun q => q = E, fun _ => 2 * v, fun _ => -2, fun _ => 64, fun _ => E, fun q hq => ?_, ?_, fun q hq => ?_, fun i hi => ?_⟩⟩, ⟨?_, ?_, fun q hq => ?_, fun q hq hn j => ?_⟩, ?_, ?_⟩))
    · show kd σ2 t = 26
      rw [kS, kt1]
    · show ld σ2 t 2 = 0
      rw [T]; exact M2
    · show 0 ≤ ld σ2 t 5 ∧ ld σ2 t 5 ≤ mc + 1
      rw [T, if_pos rfl]; omega
    · show ld σ2 t 4 = _
      rw [T, if_neg (by decide), if_pos rfl]; omega
    · rw [ud_at] at hi
      by_cases c : i = v
      · rw [c]; exact hv
      · rw [if_neg c] at hi; exact M5 i hi
    · subst hq
      show kd σ2 q = 27 ∧ 0 ≤ ld σ2 q 5 ∧ ld σ2 q 5 ≤ 1
      rw [kS, kE, C q het, B]
      exact ⟨rfl, by simp, by simp⟩
    · show MapT σ2 t _ _ _ _ _
      have eT3 : ld σ2 t 3 = E := by rw [T]; simp
      have l2 : ld σ2 E 2 = 0 := by rw [C E het, B]; simp
      have l3 : ld σ2 E 3 = 0 := by rw [C E het, B]; simp
      have l4 : ld σ2 E 4 = 0 := by rw [C E het, B]; simp
      unfold MapT
      rw [eT3]
      refine ⟨fun q hq => ⟨hq ▸ he0, by show (-2 : Int) < 2 * v; omega, by show 2 * v < 64; omega, Int.le_refl _, Int.le_refl _⟩, fun q hq h => ?_, fun q hq h => ?_, fun q hq _ i _ _ => hq.symm, fun q hq _ i _ _ => hq.symm, fun q hq => hq.symm, fun q hq => ⟨⟨v, rfl⟩, ⟨32, rfl⟩, Or.inl rfl, Or.inl rfl⟩, fun q hq h => absurd hq h, rfl, l4, rfl, rfl⟩
      · subst hq; exact absurd l2 h
      · subst hq; exact absurd l3 h
    · subst hq
      show (D q ∨ (nx σ ≤ q ∧ q < nx σ2)) ∧ q < nx σ2 ∧ ld σ2 q 0 = 328 + 2 * v / 2 ∧ ld σ2 q 1 = ud f v r (2 * v / 2) ∧ ud f v r (2 * v / 2) ≠ 0
      have e2 : 2 * v / 2 = v := by omega
      rw [e2, ud_eq, C q het, C q het, B, B, nS, hE]
      exact ⟨Or.inr ⟨Int.le_refl _, by omega⟩, by omega, by simp, by simp, hr0⟩
    · rw [ud_at] at hi
      by_cases c : i = v
      · exact ⟨E, rfl, by rw [c]⟩
      · rw [if_neg c] at hi; exact absurd (b i) hi
    · show nx σ ≤ nx σ2; omega
    · show us σ ≤ us σ2; omega
    · show kd σ2 q = kd σ q ∧ ln σ2 q = ln σ q
      rw [hE] at hq
      have := A q (by omega)
      exact ⟨(kS q).trans this.1, (lS q).trans this.2.1⟩
    · show ld σ2 q j = ld σ q j
      rw [hE] at hq
      rw [C q (fun z => hn (Or.inl z)), (A q (by omega)).2.2]
    · show nx σ2 ≤ nx σ + 1; omega
    · show us σ2 ≤ us σ + 6; omega
  · have hr := a2.2.2.2.2.2.2.2.2
    obtain ⟨r1, r2, r3, r4⟩ := hr
    refine wp_neg (a2.1 _ r1).1 ?_
    refine wp_gd M1 ?_
    refine wp_nm0 ?_
    refine wp_pos M2 ?_
    unfold f_J18_requireNonNull
    rw [if_neg (by omega : ¬ 328 + v = 0)]
    refine wp_c1e rfl ?_
    refine wp_gd (Or.inr (Or.inr iv.1)) ?_
    refine wp_mono (put_find hn hI hv hnx htn hr0 hmc hM' a1 a2 a3 a4 67 n (ld σ t 3) r1 (by omega) (by omega) (by omega) (by omega)) fun p hp => ?_
    exact wp_ok hp
end PT
