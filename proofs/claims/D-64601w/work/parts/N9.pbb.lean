/-! READ: the law, from the beginning -/
set_option maxRecDepth 100000
section RM
variable {σ σ0 σ1 σ2 σ3 σ' : AS} {τ τ0 τ' : TT} {n M : Nat} {N0 U0 z z' k q q0 q' p v l r C l1 l2 l4 l5 e var x a b c s0 hc : Int} {T : List Int} {S S' : PS} {ps : List Part} {ops : List Op} {cs : List Cnd} {its : List Trm} {os : List Odr} {t : Trm}
theorem KS.fr0 (h : KS σ) (hF : Fr (fun r => 1000 ≤ r) σ σ') : KS σ' := h.frame hF fun r hr w => by have w' : 1000 ≤ r := w; omega
/-- what both are before read -/
def RdS (σ : AS) (T : List Int) : Prop := KS σ ∧ IntC σ ∧ (kd σ 1007 = 18 ∧ ld σ 1007 0 = 1008 ∧ kd σ 1008 = 19) ∧ (kd σ 122 = 1105 ∧ ln σ 122 = 0) ∧ 1054 ≤ nx σ ∧ (kd σ 1006 = 102 ∧ (T.length : Int) ≤ ln σ 1006 ∧ ∀ i : Nat, i < T.length → ld σ 1006 i = T.getD i 0)
def psN : PS := (([], fun _ => []), fun _ => [])
/-- the component's first steps -/
theorem rd_begin (hn : 1000000 ≤ n) (hb : BtOk T) (h : RdS σ T) {K : AS → Option (Int × AS)} {Q : Int × AS → Prop}
    (hK : ∀ σ', ShP T (nx σ) (us σ) σ' 0 8 (tkB T 0) psN → Fr (fun r => r = 1007 ∨ r = 1008) σ σ' → ld σ' 1007 2 = 0 → ld σ' 1007 3 = 0 → ld σ' 1007 5 = 0 → (∀ j, ld σ' (nx σ + 4) j = 0) → ld σ' (nx σ) 8 = 2147483647 → Wp (K σ') Q) :
    Wp (nm (nx σ) fun r113 => nm (al σ 12 0 9) fun σ115 => gd (r113 ≠ 0) <| c0 (f_X18_init r113 σ115) fun σ119 => gd (kd σ119 1007 = 18) <| nm (wr σ119 1007 1 r113) fun σ122 => gd (kd σ122 1007 = 18) <| nm (wr σ122 1007 2 0) fun σ125 => gd (kd σ125 1007 = 18) <| nm (wr σ125 1007 3 0) fun σ128 => gd (kd σ128 1007 = 18) <| nm (wr σ128 1007 5 0) fun σ131 => gd (kd σ131 1007 = 18) <| gd (kd σ131 (ld σ131 1007 0) = 19) <| c0 (f_X4_begin n (ld σ131 1007 0) 1006 T.length σ131) fun σ136 => gd (kd σ136 1007 = 18) <| K σ136) Q := by
  obtain ⟨h1, h2, ⟨h3, h4, h5⟩, h6, h7, ⟨t1, t2, t3⟩⟩ := h
  refine wp_nm0 (wp_nm0 (wp_gd (by omega) (wp_c0 (wp_mono (q_init h6 h7) fun σ1 hq => ?_))))
  obtain ⟨⟨a1, a2, a3, a4⟩, a5, a6, a7, a8, a9, a10, F1⟩ := hq
  generalize hN : nx σ = N0 at *
  have k7 : kd σ1 1007 = 18 := (F1.kd (by omega)).trans h3
  have k8 : kd σ1 1008 = 19 := (F1.kd (by omega)).trans h5
  have e70 : ld σ1 1007 0 = 1008 := (F1.ld (by omega) (fun w => w) 0).trans h4
  refine wp_gd k7 (wp_nm0 (wp_gd k7 (wp_nm0 (wp_gd k7 (wp_nm0 (wp_gd k7 (wp_nm0 (wp_gd k7 ?_))))))))
  have F2 : Fr (fun r => r = 1007) σ1 (wr (wr (wr (wr σ1 1007 1 N0) 1007 2 0) 1007 3 0) 1007 5 0) := Fr.trans (Fr.wr rfl) (Fr.trans (Fr.wr rfl) (Fr.trans (Fr.wr rfl) (Fr.wr rfl)))
  have d0 : ld (wr (wr (wr (wr σ1 1007 1 N0) 1007 2 0) 1007 3 0) 1007 5 0) 1007 0 = 1008 := by simp [ld_wr, e70]
  have d1 : ld (wr (wr (wr (wr σ1 1007 1 N0) 1007 2 0) 1007 3 0) 1007 5 0) 1007 1 = N0 := by simp [ld_wr]
  have d2 : ld (wr (wr (wr (wr σ1 1007 1 N0) 1007 2 0) 1007 3 0) 1007 5 0) 1007 2 = 0 := by simp [ld_wr]
  have d3 : ld (wr (wr (wr (wr σ1 1007 1 N0) 1007 2 0) 1007 3 0) 1007 5 0) 1007 3 = 0 := by simp [ld_wr]
  have d5 : ld (wr (wr (wr (wr σ1 1007 1 N0) 1007 2 0) 1007 3 0) 1007 5 0) 1007 5 = 0 := by simp [ld_wr]
  have n2 : nx (wr (wr (wr (wr σ1 1007 1 N0) 1007 2 0) 1007 3 0) 1007 5 0) = nx σ1 := rfl
  have u2 : us (wr (wr (wr (wr σ1 1007 1 N0) 1007 2 0) 1007 3 0) 1007 5 0) = us σ1 := rfl
  generalize wr (wr (wr (wr σ1 1007 1 N0) 1007 2 0) 1007 3 0) 1007 5 0 = σ2 at *
  have k72 : kd σ2 1007 = 18 := (F2.kd (by omega)).trans k7
  have k82 : kd σ2 1008 = 19 := (F2.kd (by omega)).trans k8
  rw [d0]
  refine wp_gd k82 ?_
  unfold f_X4_begin
  refine wp_c0 (wp_gd k82 (wp_nm0 (wp_gd k82 (wp_nm0 (wp_gd k82 (wp_nm0 (wp_gd k82 ?_)))))))
  have F3 : Fr (fun r => r = 1008) σ2 (wr (wr (wr σ2 1008 0 1006) 1008 1 T.length) 1008 3 0) := Fr.trans (Fr.wr rfl) (Fr.trans (Fr.wr rfl) (Fr.wr rfl))
  have c0' : ld (wr (wr (wr σ2 1008 0 1006) 1008 1 T.length) 1008 3 0) 1008 0 = 1006 := by simp [ld_wr]
  have c1' : ld (wr (wr (wr σ2 1008 0 1006) 1008 1 T.length) 1008 3 0) 1008 1 = T.length := by simp [ld_wr]
  have c3' : ld (wr (wr (wr σ2 1008 0 1006) 1008 1 T.length) 1008 3 0) 1008 3 = 0 := by simp [ld_wr]
  have n3 : nx (wr (wr (wr σ2 1008 0 1006) 1008 1 T.length) 1008 3 0) = nx σ2 := rfl
  have u3 : us (wr (wr (wr σ2 1008 0 1006) 1008 1 T.length) 1008 3 0) = us σ2 := rfl
  generalize wr (wr (wr σ2 1008 0 1006) 1008 1 T.length) 1008 3 0 = σ3 at *
  have G : Fr (fun r => r = 1007 ∨ r = 1008) σ σ3 := F1.sub (fun r _ w => absurd w id) |>.trans ((F2.sub fun r _ w => Or.inl w).trans (F3.sub fun r _ w => Or.inr w))
  have G13 : Fr (fun r => r = 1007 ∨ r = 1008) σ1 σ3 := (F2.sub fun r _ w => Or.inl w).trans (F3.sub fun r _ w => Or.inr w)
  have kk : ∀ r, r < nx σ1 → r ≠ 1007 → r ≠ 1008 → ∀ j, ld σ3 r j = ld σ1 r j := fun r hr a b => G13.ld hr (fun w => by have w' : r = 1007 ∨ r = 1008 := w; omega)
  have hK3 : KS σ3 := h1.fr0 (G.sub fun r _ w => by have w' : r = 1007 ∨ r = 1008 := w; show 1000 ≤ r; omega)
  have hI3 : IntC σ3 := h2.frame G (by omega) (fun r w => by have w' : r = 1007 ∨ r = 1008 := w; omega)
  have hx : TxOk σ3 1008 T := by
    refine ⟨(F3.kd (by omega)).trans k82, c1', ?_, ?_, fun i i0 i1 => ?_, by omega, by rw [c0']; omega, by omega, by rw [c0']; decide⟩
    · rw [c0', G.kd (by omega)]; exact t1
    · rw [c0', G.ln (by omega)]; exact t2
    · rw [c0', G.ld (by omega) (fun w => by have w' : (1006 : Int) = 1007 ∨ (1006 : Int) = 1008 := w; omega)]
      have := t3 i.toNat (by omega)
      rw [show ((i.toNat : Nat) : Int) = i by omega] at this
      exact this
  have hT0 : (0 : Int) ≤ T.length := by omega
  have hq0 := tkB_le (T := T) hT0
  have hE0 := tkE_le (T := T) hq0.2
  refine wp_c0 (wp_mono (c_next hn hb hK3 (by decide) hx c3' ⟨Int.le_refl _, hT0⟩) fun σ4 hN4 => wp_ok ?_)
  obtain ⟨m1, m2, m3, m4, m5⟩ := hN4
  have e7 : ∀ j, ld σ4 1007 j = ld σ3 1007 j := m2.ld (by omega) (fun w => by have w' : (1007 : Int) = 1008 := w; omega)
  have e72 : ∀ j, ld σ3 1007 j = ld σ2 1007 j := F3.ld (by omega) (fun w => by have w' : (1007 : Int) = 1008 := w; omega)
  have kk4 : ∀ r, r < nx σ1 → r ≠ 1007 → r ≠ 1008 → ∀ j, ld σ4 r j = ld σ1 r j := fun r hr a b j => (m2.ld (by omega) (fun w => b w) j).trans (kk r hr a b j)
  have G14 : Fr (fun r => r = 1007 ∨ r = 1008) σ1 σ4 := G13.trans (m2.sub fun r _ w => Or.inr w)
  have k74 : kd σ4 1007 = 18 := (G14.kd (by omega)).trans k7
  have hnm := m2.1
  refine wp_gd k74 (hK σ4 ⟨hK3.frame m2 (fun r hr w => by have w' : r = 1008 := w; omega), hI3.frame m2 (by omega) (fun r w => by have w' : r = 1008 := w; omega), m1, fun w1 w2 w3 => ?_, ⟨k74, by rw [e7, e72]; exact d0, by rw [e7, e72]; exact d1, by rw [e7, e72, d2]; decide, by rw [e7, e72, d2]; decide⟩, ⟨h7, by omega⟩, ⟨(G14.kd (by omega)).trans a1, fun i i0 i7 => (kk4 _ (by omega) (by omega) (by omega) i).trans (a2 i i0 i7), (G14.kd (by omega)).trans a3, (G14.ln (by omega)).trans a4⟩, a7.frame G14 (fun r hr w => ?_), a8.frame G14 (fun r hr w => ?_), ?_, ?_, ?_⟩ ((F1.sub fun r _ w => absurd w id).trans G14) ((e7 2).trans ((e72 2).trans d2)) ((e7 3).trans ((e72 3).trans d3)) ((e7 5).trans ((e72 5).trans d5)) (fun j => (kk4 _ (by omega) (by omega) (by omega) j).trans (a5 j)) ((kk4 _ (by omega) (by omega) (by omega) 8).trans a6))
  · have := m5 w1 w2 w3; omega
  · have w' : r = 1007 ∨ r = 1008 := w
    rcases w' with w' | w' <;> rw [w']
    · rw [k7]; decide
    · rw [k8]; decide
  · have w' : r = 1007 ∨ r = 1008 := w
    rcases w' with w' | w' <;> rw [w']
    · rw [k7]; decide
    · rw [k8]; decide
  · unfold psN; decide
  · unfold psN szS; simp; omega
  · unfold psN szS; simp; omega
end RM
