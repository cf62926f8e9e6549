/-! NAMES: a new name is put into the map -/
set_option maxRecDepth 100000
section PUT
variable {σ σ0 : AS} {n : Nat} {s a mp h v t b : Int} {l m : List Int} {E : List Int} {W : Int → List Int}
def NN (σ σ' : AS) (mp h s v : Int) : Prop := nx σ' = nx σ + 1 ∧ us σ' = us σ + 6 ∧ kd σ' (nx σ) = 33 ∧ (∀ r, r ≠ nx σ → kd σ' r = kd σ r ∧ ln σ' r = ln σ r) ∧ (ld σ' (nx σ) 0 = h ∧ ld σ' (nx σ) 1 = s ∧ ld σ' (nx σ) 2 = v ∧ ld σ' (nx σ) 3 = 0) ∧ (∀ r j, r ≠ nx σ → r ≠ mp → (kd σ r ≠ 33 ∨ r < mp ∨ (j ≠ 4 ∧ j ≠ 5)) → ld σ' r j = ld σ r j) ∧ (∀ j, j ≠ 8 → j ≠ 9 → ld σ' mp j = ld σ mp j) ∧ ld σ' mp 9 = nx σ
theorem newNode_eq (hk : kd σ mp = 32) (hm : mp < nx σ) (h0 : 0 < nx σ) (h11 : ld σ mp 11 = 0) (h9 : ld σ mp 9 = 0 ∨ kd σ (ld σ mp 9) = 33 ∧ ld σ mp 9 < nx σ ∧ mp < ld σ mp 9) : ∃ σ', f_J34_newNode mp h s v 0 σ = some (nx σ, σ') ∧ NN σ σ' mp h s v := by
  unfold f_J34_newNode
  rw [nm_eq, nm_eq, gd_pos (by omega)]
  unfold f_J38_init f_J37_init
  have k1 : kd (al σ 33 0 6) (nx σ) = 33 := by rw [kd_al, if_pos rfl]
  rw [gd_pos (by omega), gd_pos (by omega), gd_pos k1, nm_eq, gd_pos (show kd (wr (al σ 33 0 6) (nx σ) 0 h) (nx σ) = 33 from k1), nm_eq, gd_pos (show kd (wr (wr (al σ 33 0 6) (nx σ) 0 h) (nx σ) 1 s) (nx σ) = 33 from k1), nm_eq, gd_pos (show kd (wr (wr (wr (al σ 33 0 6) (nx σ) 0 h) (nx σ) 1 s) (nx σ) 2 v) (nx σ) = 33 from k1), nm_eq, c0_at, c0_at]
  generalize hσ1 : wr (wr (wr (wr (al σ 33 0 6) (nx σ) 0 h) (nx σ) 1 s) (nx σ) 2 v) (nx σ) 3 0 = σ1
  have kd1 : ∀ r, kd σ1 r = if r = nx σ then 33 else kd σ r := fun r => by rw [← hσ1, kd_wr, kd_wr, kd_wr, kd_wr, kd_al]
  have ln1 : ∀ r, r ≠ nx σ → ln σ1 r = ln σ r := fun r hr => by rw [← hσ1, ln_wr, ln_wr, ln_wr, ln_wr, ln_al, if_neg hr]
  have ld1 : ∀ r j, r ≠ nx σ → ld σ1 r j = ld σ r j := fun r j hr => by
    rw [← hσ1, ld_wr, if_neg (fun z => hr z.1), ld_wr, if_neg (fun z => hr z.1), ld_wr, if_neg (fun z => hr z.1), ld_wr, if_neg (fun z => hr z.1), ld_al, if_neg hr]
  have e0 : ld σ1 (nx σ) 0 = h := by rw [← hσ1, ld_wr, if_neg (by omega), ld_wr, if_neg (by omega), ld_wr, if_neg (by omega), ld_wr, if_pos ⟨rfl, rfl⟩]
  have e1 : ld σ1 (nx σ) 1 = s := by rw [← hσ1, ld_wr, if_neg (by omega), ld_wr, if_neg (by omega), ld_wr, if_pos ⟨rfl, rfl⟩]
  have e2 : ld σ1 (nx σ) 2 = v := by rw [← hσ1, ld_wr, if_neg (by omega), ld_wr, if_pos ⟨rfl, rfl⟩]
  have e3 : ld σ1 (nx σ) 3 = 0 := by rw [← hσ1, ld_wr, if_pos ⟨rfl, rfl⟩]
  have n1 : nx σ1 = nx σ + 1 := by rw [← hσ1]; rfl
  have u1 : us σ1 = us σ + 6 := by rw [← hσ1]; rfl
  have km1 : kd σ1 mp = 32 := by rw [kd1, if_neg (by omega)]; exact hk
  rw [gd_pos km1]
  unfold f_J34_linkNodeAtEnd
  rw [gd_pos km1, ld1 mp 11 (by omega), h11, if_neg (by decide), gd_pos km1, nm_eq, gd_pos km1, nm_eq, ld1 mp 9 (by omega)]
  by_cases c : ld σ mp 9 = 0
  · rw [if_pos c, gd_pos (show kd (wr σ1 mp 9 (nx σ)) mp = 32 from km1), nm_eq, c0_at]
    refine ⟨_, rfl, n1, u1, ?_, fun r hr => ⟨?_, ?_⟩, ⟨?_, ?_, ?_, ?_⟩, fun r j hr hr2 _ => ?_, fun j h8 h9 => ?_, ?_⟩
    · rw [kd_wr, kd_wr, kd1, if_pos rfl]
    · rw [kd_wr, kd_wr, kd1, if_neg hr]
    · rw [ln_wr, ln_wr, ln1 r hr]
    · rw [ld_wr, if_neg (by omega), ld_wr, if_neg (by omega)]; exact e0
    · rw [ld_wr, if_neg (by omega), ld_wr, if_neg (by omega)]; exact e1
    · rw [ld_wr, if_neg (by omega), ld_wr, if_neg (by omega)]; exact e2
    · rw [ld_wr, if_neg (by omega), ld_wr, if_neg (by omega)]; exact e3
    · rw [ld_wr, if_neg (fun z => hr2 z.1), ld_wr, if_neg (fun z => hr2 z.1)]; exact ld1 r j hr
    · rw [ld_wr, if_neg (fun z => h8 z.2), ld_wr, if_neg (fun z => h9 z.2)]; exact ld1 mp j (by omega)
    · rw [ld_wr, if_neg (by omega), ld_wr, if_pos ⟨rfl, rfl⟩]
  · obtain ⟨t1, t2⟩ := h9.resolve_left c
    rw [if_neg c]
    generalize ld σ mp 9 = u at *
    have ku : kd (wr (wr σ1 mp 9 (nx σ)) (nx σ) 4 u) u = 33 := by rw [kd_wr, kd_wr, kd1, if_neg (by omega)]; exact t1
    have hum : u ≠ mp := fun z => by rw [z, hk] at t1; exact absurd t1 (by decide)
    rw [gd_pos (show kd (wr σ1 mp 9 (nx σ)) (nx σ) = 33 by rw [kd_wr, kd1, if_pos rfl]), nm_eq, gd_pos ku, nm_eq, c0_at]
    refine ⟨_, rfl, n1, u1, ?_, fun r hr => ⟨?_, ?_⟩, ⟨?_, ?_, ?_, ?_⟩, fun r j hr hr2 hj => ?_, fun j h8 h9 => ?_, ?_⟩
    · rw [kd_wr, kd_wr, kd_wr, kd1, if_pos rfl]
    · rw [kd_wr, kd_wr, kd_wr, kd1, if_neg hr]
    · rw [ln_wr, ln_wr, ln_wr, ln1 r hr]
    · rw [ld_wr, if_neg (by omega), ld_wr, if_neg (by omega), ld_wr, if_neg (by omega)]; exact e0
    · rw [ld_wr, if_neg (by omega), ld_wr, if_neg (by omega), ld_wr, if_neg (by omega)]; exact e1
    · rw [ld_wr, if_neg (by omega), ld_wr, if_neg (by omega), ld_wr, if_neg (by omega)]; exact e2
    · rw [ld_wr, if_neg (by omega), ld_wr, if_neg (by omega), ld_wr, if_neg (by omega)]; exact e3
    · have : ¬ (r = u ∧ j = 5) := fun z => by
        rcases hj with w | w | w
        · exact w (by rw [z.1]; exact t1)
        · omega
        · exact w.2 z.2
      rw [ld_wr, if_neg this, ld_wr, if_neg (fun z => hr z.1), ld_wr, if_neg (fun z => hr2 z.1)]; exact ld1 r j hr
    · rw [ld_wr, if_neg (fun z => hum z.1.symm), ld_wr, if_neg (by omega), ld_wr, if_neg (fun z => h9 z.2)]; exact ld1 mp j (by omega)
    · rw [ld_wr, if_neg (fun z => hum z.1.symm), ld_wr, if_neg (by omega), ld_wr, if_pos ⟨rfl, rfl⟩]
/-- the map with its table t -/
def MpT (σ : AS) (mp t : Int) (E : List Int) (W : Int → List Int) : Prop :=
  kd σ mp = 32 ∧ ld σ mp 2 = E.length ∧ ld σ mp 10 = 0 ∧ ld σ mp 11 = 0 ∧ E.length ≤ 8 ∧
  (∀ e ∈ E, KeyE σ e (W e) ∧ e < nx σ ∧ ld σ e 1 + 1 < nx σ ∧ e ≠ 0 ∧ mp < e) ∧
  mp < nx σ ∧ (∀ i : Nat, i < E.length → ld σ (E.getD i 0) 2 = 328 + i) ∧ (ld σ mp 9 = 0 ∨ kd σ (ld σ mp 9) = 33 ∧ ld σ mp 9 < nx σ ∧ mp < ld σ mp 9) ∧ E.Nodup ∧
  ld σ mp 0 = t ∧ (ld σ mp 4 = 12 ∧ kd σ t = 108 ∧ ln σ t = 16 ∧ (t < nx σ ∧ mp < t) ∧ t ≠ 0 ∧ ∀ b, 0 ≤ b → b < 16 → Chn σ (ld σ t b) (E.filter (bkt W b)))
theorem resize_wp (h : MpOk σ mp [] W) (h0 : ld σ mp 0 = 0) (h4 : ld σ mp 4 = 0) (hx : 0 < nx σ) : Wp (f_J33_resize n mp σ) fun y => y.1 = nx σ ∧ MpT y.2 mp (nx σ) [] W ∧ nx y.2 = nx σ + 1 ∧ us y.2 = us σ + 16 ∧ Fr (fun r => r = mp) σ y.2 := by
  obtain ⟨a1, a2, a3, a4, a5, a6, a7, a8, a9, a10, a11⟩ := h
  unfold f_J33_resize f_J33_resize_15
  refine wp_gd a1 (wp_nm0 (wp_pos h0 (wp_gd a1 (wp_nm0 (wp_pos (by decide) (wp_pos (by omega) ?_))))))
  unfold f_J33_resize_85
  refine wp_neg (by decide) (wp_gd a1 (wp_nm0 (wp_gd (by decide) (wp_nm0 (wp_nm0 (wp_gd ?_ (wp_nm0 (wp_pos h0 (wp_ok ⟨rfl, ⟨?_, ?_, ?_, ?_, a5, fun e he => absurd he List.not_mem_nil, ?_, fun i hi => absurd hi (Nat.not_lt_zero _), ?_, a10, ?_, ?_, ?_, ?_, ?_, ?_, fun b h1 h2 => ?_⟩, rfl, rfl, ?_⟩)))))))))
  all_goals try show kd (al (wr σ mp 4 12) 108 16 16) _ = _
  · rw [kd_al, if_neg (by show mp ≠ nx σ; omega)]; exact a1
  · rw [kd_al, if_neg (by show mp ≠ nx σ; omega)]; exact a1
  · show ld (wr (al (wr σ mp 4 12) 108 16 16) mp 0 (nx σ)) mp 2 = _
    rw [ld_wr, if_neg (by omega), ld_al, if_neg (by show mp ≠ nx σ; omega), ld_wr, if_neg (by omega)]; exact a2
  · show ld (wr (al (wr σ mp 4 12) 108 16 16) mp 0 (nx σ)) mp 10 = _
    rw [ld_wr, if_neg (by omega), ld_al, if_neg (by show mp ≠ nx σ; omega), ld_wr, if_neg (by omega)]; exact a3
  · show ld (wr (al (wr σ mp 4 12) 108 16 16) mp 0 (nx σ)) mp 11 = _
    rw [ld_wr, if_neg (by omega), ld_al, if_neg (by show mp ≠ nx σ; omega), ld_wr, if_neg (by omega)]; exact a4
  · show mp < nx σ + 1; omega
  · have e9 : ld (wr (al (wr σ mp 4 12) 108 16 16) mp 0 (nx σ)) mp 9 = ld σ mp 9 := by
      rw [ld_wr, if_neg (by omega), ld_al, if_neg (by show mp ≠ nx σ; omega), ld_wr, if_neg (by omega)]
    show ld (wr (al (wr σ mp 4 12) 108 16 16) mp 0 (nx σ)) mp 9 = 0 ∨ kd (wr (al (wr σ mp 4 12) 108 16 16) mp 0 (nx σ)) (ld (wr (al (wr σ mp 4 12) 108 16 16) mp 0 (nx σ)) mp 9) = 33 ∧ ld (wr (al (wr σ mp 4 12) 108 16 16) mp 0 (nx σ)) mp 9 < nx σ + 1 ∧ mp < ld (wr (al (wr σ mp 4 12) 108 16 16) mp 0 (nx σ)) mp 9
    rw [e9]
    rcases a9 with z | ⟨z1, z2⟩
    · exact Or.inl z
    · refine Or.inr ⟨?_, by omega, z2.2⟩
      rw [kd_wr, kd_al, if_neg (by show ld σ mp 9 ≠ nx σ; omega)]; exact z1
  · show ld (wr (al (wr σ mp 4 12) 108 16 16) mp 0 (nx σ)) mp 0 = _
    rw [ld_wr, if_pos ⟨rfl, rfl⟩]
  · show ld (wr (al (wr σ mp 4 12) 108 16 16) mp 0 (nx σ)) mp 4 = _
    rw [ld_wr, if_neg (by omega), ld_al, if_neg (by show mp ≠ nx σ; omega), ld_wr, if_pos ⟨rfl, rfl⟩]
  · show kd (al (wr σ mp 4 12) 108 16 16) (nx σ) = 108
    rw [kd_al]; exact if_pos rfl
  · show ln (al (wr σ mp 4 12) 108 16 16) (nx σ) = 16
    rw [ln_al]; exact if_pos rfl
  · show nx σ < nx σ + 1 ∧ mp < nx σ; omega
  · omega
  · show ld (wr (al (wr σ mp 4 12) 108 16 16) mp 0 (nx σ)) (nx σ) b = 0
    rw [ld_wr, if_neg (by omega), ld_al]; exact if_pos rfl
  · have g1 : Fr (fun r => r = mp) σ (wr σ mp 4 12) := Fr.wr rfl
    exact (g1.trans (Fr.al (by decide))).trans (Fr.wr rfl)
end PUT
