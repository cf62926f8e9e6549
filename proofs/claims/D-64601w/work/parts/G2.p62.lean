/-! THE COMPONENT's cost -/
set_option maxRecDepth 100000
def nval : Option Int → Int
  | none => -9223372036854775808
  | some v => v
theorem lk_int {G : Gr} {s b k v : Int} (hG : okG G) (h : lk s b k (gp G) = some v) : -2147483648 ≤ v ∧ v ≤ 2147483647 := by
  rcases pI_spec (s := s) (b := b) (k := k) (L := gp G) (j := 0) with ⟨_, p2, _⟩ | ⟨i, x, p1, p2, p3, p4, _⟩
  · rw [h] at p2; cases p2
  · rw [h] at p4
    have := (hG.2.2.2.1 x (List.mem_of_getElem? p2)).2.2
    rw [← Option.some.inj p4] at this
    exact this
noncomputable def ec (G : Gr) (dn : Int → Prop) : Nat := by
  classical
  exact sm (fun e => if gt G e ≠ -1 ∧ dn (gf G e) then 1 else 0) 1000
theorem ec_take {G : Gr} {dn : Int → Prop} {u : Int} (h : ¬ dn u) : ec G (fun x => x = u ∨ dn x) = ec G dn + dgO G u := by
  classical
  unfold ec dgO
  refine sm_split fun e => ?_
  by_cases c1 : gt G e ≠ -1
  · by_cases c2 : gf G e = u
    · rw [if_pos ⟨c1, Or.inl c2⟩, if_neg (fun z => h (c2 ▸ z.2)), if_pos ⟨c1, c2⟩]
    · by_cases c3 : dn (gf G e)
      · rw [if_pos ⟨c1, Or.inr c3⟩, if_pos ⟨c1, c3⟩, if_neg (fun z => c2 z.2)]
      · rw [if_neg (fun z => z.2.elim c2 c3), if_neg (fun z => c3 z.2), if_neg (fun z => c2 z.2)]
  · rw [if_neg (fun z => c1 z.1), if_neg (fun z => c1 z.1), if_neg (fun z => c1 z.1)]
theorem ec_le {G : Gr} {dn : Int → Prop} {m : Nat} (hb : bndG G m) : ec G dn ≤ m := by
  classical
  unfold ec
  refine sm_low (fun e => ?_) fun e he => ?_
  · by_cases c : gt G e ≠ -1 ∧ dn (gf G e)
    · rw [if_pos c]; exact Nat.le_refl 1
    · rw [if_neg c]; exact Nat.zero_le 1
  · rw [if_neg (fun z => z.1 (hb.2.1 e he))]
section CO
variable {σ σ' y : AS} {k : Nat} {l : List Ch} {m : Int} {key fr to : Int} {n : Nat} {bs wd pq arr : Int} {G : Gr} {dn : Int → Prop} {dl : Int → Int} {W : List (Int × Int)} {pend pend' : Int → Prop}
theorem DjI.pcongr (h : DjI G key fr dn dl W pend) (hp : ∀ e u v w, EdgeW G key e u v w → pend e → pend' e) : DjI G key fr dn dl W pend' := by
  obtain ⟨h1, h2, h3, h4, h5⟩ := h
  exact ⟨h1, h2, fun e u v w a b c => h3 e u v w a b fun z => c (hp e u v w b z), h4, h5⟩
/-- a thing's value -/
theorem val_wp {s b : Int} (hn : 1000000 ≤ n) (h : CX σ k l m) (hl : l.length ≤ 64) (ht : (s = 0 ∧ nodeAt (run l) b) ∨ (s = 1 ∧ edgeAt (run l) b)) (hk : 0 ≤ key ∧ key < 32) : f_X8_value n (ld σ (if s = 0 then 1002 else 1003) b) key σ = some (nval (lk s b key (gp (run l))), σ) := by
  obtain ⟨Ow, TH, ty, fr', too, mc, L, ⟨no, ed, fm⟩, h1, h2, h3⟩ := h
  obtain ⟨-, -, -, -, -, -, hLK, hG, -⟩ := h1.low (by omega)
  have hs : s = 0 ∨ s = 1 := ht.elim (fun z => Or.inl z.1) (fun z => Or.inr z.1)
  obtain ⟨p0, pp, pn, pe, ev⟩ := thing_lk h1.1 hLK hs ht
  obtain ⟨hth, hkp⟩ := thing_at h1.1 rfl p0
  have eR : ld σ (if s = 0 then 1002 else 1003) b = if s = 0 then no b else ed b := by
    rcases ht with ⟨a, c⟩ | ⟨a, c⟩
    · rw [if_pos a, if_pos a]; exact h1.1.2.2.2.2.1 b c.1 c.2.1
    · rw [if_neg (by omega), if_neg (by omega)]; exact h1.1.2.2.2.2.2.1 b c.1 c.2.1
  rw [eR]
  have hT' := h1.1.2.2.2.2.2.2.2.2.2.2.2 _ hth
  have hm := hT'.2.2.2.2.2.2.1
  have hb := hT'.2.2.2.2.2.2.2.1 key
  change ∀ (_ : fm (if s = 0 then no b else ed b) key ≠ 0), Box σ Ow (fm (if s = 0 then no b else ed b) key) at hb
  have eV : f_J17_valueOf key σ = some (328 + key, σ) := valueOf_eq h1.1.2.1 (by omega) (by omega)
  have eC := mapGet_eq h1.1.2.1 (n := n) (by omega) hk hm
  have e := ev key
  unfold pv at e
  generalize (if s = 0 then no b else ed b) = p at *
  have body : (c1 (f_J17_valueOf key σ) fun v2 σ3 => gd (kd σ3 (ld σ p 0) = 26) <| c1 (f_J8_get n (ld σ p 0) v2 σ3) fun v6 σ7 => gd (v6 = 0 ∨ kd σ7 v6 = 25 ∨ kd σ7 v6 = 1025) <| if v6 = 0 then (some ((-9223372036854775808), σ7)) else (gd (kd σ7 v6 = 25 ∨ kd σ7 v6 = 1025) <| c1 (f_J17_intValue v6 σ7) fun v12 σ13 => some (v12, σ13))) = some (nval (lk s b key (gp (run l))), σ) := by
    rw [eV, c1_at, gd_pos hm.1, eC, c1_at, ← e]
    by_cases z : fm p key = 0
    · rw [if_pos z, gd_pos (Or.inl z), if_pos z]; rfl
    · have hbx := (hb z).2.2.2.1
      rw [if_neg z, gd_pos (Or.inr hbx), if_neg z, gd_pos hbx]
      unfold f_J17_intValue
      rw [gd_pos hbx, c1_at]; rfl
  unfold f_X8_value
  rcases hkp with q | q
  · rw [if_pos q]; exact body
  · rw [if_neg (by omega), gd_pos q]; exact body
theorem cx_ext (h : CX σ k l m) (hF : Fr (fun r => nx σ ≤ r) σ σ') : CX σ' k l m := by
  have hx := h.nx
  have hF' : Fr (fun _ => False) σ σ' := hF.sub fun r x z => by omega
  exact h.other hF' (fun r z => z.elim) ⟨hF'.ld (by omega) (fun z => z) 0, hF'.ld (by omega) (fun z => z) 1⟩
/-- the state of a search: c have been pushed, s wait -/
def CS (σ0 σ : AS) (bs wd pq arr : Int) (dn : Int → Prop) (s c : Nat) : Prop :=
  PqOk σ pq arr s (2 * (c : Int) - s) ∧ BsOk σ bs wd dn ∧ Fr (fun _ => False) σ0 σ ∧ (nx σ0 ≤ pq ∧ nx σ0 ≤ arr ∧ nx σ0 ≤ bs ∧ nx σ0 ≤ wd) ∧ (pq ≠ bs ∧ pq ≠ wd ∧ arr ≠ bs ∧ arr ≠ wd) ∧ nx σ ≤ nx σ0 + 10 + 2 * c ∧ us σ ≤ us σ0 + 40 + 104 * c
theorem CS.sep {σ0 : AS} {s c : Nat} (h : CS σ0 σ bs wd pq arr dn s c) {r : Int} (hr : Rch σ r) : r ≠ pq ∧ r ≠ arr ∧ r ≠ bs ∧ r ≠ wd := by
  obtain ⟨⟨⟨a1, -⟩, ⟨b1, -⟩, -⟩, ⟨c1, -, c2, -⟩, -⟩ := h
  refine ⟨fun z => ?_, fun z => ?_, fun z => ?_, fun z => ?_⟩
  · have := hr.1; rw [z, a1] at this; exact absurd this (by decide)
  · have := hr.1; rw [z, b1] at this; exact absurd this (by decide)
  · have := hr.1; rw [z, c1] at this; exact absurd this (by decide)
  · have := hr.1; rw [z, c2] at this; exact absurd this (by decide)
/-- a new Reach is pushed -/
theorem push_wp {σ0 : AS} {s c : Nat} {u v : Int} (hn : 1000000 ≤ n) (h0 : CX σ0 k l m) (h : CS σ0 σ bs wd pq arr dn s c) (hc : c ≤ 69) (hs : s ≤ c) {K : AS → Option ((Nat ⊕ Int) × AS)} {Q : (Nat ⊕ Int) × AS → Prop} (hK : ∀ σ' arr', CS σ0 σ' bs wd pq arr' dn (s + 1) (c + 1) → (pqW σ' arr' (s + 1)).Perm ((u, v) :: pqW σ arr s) → (∀ r, Rch σ r → Rch σ' r ∧ ∀ j, ld σ' r j = ld σ r j) → Wp (K σ') Q) : Wp (nm (nx σ) fun r62 => nm (al σ 11 0 2) fun σ64 => gd (r62 ≠ 0) <| c0 (f_X17_init r62 u v σ64) fun σ74 => gd (kd σ74 pq = 29) <| c1 (f_J28_add n pq r62 σ74) fun v77 σ78 => K σ78) Q := by
  have hx := h0.nx
  have h' := h
  obtain ⟨hP, hB, hF, ⟨o1, o2, o3, o4⟩, ⟨s1, s2, s3, s4⟩, hnx, hus⟩ := h'
  have m0 := hF.1
  refine wp_nm (fun r er => wp_nm (fun σ1 e1 => ?_))
  have F1 : Fr (fun _ => False) σ σ1 := by rw [e1]; exact Fr.al (by decide)
  have k1 : kd σ1 r = 11 := by rw [e1, er, kd_al, if_pos rfl]
  have n1 : nx σ1 = nx σ + 1 := by rw [e1, nx_al]
  have u1 : us σ1 = us σ + 2 := by rw [e1]; rfl
  clear e1
  have r0 : r ≠ 0 := by omega
  refine wp_gd r0 (wp_c0e (s := wr (wr σ1 r 0 u) r 1 v) ?_ ?_)
  · unfold f_X17_init f_J9_init
    rw [gd_pos r0]
    show c0 (gd (r ≠ 0) (some σ1)) _ = _
    rw [gd_pos r0]
    show gd (kd σ1 r = 11) _ = _
    rw [gd_pos k1, nm_eq, gd_pos (show kd (wr σ1 r 0 u) r = 11 from k1), nm_eq]
  have F2 : Fr (fun q => q = r) σ (wr (wr σ1 r 0 u) r 1 v) := (F1.sub fun r _ z => z.elim).trans ((Fr.wr (S := fun q => q = r) rfl).trans (Fr.wr rfl))
  have F2' : Fr (fun _ => False) σ (wr (wr σ1 r 0 u) r 1 v) := F2.sub fun q x z => by have z' : q = r := z; omega
  have l0 : ld (wr (wr σ1 r 0 u) r 1 v) r 0 = u := by rw [ld_wr, if_neg (by omega), ld_wr, if_pos ⟨rfl, rfl⟩]
  have l1 : ld (wr (wr σ1 r 0 u) r 1 v) r 1 = v := by rw [ld_wr, if_pos ⟨rfl, rfl⟩]
  have k2 : kd (wr (wr σ1 r 0 u) r 1 v) r = 11 := k1
  have n2 : nx (wr (wr σ1 r 0 u) r 1 v) = nx σ1 := rfl
  have u2 : us (wr (wr σ1 r 0 u) r 1 v) = us σ1 := rfl
  generalize wr (wr σ1 r 0 u) r 1 v = σ2 at *
  obtain ⟨hP2, eW2⟩ := hP.frame F2' (fun r z => z.elim)
  have hB2 := hB.frame F2' (fun r z => z.elim)
  have hr2 : Rch σ2 r := ⟨k2, by omega, by omega⟩
  refine wp_gd hP2.1.1 (wp_c1 (wp_mono (add_wp hn hP2 hr2 (by omega) (by omega)) fun y hq => ?_))
  obtain ⟨arr', q1, q2, q3, q4, q5, q6⟩ := hq
  have hw2 : rW σ2 r = (u, v) := by unfold rW; rw [l0, l1]
  rw [hw2, eW2] at q2
  have p54 := hP.2.2.2.2.2
  have hB3 := hB2.frame q3 (fun z w => by
    rcases w with w | w
    · rw [w]; exact ⟨s1, s2⟩
    · rw [w]; exact ⟨s3, s4⟩)
  refine hK y.2 arr' ⟨?_, hB3, ?_, ⟨o1, ?_, o3, o4⟩, ⟨s1, s2, ?_, ?_⟩, by omega, by omega⟩ q2 fun z hz => ?_
  · have : 2 * (c : Int) - s + 1 = 2 * ((c + 1 : Nat) : Int) - ((s + 1 : Nat) : Int) := by omega
    rw [← this]
    exact q1
  · refine (hF.tr2 F2' fun _ _ z => z).tr2 q3 fun z w z' => ?_
    rcases z' with z' | z' <;> omega
  · rcases q4 with q4 | q4 <;> omega
  · rcases q4 with q4 | q4
    · rw [q4]; exact s3
    · have := hB.2.2.2.2.2.2.1; omega
  · rcases q4 with q4 | q4
    · rw [q4]; exact s4
    · have := hB.2.2.2.2.2.2.2; omega
  · have hz2 : Rch σ2 z := ⟨by rw [F2'.kd hz.2.2]; exact hz.1, hz.2.1, by have := hz.2.2; omega⟩
    have sp := h.sep hz
    have ne : ¬ (z = pq ∨ z = arr) := fun w => w.elim sp.1 sp.2.1
    exact ⟨⟨by rw [q3.kd hz2.2.2]; exact hz2.1, hz.2.1, by have := q3.1; have := hz2.2.2; omega⟩, fun j => (q3.ld hz2.2.2 ne j).trans (F2'.ld hz.2.2 (fun w => w) j)⟩
end CO
