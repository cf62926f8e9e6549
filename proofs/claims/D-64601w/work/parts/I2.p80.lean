/-! NAMES: the map -/
set_option maxRecDepth 100000
theorem Chn.congr {σ σ' : AS} : ∀ {L : List Int} {h : Int}, Chn σ h L → (∀ a ∈ L, kd σ' a = kd σ a ∧ ld σ' a 3 = ld σ a 3) → Chn σ' h L
  | [], _, h, _ => h
  | e :: L, _, ⟨c1, c2, c3, c4⟩, hF => by
    obtain ⟨f1, f2⟩ := hF e List.mem_cons_self
    exact ⟨c1, c2, by rw [f1]; exact c3, by rw [f2]; exact Chn.congr c4 fun a ha => hF a (List.mem_cons_of_mem _ ha)⟩
theorem Chn.mem {σ : AS} : ∀ {L : List Int} {h : Int}, Chn σ h L → ∀ a ∈ L, a ≠ 0 ∧ kd σ a = 33
  | [], _, _, a, ha => absurd ha List.not_mem_nil
  | e :: L, _, ⟨c1, c2, c3, c4⟩, a, ha => by
    rcases List.mem_cons.mp ha with z | z
    · rw [z]; exact ⟨c2, c3⟩
    · exact Chn.mem c4 a z
/-- the place of l among the names -/
def pos (l : List Int) : List (List Int) → Nat
  | [] => 0
  | w :: L => if w = l then 0 else pos l L + 1
theorem pos_le {l : List Int} : ∀ {L : List (List Int)}, pos l L ≤ L.length
  | [] => Nat.le_refl _
  | w :: L => by
    show (if w = l then 0 else pos l L + 1) ≤ L.length + 1
    have := pos_le (l := l) (L := L)
    split <;> omega
theorem pos_mem {l : List Int} : ∀ {L : List (List Int)}, pos l L < L.length ↔ l ∈ L
  | [] => ⟨fun h => absurd h (Nat.not_lt_zero _), fun h => absurd h List.not_mem_nil⟩
  | w :: L => by
    show (if w = l then 0 else pos l L + 1) < L.length + 1 ↔ _
    by_cases c : w = l
    · rw [if_pos c, c]; exact ⟨fun _ => List.mem_cons_self, fun _ => by omega⟩
    · rw [if_neg c, List.mem_cons]
      have := pos_mem (l := l) (L := L)
      constructor
      · intro h; exact Or.inr (this.mp (by omega))
      · intro h
        rcases h with h | h
        · exact absurd h.symm c
        · have := this.mpr h; omega
theorem fdE_pos {W : Int → List Int} {l : List Int} : ∀ {E : List Int}, fdE W l E = E.getD (pos l (E.map W)) 0
  | [] => rfl
  | e :: E => by
    show (if W e = l then e else fdE W l E) = (e :: E).getD (if W e = l then 0 else pos l (E.map W) + 1) 0
    by_cases c : W e = l
    · rw [if_pos c, if_pos c]; rfl
    · rw [if_neg c, if_neg c, fdE_pos (E := E)]; rfl
theorem fdE_filter {W : Int → List Int} {l : List Int} {p : Int → Bool} : ∀ {E : List Int}, (∀ e ∈ E, W e = l → p e = true) → fdE W l (E.filter p) = fdE W l E
  | [], _ => rfl
  | e :: E, h => by
    rw [List.filter_cons]
    have ih := fdE_filter (E := E) fun a ha => h a (List.mem_cons_of_mem _ ha)
    by_cases c : p e = true
    · rw [if_pos c]
      show (if W e = l then e else fdE W l (E.filter p)) = (if W e = l then e else fdE W l E)
      rw [ih]
    · rw [if_neg c, ih]
      show _ = (if W e = l then e else fdE W l E)
      rw [if_neg fun z => c (h e List.mem_cons_self z)]
def bkt (W : Int → List Int) (b : Int) (e : Int) : Bool := decide (iandW 15 (hspr (W e)) = b)
/-- the map mp has the entries E, with the names W -/
def MpOk (σ : AS) (mp : Int) (E : List Int) (W : Int → List Int) : Prop :=
  kd σ mp = 32 ∧ ld σ mp 2 = E.length ∧ ld σ mp 10 = 0 ∧ ld σ mp 11 = 0 ∧ E.length ≤ 8 ∧
  (∀ e ∈ E, KeyE σ e (W e) ∧ e < nx σ ∧ ld σ e 1 + 1 < nx σ ∧ e ≠ 0 ∧ mp < e) ∧
  mp < nx σ ∧ (∀ i : Nat, i < E.length → ld σ (E.getD i 0) 2 = 328 + i) ∧ (ld σ mp 9 = 0 ∨ kd σ (ld σ mp 9) = 33 ∧ ld σ mp 9 < nx σ ∧ mp < ld σ mp 9) ∧ E.Nodup ∧
  ((E = [] ∧ ld σ mp 0 = 0 ∧ ld σ mp 4 = 0) ∨ (ld σ mp 4 = 12 ∧ kd σ (ld σ mp 0) = 108 ∧ ln σ (ld σ mp 0) = 16 ∧ (ld σ mp 0 < nx σ ∧ mp < ld σ mp 0) ∧ ld σ mp 0 ≠ 0 ∧ ∀ b, 0 ≤ b → b < 16 → Chn σ (ld σ (ld σ mp 0) b) (E.filter (bkt W b))))
section MAP
variable {σ σ0 : AS} {n : Nat} {s a mp : Int} {l m : List Int} {E : List Int} {W : Int → List Int}
theorem StrH.keep {σ' : AS} {k : Int} {w : List Int} (hk : StrH σ k w) (hs : StrH σ s l) (hs' : StrH σ' s l) (hF : Fr (fun r => r = s) σ σ') (h1 : k + 1 < nx σ) : StrH σ' k w := by
  by_cases z : k = s
  · subst z
    rw [hk.1.inj hs.1]; exact hs'
  · refine hk.frame hF h1 z fun y => ?_
    have y' : k + 1 = s := y
    have h1 := hs.2.1.1
    rw [← y', hk.2.1.2] at h1
    exact absurd h1 (by decide)
theorem MpOk.hs {σ' : AS} (h : MpOk σ mp E W) (hs : StrH σ s l) (hs' : StrH σ' s l) (hH : HsF σ σ') (hF : Fr (fun r => r = s) σ σ') : MpOk σ' mp E W := by
  obtain ⟨a1, a2, a3, a4, a5, a6, a7, a8, a9, a10, a11⟩ := h
  have km : kd σ mp ≠ 24 := by rw [a1]; decide
  refine ⟨by rw [hH.kk]; exact a1, by rw [hH.c km]; exact a2, by rw [hH.c km]; exact a3, by rw [hH.c km]; exact a4, a5, fun e he => ?_, by rw [hH.1]; exact a7, fun i hi => ?_, ?_, a10, ?_⟩
  · obtain ⟨⟨k1, k2, k3, k4, k5⟩, k6, k7, k8⟩ := a6 e he
    have ke : kd σ e ≠ 24 := by rw [k1]; decide
    have e1 : ld σ' e 1 = ld σ e 1 := hH.c ke 1
    refine ⟨⟨by rw [hH.kk]; exact k1, ?_, ?_, ?_, k5⟩, ?_, ?_, k8⟩
    · rw [e1]; exact k2.keep hs hs' hF k7
    · rw [e1]; exact k3
    · rw [hH.c ke 0]; exact k4
    · rw [hH.1]; exact k6
    · rw [hH.1, e1]; exact k7
  · have hm : E.getD i 0 ∈ E := by
      rw [List.getD_eq_getElem?_getD, List.getElem?_eq_getElem hi]; exact List.getElem_mem _
    have ke : kd σ (E.getD i 0) ≠ 24 := by rw [(a6 _ hm).1.1]; decide
    rw [hH.c ke]; exact a8 i hi
  · rw [hH.c km]
    rcases a9 with z | ⟨z1, z2⟩
    · exact Or.inl z
    · exact Or.inr ⟨by rw [hH.kk]; exact z1, by rw [hH.1]; exact z2.1, z2.2⟩
  · rcases a11 with ⟨z1, z2, z3⟩ | ⟨z1, z2, z3, z4, z5, z6⟩
    · exact Or.inl ⟨z1, by rw [hH.c km]; exact z2, by rw [hH.c km]; exact z3⟩
    · refine Or.inr ⟨by rw [hH.c km]; exact z1, by rw [hH.c km, hH.kk]; exact z2, by rw [hH.c km, hH.ll]; exact z3, by rw [hH.c km, hH.1]; exact z4, by rw [hH.c km]; exact z5, fun b hb1 hb2 => ?_⟩
      have kt : kd σ (ld σ mp 0) ≠ 24 := by rw [z2]; decide
      rw [hH.c km, hH.c kt]
      refine (z6 b hb1 hb2).congr fun a ha => ⟨hH.kk, hH.c ?_ 3⟩
      rw [(a6 a (List.mem_filter.mp ha |>.1)).1.1]; decide
/-- the entry with the key l, or none -/
theorem getNode_wp (hn : 1000000 ≤ n) (h : MpOk σ mp E W) (hs : StrH σ s l) (h0 : s ≠ 0) (hl : l.length ≤ 2000) : Wp (f_J33_getNode n mp s σ) fun y => y.1 = fdE W l E ∧ StrH y.2 s l ∧ HsF σ y.2 ∧ Fr (fun r => r = s) σ y.2 := by
  obtain ⟨a1, a2, a3, a4, a5, a6, a7, a8, a9, a10, a11⟩ := id h
  unfold f_J33_getNode
  refine wp_gd a1 (wp_nm0 ?_)
  rcases a11 with ⟨z1, z2, z3⟩ | ⟨z1, z2, z3, z4, z5, z6⟩
  · refine wp_pos z2 (wp_ok ⟨?_, hs, HsF.rf, Fr.rf⟩)
    rw [z1]; rfl
  refine wp_neg z5 (wp_gd z2 (wp_nm0 ?_))
  rw [z3]
  refine wp_neg (by decide) (wp_c1 (wp_mono (map_hash hn hs h0 hl) fun y hy => ?_))
  obtain ⟨y1, y2, y3, y4⟩ := hy
  have hM := h.hs hs y2 y3 y4
  obtain ⟨b1, b2, b3, b4, b5, b6, b7, b8, b9, b10, b11⟩ := hM
  have km : kd σ mp ≠ 24 := by rw [a1]; decide
  have kt : kd σ (ld σ mp 0) ≠ 24 := by rw [z2]; decide
  rw [y1, show isubW 16 1 = 15 from rfl]
  have r15 := and15 (h := hspr l)
  generalize hb : iandW 15 (hspr l) = b at *
  refine wp_gd ⟨by rw [y3.kk]; exact z2, r15.1, by rw [y3.ll, z3]; exact r15.2⟩ (wp_nm0 ?_)
  have hC : Chn y.2 (ld y.2 (ld σ mp 0) b) (E.filter (bkt W b)) := by
    rw [y3.c kt]
    refine (z6 b r15.1 r15.2).congr fun a ha => ⟨y3.kk, y3.c ?_ 3⟩
    rw [(a6 a (List.mem_filter.mp ha |>.1)).1.1]; decide
  have hKE : ∀ e ∈ E.filter (bkt W b), KeyE y.2 e (W e) := fun e he => (b6 e (List.mem_filter.mp he |>.1)).1
  have hfd : fdE W l (E.filter (bkt W b)) = fdE W l E := fdE_filter fun e _ hw => by
    unfold bkt; rw [hw, hb]; exact decide_eq_true rfl
  have hlen : (E.filter (bkt W b)).length ≤ 8 := Nat.le_trans (List.length_filter_le _ _) a5
  rw [← hfd]
  generalize E.filter (bkt W b) = L at *
  cases L with
  | nil =>
    have hC' : ld y.2 (ld σ mp 0) b = 0 := hC
    exact wp_pos hC' (wp_ok ⟨rfl, y2, y3, y4⟩)
  | cons e L =>
    obtain ⟨c1, c2, c3, c4⟩ := hC
    rw [c1]
    obtain ⟨k1, k2, k3, k4, k5⟩ := hKE e List.mem_cons_self
    have cont : W e ≠ l → Wp (f_J33_getNode_71 n s e (hspr l) y.2) fun y' => y'.1 = fdE W l (e :: L) ∧ StrH y'.2 s l ∧ HsF σ y'.2 ∧ Fr (fun r => r = s) σ y'.2 := fun z => by
      unfold f_J33_getNode_71
      refine wp_gd k1 (wp_nm0 ?_)
      have efd : fdE W l (e :: L) = fdE W l L := if_neg z
      rw [efd]
      cases L with
      | nil =>
        have c4' : ld y.2 e 3 = 0 := c4
        exact wp_pos c4' (wp_ok ⟨rfl, y2, y3, y4⟩)
      | cons e2 L2 =>
        have hne : ld y.2 e 3 ≠ 0 := by rw [c4.1]; exact c4.2.1
        refine wp_neg hne (wp_gd k1 (wp_pos rfl (wp_of_eq (chain_find hn y2 h0 hl (e2 :: L2) (ld y.2 e 3) n (by simp at hlen ⊢; omega) c4 (by simp) fun a ha => hKE a (List.mem_cons_of_mem _ ha)) ⟨rfl, y2, y3, y4⟩)))
    refine wp_neg c2 (wp_gd k1 ?_)
    rw [k4]
    refine wp_ite (fun hh => ?_) fun hh => cont fun z => hh (by rw [z])
    refine wp_gd k1 (wp_nm0 (wp_gdc (cmp24 k2.2.1.1 y2.2.1.1) ?_))
    refine wp_ite (fun hp => ?_) fun hp => wp_neg h0 (wp_gd (Or.inl y2.2.1.1) ?_)
    · refine wp_ok ⟨?_, y2, y3, y4⟩
      rw [hp] at k2
      exact (if_pos (k2.1.inj y2.1)).symm
    · refine wp_c1e (str_equals_eq hn hl y2.1 k2.1 (cmp24 y2.2.1.1 k2.2.1.1)) ?_
      by_cases z : l = W e
      · rw [if_pos z]
        exact wp_neg (by decide) (wp_ok ⟨(if_pos z.symm).symm, y2, y3, y4⟩)
      · rw [if_neg z]
        exact wp_pos rfl (cont fun w => z w.symm)
/-- the value: 328 and the place; or none -/
theorem get_wp (hn : 1000000 ≤ n) (h : MpOk σ mp E W) (hs : StrH σ s l) (h0 : s ≠ 0) (hl : l.length ≤ 2000) : Wp (f_J34_get n mp s σ) fun y => y.1 = (if pos l (E.map W) < E.length then 328 + (pos l (E.map W) : Int) else 0) ∧ StrH y.2 s l ∧ HsF σ y.2 ∧ Fr (fun r => r = s) σ y.2 ∧ MpOk y.2 mp E W := by
  unfold f_J34_get
  refine wp_gd h.1 (wp_c1 (wp_mono (getNode_wp hn h hs h0 hl) fun y hy => ?_))
  obtain ⟨y1, y2, y3, y4⟩ := hy
  have hM := h.hs hs y2 y3 y4
  obtain ⟨b1, b2, b3, b4, b5, b6, b7, b8, b9, b10, b11⟩ := id hM
  rw [fdE_pos] at y1
  by_cases c : pos l (E.map W) < E.length
  · rw [if_pos c]
    have hm : E.getD (pos l (E.map W)) 0 ∈ E := by
      rw [List.getD_eq_getElem?_getD, List.getElem?_eq_getElem c]; exact List.getElem_mem _
    have hh := b6 _ hm
    rw [y1]
    exact wp_neg hh.2.2.2.1 (wp_gd b1 (wp_pos b3 (wp_gd hh.1.1 (wp_ok ⟨b8 _ c, y2, y3, y4, hM⟩))))
  · rw [if_neg c]
    have : E.getD (pos l (E.map W)) 0 = 0 := by
      rw [List.getD_eq_getElem?_getD, List.getElem?_eq_none (by omega)]; rfl
    rw [y1, this]
    exact wp_pos rfl (wp_ok ⟨rfl, y2, y3, y4, hM⟩)
end MAP
