/-! NAMES: put, from hash to count -/
set_option maxRecDepth 100000
section PUT
variable {σ σ0 : AS} {n : Nat} {s a mp h v t b : Int} {l m : List Int} {E : List Int} {W : Int → List Int}
def PfQ (σ : AS) (mp s : Int) (l : List Int) (E : List Int) (W : Int → List Int) (y : Int × AS) : Prop := MpOk y.2 mp (E ++ [nx σ]) (udW W (nx σ) l) ∧ StrH y.2 s l ∧ nx y.2 = nx σ + 1 ∧ us y.2 = us σ + 6 ∧ Fr (fun r => r = mp ∨ (mp < r ∧ (kd σ r = 108 ∨ kd σ r = 33))) σ y.2
theorem put_loop (hn : 1000000 ≤ n) (hM : MpT σ mp t E W) (hs : StrH σ s l) (h0 : s ≠ 0) (hsn : s + 1 < nx σ) (hl : l.length ≤ 2000) (hnl : ¬ l ∈ E.map W) (hE : E.length < 8) (hx : 0 < nx σ) : ∀ (L : List Int) (p : Int) (c : Nat) (f : Nat), L.length < f → Chn σ p L → L ≠ [] → (∀ e ∈ L, e ∈ E) → (∀ q, L.getLast? = some q → (E.filter (bkt W (iandW 15 (hspr l)))).getLast? = some q) → c + L.length ≤ 7 → Wp (f_J33_putVal_134 n (f_J33_putVal_222 n (f_J33_putVal_259 n)) f mp (hspr l) s (328 + E.length) 0 1 t p c σ) (PfQ σ mp s l E W)
  | [], p, c, f, _, _, z, _, _, _ => absurd rfl z
  | e :: L, p, c, 0, hf, _, _, _, _, _ => absurd hf (by simp)
  | e :: L, p, c, f + 1, hf, hC, _, hLE, hlast, hc => by
    obtain ⟨c1, c2, c3, c4⟩ := hC
    subst c1
    obtain ⟨a1, a2, a3, a4, a5, a6, a7, a8, a9, a10, z0, z1, z2, z3, z4, z5, z6⟩ := id hM
    unfold f_J33_putVal_134
    refine wp_gd c3 (wp_nm0 ?_)
    cases L with
    | nil =>
      have c4' : ld σ p 3 = 0 := c4
      have hq := hlast p rfl
      obtain ⟨σ1, e1, e2⟩ := newNode_eq (h := hspr l) (s := s) (v := 328 + E.length) a1 a7 hx a4 a9
      have hpn := (a6 p (hLE p List.mem_cons_self)).2.1
      simp at hc
      refine wp_pos c4' (wp_gd a1 (wp_c1e e1 (wp_gd (by rw [(e2.2.2.2.1 p (by omega)).1]; exact c3) (wp_nm0 (wp_pos (by omega) ?_)))))
      unfold f_J33_putVal_222
      exact wp_pos c4' (put_fin hM hs h0 hsn hl hnl hE hx e2 (Or.inr ⟨p, hq, rfl⟩))
    | cons e2 L2 =>
      obtain ⟨d1, d2, d3, d4⟩ := id c4
      have hne : ld σ p 3 ≠ 0 := by rw [d1]; exact d2
      have hm2 : e2 ∈ E := hLE e2 (List.mem_cons_of_mem _ List.mem_cons_self)
      obtain ⟨q1, q2, q3, q4, q5⟩ := (a6 e2 hm2).1
      have hW : W e2 ≠ l := fun z => hnl (List.mem_map.mpr ⟨e2, hm2, z⟩)
      simp at hc hf
      have cont : Wp (f_J33_putVal_212 n (f_J33_putVal_134 n (f_J33_putVal_222 n (f_J33_putVal_259 n)) f) mp (hspr l) s (328 + E.length) 0 1 t (ld σ p 3) c σ) (PfQ σ mp s l E W) := by
        unfold f_J33_putVal_212
        refine wp_gI (by omega) (wp_nm0 ?_)
        rw [show (c : Int) + 1 = ((c + 1 : Nat) : Int) by omega]
        exact put_loop hn hM hs h0 hsn hl hnl hE hx (e2 :: L2) (ld σ p 3) (c + 1) f (by simp; omega) c4 (by simp) (fun a ha => hLE a (List.mem_cons_of_mem _ ha)) (fun q hq => hlast q (by rw [List.getLast?_cons_cons]; exact hq)) (by simp; omega)
      refine wp_neg hne ?_
      rw [d1] at cont ⊢
      refine wp_gd q1 ?_
      refine wp_ite (fun hh => wp_gd q1 (wp_nm0 (wp_gdc (cmp24 q2.2.1.1 hs.2.1.1) ?_))) fun hh => cont
      refine wp_ite (fun hp => ?_) fun hp => wp_neg h0 (wp_gd (Or.inl hs.2.1.1) ?_)
      · rw [hp] at q2
        exact absurd (q2.1.inj hs.1) hW
      · refine wp_c1e (str_equals_eq hn hl hs.1 q2.1 (cmp24 hs.2.1.1 q2.2.1.1)) ?_
        have ez : (if l = W e2 then (1 : Int) else 0) = 0 := if_neg fun z => hW z.symm
        rw [ez]
        exact wp_pos rfl cont
theorem put29_wp (hn : 1000000 ≤ n) (hM : MpT σ mp t E W) (hs : StrH σ s l) (h0 : s ≠ 0) (hsn : s + 1 < nx σ) (hl : l.length ≤ 2000) (hnl : ¬ l ∈ E.map W) (hE : E.length < 8) (hx : 0 < nx σ) : Wp (f_J33_putVal_29 n mp (hspr l) s (328 + E.length) 0 1 t 16 σ) (PfQ σ mp s l E W) := by
  obtain ⟨a1, a2, a3, a4, a5, a6, a7, a8, a9, a10, z0, z1, z2, z3, z4, z5, z6⟩ := id hM
  have r15 := and15 (h := hspr l)
  unfold f_J33_putVal_29
  rw [show isubW 16 1 = 15 from rfl]
  refine wp_nm0 (wp_gd ⟨z2, r15.1, by rw [z3]; exact r15.2⟩ (wp_nm0 ?_))
  have hC := z6 _ r15.1 r15.2
  have hlen : (E.filter (bkt W (iandW 15 (hspr l)))).length ≤ 7 := Nat.le_trans (List.length_filter_le _ _) (by omega)
  have hLE : ∀ e ∈ E.filter (bkt W (iandW 15 (hspr l))), e ∈ E := fun e he => (List.mem_filter.mp he).1
  generalize hL : E.filter (bkt W (iandW 15 (hspr l))) = L at *
  cases L with
  | nil =>
    have hC' : ld σ t (iandW 15 (hspr l)) = 0 := hC
    obtain ⟨σ1, e1, e2⟩ := newNode_eq (h := hspr l) (s := s) (v := 328 + E.length) a1 a7 hx a4 a9
    refine wp_pos hC' (wp_gd a1 (wp_c1e e1 (wp_gd ⟨by rw [(e2.2.2.2.1 t (by omega)).1]; exact z2, r15.1, by rw [(e2.2.2.2.1 t (by omega)).2, z3]; exact r15.2⟩ (wp_gd (Or.inr e2.2.2.1) (wp_nm0 ?_)))))
    exact put_fin hM hs h0 hsn hl hnl hE hx e2 (Or.inl ⟨hL, rfl⟩)
  | cons e L =>
    obtain ⟨c1, c2, c3, c4⟩ := id hC
    rw [c1] at hC ⊢
    have hm : e ∈ E := hLE e List.mem_cons_self
    obtain ⟨q1, q2, q3, q4, q5⟩ := (a6 e hm).1
    have hW : W e ≠ l := fun z => hnl (List.mem_map.mpr ⟨e, hm, z⟩)
    have cont : Wp (f_J33_putVal_104 n (f_J33_putVal_222 n (f_J33_putVal_259 n)) mp (hspr l) s (328 + E.length) 0 1 t e σ) (PfQ σ mp s l E W) := by
      unfold f_J33_putVal_104
      have := put_loop hn hM hs h0 hsn hl hnl hE hx (e :: L) e 0 n (by omega) hC (by simp) hLE (fun q hq => by rw [hL]; exact hq) (by omega)
      exact wp_gd q1 (wp_pos rfl this)
    refine wp_neg c2 (wp_gd q1 ?_)
    refine wp_ite (fun hh => wp_gd q1 (wp_nm0 (wp_gdc (cmp24 q2.2.1.1 hs.2.1.1) ?_))) fun hh => cont
    refine wp_ite (fun hp => ?_) fun hp => wp_neg h0 (wp_gd (Or.inl hs.2.1.1) ?_)
    · rw [hp] at q2
      exact absurd (q2.1.inj hs.1) hW
    · refine wp_c1e (str_equals_eq hn hl hs.1 q2.1 (cmp24 hs.2.1.1 q2.2.1.1)) ?_
      have ez : (if l = W e then (1 : Int) else 0) = 0 := if_neg fun z => hW z.symm
      rw [ez]
      exact wp_pos rfl cont
theorem MpOk.tb (h : MpOk σ mp E W) (h0 : ld σ mp 0 ≠ 0) : MpT σ mp (ld σ mp 0) E W := by
  obtain ⟨a1, a2, a3, a4, a5, a6, a7, a8, a9, a10, a11⟩ := h
  rcases a11 with ⟨z1, z2, z3⟩ | z
  · exact absurd z2 h0
  · exact ⟨a1, a2, a3, a4, a5, a6, a7, a8, a9, a10, rfl, z⟩
theorem names_put (hn : 1000000 ≤ n) (hM : MpOk σ mp E W) (hs : StrH σ s l) (h0 : s ≠ 0) (hsn : s + 1 < nx σ) (hl : l.length ≤ 2000) (hnl : ¬ l ∈ E.map W) (hE : E.length < 8) (hx : 0 < nx σ) : Wp (f_J33_put n mp s (328 + E.length) σ) fun y => PtQ σ mp s l E W y.2 := by
  have hms : mp ≠ s := fun z => by
    have h1 := hM.1
    rw [z, hs.2.1.1] at h1
    exact absurd h1 (by decide)
  unfold f_J33_put
  refine wp_c1 (wp_mono (map_hash hn hs h0 hl) fun y hy => ?_)
  obtain ⟨y1, y2, y3, y4⟩ := hy
  have hM1 := hM.hs hs y2 y3 y4
  have n1 := y3.1
  have u1 := y3.2.1
  rw [y1]
  have mono : ∀ z : Int × AS, ∀ σ1 : AS, nx σ1 ≤ nx σ + 1 → nx σ ≤ nx σ1 → us σ1 ≤ us σ + 16 → Fr (fun r => r = mp ∨ r = s ∨ (mp < r ∧ (kd σ r = 108 ∨ kd σ r = 33))) σ σ1 → (∀ j, j ≠ 2 → j ≠ 3 → ld σ1 s j = ld σ s j) → PfQ σ1 mp s l E W z → PtQ σ mp s l E W z.2 := fun z σ1 hx1 hx2 hu hF hj hz => by
    obtain ⟨p1, p2, p3, p4, p5⟩ := hz
    have e : nx z.2 - 1 = nx σ1 := by omega
    refine ⟨by rw [e]; exact p1, p2, by omega, by omega, by omega, hF.tr2 p5 fun r hr w => ?_, fun j j2 j3 => ?_⟩
    rotate_left
    · rw [p5.ld (by omega) (fun w => ?_)]
      · exact hj j j2 j3
      · have w' : s = mp ∨ (mp < s ∧ (kd σ1 s = 108 ∨ kd σ1 s = 33)) := w
        rw [hF.kd (by omega), hs.2.1.1] at w'
        rcases w' with w' | ⟨-, w' | w'⟩
        · exact hms w'.symm
        · exact absurd w' (by decide)
        · exact absurd w' (by decide)
    have w' : r = mp ∨ (mp < r ∧ (kd σ1 r = 108 ∨ kd σ1 r = 33)) := w
    rw [hF.kd hr] at w'
    show r = mp ∨ r = s ∨ (mp < r ∧ (kd σ r = 108 ∨ kd σ r = 33))
    omega
  have J1 : ∀ j, j ≠ 2 → j ≠ 3 → ld y.2 s j = ld σ s j := fun j j2 j3 => y3.c01 ⟨j2, j3⟩
  have F1 : Fr (fun r => r = mp ∨ r = s ∨ (mp < r ∧ (kd σ r = 108 ∨ kd σ r = 33))) σ y.2 := y4.sub fun r _ z => Or.inr (Or.inl z)
  refine wp_gd hM1.1 (wp_c1 ?_)
  unfold f_J33_putVal
  refine wp_gd hM1.1 (wp_nm0 ?_)
  refine wp_ite (fun z => ?_) fun z => ?_
  · have hE0 : E = [] ∧ ld y.2 mp 4 = 0 := by
      rcases hM1.2.2.2.2.2.2.2.2.2.2 with w | w
      · exact ⟨w.1, w.2.2⟩
      · exact absurd z w.2.2.2.2.1
    unfold f_J33_putVal_19
    obtain ⟨hE1, hE2⟩ := hE0
    subst hE1
    refine wp_gd hM1.1 (wp_c1 (wp_mono (resize_wp hM1 z hE2 (by omega)) fun w hw => ?_))
    obtain ⟨w1, w2, w3, w4, w5⟩ := hw
    rw [w1]
    have hts : nx y.2 ≠ s := by omega
    refine wp_gd w2.2.2.2.2.2.2.2.2.2.2.2.2.1 (wp_nm0 ?_)
    rw [w2.2.2.2.2.2.2.2.2.2.2.2.2.2.1]
    have hs2 : StrH w.2 s l := y2.frame w5 (by omega) (fun z => hms z.symm) (fun z => by
      have z' : s + 1 = mp := z
      have h1 := hM1.1
      rw [← z', y2.2.1.2] at h1
      exact absurd h1 (by decide))
    refine wp_mono (put29_wp hn w2 hs2 h0 (by omega) hl hnl hE (by omega)) fun a ha => ?_
    refine wp_ok (mono a w.2 (by omega) (by omega) (by omega) ?_ (fun j j2 j3 => by rw [w5.ld (by omega) (fun u => hms u.symm)]; exact J1 j j2 j3) ha)
    exact F1.trans (w5.sub fun r _ z => Or.inl z)
  · have hT := hM1.tb z
    refine wp_gd hT.2.2.2.2.2.2.2.2.2.2.2.2.1 (wp_nm0 ?_)
    rw [hT.2.2.2.2.2.2.2.2.2.2.2.2.2.1]
    refine wp_neg (by decide) (wp_mono (put29_wp hn hT y2 h0 (by omega) hl hnl hE (by omega)) fun a ha => ?_)
    exact wp_ok (mono a y.2 (by omega) (by omega) (by omega) F1 J1 ha)
end PUT
