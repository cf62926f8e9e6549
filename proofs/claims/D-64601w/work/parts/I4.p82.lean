/-! NAMES: put -/
set_option maxRecDepth 100000
theorem Chn.snoc {σ σ' : AS} {q e : Int} (he : e ≠ 0 ∧ kd σ' e = 33 ∧ ld σ' e 3 = 0) : ∀ {L : List Int} {h : Int}, Chn σ h L → L.getLast? = some q → L.Nodup → (∀ a ∈ L, kd σ' a = kd σ a ∧ (a ≠ q → ld σ' a 3 = ld σ a 3)) → ld σ' q 3 = e → Chn σ' h (L ++ [e])
  | [], _, _, hl, _, _, _ => absurd hl (by simp)
  | [x], h, ⟨c1, c2, c3, c4⟩, hl, hn, hF, hq => by
    have hl' : x = q := by simpa using hl
    refine ⟨c1, c2, by rw [(hF x List.mem_cons_self).1]; exact c3, ?_⟩
    show Chn σ' (ld σ' x 3) [e]
    rw [hl', hq]
    exact ⟨rfl, he.1, he.2.1, he.2.2⟩
  | x :: y :: L, h, ⟨c1, c2, c3, c4⟩, hl, hn, hF, hq => by
    have hl' : (y :: L).getLast? = some q := by rw [List.getLast?_cons_cons] at hl; exact hl
    have hqm : q ∈ y :: L := List.mem_of_getLast? hl'
    have hxq : x ≠ q := fun z => (List.nodup_cons.mp hn).1 (by rw [z]; exact hqm)
    obtain ⟨f1, f2⟩ := hF x List.mem_cons_self
    refine ⟨c1, c2, by rw [f1]; exact c3, ?_⟩
    show Chn σ' (ld σ' x 3) ((y :: L) ++ [e])
    rw [f2 hxq]
    exact Chn.snoc he c4 hl' (List.nodup_cons.mp hn).2 (fun a ha => hF a (List.mem_cons_of_mem _ ha)) hq
section PUT
variable {σ σ0 : AS} {n : Nat} {s a mp h v t b : Int} {l m : List Int} {E : List Int} {W : Int → List Int}
def udW (W : Int → List Int) (e : Int) (l : List Int) : Int → List Int := fun a => if a = e then l else W a
/-- what put leaves -/
def PtQ (σ : AS) (mp s : Int) (l : List Int) (E : List Int) (W : Int → List Int) (σ' : AS) : Prop := MpOk σ' mp (E ++ [nx σ' - 1]) (udW W (nx σ' - 1) l) ∧ StrH σ' s l ∧ nx σ ≤ nx σ' ∧ nx σ' ≤ nx σ + 2 ∧ us σ' ≤ us σ + 22 ∧ Fr (fun r => r = mp ∨ r = s ∨ (mp < r ∧ (kd σ r = 108 ∨ kd σ r = 33))) σ σ' ∧ ∀ j, j ≠ 2 → j ≠ 3 → ld σ' s j = ld σ s j
theorem put_fin (hM : MpT σ mp t E W) (hs : StrH σ s l) (h0 : s ≠ 0) (hsn : s + 1 < nx σ) (hl : l.length ≤ 2000) (hnl : ¬ l ∈ E.map W) (hE : E.length < 8) (hx : 0 < nx σ) {σ1 σ2 : AS} (hN : NN σ σ1 mp (hspr l) s (328 + E.length)) (h2 : (E.filter (bkt W (iandW 15 (hspr l))) = [] ∧ σ2 = wr σ1 t (iandW 15 (hspr l)) (nx σ)) ∨ ∃ q, (E.filter (bkt W (iandW 15 (hspr l)))).getLast? = some q ∧ σ2 = wr σ1 q 3 (nx σ)) : Wp (f_J33_putVal_259 n mp 1 σ2) fun y => MpOk y.2 mp (E ++ [nx σ]) (udW W (nx σ) l) ∧ StrH y.2 s l ∧ nx y.2 = nx σ + 1 ∧ us y.2 = us σ + 6 ∧ Fr (fun r => r = mp ∨ (mp < r ∧ (kd σ r = 108 ∨ kd σ r = 33))) σ y.2 := by
  obtain ⟨a1, a2, a3, a4, a5, a6, a7, a8, a9, a10, z0, z1, z2, z3, z4, z5, z6⟩ := hM
  obtain ⟨n1, n2, n3, n4, ⟨n5, n6, n7, n8⟩, n9, n10, n11⟩ := hN
  have r15 := and15 (h := hspr l)
  generalize hb : iandW 15 (hspr l) = b at *
  have tm : t ≠ mp := fun z => by rw [z, a1] at z2; exact absurd z2 (by decide)
  have hmn : mp ≠ nx σ := by omega
  -- the state before the count
  have k2 : ∀ r, r ≠ nx σ → kd σ2 r = kd σ r := fun r hr => by
    rcases h2 with ⟨_, e⟩ | ⟨q, _, e⟩ <;> rw [e, kd_wr] <;> exact (n4 r hr).1
  have k2e : kd σ2 (nx σ) = 33 := by
    rcases h2 with ⟨_, e⟩ | ⟨q, _, e⟩ <;> rw [e, kd_wr] <;> exact n3
  have l2 : ∀ r, r ≠ nx σ → ln σ2 r = ln σ r := fun r hr => by
    rcases h2 with ⟨_, e⟩ | ⟨q, _, e⟩ <;> rw [e, ln_wr] <;> exact (n4 r hr).2
  have qE : ∀ q, (E.filter (bkt W b)).getLast? = some q → q ∈ E ∧ bkt W b q = true := fun q hq => by
    have := List.mem_filter.mp (List.mem_of_getLast? hq)
    exact this
  have m2 : ∀ j, ld σ2 mp j = ld σ1 mp j := fun j => by
    rcases h2 with ⟨_, e⟩ | ⟨q, hq, e⟩
    · rw [e, ld_wr, if_neg (fun z => tm z.1.symm)]
    · have := (a6 q (qE q hq).1).1.1
      rw [e, ld_wr, if_neg (fun z => by rw [← z.1, a1] at this; exact absurd this (by decide))]
  have o2 : ∀ r j, r ≠ nx σ → r ≠ mp → (kd σ r ≠ 108 ∨ r < mp) → (kd σ r ≠ 33 ∨ r < mp ∨ (j ≠ 3 ∧ j ≠ 4 ∧ j ≠ 5)) → ld σ2 r j = ld σ r j := fun r j hr hrm hr8 hj => by
    have e1 : ld σ1 r j = ld σ r j := n9 r j hr hrm (by rcases hj with w | w | w; exact Or.inl w; exact Or.inr (Or.inl w); exact Or.inr (Or.inr ⟨w.2.1, w.2.2⟩))
    rcases h2 with ⟨_, e⟩ | ⟨q, hq, e⟩
    · rw [e, ld_wr, if_neg (fun z => by
        rcases hr8 with w | w
        · exact w (by rw [z.1]; exact z2)
        · omega)]; exact e1
    · have kq := (a6 q (qE q hq).1).1.1
      rw [e, ld_wr, if_neg (fun z => by
        rcases hj with w | w | w
        · exact w (by rw [z.1]; exact kq)
        · have := (a6 q (qE q hq).1).2.2.2.2; omega
        · exact w.1 z.2)]; exact e1
  have e2 : ∀ j, ld σ2 (nx σ) j = ld σ1 (nx σ) j := fun j => by
    rcases h2 with ⟨_, e⟩ | ⟨q, hq, e⟩
    · rw [e, ld_wr, if_neg (fun z => by omega)]
    · have := (a6 q (qE q hq).1).2.1
      rw [e, ld_wr, if_neg (fun z => by omega)]
  have x2 : nx σ2 = nx σ + 1 := by
    rcases h2 with ⟨_, e⟩ | ⟨q, _, e⟩ <;> rw [e] <;> exact n1
  have u2 : us σ2 = us σ + 6 := by
    rcases h2 with ⟨_, e⟩ | ⟨q, _, e⟩ <;> rw [e] <;> exact n2
  have km2 : kd σ2 mp = 32 := by rw [k2 mp hmn]; exact a1
  unfold f_J33_putVal_259
  refine wp_gd km2 (wp_gd km2 (wp_nm0 (wp_gd km2 (wp_nm0 (wp_gd km2 (wp_nm0 (wp_gd km2 ?_)))))))
  have ec : ld (wr σ2 mp 3 (iaddW (ld σ2 mp 3) 1)) mp 2 = E.length := by rw [ld_wr, if_neg (by omega), m2, n10 2 (by decide) (by decide)]; exact a2
  have eadd : iaddW (E.length : Int) 1 = E.length + 1 := by
    have : ∀ j : Fin 9, iaddW ((j : Nat) : Int) 1 = ((j : Nat) : Int) + 1 := by decide +kernel
    exact this ⟨E.length, by omega⟩
  rw [ec, eadd]
  generalize hσ3 : wr (wr σ2 mp 3 (iaddW (ld σ2 mp 3) 1)) mp 2 (E.length + 1) = σ3
  have k3 : ∀ r, kd σ3 r = kd σ2 r := fun r => by rw [← hσ3]; rfl
  have l3 : ∀ r, ln σ3 r = ln σ2 r := fun r => by rw [← hσ3]; rfl
  have o3 : ∀ r j, r ≠ mp → ld σ3 r j = ld σ2 r j := fun r j hr => by rw [← hσ3, ld_wr, if_neg (fun z => hr z.1), ld_wr, if_neg (fun z => hr z.1)]
  have m3 : ∀ j, j ≠ 2 → j ≠ 3 → ld σ3 mp j = ld σ1 mp j := fun j h2 h3 => by rw [← hσ3, ld_wr, if_neg (fun z => h2 z.2), ld_wr, if_neg (fun z => h3 z.2)]; exact m2 j
  have m32 : ld σ3 mp 2 = E.length + 1 := by rw [← hσ3, ld_wr, if_pos ⟨rfl, rfl⟩]
  have x3 : nx σ3 = nx σ + 1 := by rw [← hσ3]; exact x2
  have u3 : us σ3 = us σ + 6 := by rw [← hσ3]; exact u2
  have km3 : kd σ3 mp = 32 := by rw [k3]; exact km2
  have m4 : ld σ3 mp 4 = 12 := by rw [m3 4 (by decide) (by decide), n10 4 (by decide) (by decide)]; exact z1
  have F3 : Fr (fun r => r = mp ∨ (mp < r ∧ (kd σ r = 108 ∨ kd σ r = 33))) σ σ3 := by
    refine ⟨by omega, by omega, fun r hr => ⟨?_, ?_⟩, fun r hr hS j => ?_⟩
    · rw [k3, k2 r (by omega)]
    · rw [l3, l2 r (by omega)]
    · have hS' : ¬ (r = mp ∨ (mp < r ∧ (kd σ r = 108 ∨ kd σ r = 33))) := hS
      rw [o3 r j (fun z => hS' (Or.inl z)), o2 r j (by omega) (fun z => hS' (Or.inl z)) (by omega) (by omega)]
  have str3 : ∀ k w, StrH σ k w → k + 1 < nx σ → StrH σ3 k w := fun k w hk hk1 => hk.frame F3 hk1 (fun z => by
    have z' : k = mp ∨ (mp < k ∧ (kd σ k = 108 ∨ kd σ k = 33)) := z
    have h1 := hk.2.1.1
    rcases z' with z' | ⟨-, z' | z'⟩
    · rw [z', a1] at h1; exact absurd h1 (by decide)
    · rw [z'] at h1; exact absurd h1 (by decide)
    · rw [z'] at h1; exact absurd h1 (by decide)) (fun z => by
    have z' : k + 1 = mp ∨ (mp < k + 1 ∧ (kd σ (k + 1) = 108 ∨ kd σ (k + 1) = 33)) := z
    have h1 := hk.2.1.2
    rcases z' with z' | ⟨-, z' | z'⟩
    · rw [z', a1] at h1; exact absurd h1 (by decide)
    · rw [z'] at h1; exact absurd h1 (by decide)
    · rw [z'] at h1; exact absurd h1 (by decide))
  -- entries
  have hne : ∀ e ∈ E, e ≠ nx σ := fun e he => by have := (a6 e he).2.1; omega
  have hem : ∀ e ∈ E, e ≠ mp := fun e he z => by have := (a6 e he).1.1; rw [z, a1] at this; exact absurd this (by decide)
  have he8 : ∀ e ∈ E, kd σ e ≠ 108 := fun e he => by rw [(a6 e he).1.1]; decide
  have ef : ∀ e ∈ E, ∀ j, j ≠ 3 → j ≠ 4 → j ≠ 5 → ld σ3 e j = ld σ e j := fun e he j h3 h4 h5 => by
    rw [o3 e j (hem e he), o2 e j (hne e he) (hem e he) (Or.inl (he8 e he)) (Or.inr (Or.inr ⟨h3, h4, h5⟩))]
  have hWE : ∀ e ∈ E, udW W (nx σ) l e = W e := fun e he => if_neg (hne e he)
  have hWe : udW W (nx σ) l (nx σ) = l := if_pos rfl
  have hfil : ∀ b', E.filter (bkt (udW W (nx σ) l) b') = E.filter (bkt W b') := fun b' => by
    refine List.filter_congr fun e he => ?_
    unfold bkt; rw [hWE e he]
  have tn : t ≠ nx σ := by omega
  have hchains : ∀ b', 0 ≤ b' → b' < 16 → Chn σ3 (ld σ3 t b') ((E ++ [nx σ]).filter (bkt (udW W (nx σ) l) b')) := fun b' hb1 hb2 => by
    rw [List.filter_append, hfil]
    have hkd : ∀ a ∈ E.filter (bkt W b'), kd σ3 a = kd σ a := fun a ha => by rw [k3, k2 a (hne a (List.mem_filter.mp ha).1)]
    have e33 : kd σ3 (nx σ) = 33 := by rw [k3]; exact k2e
    have e03 : ld σ3 (nx σ) 3 = 0 := by rw [o3 _ _ (by omega), e2]; exact n8
    have e1a : ∀ a, a ∈ E → ld σ1 a 3 = ld σ a 3 := fun a ha => n9 a 3 (hne a ha) (hem a ha) (Or.inr (Or.inr ⟨by decide, by decide⟩))
    by_cases cb : b' = b
    · subst cb
      have hlast : [nx σ].filter (bkt (udW W (nx σ) l) b') = [nx σ] := by
        rw [List.filter_cons, if_pos]
        · rfl
        · unfold bkt; rw [hWe, hb]; exact decide_eq_true rfl
      rw [hlast]
      rcases h2 with ⟨w1, w2⟩ | ⟨q, hq, w2⟩
      · rw [w1]
        have et : ld σ3 t b' = nx σ := by rw [o3 t b' tm, w2, ld_wr, if_pos ⟨rfl, rfl⟩]
        rw [et]
        exact ⟨rfl, by omega, e33, e03⟩
      · have hqE := (qE q hq).1
        have kq := (a6 q hqE).1.1
        have tq : t ≠ q := fun z => by rw [z, kq] at z2; exact absurd z2 (by decide)
        have et : ld σ3 t b' = ld σ t b' := by
          rw [o3 t b' tm, w2, ld_wr, if_neg (fun z => tq z.1)]
          exact n9 t b' tn tm (Or.inl (by rw [z2]; decide))
        rw [et]
        refine (z6 b' hb1 hb2).snoc ⟨by omega, e33, e03⟩ hq (a10.filter _) (fun a ha => ⟨hkd a ha, fun haq => ?_⟩) ?_
        · have haE := (List.mem_filter.mp ha).1
          rw [o3 a 3 (hem a haE), w2, ld_wr, if_neg (fun z => haq z.1)]
          exact e1a a haE
        · rw [o3 q 3 (hem q hqE), w2, ld_wr, if_pos ⟨rfl, rfl⟩]
    · have hlast : [nx σ].filter (bkt (udW W (nx σ) l) b') = [] := by
        rw [List.filter_cons, if_neg]
        · rfl
        · unfold bkt; rw [hWe, hb]
          intro z
          exact cb (of_decide_eq_true z).symm
      rw [hlast, List.append_nil]
      have et : ld σ3 t b' = ld σ t b' := by
        rw [o3 t b' tm]
        rcases h2 with ⟨w1, w2⟩ | ⟨q, hq, w2⟩
        · rw [w2, ld_wr, if_neg (fun z => cb z.2)]
          exact n9 t b' tn tm (Or.inl (by rw [z2]; decide))
        · have kq := (a6 q (qE q hq).1).1.1
          have tq : t ≠ q := fun z => by rw [z, kq] at z2; exact absurd z2 (by decide)
          rw [w2, ld_wr, if_neg (fun z => tq z.1)]
          exact n9 t b' tn tm (Or.inl (by rw [z2]; decide))
      rw [et]
      refine (z6 b' hb1 hb2).congr fun a ha => ⟨hkd a ha, ?_⟩
      have haE := (List.mem_filter.mp ha).1
      rw [o3 a 3 (hem a haE)]
      rcases h2 with ⟨w1, w2⟩ | ⟨q, hq, w2⟩
      · rw [w2, ld_wr, if_neg (fun z => he8 a haE (by rw [z.1]; exact z2))]; exact e1a a haE
      · have hqb := (qE q hq).2
        have hab := (List.mem_filter.mp ha).2
        have : a ≠ q := fun z => by
          rw [z] at hab
          unfold bkt at hqb hab
          exact cb ((of_decide_eq_true hab).symm.trans (of_decide_eq_true hqb))
        rw [w2, ld_wr, if_neg (fun z => this z.1)]; exact e1a a haE
  have hs3 : StrH σ3 s l := str3 s l hs hsn
  have hMp : MpOk σ3 mp (E ++ [nx σ]) (udW W (nx σ) l) := by
    have el : ((E ++ [nx σ]).length : Int) = E.length + 1 := by simp
    refine ⟨km3, by rw [el]; exact m32, ?_, ?_, by simp; omega, fun e he => ?_, by omega, fun i hi => ?_, Or.inr ⟨?_, ?_⟩, ?_, Or.inr ⟨m4, ?_, ?_, ?_, ?_, fun b' hb1 hb2 => ?_⟩⟩
    · rw [m3 10 (by decide) (by decide), n10 10 (by decide) (by decide)]; exact a3
    · rw [m3 11 (by decide) (by decide), n10 11 (by decide) (by decide)]; exact a4
    · rcases List.mem_append.mp he with he | he
      · obtain ⟨⟨q1, q2, q3, q4, q5⟩, q6, q7, q8⟩ := a6 e he
        have ee1 : ld σ3 e 1 = ld σ e 1 := ef e he 1 (by decide) (by decide) (by decide)
        rw [hWE e he]
        refine ⟨⟨by rw [k3, k2 e (hne e he)]; exact q1, ?_, ?_, ?_, q5⟩, by omega, ?_, q8⟩
        · rw [ee1]; exact str3 _ _ q2 q7
        · rw [ee1]; exact q3
        · rw [ef e he 0 (by decide) (by decide) (by decide)]; exact q4
        · rw [ee1]; omega
      · rw [List.mem_singleton] at he
        subst he
        have ee1 : ld σ3 (nx σ) 1 = s := by rw [o3 _ _ (by omega), e2]; exact n6
        rw [hWe]
        refine ⟨⟨by rw [k3]; exact k2e, by rw [ee1]; exact hs3, by rw [ee1]; exact h0, ?_, hl⟩, by omega, by rw [ee1]; omega, by omega, by omega⟩
        rw [o3 _ _ (by omega), e2]; exact n5
    · have hi' : i < E.length + 1 := by simpa using hi
      rw [getD_snoc hi']
      by_cases c : i = E.length
      · rw [if_pos c, o3 _ _ (by omega), e2, n7]; omega
      · rw [if_neg c]
        have hm : E.getD i 0 ∈ E := by
          rw [List.getD_eq_getElem?_getD, List.getElem?_eq_getElem (by omega)]; exact List.getElem_mem _
        rw [ef _ hm 2 (by decide) (by decide) (by decide)]
        exact a8 i (by omega)
    · rw [m3 9 (by decide) (by decide), n11, k3]; exact k2e
    · rw [m3 9 (by decide) (by decide), n11]; omega
    · rw [List.nodup_append]
      refine ⟨a10, by simp, fun x hx y hy => ?_⟩
      rw [List.mem_singleton] at hy
      rw [hy]; exact hne x hx
    all_goals rw [m3 0 (by decide) (by decide), n10 0 (by decide) (by decide), z0]
    · rw [k3, k2 t tn]; exact z2
    · rw [l3, l2 t tn]; exact z3
    · omega
    · exact z5
    · exact hchains b' hb1 hb2
  refine wp_pos (by rw [m4]; omega) ?_
  unfold f_J33_putVal_292 f_J34_afterNodeInsertion f_J34_removeEldestEntry
  refine wp_gd km3 (wp_c0 (wp_neg (by decide) (wp_gd km3 (wp_nm0 (wp_ite (fun _ => wp_ok (wp_ok ⟨hMp, hs3, x3, u3, F3⟩)) fun _ => wp_gd km3 (wp_c1e rfl (wp_pos rfl (wp_ok (wp_ok ⟨hMp, hs3, x3, u3, F3⟩)))))))))
end PUT
