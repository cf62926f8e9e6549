/-! THE MATCHER: all conditions -/
set_option maxRecDepth 100000
/-- a condition as the parser makes it -/
def CnW (c : Cnd) (M : Nat) : Prop := CnOk c M ∧ (c.2.1.1 = -1 → -2147483648 ≤ c.2.1.2.2 ∧ c.2.1.2.2 ≤ 2147483647) ∧ (c.2.2.1 = -1 → -2147483648 ≤ c.2.2.2.2 ∧ c.2.2.2.2 ≤ 2147483647)
section MA
variable {σ σ0 σ1 σ2 σ3 σ' : AS} {n M k : Nat} {l : List Ch} {m N0 r a : Int} {S : PS} {ps : List Part} {cs : List Cnd} {its : List Trm} {os : List Odr} {t : Trm} {c : Cnd} {K : Int → Bool} {env : Int → Int} {G : Gr}
theorem MQs.n4 (h : MQs σ0 σ k l m S K ps cs its os M) : kd σ 1014 = 21 ∧ ld σ 1014 2 = nx σ0 ∧ kd σ (nx σ0) = 12 ∧ (∀ i, 0 ≤ i → i < 7 → ld σ (nx σ0) i = nx σ0 + 1 + i) ∧ LsOk σ (nx σ0) S.2 := by
  obtain ⟨-, -, -, a4, a5, ⟨⟨q1, q2, q3, q4, q5, q6, q7⟩, -⟩⟩ := h
  exact ⟨a4.1.2.2.2.2.2.1, a5.1.2.2.1, q3, q4, q7⟩
theorem EvA.fr (h : EvA σ G K env M) (ho : ∀ r j, r < 1054 → ld σ' r j = ld σ r j) : EvA σ' G K env M := ⟨fun i h0 h1 => (ho _ _ (by decide)).trans (h.1 i h0 h1), h.2⟩
theorem allHold_loop (hn : 1000000 ≤ n) (hW : ∀ i : Nat, i < cs.length → CnW (cs.getD i c0d) M) (h8 : cs.length ≤ 8) : ∀ {d Q i : Nat} {σ : AS}, MQs σ0 σ k l m S K ps cs its os M → EvA σ (run l) K env M → i + d = cs.length → d < Q → Wp (f_X6_allHold_2 n Q 1014 i σ) fun y => y.1 = (if ((cs.drop i).all fun c => !bdC env c || cndB (run l) K env c) = true then 1 else 0) ∧ MFr (nx σ0) σ y.2 ∧ ∀ r j, r < 1054 → ld y.2 r j = ld σ r j
  | 0, Q + 1, i, σ, h, hE, hd, _ => by
    obtain ⟨k14, e2, k0, e7, hL⟩ := h.n4
    have hA := h.2.2.2.2.2.2.2.1.1
    have e4 : ld σ (nx σ0) 4 = lref (nx σ0) 2 := by rw [e7 4 (by decide) (by decide)]; exact lref2
    unfold f_X6_allHold_2
    refine wp_gd k14 ?_
    rw [e2]
    refine wp_gd k0 ?_
    rw [e4]
    refine wp_gd (lsok_kd hL (by decide)) (wp_c1e (hL.size (by decide)) (wp_pos (by omega) (wp_ok ⟨?_, MFr.rf, fun _ _ _ => rfl⟩)))
    rw [List.drop_of_length_le (by omega)]
    rfl
  | d + 1, Q + 1, i, σ, h, hE, hd, hQ => by
    obtain ⟨k14, e2, k0, e7, hL⟩ := h.n4
    obtain ⟨hA1, hA2⟩ := h.2.2.2.2.2.2.2.1
    have e4 : ld σ (nx σ0) 4 = lref (nx σ0) 2 := by rw [e7 4 (by decide) (by decide)]; exact lref2
    have hi : i < cs.length := by omega
    have hc := hA2 i hi
    obtain ⟨w1, w2, w3⟩ := hW i hi
    have hdr : (cs.drop i).all (fun c => !bdC env c || cndB (run l) K env c) = ((!bdC env (cs.getD i c0d) || cndB (run l) K env (cs.getD i c0d)) && (cs.drop (i + 1)).all fun c => !bdC env c || cndB (run l) K env c) := by
      rw [List.drop_eq_getElem_cons hi, List.all_cons, List.getD_eq_getElem?_getD, List.getElem?_eq_getElem hi]
      rfl
    have hget := hL.get (i := 2) (by decide) (j := i) (by omega)
    rw [Int.toNat_natCast] at hget
    generalize hr : (S.2 2).getD i 0 = r at *
    generalize hcc : cs.getD i c0d = c at *
    rw [hdr]
    have e1 : (i : Int) + 1 = ((i + 1 : Nat) : Int) := by omega
    have ih := fun (σ' : AS) (h' : MQs σ0 σ' k l m S K ps cs its os M) (hE' : EvA σ' (run l) K env M) => allHold_loop (d := d) (Q := Q) (i := i + 1) (σ := σ') hn hW h8 h' hE' (by omega) (by omega)
    have on : ∀ σ' : AS, MFr (nx σ0) σ σ' → (∀ r j, r < 1054 → ld σ' r j = ld σ r j) → (!bdC env c || cndB (run l) K env c) = true → Wp (f_X6_allHold_63 n (f_X6_allHold_2 n Q) 1014 i σ') fun y => y.1 = (if ((!bdC env c || cndB (run l) K env c) && (cs.drop (i + 1)).all fun c => !bdC env c || cndB (run l) K env c) = true then 1 else 0) ∧ MFr (nx σ0) σ y.2 ∧ ∀ r j, r < 1054 → ld y.2 r j = ld σ r j := fun σ' F' o' hb => by
      unfold f_X6_allHold_63
      rw [gI_pos (by omega), nm_eq, e1, hb, Bool.true_and]
      refine wp_mono (ih σ' (h.fr F') (hE.fr o')) fun y hy => ⟨hy.1, F'.trans hy.2.1, fun r j hr => (hy.2.2 r j hr).trans (o' r j hr)⟩
    have c15 := hc.1
    have eL : f_X21_left r σ = some (ld σ r 0, σ) := by unfold f_X21_left; rw [gd_pos c15]
    have eR : f_X21_right r σ = some (ld σ r 2, σ) := by unfold f_X21_right; rw [gd_pos c15]
    unfold f_X6_allHold_2
    refine wp_gd k14 ?_
    rw [e2]
    refine wp_gd k0 ?_
    rw [e4]
    refine wp_gd (lsok_kd hL (by decide)) (wp_c1e (hL.size (by decide)) (wp_neg (by omega) (wp_gd k14 ?_)))
    rw [e2]
    refine wp_gd k0 ?_
    rw [e4]
    refine wp_gd (lsok_kd hL (by decide)) (wp_c1e hget (wp_gd (Or.inr c15) (wp_gd c15 (wp_c1e eL (wp_gd k14 (wp_c1e (isBound_eq h hE.1 hc.2.2.1 w1.1) ?_))))))
    by_cases b1 : bdT env c.2.1 = true
    · rw [if_pos b1]
      refine wp_neg (by decide) (wp_gd c15 (wp_c1e eR (wp_gd k14 ?_)))
      have eB2 : f_X6_isBound 1014 (ld σ r 2) σ = some (if bdC env c = true then 1 else 0, σ) := by
        unfold bdC
        rw [b1, Bool.true_and]
        rcases hc.2.2.2.2 with ⟨cc, cr⟩ | ⟨cc, cr, -⟩
        · rw [decide_eq_true cc, Bool.true_or, if_pos rfl, cr]
          unfold f_X6_isBound
          rw [if_pos rfl]
        · rw [decide_eq_false (by omega), Bool.false_or]
          rcases w1.2 with w1 | w1
          · omega
          · exact isBound_eq h hE.1 cr w1.2
      refine wp_c1e eB2 ?_
      by_cases bc : bdC env c = true
      · rw [if_pos bc]
        refine wp_neg (by decide) (wp_gd k14 (wp_c1 (wp_mono (holds_wp hn h hE hc w1 bc w2 w3) fun y hy => ?_)))
        obtain ⟨y1, y2, y3⟩ := hy
        by_cases hh : cndB (run l) K env c = true
        · rw [if_pos hh] at y1
          refine wp_neg (by omega) (on y.2 y2 y3 (by rw [hh, Bool.or_true]))
        · rw [if_neg hh] at y1
          refine wp_pos y1 (wp_ok ⟨?_, y2, y3⟩)
          rw [Bool.not_eq_true] at hh
          rw [bc, hh]
          rfl
      · rw [if_neg bc]
        refine wp_pos rfl (on σ MFr.rf (fun _ _ _ => rfl) ?_)
        rw [Bool.not_eq_true] at bc
        rw [bc]
        rfl
    · rw [if_neg b1]
      refine wp_pos rfl (on σ MFr.rf (fun _ _ _ => rfl) ?_)
      rw [Bool.not_eq_true] at b1
      unfold bdC
      rw [b1]
      rfl
theorem allHold_wp (hn : 1000000 ≤ n) (hW : ∀ i : Nat, i < cs.length → CnW (cs.getD i c0d) M) (h8 : cs.length ≤ 8) (h : MQs σ0 σ k l m S K ps cs its os M) (hE : EvA σ (run l) K env M) : Wp (f_X6_allHold n 1014 σ) fun y => y.1 = (if cH (run l) K cs env = true then 1 else 0) ∧ MFr (nx σ0) σ y.2 ∧ ∀ r j, r < 1054 → ld y.2 r j = ld σ r j := allHold_loop hn hW h8 (d := cs.length) (Q := n) (i := 0) h hE (by omega) (by omega)
end MA
