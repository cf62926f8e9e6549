/-! THE CALLS OF THE LAW on the component: the graph's other calls -/
set_option maxRecDepth 100000
theorem cnt_filter {P : Int → Bool} {f : Int → Nat} (h : ∀ e, f e = if P e = true then 1 else 0) : ∀ {n : Nat}, ((nums n).filter P).length = sm f n
  | 0 => rfl
  | n + 1 => by
    rw [nums_succ, List.filter_append, List.length_append, cnt_filter h]
    show _ = sm f n + f n
    rw [h, List.filter_cons]
    by_cases c : P (n : Int) = true
    · rw [if_pos c, if_pos c]; rfl
    · rw [if_neg c, if_neg c]; rfl
theorem len_out {G : Gr} {v : Int} : (outL G v).length = dgO G v := cnt_filter fun e => by
  by_cases c : gt G e ≠ -1 ∧ gf G e = v
  · rw [if_pos c, if_pos (decide_eq_true c)]
  · rw [if_neg c, if_neg (fun z => c (of_decide_eq_true z))]
theorem len_in {G : Gr} {v : Int} : (inL G v).length = dgI G v := cnt_filter fun e => by
  by_cases c : gt G e ≠ -1 ∧ go G e = v
  · rw [if_pos c, if_pos (decide_eq_true c)]
  · rw [if_neg c, if_neg (fun z => c (of_decide_eq_true z))]
section LAWG
variable {σ σ' y : AS} {Ow : F1} {TH : Int → Prop} {ty fr too no ed : F1} {fm : Int → F1} {mc c1 c2 c3 v : Int} {G : Gr} {L : List Int}
theorem num_list {o t1 t2 : Int} {P : Int → Prop} {M : List Int} (h : NumAt σ Ow o t1 t2 P) (hM : M.Pairwise (· < ·)) (hm : ∀ e, e ∈ M ↔ P e) : NumOk σ o M := by
  obtain ⟨_, _, _, _, _, _, _, L, a1, a2, a3⟩ := h
  have : L = M := by
    refine List.Perm.eq_of_pairwise (le := fun a b : Int => a < b) (fun a b _ _ h1 h2 => absurd h2 (by omega)) a2 hM ?_
    refine (List.perm_ext_iff_of_nodup (a2.imp fun {a b} q e => by omega) (hM.imp fun {a b} q e => by omega)).mpr fun x => ?_
    rw [a3, hm]
  rw [← this]
  exact a1
/-- a node's numbers -/
theorem num_at (h : GI σ Ow TH fm no ed ty fr too mc c1 c2 c3) (hk : LK σ ty fr too (no, ed, fm) G) (hG : okG G) (hv : nodeAt G v) : kd σ (no v) = 4 ∧ TH (no v) ∧ NumOk σ (ld σ (no v) 2) (outL G v) ∧ NumOk σ (ld σ (no v) 3) (inL G v) := by
  have nv : no v ≠ 0 := (hk.1 v).mpr hv.2.2
  obtain ⟨v1, v2, v3, v4⟩ := h.2.2.2.2.2.2.1 v nv
  have hth := h.2.2.2.2.2.2.2.2.2.2.2 _ v3
  have nums := (hth.2.2.2.2.2.2.2.2.resolve_left (fun z => by omega)).2
  have a9 := h.2.2.2.2.2.2.2.2.1
  refine ⟨v4, v3, num_list nums.1 ?_ fun e => ?_, num_list nums.2 ?_ fun e => ?_⟩
  · exact nums_rise.filter _
  · rw [mem_outL]
    constructor
    · rintro ⟨_, q1, q2⟩
      have z := (hk.2.1 e).mpr q1
      have b := (hk.2.2.2 e z).1.2.1
      refine ⟨z, ?_⟩
      rw [show fr (ed e) = v from b.trans q2]
    · rintro ⟨q1, q2⟩
      have b := (hk.2.2.2 e q1).1.2.1
      have q3 := (hk.2.1 e).mp q1
      have q4 := hG.2.1 e q3
      exact ⟨⟨q4.1, q4.2.1⟩, q3, b.symm.trans (a9 v _ nv q2.symm).symm⟩
  · exact nums_rise.filter _
  · rw [mem_inL]
    constructor
    · rintro ⟨_, q1, q2⟩
      have z := (hk.2.1 e).mpr q1
      have b := (hk.2.2.2 e z).1.2.2
      refine ⟨z, ?_⟩
      rw [show too (ed e) = v from b.trans q2]
    · rintro ⟨q1, q2⟩
      have b := (hk.2.2.2 e q1).1.2.2
      have q3 := (hk.2.1 e).mp q1
      have q4 := hG.2.1 e q3
      exact ⟨⟨q4.1, q4.2.1⟩, q3, b.symm.trans (a9 v _ nv q2.symm).symm⟩
theorem nodeOf_G (h : GI σ Ow TH fm no ed ty fr too mc c1 c2 c3) (hs : StkOk σ Ow L) (hk : LK σ ty fr too (no, ed, fm) G) (hG : okG G) : f_X1_nodeOf 1000 v σ = if isN G v = true then some (.inr (no v), σ) else some (.inl 1, al σ 0 0 6) := by
  rw [nodeOf_eq h hs]
  by_cases c : no v = 0
  · rw [if_pos c, if_neg (fun z => (hk.1 v).mpr (isN_iff.mp z).2.2 c)]
  · have b := hG.1 v ((hk.1 v).mp c)
    rw [if_neg c, if_pos (isN_iff.mpr ⟨b.1, b.2.1, (hk.1 v).mp c⟩)]
theorem edgeOf_G (h : GI σ Ow TH fm no ed ty fr too mc c1 c2 c3) (hs : StkOk σ Ow L) (hk : LK σ ty fr too (no, ed, fm) G) (hG : okG G) : f_X1_edgeOf 1000 v σ = if isE G v = true then some (.inr (ed v), σ) else some (.inl 1, al σ 0 0 6) := by
  rw [edgeOf_eq h hs]
  by_cases c : ed v = 0
  · rw [if_pos c, if_neg (fun z => (hk.2.1 v).mpr (isE_iff.mp z).2.2 c)]
  · have b := hG.2.1 v ((hk.2.1 v).mp c)
    rw [if_neg c, if_pos (isE_iff.mpr ⟨b.1, b.2.1, (hk.2.1 v).mp c⟩)]
theorem thing_G (h : GI σ Ow TH fm no ed ty fr too mc c1 c2 c3) (hs : StkOk σ Ow L) (hk : LK σ ty fr too (no, ed, fm) G) (hG : okG G) {a : Int} : f_X1_thing 1000 a v σ = if isTh G a v = true then some (.inr (if a = 0 then no v else ed v), σ) else some (.inl 1, al σ 0 0 6) := by
  unfold f_X1_thing isTh
  by_cases c : a = 0
  · rw [if_pos c, if_pos c, if_pos c, gd_pos hs.1, nodeOf_G h hs hk hG]
    by_cases z : isN G v = true
    · rw [if_pos z]; rfl
    · rw [if_neg z]; rfl
  · rw [if_neg c, if_neg c, if_neg c, gd_pos hs.1, edgeOf_G h hs hk hG]
    by_cases z : isE G v = true
    · rw [if_pos z]; rfl
    · rw [if_neg z]; rfl
end LAWG
section LAWH
variable {σ y : AS} {k : Nat} {l : List Ch} {m : Int}
theorem ansV_throw {c : Int} {e : Nat} (h : CX σ k l m) : AnsV σ k l m (c, 0, []) (c, al (al σ e 0 6) 0 0 0) := by
  refine ⟨rfl, ?_, ?_, ?_, ?_⟩
  · rw [List.append_nil]
    exact ((h.al (by decide)).al (by decide)).mono (by omega)
  · exact (Fr.al (by decide)).trans (Fr.al (by decide))
  · rw [nx_al, nx_al]; omega
  · rw [us_al, us_al]; omega
/-- an answer that leaves all as it was -/
theorem ans_see {v : Int} (h : CX σ k l m) : Ans σ k l m (0, v, []) (0, wr σ 1053 0 v) := by
  refine ans_ok (cs := []) ?_ h.nx Fr.rf (by omega) (by omega)
  rw [List.append_nil]
  exact h.mono (by omega)
theorem X0_edge_law {n : Nat} {a b t : Int} (hn : 1000000 ≤ n) (h : CX σ k l m) (ho : Out σ) (hl : l.length ≤ 63) : Wp (f_X0_edge n 1000 a b t 1053 σ) (Ans σ k l m (sEdge (run l) a b t)) := by
  have hx := h.nx
  have h' := h
  obtain ⟨Ow, TH, ty, fr, too, mc, L, S, h1, h2, h3⟩ := h'
  obtain ⟨-, -, -, -, -, -, hLK, hG, -⟩ := h1.low (by omega)
  unfold f_X0_edge sEdge
  refine wp_gd h.k0 ?_
  have hN : ∀ v, f_X1_nodeOf 1000 v σ = if isN (run l) v = true then some (.inr (S.1 v), σ) else some (.inl 1, al σ 0 0 6) := fun v => nodeOf_G h1.1 h1.2.1 hLK hG
  by_cases ca : isN (run l) a = true
  · by_cases cb : isN (run l) b = true
    · rw [if_pos ⟨ca, cb⟩]
      by_cases c : isS t = true
      · rw [if_pos c]
        refine wp_cy_inr (wp_mono (h1.edge hn hl (isN_iff.mp ca) (isN_iff.mp cb) (isS_iff.mp c)) fun y hq => ⟨_, hq.1, ?_⟩)
        obtain ⟨h5, h6, h7, h8⟩ := hq.2.cx h2 h3
        refine wp_gd (out_at ho hx h6) ?_
        exact wp_nm0 (wp_ok (ans_ok h5 hx h6 (by omega) (by omega)))
      · rw [if_neg c]
        refine wp_cy_inl (E := 2) (s := al σ 0 0 6) ?_ ?_
        · unfold f_X1_edge
          rw [gd_pos h.k0, hN, if_pos ca, cx_inr, gd_pos h.k0, hN, if_pos cb, cx_inr, isNumber_eq, if_neg c, c1_at]
          unfold f_X1_need
          rw [if_pos rfl]
          rfl
        · exact wp_neg (by decide) (wp_pos rfl (wp_nm0 (wp_nm0 (wp_ok (ans_throw h (by decide))))))
    · rw [if_neg (fun z => cb z.2)]
      refine wp_cy_inl (E := 1) (s := al σ 0 0 6) ?_ ?_
      · unfold f_X1_edge
        rw [gd_pos h.k0, hN, if_pos ca, cx_inr, gd_pos h.k0, hN, if_neg cb]
        rfl
      · exact wp_pos rfl (wp_nm0 (wp_nm0 (wp_ok (ans_throw h (by decide)))))
  · rw [if_neg (fun z => ca z.1)]
    refine wp_cy_inl (E := 1) (s := al σ 0 0 6) ?_ ?_
    · unfold f_X1_edge
      rw [gd_pos h.k0, hN, if_neg ca]
      rfl
    · exact wp_pos rfl (wp_nm0 (wp_nm0 (wp_ok (ans_throw h (by decide)))))
theorem X0_dropNode_law {n : Nat} {v : Int} (hn : 1000000 ≤ n) (h : CX σ k l m) (hl : l.length ≤ 63) : Wp (f_X0_dropNode n 1000 v σ) (AnsV σ k l m (sDropN (run l) v)) := by
  have hx := h.nx
  have h' := h
  obtain ⟨Ow, TH, ty, fr, too, mc, L, S, h1, h2, h3⟩ := h'
  obtain ⟨-, -, -, -, -, -, hLK, hG, -⟩ := h1.low (by omega)
  unfold f_X0_dropNode sDropN
  refine wp_gd h.k0 ?_
  have hN : ∀ v, f_X1_nodeOf 1000 v σ = if isN (run l) v = true then some (.inr (S.1 v), σ) else some (.inl 1, al σ 0 0 6) := fun v => nodeOf_G h1.1 h1.2.1 hLK hG
  by_cases c : isN (run l) v = true
  · rw [if_pos c]
    have hv := isN_iff.mp c
    by_cases cd : dgO (run l) v + dgI (run l) v = 0
    · rw [if_pos cd]
      have hfree : ∀ e, gt (run l) e ≠ -1 → gf (run l) e ≠ v ∧ go (run l) e ≠ v := fun e he => by
        have b := hG.2.1 e he
        rw [← len_out, ← len_in] at cd
        have z1 : outL (run l) v = [] := List.length_eq_zero_iff.mp (by omega)
        have z2 : inL (run l) v = [] := List.length_eq_zero_iff.mp (by omega)
        refine ⟨fun z => ?_, fun z => ?_⟩
        · have := mem_outL.mpr ⟨⟨b.1, b.2.1⟩, he, z⟩
          rw [z1] at this
          exact absurd this List.not_mem_nil
        · have := mem_inL.mpr ⟨⟨b.1, b.2.1⟩, he, z⟩
          rw [z2] at this
          exact absurd this List.not_mem_nil
      refine wp_cy_inr (wp_mono (h1.dropN hn hl hv hfree) fun y hq => ⟨_, hq.1, ?_⟩)
      obtain ⟨h5, h6, h7, h8⟩ := hq.2.cx h2 h3
      exact wp_ok ⟨rfl, h5, h6.sub fun r _ z => Or.inl z, by show nx y.2 ≤ _; omega, by show us y.2 ≤ _; omega⟩
    · rw [if_neg cd]
      refine wp_cy_inl (E := 4) (s := al σ 0 0 6) ?_ ?_
      · obtain ⟨n1, n2, n3, n4⟩ := num_at h1.1 hLK hG hv
        unfold f_X1_dropNode
        have e3 := n3.2.2.1
        have e4 := n4.2.2.1
        rw [len_out] at e3
        rw [len_in] at e4
        have b1 := sm_le (f := fun e => if gt (run l) e ≠ -1 ∧ gf (run l) e = v then 1 else 0) (fun e => by by_cases c : gt (run l) e ≠ -1 ∧ gf (run l) e = v <;> simp [c]) (n := 1000)
        have b2 := sm_le (f := fun e => if gt (run l) e ≠ -1 ∧ go (run l) e = v then 1 else 0) (fun e => by by_cases c : gt (run l) e ≠ -1 ∧ go (run l) e = v <;> simp [c]) (n := 1000)
        change dgO (run l) v ≤ 1000 at b1
        change dgI (run l) v ≤ 1000 at b2
        rw [gd_pos h.k0, hN, if_pos c, cx_inr, gd_pos n1, gd_pos n3.1, gd_pos n1, gd_pos n4.1, e3, e4, gI_pos (by omega), if_neg (by omega)]
      · exact wp_neg (by decide) (wp_pos rfl (wp_nm0 (wp_nm0 (wp_ok (ansV_throw h)))))
  · rw [if_neg c]
    refine wp_cy_inl (E := 1) (s := al σ 0 0 6) ?_ ?_
    · unfold f_X1_dropNode
      rw [gd_pos h.k0, hN, if_neg c]
      rfl
    · exact wp_pos rfl (wp_nm0 (wp_nm0 (wp_ok (ansV_throw h))))
theorem X0_dropEdge_law {n : Nat} {v : Int} (hn : 1000000 ≤ n) (h : CX σ k l m) (hl : l.length ≤ 63) : Wp (f_X0_dropEdge n 1000 v σ) (AnsV σ k l m (sDropE (run l) v)) := by
  have hx := h.nx
  have h' := h
  obtain ⟨Ow, TH, ty, fr, too, mc, L, S, h1, h2, h3⟩ := h'
  obtain ⟨-, -, -, -, -, -, hLK, hG, -⟩ := h1.low (by omega)
  unfold f_X0_dropEdge sDropE
  refine wp_gd h.k0 ?_
  by_cases c : isE (run l) v = true
  · rw [if_pos c]
    refine wp_cy_inr (wp_mono (h1.dropE hn hl (isE_iff.mp c)) fun y hq => ⟨_, hq.1, ?_⟩)
    obtain ⟨h5, h6, h7, h8⟩ := hq.2.cx h2 h3
    exact wp_ok ⟨rfl, h5, h6.sub fun r _ z => Or.inl z, by show nx y.2 ≤ _; omega, by show us y.2 ≤ _; omega⟩
  · rw [if_neg c]
    refine wp_cy_inl (E := 1) (s := al σ 0 0 6) ?_ ?_
    · unfold f_X1_dropEdge
      rw [gd_pos h.k0, edgeOf_G h1.1 h1.2.1 hLK hG, if_neg c]
      rfl
    · exact wp_pos rfl (wp_nm0 (wp_nm0 (wp_ok (ansV_throw h))))
/-- all but the property's own work of put, remove, has, get -/
theorem X0_put_law {n : Nat} {a b key d : Int} (hn : 1000000 ≤ n) (h : CX σ k l m) (ho : Out σ) (hl : l.length ≤ 63) (hm : m ≤ 90000) (ha : a = 0 ∨ a = 1) (hd : -2147483648 ≤ d ∧ d ≤ 2147483647) : Wp (f_X0_put n 1000 a b key d 1053 σ) (Ans σ k l m (sPut (run l) a b key d)) := by
  have hx := h.nx
  have h' := h
  obtain ⟨Ow, TH, ty, fr, too, mc, L, S, h1, h2, h3⟩ := h'
  obtain ⟨-, -, -, -, -, -, hLK, hG, -⟩ := h1.low (by omega)
  have hT := thing_G (v := b) (a := a) h1.1 h1.2.1 hLK hG
  unfold f_X0_put sPut
  refine wp_gd h.k0 ?_
  by_cases c : isTh (run l) a b = true
  · rw [if_pos c]
    by_cases ck : isS key = true
    · rw [if_pos ck]
      refine wp_cy_inr (wp_mono (h1.put hn hl (by omega) ha ((isTh_iff ha).mp c) (isS_iff.mp ck) hd) fun y hq => ⟨_, hq.1, ?_⟩)
      obtain ⟨h5, h6, h7, h8⟩ := hq.2.cx h2 h3
      by_cases z : lk a b key (gp (run l)) = none
      · rw [if_pos z]
        exact wp_pos rfl (wp_gd (out_at ho hx h6) (wp_nm0 (wp_ok (ans_ok h5 hx h6 (by omega) (by omega)))))
      · rw [if_neg z]
        exact wp_neg (by decide) (wp_gd (out_at ho hx h6) (wp_nm0 (wp_ok (ans_ok h5 hx h6 (by omega) (by omega)))))
    · rw [if_neg ck]
      refine wp_cy_inl (E := 2) (s := al σ 0 0 6) ?_ ?_
      · unfold f_X1_put
        rw [gd_pos h.k0, hT, if_pos c, cx_inr, isNumber_eq, if_neg ck, c1_at]
        unfold f_X1_need
        rw [if_pos rfl]
        rfl
      · exact wp_neg (by decide) (wp_pos rfl (wp_nm0 (wp_nm0 (wp_ok (ans_throw h (by decide))))))
  · rw [if_neg c]
    refine wp_cy_inl (E := 1) (s := al σ 0 0 6) ?_ ?_
    · unfold f_X1_put
      rw [gd_pos h.k0, hT, if_neg c]
      rfl
    · exact wp_pos rfl (wp_nm0 (wp_nm0 (wp_ok (ans_throw h (by decide)))))
theorem X0_remove_law {n : Nat} {a b key : Int} (hn : 1000000 ≤ n) (h : CX σ k l m) (ho : Out σ) (hl : l.length ≤ 63) (hm : m ≤ 90000) (ha : a = 0 ∨ a = 1) : Wp (f_X0_remove n 1000 a b key 1053 σ) (Ans σ k l m (sRem (run l) a b key)) := by
  have hx := h.nx
  have h' := h
  obtain ⟨Ow, TH, ty, fr, too, mc, L, S, h1, h2, h3⟩ := h'
  obtain ⟨-, -, -, -, -, -, hLK, hG, -⟩ := h1.low (by omega)
  have hT := thing_G (v := b) (a := a) h1.1 h1.2.1 hLK hG
  unfold f_X0_remove sRem
  refine wp_gd h.k0 ?_
  by_cases c : isTh (run l) a b = true
  · rw [if_pos c]
    by_cases ck : isS key = true
    · rw [if_pos ck]
      have hr := h1.rem hn hl (by omega) ha ((isTh_iff ha).mp c) (isS_iff.mp ck)
      by_cases z : lk a b key (gp (run l)) = none
      · rw [if_pos z]
        refine wp_cy_inr (wp_mono hr fun y hq => ?_)
        rw [if_pos z] at hq
        rw [hq]
        exact ⟨0, rfl, wp_pos rfl (wp_gd (out_at ho hx Fr.rf) (wp_nm0 (wp_ok (ans_see h))))⟩
      · rw [if_neg z]
        refine wp_cy_inr (wp_mono hr fun y hq => ?_)
        rw [if_neg z] at hq
        obtain ⟨h5, h6, h7, h8⟩ := hq.2.cx h2 h3
        exact ⟨1, hq.1, wp_neg (by decide) (wp_gd (out_at ho hx h6) (wp_nm0 (wp_ok (ans_ok h5 hx h6 (by omega) (by omega)))))⟩
    · rw [if_neg ck]
      refine wp_cy_inl (E := 2) (s := al σ 0 0 6) ?_ ?_
      · unfold f_X1_remove
        rw [gd_pos h.k0, hT, if_pos c, cx_inr, isNumber_eq, if_neg ck, c1_at]
        unfold f_X1_need
        rw [if_pos rfl]
        rfl
      · exact wp_neg (by decide) (wp_pos rfl (wp_nm0 (wp_nm0 (wp_ok (ans_throw h (by decide))))))
  · rw [if_neg c]
    refine wp_cy_inl (E := 1) (s := al σ 0 0 6) ?_ ?_
    · unfold f_X1_remove
      rw [gd_pos h.k0, hT, if_neg c]
      rfl
    · exact wp_pos rfl (wp_nm0 (wp_nm0 (wp_ok (ans_throw h (by decide)))))
theorem X0_has_law {n : Nat} {a b key : Int} (hn : 1000000 ≤ n) (h : CX σ k l m) (ho : Out σ) (hl : l.length ≤ 64) (ha : a = 0 ∨ a = 1) : Wp (f_X0_has n 1000 a b key 1053 σ) (Ans σ k l m (sHas (run l) a b key)) := by
  have hx := h.nx
  have h' := h
  obtain ⟨Ow, TH, ty, fr, too, mc, L, ⟨no, ed, fm⟩, h1, h2, h3⟩ := h'
  obtain ⟨-, -, -, -, -, -, hLK, hG, -⟩ := h1.low (by omega)
  have hT := thing_G (v := b) (a := a) h1.1 h1.2.1 hLK hG
  unfold f_X0_has sHas
  refine wp_gd h.k0 ?_
  by_cases c : isTh (run l) a b = true
  · rw [if_pos c]
    by_cases ck : isS key = true
    · rw [if_pos ck]
      obtain ⟨p0, pp, pn, pe, ev⟩ := thing_lk h1.1 hLK ha ((isTh_iff ha).mp c)
      obtain ⟨hth, hkp⟩ := thing_at h1.1 rfl p0
      have hk := isS_iff.mp ck
      have hm := (h1.1.2.2.2.2.2.2.2.2.2.2.2 _ hth).2.2.2.2.2.2.1
      have eV : f_J17_valueOf key σ = some (328 + key, σ) := valueOf_eq h1.1.2.1 (by omega) (by omega)
      have eC := containsKey_eq h1.1.2.1 (n := n) (by omega) hk hm
      refine wp_cy_inr (wp_of_eq (a := (.inr (if lk a b key (gp (run l)) = none then 0 else 1), σ)) ?_ ⟨_, rfl, ?_⟩)
      · unfold f_X1_has
        rw [gd_pos h.k0, hT, if_pos c, cx_inr, isNumber_eq, if_pos ck, c1_at]
        unfold f_X1_need
        rw [if_neg (by decide), cx_inr]
        have e := ev key
        unfold pv at e
        have body : (c1 (f_J17_valueOf key σ) fun v14 σ15 => gd (kd σ15 (ld σ (if a = 0 then no b else ed b) 0) = 26) <| c1 (f_J8_containsKey n (ld σ (if a = 0 then no b else ed b) 0) v14 σ15) fun v18 σ19 => gd (0 ≤ v18 ∧ v18 ≤ 1) <| some ((Sum.inr v18 : Nat ⊕ Int), σ19)) = some (.inr (if lk a b key (gp (run l)) = none then 0 else 1), σ) := by
          rw [eV, c1_at, gd_pos hm.1, eC, c1_at, ← e]
          by_cases z : fm (if a = 0 then no b else ed b) key = 0
          · rw [if_pos z, if_pos z, if_pos rfl, gd_pos (by decide)]
          · rw [if_neg z, if_neg z, if_neg (fun w => by cases w), gd_pos (by decide)]
        rcases hkp with q | q
        · rw [if_pos q]; exact body
        · rw [if_neg (by omega), gd_pos q]; exact body
      · by_cases z : lk a b key (gp (run l)) = none
        · rw [if_pos z]
          exact wp_pos rfl (wp_gd (out_at ho hx Fr.rf) (wp_nm0 (wp_ok (ans_see h))))
        · rw [if_neg z]
          exact wp_neg (by decide) (wp_gd (out_at ho hx Fr.rf) (wp_nm0 (wp_ok (ans_see h))))
    · rw [if_neg ck]
      refine wp_cy_inl (E := 2) (s := al σ 0 0 6) ?_ ?_
      · unfold f_X1_has
        rw [gd_pos h.k0, hT, if_pos c, cx_inr, isNumber_eq, if_neg ck, c1_at]
        unfold f_X1_need
        rw [if_pos rfl]
        rfl
      · exact wp_neg (by decide) (wp_pos rfl (wp_nm0 (wp_nm0 (wp_ok (ans_throw h (by decide))))))
  · rw [if_neg c]
    refine wp_cy_inl (E := 1) (s := al σ 0 0 6) ?_ ?_
    · unfold f_X1_has
      rw [gd_pos h.k0, hT, if_neg c]
      rfl
    · exact wp_pos rfl (wp_nm0 (wp_nm0 (wp_ok (ans_throw h (by decide)))))
theorem X0_get_law {n : Nat} {a b key : Int} (hn : 1000000 ≤ n) (h : CX σ k l m) (ho : Out σ) (hl : l.length ≤ 64) (ha : a = 0 ∨ a = 1) : Wp (f_X0_get n 1000 a b key 1053 σ) (Ans σ k l m (sGet (run l) a b key)) := by
  have hx := h.nx
  have h' := h
  obtain ⟨Ow, TH, ty, fr, too, mc, L, ⟨no, ed, fm⟩, h1, h2, h3⟩ := h'
  obtain ⟨-, -, -, -, -, -, hLK, hG, -⟩ := h1.low (by omega)
  have hT := thing_G (v := b) (a := a) h1.1 h1.2.1 hLK hG
  unfold f_X0_get sGet
  refine wp_gd h.k0 ?_
  by_cases c : isTh (run l) a b = true
  · rw [if_pos c]
    by_cases ck : isS key = true
    · rw [if_pos ck]
      obtain ⟨p0, pp, pn, pe, ev⟩ := thing_lk h1.1 hLK ha ((isTh_iff ha).mp c)
      obtain ⟨hth, hkp⟩ := thing_at h1.1 rfl p0
      have hk := isS_iff.mp ck
      have hT' := h1.1.2.2.2.2.2.2.2.2.2.2.2 _ hth
      have hm := hT'.2.2.2.2.2.2.1
      have hb := hT'.2.2.2.2.2.2.2.1 key
      have eV : f_J17_valueOf key σ = some (328 + key, σ) := valueOf_eq h1.1.2.1 (by omega) (by omega)
      have eC := mapGet_eq h1.1.2.1 (n := n) (by omega) hk hm
      refine wp_cy_inr (wp_of_eq (a := (.inr ((lk a b key (gp (run l))).getD 0), σ)) ?_ ⟨_, rfl, ?_⟩)
      · unfold f_X1_get
        rw [gd_pos h.k0, hT, if_pos c, cx_inr, isNumber_eq, if_pos ck, c1_at]
        unfold f_X1_need
        rw [if_neg (by decide), cx_inr]
        have e := ev key
        unfold pv at e
        change ∀ (_ : fm (if a = 0 then no b else ed b) key ≠ 0), Box σ Ow (fm (if a = 0 then no b else ed b) key) at hb
        have body : (c1 (f_J17_valueOf key σ) fun v14 σ15 => gd (kd σ15 (ld σ (if a = 0 then no b else ed b) 0) = 26) <| c1 (f_J8_get n (ld σ (if a = 0 then no b else ed b) 0) v14 σ15) fun v18 σ19 => gd (v18 = 0 ∨ kd σ19 v18 = 25 ∨ kd σ19 v18 = 1025) <| if v18 = 0 then (some ((Sum.inr (0 : Int) : Nat ⊕ Int), σ19)) else (gd (kd σ19 v18 = 25 ∨ kd σ19 v18 = 1025) <| c1 (f_J17_intValue v18 σ19) fun v24 σ25 => some (.inr v24, σ25))) = some (.inr ((lk a b key (gp (run l))).getD 0), σ) := by
          rw [eV, c1_at, gd_pos hm.1, eC, c1_at, ← e]
          by_cases z : fm (if a = 0 then no b else ed b) key = 0
          · rw [if_pos z, gd_pos (Or.inl z), if_pos z]; rfl
          · have hbx := (hb z).2.2.2.1
            rw [if_neg z, gd_pos (Or.inr hbx), if_neg z, gd_pos hbx]
            unfold f_J17_intValue
            rw [gd_pos hbx, c1_at]; rfl
        rcases hkp with q | q
        · rw [if_pos q]; exact body
        · rw [if_neg (by omega), gd_pos q]; exact body
      · exact wp_gd (out_at ho hx Fr.rf) (wp_nm0 (wp_ok (ans_see h)))
    · rw [if_neg ck]
      refine wp_cy_inl (E := 2) (s := al σ 0 0 6) ?_ ?_
      · unfold f_X1_get
        rw [gd_pos h.k0, hT, if_pos c, cx_inr, isNumber_eq, if_neg ck, c1_at]
        unfold f_X1_need
        rw [if_pos rfl]
        rfl
      · exact wp_neg (by decide) (wp_pos rfl (wp_nm0 (wp_nm0 (wp_ok (ans_throw h (by decide))))))
  · rw [if_neg c]
    refine wp_cy_inl (E := 1) (s := al σ 0 0 6) ?_ ?_
    · unfold f_X1_get
      rw [gd_pos h.k0, hT, if_neg c]
      rfl
    · exact wp_pos rfl (wp_nm0 (wp_nm0 (wp_ok (ans_throw h (by decide)))))
end LAWH
