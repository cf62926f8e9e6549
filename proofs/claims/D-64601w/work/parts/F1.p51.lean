/-! THE TWIN's calls over the graph -/
set_option maxRecDepth 100000
/-- the twin's call answers so -/
def TAns (τ : TT) (k : Nat) (l : List Ch) (a : An) (y : Int × TT) : Prop := y.2 1022 0 = a.1 ∧ (a.1 = 0 → y.1 = a.2.1) ∧ TI y.2 (k + a.2.2.length) (l ++ a.2.2) ∧ GFr τ y.2
def TAnsV (τ : TT) (k : Nat) (l : List Ch) (a : An) (y : TT) : Prop := y 1022 0 = a.1 ∧ TI y (k + a.2.2.length) (l ++ a.2.2) ∧ GFr τ y
theorem nm_eq {α β : Type} {x : α} {k : α → Option β} : nm x k = k x := rfl
section TWD
variable {τ : TT} {n : Nat} {k : Nat} {l : List Ch} {G : Gr}
theorem TI.code {v : Int} (h : TI τ k l) : TI (sa τ 1022 0 v) k l := by
  obtain ⟨h1, h2, h3⟩ := h
  exact ⟨h1.frame (fun r j a b => by rw [sa_at, if_neg (by omega)]) (by rw [sa_at, if_neg (by omega)]), h2.frame (fun j => by rw [sa_at, if_neg (by omega)]) (by rw [sa_at, if_neg (by omega)]) (by rw [sa_at, if_neg (by omega)]), h3⟩
theorem GFr.code {v : Int} : GFr τ (sa τ 1022 0 v) := fun r j a b => by rw [sa_at, if_neg (fun z => b ⟨z.1, Or.inl z.2⟩)]
theorem tans_throw {c v : Int} (h : TI τ k l) (hc : c ≠ 0) : TAns τ k l (c, 0, []) (v, sa τ 1022 0 c) := by
  refine ⟨by show sa τ 1022 0 c 1022 0 = c; rw [sa_at, if_pos ⟨rfl, rfl⟩], fun z => absurd z hc, ?_, GFr.code⟩
  rw [List.append_nil]
  exact h.code
theorem tansV_throw {c : Int} (h : TI τ k l) : TAnsV τ k l (c, 0, []) (sa τ 1022 0 c) := by
  refine ⟨by show sa τ 1022 0 c 1022 0 = c; rw [sa_at, if_pos ⟨rfl, rfl⟩], ?_, GFr.code⟩
  rw [List.append_nil]
  exact h.code
theorem tans_see {v : Int} (h : TI τ k l) : TAns τ k l (0, v, []) (v, sa τ 1022 0 0) := by
  refine ⟨by show sa τ 1022 0 0 1022 0 = 0; rw [sa_at, if_pos ⟨rfl, rfl⟩], fun _ => rfl, ?_, GFr.code⟩
  rw [List.append_nil]
  exact h.code
theorem code_at {v : Int} : sa τ 1022 0 v 1022 0 = v := by rw [sa_at, if_pos ⟨rfl, rfl⟩]
theorem TI.g (h : TI τ k l) : TG τ (run l) := h.1
theorem TI.len (h : TI τ k l) (hl : l.length ≤ 64) : (gp (run l)).length ≤ 400 ∧ ff (gl (run l)) 400 0 ≤ 64 ∧ ff (gt (run l)) 1000 0 ≤ 64 ∧ okG (run l) := by
  have hb := bnd_run (l := l) (by omega)
  have f1 := (bndG_ff (k := 400) hb.1 (by omega)).1
  have f2 := (bndG_ff (k := 1000) hb.2.1 (by omega)).1
  exact ⟨by have := hb.2.2; omega, by omega, by omega, okL_run h.2.2⟩
/-- a change behind the code -/
theorem tchange {c : Ch} (hn : 1000000 ≤ n) (h : TI τ k l) (hc : okC (run l) c) (hl : l.length ≤ 63) : Wp (g_X7_change n 1022 c.1 c.2.1 c.2.2.1 c.2.2.2.1 c.2.2.2.2 (sa τ 1022 0 0)) fun τ' => TI τ' (k + 1) (l ++ [c]) ∧ GFr τ τ' ∧ τ' 1022 0 = 0 :=
  wp_mono (change2_wp hn h.code hc hl) fun τ' hq => ⟨hq.1, GFr.code.trans hq.2.1, hq.2.2.trans code_at⟩
theorem tw_node {a : Int} (hn : 1000000 ≤ n) (h : TI τ k l) (hl : l.length ≤ 63) : Wp (g_X7_node n 1022 a τ) (TAns τ k l (sNode (run l) a)) := by
  obtain ⟨l1, l2, l3, hG⟩ := h.len (by omega)
  unfold g_X7_node sNode
  refine wp_t1e (first_nodes hn h.1) (wp_t1e isSmall_eq ?_)
  by_cases c : isS a = true
  · rw [if_pos c, if_pos c]
    refine wp_neg (by decide) (wp_neg (by omega) ?_)
    unfold g_X7_node_35
    refine wp_nm0 ?_
    rw [code_at]
    refine wp_pos (by decide) (wp_t0 (wp_mono (tchange (c := (0, a, 0, 0, 0)) hn h (Or.inl ⟨rfl, isS_iff.mp c, by omega⟩) hl) fun τ' hq => wp_ok ⟨hq.2.2, fun _ => rfl, hq.1, hq.2.1⟩))
  · rw [if_neg c, if_neg c]
    refine wp_pos rfl ?_
    unfold g_X7_node_35
    refine wp_nm0 ?_
    rw [code_at]
    exact wp_neg (by decide) (wp_ok (tans_throw h (by decide)))
theorem tw_edge {a b t : Int} (hn : 1000000 ≤ n) (h : TI τ k l) (hl : l.length ≤ 63) : Wp (g_X7_edge n 1022 a b t τ) (TAns τ k l (sEdge (run l) a b t)) := by
  obtain ⟨l1, l2, l3, hG⟩ := h.len (by omega)
  have thr : ∀ c : Int, 0 < c → ∀ v, Wp (g_X7_edge_57 n 1022 a b t v 1022 c τ) (TAns τ k l (c, 0, [])) := fun c hc v => by
    unfold g_X7_edge_57
    refine wp_nm0 ?_
    rw [code_at]
    exact wp_neg (by omega) (wp_ok (tans_throw h (by omega)))
  unfold g_X7_edge sEdge
  refine wp_t1e (first_edges hn h.1) (wp_t1e (isNode_eq h.1) ?_)
  by_cases ca : isN (run l) a = true
  · rw [if_pos ca]
    refine wp_neg (by decide) (wp_t1e (isNode_eq h.1) ?_)
    by_cases cb : isN (run l) b = true
    · rw [if_pos cb, if_pos (show isN (run l) a = true ∧ isN (run l) b = true from ⟨ca, cb⟩)]
      refine wp_neg (by decide) (wp_t1e isSmall_eq ?_)
      by_cases c : isS t = true
      · rw [if_pos c, if_pos c]
        refine wp_neg (by decide) (wp_neg (by omega) ?_)
        unfold g_X7_edge_57
        refine wp_nm0 ?_
        rw [code_at]
        refine wp_pos (by decide) (wp_t0 (wp_mono (tchange (c := (1, a, b, t, 0)) hn h (Or.inr (Or.inl ⟨rfl, isN_iff.mp ca, isN_iff.mp cb, isS_iff.mp c, by omega⟩)) hl) fun τ' hq => wp_ok ⟨hq.2.2, fun _ => rfl, hq.1, hq.2.1⟩))
      · rw [if_neg c, if_neg c]
        exact wp_pos rfl (thr 2 (by decide) _)
    · rw [if_neg cb, if_neg (show ¬ (isN (run l) a = true ∧ isN (run l) b = true) from fun z => cb z.2)]
      exact wp_pos rfl (thr 1 (by decide) _)
  · rw [if_neg ca, if_neg (show ¬ (isN (run l) a = true ∧ isN (run l) b = true) from fun z => ca z.1)]
    exact wp_pos rfl (thr 1 (by decide) _)
theorem degree_loop {v t : Int} (h : TG τ G) (N : Nat) (hN : N = 1000) (f : Int → Nat) (hf : ∀ e, f e = if gt G e ≠ -1 ∧ (if t = 0 then gf G e else go G e) = v then 1 else 0) : ∀ (m q j : Nat), m < q → j + m = N → g_X7_degree_5 n q 1022 v t (sm f j : Nat) j τ = some (((sm f N : Nat) : Int), τ) := by
  intro m
  induction m with
  | zero =>
    intro q j hq hj
    obtain ⟨q, rfl⟩ : ∃ z, q = z + 1 := ⟨q - 1, by omega⟩
    have e : j = N := by omega
    unfold g_X7_degree_5
    rw [if_pos (by omega), e]
  | succ m ih =>
    intro q j hq hj
    obtain ⟨q, rfl⟩ : ∃ z, q = z + 1 := ⟨q - 1, by omega⟩
    have hle := sm_le (f := f) (fun x => by rw [hf]; by_cases c : gt G x ≠ -1 ∧ (if t = 0 then gf G x else go G x) = v <;> simp [c]) (n := j)
    have ih' := ih q (j + 1) (by omega) (by omega)
    have es : sm f (j + 1) = sm f j + f j := rfl
    have step : ∀ s1 : Int, s1 = (f j : Nat) → g_X7_degree_55 n (g_X7_degree_5 n q) 1022 v t j (sm f j : Nat) s1 τ = some (((sm f N : Nat) : Int), τ) := fun s1 e => by
      unfold g_X7_degree_55
      have : f j ≤ 1 := by rw [hf]; by_cases c : gt G j ≠ -1 ∧ (if t = 0 then gf G j else go G j) = v <;> simp [c]
      rw [gI_pos (by omega), nm_eq, gI_pos (by omega), nm_eq]
      rw [e, show (((sm f j : Nat) : Int) + ((f j : Nat) : Int)) = ((sm f (j + 1) : Nat) : Int) by rw [es]; omega, show (j : Int) + 1 = ((j + 1 : Nat) : Int) by omega]
      exact ih'
    have none' : g_X7_degree_54 n (g_X7_degree_55 n (g_X7_degree_5 n q)) 1022 v t j (sm f j : Nat) τ = g_X7_degree_55 n (g_X7_degree_5 n q) 1022 v t j (sm f j : Nat) 0 τ := rfl
    unfold g_X7_degree_5
    rw [if_neg (by omega), gd_pos ⟨by omega, by omega⟩, h.2.1 j (by omega) (by omega)]
    by_cases c1 : gt G j = -1
    · rw [if_pos c1, none']
      exact step 0 (by rw [hf, if_neg (fun z => z.1 c1)]; rfl)
    · rw [if_neg c1]
      obtain ⟨t1, t2⟩ := h.2.2.1 j (by omega) (by omega) c1
      by_cases ct : t = 0
      · rw [if_pos ct, gd_pos ⟨by omega, by omega⟩, t1]
        unfold g_X7_degree_46
        by_cases c2 : gf G j = v
        · rw [if_pos c2]
          exact step 1 (by rw [hf, if_pos ⟨c1, by rw [if_pos ct]; exact c2⟩]; rfl)
        · rw [if_neg c2, none']
          exact step 0 (by rw [hf, if_neg (fun z => c2 (by have := z.2; rw [if_pos ct] at this; exact this))]; rfl)
      · rw [if_neg ct, gd_pos ⟨by omega, by omega⟩, t2]
        unfold g_X7_degree_46
        by_cases c2 : go G j = v
        · rw [if_pos c2]
          exact step 1 (by rw [hf, if_pos ⟨c1, by rw [if_neg ct]; exact c2⟩]; rfl)
        · rw [if_neg c2, none']
          exact step 0 (by rw [hf, if_neg (fun z => c2 (by have := z.2; rw [if_neg ct] at this; exact this))]; rfl)
theorem degree_eq {v t : Int} (hn : 1000000 ≤ n) (h : TG τ G) : g_X7_degree n 1022 v t τ = some (((if t = 0 then dgO G v else dgI G v : Nat) : Int), τ) := by
  unfold g_X7_degree
  by_cases ct : t = 0
  · rw [if_pos ct]
    exact degree_loop (t := t) (v := v) h 1000 rfl (fun e => if gt G e ≠ -1 ∧ gf G e = v then 1 else 0) (fun e => by rw [if_pos ct]) 1000 n 0 (by omega) (by omega)
  · rw [if_neg ct]
    exact degree_loop (t := t) (v := v) h 1000 rfl (fun e => if gt G e ≠ -1 ∧ go G e = v then 1 else 0) (fun e => by rw [if_neg ct]) 1000 n 0 (by omega) (by omega)
theorem dg_le {v : Int} : dgO G v ≤ 1000 ∧ dgI G v ≤ 1000 :=
  ⟨sm_le (f := fun e => if gt G e ≠ -1 ∧ gf G e = v then 1 else 0) (fun e => by by_cases c : gt G e ≠ -1 ∧ gf G e = v <;> simp [c]) (n := 1000), sm_le (f := fun e => if gt G e ≠ -1 ∧ go G e = v then 1 else 0) (fun e => by by_cases c : gt G e ≠ -1 ∧ go G e = v <;> simp [c]) (n := 1000)⟩
theorem tw_dropNode {v : Int} (hn : 1000000 ≤ n) (h : TI τ k l) (hl : l.length ≤ 63) : Wp (g_X7_dropNode n 1022 v τ) (TAnsV τ k l (sDropN (run l) v)) := by
  obtain ⟨l1, l2, l3, hG⟩ := h.len (by omega)
  have hd := dg_le (G := run l) (v := v)
  unfold g_X7_dropNode sDropN
  refine wp_t1e (isNode_eq h.1) ?_
  by_cases c : isN (run l) v = true
  · rw [if_pos c, if_pos c]
    refine wp_neg (by decide) (wp_t1e (degree_eq hn h.1) (wp_t1e (degree_eq hn h.1) ?_))
    rw [if_neg (show ¬ (1 : Int) = 0 by decide), if_pos (show (0 : Int) = 0 from rfl)]
    refine wp_gI (by omega) ?_
    by_cases cd : dgO (run l) v + dgI (run l) v = 0
    · rw [if_pos cd]
      refine wp_pos (by omega) ?_
      unfold g_X7_dropNode_34
      refine wp_nm0 ?_
      rw [code_at]
      have hfree : ∀ e, gt (run l) e ≠ -1 → gf (run l) e ≠ v ∧ go (run l) e ≠ v := fun e he => by
        have b := hG.2.1 e he
        rw [← len_out, ← len_in] at cd
        have z1 : outL (run l) v = [] := List.length_eq_zero_iff.mp (by omega)
        have z2 : inL (run l) v = [] := List.length_eq_zero_iff.mp (by omega)
        refine ⟨fun z => ?_, fun z => ?_⟩
        · have := mem_outL.mpr ⟨⟨b.1, b.2.1⟩, he, z⟩
          rw [z1] at this
          exact absurd this List.not_mem_nil
        · have := mem_inL.mpr ⟨⟨b.1, b.2.1⟩, he, z⟩
          rw [z2] at this
          exact absurd this List.not_mem_nil
      exact wp_pos rfl (wp_t0 (wp_mono (tchange (c := (2, v, 0, 0, 0)) hn h (Or.inr (Or.inr (Or.inl ⟨rfl, isN_iff.mp c, hfree⟩))) hl) fun τ' hq => wp_ok ⟨hq.2.2, hq.1, hq.2.1⟩))
    · rw [if_neg cd]
      refine wp_neg (by omega) ?_
      unfold g_X7_dropNode_34
      refine wp_nm0 ?_
      rw [code_at]
      exact wp_neg (by decide) (wp_ok (tansV_throw h))
  · rw [if_neg c, if_neg c]
    refine wp_pos rfl ?_
    unfold g_X7_dropNode_34
    refine wp_nm0 ?_
    rw [code_at]
    exact wp_neg (by decide) (wp_ok (tansV_throw h))
theorem tw_dropEdge {v : Int} (hn : 1000000 ≤ n) (h : TI τ k l) (hl : l.length ≤ 63) : Wp (g_X7_dropEdge n 1022 v τ) (TAnsV τ k l (sDropE (run l) v)) := by
  unfold g_X7_dropEdge sDropE
  refine wp_t1e (isEdge_eq h.1) ?_
  by_cases c : isE (run l) v = true
  · rw [if_pos c, if_pos c]
    refine wp_neg (by decide) ?_
    unfold g_X7_dropEdge_14
    refine wp_nm0 ?_
    rw [code_at]
    exact wp_pos rfl (wp_t0 (wp_mono (tchange (c := (3, v, 0, 0, 0)) hn h (Or.inr (Or.inr (Or.inr (Or.inl ⟨rfl, isE_iff.mp c⟩)))) hl) fun τ' hq => wp_ok ⟨hq.2.2, hq.1, hq.2.1⟩))
  · rw [if_neg c, if_neg c]
    refine wp_pos rfl ?_
    unfold g_X7_dropEdge_14
    refine wp_nm0 ?_
    rw [code_at]
    exact wp_neg (by decide) (wp_ok (tansV_throw h))
theorem faultOf_eq {a b key : Int} (h : TG τ G) : g_X7_faultOf 1022 a b key τ = some (if isTh G a b = true then (if isS key = true then 0 else 2) else 1, τ) := by
  have sml : ∀ z : Int, g_X7_faultOf_17 key z τ = some (if z = 0 then 1 else (if isS key = true then 0 else 2), τ) := fun z => by
    unfold g_X7_faultOf_17
    by_cases c : z = 0
    · rw [if_pos c, if_pos c]
    · rw [if_neg c, if_neg c, isSmall_eq]
      show (if (if isS key = true then (1 : Int) else 0) = 0 then some ((2 : Int), τ) else some (0, τ)) = _
      by_cases c2 : isS key = true
      · rw [if_pos c2, if_pos c2, if_neg (by decide)]
      · rw [if_neg c2, if_neg c2, if_pos rfl]
  unfold g_X7_faultOf isTh
  by_cases c : a = 0
  · rw [if_pos c, if_pos c, isNode_eq h]
    show g_X7_faultOf_17 key _ τ = _
    rw [sml]
    by_cases c2 : isN G b = true
    · rw [if_pos c2, if_pos c2, if_neg (by decide)]
    · rw [if_neg c2, if_neg c2, if_pos rfl]
  · rw [if_neg c, if_neg c, isEdge_eq h]
    show g_X7_faultOf_17 key _ τ = _
    rw [sml]
    by_cases c2 : isE G b = true
    · rw [if_pos c2, if_pos c2, if_neg (by decide)]
    · rw [if_neg c2, if_neg c2, if_pos rfl]
/-- where a property stands, told by lk -/
theorem prop_at {a b key : Int} (ha : a = 0 ∨ a = 1) (hn : 1000000 ≤ n) (h : TG τ G) (hL : (gp G).length ≤ 400) : ∃ p : Int, g_X7_property n 1022 a b key τ = some (p, τ) ∧ ((lk a b key (gp G) = none ∧ p = -1) ∨ (0 ≤ p ∧ p < 400 ∧ lk a b key (gp G) = some (τ 1027 (4 * p + 3)))) := by
  refine ⟨_, property_eq (s := a) (by rcases ha with z | z <;> rw [z] <;> rfl) hn h.2.2.2 hL, ?_⟩
  rcases pI_spec (s := a) (b := b) (k := key) (L := gp G) (j := 0) with ⟨p1, p2, p3, p4⟩ | ⟨i, x, p1, p2, p3, p4, p5, p6⟩
  · exact Or.inl ⟨p2, p1⟩
  · have hi := (List.getElem?_eq_some_iff.mp p2).1
    rw [Nat.zero_add] at p1
    refine Or.inr ⟨by omega, by omega, ?_⟩
    rw [p1, p4, (h.2.2.2.2 i x p2).2.2.2]
theorem tw_put {a b key d : Int} (hn : 1000000 ≤ n) (h : TI τ k l) (hl : l.length ≤ 63) (ha : a = 0 ∨ a = 1) (hd : -2147483648 ≤ d ∧ d ≤ 2147483647) : Wp (g_X7_put n 1022 a b key d τ) (TAns τ k l (sPut (run l) a b key d)) := by
  obtain ⟨l1, l2, l3, hG⟩ := h.len (by omega)
  have hpl : (gp (run l)).length ≤ 64 := by
    have hb := bnd_run (l := l) (by omega)
    have := hb.2.2
    omega
  unfold g_X7_put sPut
  refine wp_t1e (faultOf_eq h.1) (wp_nm0 ?_)
  rw [code_at]
  by_cases c : isTh (run l) a b = true
  · rw [if_pos c, if_pos c]
    by_cases ck : isS key = true
    · rw [if_pos ck, if_pos ck]
      obtain ⟨p, e1, e2⟩ := prop_at (n := n) (b := b) (key := key) ha hn (h.code (v := 0)).1 l1
      refine wp_pos (by decide) (wp_t1e e1 ?_)
      have e6 : (sa τ 1022 0 0) 1022 6 = (gp (run l)).length := by rw [sa_at, if_neg (by omega)]; exact h.1.2.2.2.1
      have fin : ∀ w : Int, 0 ≤ w ∧ w ≤ 1 → Wp (g_X7_put_60 n 1022 a b key d w (sa τ 1022 0 0)) (TAns τ k l (0, w, [(4, a, b, key, d)])) := fun w hw => by
        have body : Wp (g_X7_put_71 n b key d w 1022 4 a (sa τ 1022 0 0)) (TAns τ k l (0, w, [(4, a, b, key, d)])) := by
          unfold g_X7_put_71
          refine wp_t0 (wp_mono (tchange (c := (4, a, b, key, d)) hn h (Or.inr (Or.inr (Or.inr (Or.inr (Or.inl ⟨rfl, (isTh_iff ha).mp c, isS_iff.mp ck, hd⟩))))) hl) fun τ' hq => wp_gd hw (wp_ok ⟨hq.2.2, fun _ => rfl, hq.1, hq.2.1⟩))
        unfold g_X7_put_60
        rcases ha with z | z
        · rw [z] at body ⊢
          exact wp_pos rfl body
        · rw [z] at body ⊢
          exact wp_neg (by decide) body
      rcases e2 with ⟨q1, q2⟩ | ⟨q1, q2, q3⟩
      · refine wp_pos q2 ?_
        unfold g_X7_put_36
        rw [e6, if_pos q1]
        exact wp_pos rfl (wp_neg (by omega) (fin 0 (by decide)))
      · refine wp_neg (by omega) ?_
        unfold g_X7_put_36
        rw [if_neg (show ¬ lk a b key (gp (run l)) = none by rw [q3]; exact fun z => by cases z)]
        exact wp_neg (by decide) (fin 1 (by decide))
    · rw [if_neg ck, if_neg ck]
      exact wp_neg (by decide) (wp_ok (tans_throw h (by decide)))
  · rw [if_neg c, if_neg c]
    exact wp_neg (by decide) (wp_ok (tans_throw h (by decide)))
theorem tw_remove {a b key : Int} (hn : 1000000 ≤ n) (h : TI τ k l) (hl : l.length ≤ 63) (ha : a = 0 ∨ a = 1) : Wp (g_X7_remove n 1022 a b key τ) (TAns τ k l (sRem (run l) a b key)) := by
  obtain ⟨l1, l2, l3, hG⟩ := h.len (by omega)
  unfold g_X7_remove sRem
  refine wp_t1e (faultOf_eq h.1) (wp_nm0 ?_)
  rw [code_at]
  by_cases c : isTh (run l) a b = true
  · rw [if_pos c, if_pos c]
    by_cases ck : isS key = true
    · rw [if_pos ck, if_pos ck]
      obtain ⟨p, e1, e2⟩ := prop_at (n := n) (b := b) (key := key) ha hn (h.code (v := 0)).1 l1
      refine wp_neg (by decide) (wp_t1e e1 ?_)
      rcases e2 with ⟨q1, q2⟩ | ⟨q1, q2, q3⟩
      · rw [if_pos q1]
        exact wp_pos q2 (wp_ok (tans_see h))
      · have q4 : lk a b key (gp (run l)) ≠ none := by rw [q3]; exact fun z => by cases z
        rw [if_neg q4]
        refine wp_neg (by omega) ?_
        have body : Wp (g_X7_remove_42 n b key 1022 5 a (sa τ 1022 0 0)) (TAns τ k l (0, 1, [(5, a, b, key, 0)])) := by
          unfold g_X7_remove_42
          exact wp_t0 (wp_mono (tchange (c := (5, a, b, key, 0)) hn h (Or.inr (Or.inr (Or.inr (Or.inr (Or.inr ⟨rfl, (isTh_iff ha).mp c, isS_iff.mp ck, q4⟩))))) hl) fun τ' hq => wp_ok ⟨hq.2.2, fun _ => rfl, hq.1, hq.2.1⟩)
        rcases ha with z | z
        · rw [z] at body ⊢
          exact wp_pos rfl body
        · rw [z] at body ⊢
          exact wp_neg (by decide) body
    · rw [if_neg ck, if_neg ck]
      exact wp_pos (by decide) (wp_ok (tans_throw h (by decide)))
  · rw [if_neg c, if_neg c]
    exact wp_pos (by decide) (wp_ok (tans_throw h (by decide)))
theorem tw_has {a b key : Int} (hn : 1000000 ≤ n) (h : TI τ k l) (hl : l.length ≤ 64) (ha : a = 0 ∨ a = 1) : Wp (g_X7_has n 1022 a b key τ) (TAns τ k l (sHas (run l) a b key)) := by
  obtain ⟨l1, l2, l3, hG⟩ := h.len (by omega)
  unfold g_X7_has sHas
  refine wp_t1e (faultOf_eq h.1) (wp_nm0 ?_)
  rw [code_at]
  by_cases c : isTh (run l) a b = true
  · rw [if_pos c, if_pos c]
    by_cases ck : isS key = true
    · rw [if_pos ck, if_pos ck]
      obtain ⟨p, e1, e2⟩ := prop_at (n := n) (b := b) (key := key) ha hn (h.code (v := 0)).1 l1
      refine wp_pos rfl (wp_t1e e1 ?_)
      rcases e2 with ⟨q1, q2⟩ | ⟨q1, q2, q3⟩
      · rw [if_pos q1]
        exact wp_pos q2 (wp_ok (tans_see h))
      · rw [if_neg (show ¬ lk a b key (gp (run l)) = none by rw [q3]; exact fun z => by cases z)]
        exact wp_neg (by omega) (wp_ok (tans_see h))
    · rw [if_neg ck, if_neg ck]
      exact wp_neg (by decide) (wp_ok (tans_throw h (by decide)))
  · rw [if_neg c, if_neg c]
    exact wp_neg (by decide) (wp_ok (tans_throw h (by decide)))
theorem tw_get {a b key : Int} (hn : 1000000 ≤ n) (h : TI τ k l) (hl : l.length ≤ 64) (ha : a = 0 ∨ a = 1) : Wp (g_X7_get n 1022 a b key τ) (TAns τ k l (sGet (run l) a b key)) := by
  obtain ⟨l1, l2, l3, hG⟩ := h.len (by omega)
  unfold g_X7_get sGet
  refine wp_t1e (faultOf_eq h.1) (wp_nm0 ?_)
  rw [code_at]
  by_cases c : isTh (run l) a b = true
  · rw [if_pos c, if_pos c]
    by_cases ck : isS key = true
    · rw [if_pos ck, if_pos ck]
      obtain ⟨p, e1, e2⟩ := prop_at (n := n) (b := b) (key := key) ha hn (h.code (v := 0)).1 l1
      refine wp_pos rfl (wp_t1e e1 ?_)
      unfold g_X7_get_29
      rcases e2 with ⟨q1, q2⟩ | ⟨q1, q2, q3⟩
      · rw [q1]
        exact wp_pos q2 (wp_ok (tans_see h))
      · rw [q3]
        refine wp_neg (by omega) (wp_gI (by omega) (wp_gI (by omega) (wp_gd ⟨by omega, by omega⟩ (wp_ok (tans_see h)))))
    · rw [if_neg ck, if_neg ck]
      exact wp_neg (by decide) (wp_pos rfl (wp_ok (tans_throw h (by decide))))
  · rw [if_neg c, if_neg c]
    exact wp_neg (by decide) (wp_pos rfl (wp_ok (tans_throw h (by decide))))
end TWD
