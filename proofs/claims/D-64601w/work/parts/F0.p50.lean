/-! THE TWIN's changes -/
set_option maxRecDepth 100000
def TC (τ : TT) (k : Nat) (l : List Ch) : Prop := τ 1022 8 = l.length ∧ τ 1022 9 = l.length - k ∧ k ≤ l.length ∧ ∀ (i : Nat) (c : Ch), l[i]? = some c → τ 1028 (5 * i) = c.1 ∧ τ 1028 (5 * i + 1) = c.2.1 ∧ τ 1028 (5 * i + 2) = c.2.2.1 ∧ τ 1028 (5 * i + 3) = c.2.2.2.1 ∧ τ 1028 (5 * i + 4) = c.2.2.2.2
/-- the twin: k changes aren't kept, l are all -/
def TI (τ : TT) (k : Nat) (l : List Ch) : Prop := TG τ (run l) ∧ TC τ k l ∧ okL l
def AFr (τ τ' : TT) : Prop := ∀ r j, ¬ (1023 ≤ r ∧ r ≤ 1027) → ¬ (r = 1022 ∧ j = 6) → τ' r j = τ r j
def GFr (τ τ' : TT) : Prop := ∀ r j, ¬ (1023 ≤ r ∧ r ≤ 1028) → ¬ (r = 1022 ∧ (j = 0 ∨ j = 6 ∨ j = 8 ∨ j = 9)) → τ' r j = τ r j
theorem GFr.rf {τ : TT} : GFr τ τ := fun _ _ _ _ => rfl
theorem GFr.trans {τ τ1 τ2 : TT} (h : GFr τ τ1) (h' : GFr τ1 τ2) : GFr τ τ2 := fun r j a b => (h' r j a b).trans (h r j a b)
theorem AFr.g {τ τ' : TT} (h : AFr τ τ') : GFr τ τ' := fun r j a b => h r j (fun z => a ⟨z.1, by omega⟩) (fun z => b ⟨z.1, Or.inr (Or.inl z.2)⟩)
theorem PFr.a {τ τ' : TT} (h : PFr τ τ') : AFr τ τ' := fun r j a b => h r j (fun z => a (by omega)) b
theorem AFr.trans {τ τ1 τ2 : TT} (h : AFr τ τ1) (h' : AFr τ1 τ2) : AFr τ τ2 := fun r j a b => (h' r j a b).trans (h r j a b)
theorem AFr.sa {τ : TT} {r j v : Int} (h : 1023 ≤ r ∧ r ≤ 1027) : AFr τ (sa τ r j v) := fun a b h1 _ => by rw [sa_at, if_neg (fun z => h1 (by omega))]
theorem TC.frame {τ τ' : TT} {k : Nat} {l : List Ch} (h : TC τ k l) (h1 : ∀ j, τ' 1028 j = τ 1028 j) (h2 : τ' 1022 8 = τ 1022 8) (h3 : τ' 1022 9 = τ 1022 9) : TC τ' k l :=
  ⟨h2.trans h.1, h3.trans h.2.1, h.2.2.1, fun i c hc => by rw [h1, h1, h1, h1, h1]; exact h.2.2.2 i c hc⟩
section TWC
variable {τ : TT} {n : Nat} {G : Gr} {L : List Pr} {s b k d : Int}
theorem act163_eq {i : Nat} (hi : i ≤ 400) : g_X7_act_163 n 1022 s b k d i τ = some (sa (sa (sa (sa τ 1027 (4 * i) s) 1027 (4 * i + 1) b) 1027 (4 * i + 2) k) 1027 (4 * i + 3) d) := by
  unfold g_X7_act_163
  rw [gI_pos (by omega), gd_pos ⟨by omega, by omega⟩]
  show gI _ (gI _ (gd _ (nm _ _))) = _
  rw [gI_pos (by omega), gI_pos (by omega), gd_pos ⟨by omega, by omega⟩]
  show gI _ (gI _ (gd _ (nm _ _))) = _
  rw [gI_pos (by omega), gI_pos (by omega), gd_pos ⟨by omega, by omega⟩]
  show gI _ (gI _ (gd _ (nm _ _))) = _
  rw [gI_pos (by omega), gI_pos (by omega), gd_pos ⟨by omega, by omega⟩]
  rfl
/-- four cells are written -/
def put4 (τ : TT) (i : Nat) (x : Pr) : TT := sa (sa (sa (sa τ 1027 (4 * i) x.1) 1027 (4 * i + 1) x.2.1) 1027 (4 * i + 2) x.2.2.1) 1027 (4 * i + 3) x.2.2.2
theorem put4_at {i : Nat} {x : Pr} : put4 τ i x 1027 (4 * i) = x.1 ∧ put4 τ i x 1027 (4 * i + 1) = x.2.1 ∧ put4 τ i x 1027 (4 * i + 2) = x.2.2.1 ∧ put4 τ i x 1027 (4 * i + 3) = x.2.2.2 := by
  unfold put4
  refine ⟨?_, ?_, ?_, ?_⟩
  · rw [sa_at, if_neg (by omega), sa_at, if_neg (by omega), sa_at, if_neg (by omega), sa_at, if_pos ⟨rfl, rfl⟩]
  · rw [sa_at, if_neg (by omega), sa_at, if_neg (by omega), sa_at, if_pos ⟨rfl, rfl⟩]
  · rw [sa_at, if_neg (by omega), sa_at, if_pos ⟨rfl, rfl⟩]
  · rw [sa_at, if_pos ⟨rfl, rfl⟩]
theorem put4_ne {i : Nat} {x : Pr} {r j : Int} (h : r ≠ 1027 ∨ j < 4 * i ∨ 4 * i + 3 < j) : put4 τ i x r j = τ r j := by
  unfold put4
  rw [sa_at, if_neg (by omega), sa_at, if_neg (by omega), sa_at, if_neg (by omega), sa_at, if_neg (by omega)]
theorem PrOk.set {i : Nat} {x : Pr} (h : PrOk τ L) (hi : i < L.length) : PrOk (put4 τ i x) (L.set i x) := by
  refine ⟨by rw [put4_ne (Or.inl (by decide)), List.length_set]; exact h.1, fun j y hy => ?_⟩
  rw [List.getElem?_set] at hy
  by_cases c : i = j
  · rw [if_pos c, if_pos hi] at hy
    have : x = y := Option.some.inj hy
    rw [← c, ← this]
    exact put4_at
  · rw [if_neg c] at hy
    rw [put4_ne (by omega), put4_ne (by omega), put4_ne (by omega), put4_ne (by omega)]
    exact h.2 j y hy
theorem PrOk.snoc {x : Pr} (h : PrOk τ L) : PrOk (put4 (sa τ 1022 6 (L.length + 1 : Int)) L.length x) (L ++ [x]) := by
  refine ⟨by rw [put4_ne (Or.inl (by decide)), sa_at, if_pos ⟨rfl, rfl⟩]; simp, fun j y hy => ?_⟩
  by_cases c : j < L.length
  · rw [List.getElem?_append_left c] at hy
    rw [put4_ne (by omega), put4_ne (by omega), put4_ne (by omega), put4_ne (by omega), sa_at, if_neg (by omega), sa_at, if_neg (by omega), sa_at, if_neg (by omega), sa_at, if_neg (by omega)]
    exact h.2 j y hy
  · have e : j = L.length := by
      have := (List.getElem?_eq_some_iff.mp hy).1
      simp at this
      omega
    subst e
    have : x = y := by simpa using hy
    rw [← this]
    exact put4_at
theorem put4_a {i : Nat} {x : Pr} : AFr τ (put4 τ i x) := fun r j h1 _ => put4_ne (Or.inl fun z => h1 (by omega))
/-- a change is done -/
theorem act_wp {c : Ch} (hn : 1000000 ≤ n) (h : TG τ G) (hG : okG G) (hc : okC G c) (hL : (gp G).length ≤ 400) : Wp (g_X7_act n 1022 c.1 c.2.1 c.2.2.1 c.2.2.2.1 c.2.2.2.2 τ) fun τ' => TG τ' (actG G c) ∧ AFr τ τ' := by
  obtain ⟨t1, t2, t3, t4⟩ := h
  have h : TG τ G := ⟨t1, t2, t3, t4⟩
  unfold g_X7_act
  rcases hc with ⟨e, a1, a2⟩ | ⟨e, a1, a2, a3, a4⟩ | ⟨e, a1, a2⟩ | ⟨e, a1⟩ | ⟨e, a1, a2, a3⟩ | ⟨e, a1, a2, a3⟩
  · refine wp_pos e (wp_t1e (first_nodes hn h) (wp_gd ⟨by omega, by omega⟩ (wp_nm0 (wp_ok ?_))))
    unfold actG
    rw [if_pos e]
    refine ⟨⟨fun i x y => ?_, fun i x y => ?_, fun i x y z => ?_, t4.frame (fun j => ?_) ?_⟩, AFr.sa ⟨by decide, by decide⟩⟩
    · show sa τ 1023 _ _ 1023 i = ud (gl G) _ _ i
      rw [sa_at, ud_at]
      by_cases q : i = (ff (gl G) 400 0 : Nat)
      · rw [if_pos ⟨rfl, q⟩, if_pos q]
      · rw [if_neg (fun z => q z.2), if_neg q]; exact t1 i x y
    · rw [sa_at, if_neg (by omega)]; exact t2 i x y
    · rw [sa_at, if_neg (by omega), sa_at, if_neg (by omega)]; exact t3 i x y z
    · rw [sa_at, if_neg (by omega)]
    · rw [sa_at, if_neg (by omega)]
  · refine wp_neg (by omega) (wp_pos e (wp_t1e (first_edges hn h) (wp_gd ⟨by omega, by omega⟩ (wp_nm0 (wp_gd ⟨by omega, by omega⟩ (wp_nm0 (wp_gd ⟨by omega, by omega⟩ (wp_nm0 (wp_ok ?_)))))))))
    unfold actG
    rw [if_neg (by omega), if_pos e]
    refine ⟨⟨fun i x y => ?_, fun i x y => ?_, fun i x y z => ?_, t4.frame (fun j => ?_) ?_⟩, ((AFr.sa ⟨by decide, by decide⟩).trans (AFr.sa ⟨by decide, by decide⟩)).trans (AFr.sa ⟨by decide, by decide⟩)⟩
    · rw [sa_at, if_neg (by omega), sa_at, if_neg (by omega), sa_at, if_neg (by omega)]; exact t1 i x y
    · rw [sa_at, if_neg (by omega), sa_at, if_neg (by omega), sa_at]
      show _ = ud (gt G) _ _ i
      rw [ud_at]
      by_cases q : i = (ff (gt G) 1000 0 : Nat)
      · rw [if_pos ⟨rfl, q⟩, if_pos q]
      · rw [if_neg (fun z => q z.2), if_neg q]; exact t2 i x y
    · change ud (gt G) _ _ i ≠ -1 at z
      show _ = ud (gf G) _ _ i ∧ _ = ud (go G) _ _ i
      rw [ud_at] at z
      rw [ud_at, ud_at]
      by_cases q : i = (ff (gt G) 1000 0 : Nat)
      · rw [if_pos q, if_pos q]
        exact ⟨by rw [sa_at, if_neg (by omega), sa_at, if_pos ⟨rfl, q⟩], by rw [sa_at, if_pos ⟨rfl, q⟩]⟩
      · rw [if_neg q] at z
        rw [if_neg q, if_neg q]
        have := t3 i x y z
        exact ⟨by rw [sa_at, if_neg (by omega), sa_at, if_neg (by omega), sa_at, if_neg (by omega)]; exact this.1, by rw [sa_at, if_neg (by omega), sa_at, if_neg (by omega), sa_at, if_neg (by omega)]; exact this.2⟩
    · rw [sa_at, if_neg (by omega), sa_at, if_neg (by omega), sa_at, if_neg (by omega)]
    · rw [sa_at, if_neg (by omega), sa_at, if_neg (by omega), sa_at, if_neg (by omega)]
  · refine wp_neg (by omega) (wp_neg (by omega) (wp_pos e (wp_t0 (wp_mono (removeAll_wp (s := 0) (b := c.2.1) (a := 0) rfl hn t4 hL) fun τ1 hq => ?_))))
    obtain ⟨q1, q2⟩ := hq
    refine wp_gd ⟨a1.1, a1.2.1⟩ (wp_nm0 (wp_ok ?_))
    unfold actG
    rw [if_neg (by omega), if_neg (by omega), if_pos e]
    refine ⟨⟨fun i x y => ?_, fun i x y => ?_, fun i x y z => ?_, q1.frame (fun j => ?_) ?_⟩, q2.a.trans (AFr.sa ⟨by decide, by decide⟩)⟩
    · show sa τ1 1023 _ _ 1023 i = ud (gl G) _ _ i
      rw [sa_at, ud_at]
      by_cases q : i = c.2.1
      · rw [if_pos ⟨rfl, q⟩, if_pos q]
      · rw [if_neg (fun z => q z.2), if_neg q, q2 _ _ (by decide) (by omega)]; exact t1 i x y
    · rw [sa_at, if_neg (by omega), q2 _ _ (by decide) (by omega)]; exact t2 i x y
    · rw [sa_at, if_neg (by omega), sa_at, if_neg (by omega), q2 _ _ (by decide) (by omega), q2 _ _ (by decide) (by omega)]; exact t3 i x y z
    · rw [sa_at, if_neg (by omega)]
    · rw [sa_at, if_neg (by omega)]
  · refine wp_neg (by omega) (wp_neg (by omega) (wp_neg (by omega) (wp_pos e (wp_t0 (wp_mono (removeAll_wp (s := 1) (b := c.2.1) (a := 1) rfl hn t4 hL) fun τ1 hq => ?_)))))
    obtain ⟨q1, q2⟩ := hq
    refine wp_gd ⟨a1.1, a1.2.1⟩ (wp_nm0 (wp_ok ?_))
    unfold actG
    rw [if_neg (by omega), if_neg (by omega), if_neg (by omega), if_pos e]
    refine ⟨⟨fun i x y => ?_, fun i x y => ?_, fun i x y z => ?_, q1.frame (fun j => ?_) ?_⟩, q2.a.trans (AFr.sa ⟨by decide, by decide⟩)⟩
    · rw [sa_at, if_neg (by omega), q2 _ _ (by decide) (by omega)]; exact t1 i x y
    · show sa τ1 1024 _ _ 1024 i = ud (gt G) _ _ i
      rw [sa_at, ud_at]
      by_cases q : i = c.2.1
      · rw [if_pos ⟨rfl, q⟩, if_pos q]
      · rw [if_neg (fun z => q z.2), if_neg q, q2 _ _ (by decide) (by omega)]; exact t2 i x y
    · change ud (gt G) _ _ i ≠ -1 at z
      show _ = ud (gf G) _ _ i ∧ _ = ud (go G) _ _ i
      rw [ud_at] at z
      rw [ud_at, ud_at]
      by_cases q : i = c.2.1
      · rw [if_pos q] at z; exact absurd rfl z
      · rw [if_neg q] at z
        rw [if_neg q, if_neg q, sa_at, if_neg (by omega), sa_at, if_neg (by omega), q2 _ _ (by decide) (by omega), q2 _ _ (by decide) (by omega)]
        exact t3 i x y z
    · rw [sa_at, if_neg (by omega)]
    · rw [sa_at, if_neg (by omega)]
  · refine wp_neg (by omega) (wp_neg (by omega) (wp_neg (by omega) (wp_neg (by omega) ?_)))
    have hs01 : c.2.1 = 0 ∨ c.2.1 = 1 := a1.elim (fun q => Or.inl q.1) (fun q => Or.inr q.1)
    have body : Wp (g_X7_act_121 n 1022 c.1 c.2.1 c.2.2.1 c.2.2.2.1 c.2.2.2.2 1022 c.2.1 τ) fun τ' => TG τ' (actG G c) ∧ AFr τ τ' := by
      unfold g_X7_act_121
      refine wp_t1e (property_eq (s := c.2.1) (by rcases hs01 with z | z <;> rw [z] <;> rfl) hn t4 hL) (wp_neg (by omega) ?_)
      have eA : actG G c = (gl G, gt G, gf G, go G, setP c.2.1 c.2.2.1 c.2.2.2.1 c.2.2.2.2 (gp G)) := by
        unfold actG
        rw [if_neg (by omega), if_neg (by omega), if_neg (by omega), if_neg (by omega), if_neg (by omega)]
      rw [eA]
      rcases pI_spec (s := c.2.1) (b := c.2.2.1) (k := c.2.2.2.1) (L := gp G) (j := 0) with ⟨p1, p2, p3, p4⟩ | ⟨i, x, p1, p2, p3, p4, p5, p6⟩
      · rw [p1]
        refine wp_pos rfl ?_
        rw [t4.1]
        refine wp_nm0 (wp_gI (by omega) (wp_nm0 (wp_of_eq (act163_eq (i := (gp G).length) hL) ?_)))
        have z := t4.snoc (x := (c.2.1, c.2.2.1, c.2.2.2.1, c.2.2.2.2))
        have za : AFr τ (put4 (sa τ 1022 6 ((gp G).length + 1 : Int)) (gp G).length (c.2.1, c.2.2.1, c.2.2.2.1, c.2.2.2.2)) := fun r j w1 w2 => by rw [put4_a r j w1 w2, sa_at, if_neg w2]
        rw [← p4] at z
        refine ⟨⟨fun i x y => ?_, fun i x y => ?_, fun i x y w => ?_, z⟩, za⟩
        · exact (put4_ne (Or.inl (by decide))).trans ((by rw [sa_at, if_neg (by omega)] : sa τ 1022 6 ((gp G).length + 1 : Int) 1023 i = τ 1023 i).trans (t1 i x y))
        · exact (put4_ne (Or.inl (by decide))).trans ((by rw [sa_at, if_neg (by omega)] : sa τ 1022 6 ((gp G).length + 1 : Int) 1024 i = τ 1024 i).trans (t2 i x y))
        · exact ⟨(put4_ne (Or.inl (by decide))).trans ((by rw [sa_at, if_neg (by omega)] : sa τ 1022 6 ((gp G).length + 1 : Int) 1025 i = τ 1025 i).trans (t3 i x y w).1), (put4_ne (Or.inl (by decide))).trans ((by rw [sa_at, if_neg (by omega)] : sa τ 1022 6 ((gp G).length + 1 : Int) 1026 i = τ 1026 i).trans (t3 i x y w).2)⟩
      · rw [p1, Nat.zero_add]
        have hi := (List.getElem?_eq_some_iff.mp p2).1
        refine wp_neg (by omega) (wp_of_eq (act163_eq (i := i) (by omega)) ?_)
        have z := t4.set (i := i) (x := (c.2.1, c.2.2.1, c.2.2.2.1, c.2.2.2.2)) hi
        rw [← p6] at z
        refine ⟨⟨fun i x y => ?_, fun i x y => ?_, fun i x y w => ?_, z⟩, put4_a⟩
        · exact (put4_ne (Or.inl (by decide))).trans (t1 i x y)
        · exact (put4_ne (Or.inl (by decide))).trans (t2 i x y)
        · exact ⟨(put4_ne (Or.inl (by decide))).trans (t3 i x y w).1, (put4_ne (Or.inl (by decide))).trans (t3 i x y w).2⟩
    rcases hs01 with z | z
    · rw [z] at body ⊢
      exact wp_neg (by decide) body
    · rw [z] at body ⊢
      exact wp_pos rfl body
  · refine wp_neg (by omega) (wp_neg (by omega) (wp_neg (by omega) (wp_neg (by omega) ?_)))
    have hs01 : c.2.1 = 0 ∨ c.2.1 = 1 := a1.elim (fun q => Or.inl q.1) (fun q => Or.inr q.1)
    have body : Wp (g_X7_act_121 n 1022 c.1 c.2.1 c.2.2.1 c.2.2.2.1 c.2.2.2.2 1022 c.2.1 τ) fun τ' => TG τ' (actG G c) ∧ AFr τ τ' := by
      unfold g_X7_act_121
      refine wp_t1e (property_eq (s := c.2.1) (by rcases hs01 with z | z <;> rw [z] <;> rfl) hn t4 hL) (wp_pos e ?_)
      have eA : actG G c = (gl G, gt G, gf G, go G, remP c.2.1 c.2.2.1 c.2.2.2.1 (gp G)) := by
        unfold actG
        rw [if_neg (by omega), if_neg (by omega), if_neg (by omega), if_neg (by omega), if_pos e]
      rw [eA]
      rcases pI_spec (s := c.2.1) (b := c.2.2.1) (k := c.2.2.2.1) (L := gp G) (j := 0) with ⟨p1, p2, p3, p4⟩ | ⟨i, x, p1, p2, p3, p4, p5, p6⟩
      · exact absurd p2 a3
      · rw [p1, Nat.zero_add]
        have hi := (List.getElem?_eq_some_iff.mp p2).1
        refine wp_t0 (wp_mono (removeProperty_wp hn t4 hi hL) fun τ1 hq => wp_ok ?_)
        obtain ⟨q1, q2⟩ := hq
        rw [← p5] at q1
        refine ⟨⟨fun i x y => ?_, fun i x y => ?_, fun i x y w => ?_, q1⟩, q2.a⟩
        · rw [q2 _ _ (by decide) (by omega)]; exact t1 i x y
        · rw [q2 _ _ (by decide) (by omega)]; exact t2 i x y
        · rw [q2 _ _ (by decide) (by omega), q2 _ _ (by decide) (by omega)]; exact t3 i x y w
    rcases hs01 with z | z
    · rw [z] at body ⊢
      exact wp_neg (by decide) body
    · rw [z] at body ⊢
      exact wp_pos rfl body
/-- a change is noted and done -/
theorem change2_wp {c : Ch} {k : Nat} {l : List Ch} (hn : 1000000 ≤ n) (h : TI τ k l) (hc : okC (run l) c) (hl : l.length ≤ 63) : Wp (g_X7_change n 1022 c.1 c.2.1 c.2.2.1 c.2.2.2.1 c.2.2.2.2 τ) fun τ' => TI τ' (k + 1) (l ++ [c]) ∧ GFr τ τ' ∧ τ' 1022 0 = τ 1022 0 := by
  obtain ⟨h1, h2, h3⟩ := h
  have hG := okL_run h3
  have hb := bnd_run (l := l) (by omega)
  unfold g_X7_change
  rw [h2.1]
  refine wp_gI (by omega) (wp_nm0 (wp_gd ⟨by omega, by omega⟩ (wp_nm0 (wp_gI (by omega) (wp_gd ⟨by omega, by omega⟩ (wp_nm0 (wp_gI (by omega) (wp_gd ⟨by omega, by omega⟩ (wp_nm0 (wp_gI (by omega) (wp_gd ⟨by omega, by omega⟩ (wp_nm0 (wp_gI (by omega) (wp_gd ⟨by omega, by omega⟩ (wp_nm0 ?_)))))))))))))))
  generalize e1 : sa (sa (sa (sa (sa τ 1028 (5 * l.length) c.1) 1028 (5 * l.length + 1) c.2.1) 1028 (5 * l.length + 2) c.2.2.1) 1028 (5 * l.length + 3) c.2.2.2.1) 1028 (5 * l.length + 4) c.2.2.2.2 = τ1
  have f1 : ∀ r j, r ≠ 1028 → τ1 r j = τ r j := fun r j z => by
    rw [← e1, sa_at, if_neg (by omega), sa_at, if_neg (by omega), sa_at, if_neg (by omega), sa_at, if_neg (by omega), sa_at, if_neg (by omega)]
  have f2 : ∀ j : Int, j < 5 * (l.length : Int) → τ1 1028 j = τ 1028 j := fun j z => by
    rw [← e1, sa_at, if_neg (by omega), sa_at, if_neg (by omega), sa_at, if_neg (by omega), sa_at, if_neg (by omega), sa_at, if_neg (by omega)]
  have f3 : τ1 1028 (5 * l.length) = c.1 ∧ τ1 1028 (5 * l.length + 1) = c.2.1 ∧ τ1 1028 (5 * l.length + 2) = c.2.2.1 ∧ τ1 1028 (5 * l.length + 3) = c.2.2.2.1 ∧ τ1 1028 (5 * l.length + 4) = c.2.2.2.2 := by
    refine ⟨?_, ?_, ?_, ?_, ?_⟩
    · rw [← e1, sa_at, if_neg (by omega), sa_at, if_neg (by omega), sa_at, if_neg (by omega), sa_at, if_neg (by omega), sa_at, if_pos ⟨rfl, rfl⟩]
    · rw [← e1, sa_at, if_neg (by omega), sa_at, if_neg (by omega), sa_at, if_neg (by omega), sa_at, if_pos ⟨rfl, rfl⟩]
    · rw [← e1, sa_at, if_neg (by omega), sa_at, if_neg (by omega), sa_at, if_pos ⟨rfl, rfl⟩]
    · rw [← e1, sa_at, if_neg (by omega), sa_at, if_pos ⟨rfl, rfl⟩]
    · rw [← e1, sa_at, if_pos ⟨rfl, rfl⟩]
  clear e1
  rw [f1 1022 8 (by decide), h2.1]
  refine wp_gI (by omega) (wp_nm0 ?_)
  generalize e2 : sa τ1 1022 8 ((l.length : Int) + 1) = τ2
  have g1 : ∀ r j, ¬ (r = 1022 ∧ j = 8) → τ2 r j = τ1 r j := fun r j z => by rw [← e2, sa_at, if_neg z]
  have g2 : τ2 1022 8 = (l.length : Int) + 1 := by rw [← e2, sa_at, if_pos ⟨rfl, rfl⟩]
  clear e2
  have h1' : TG τ2 (run l) := h1.frame (fun r j a b => by rw [g1 r j (by omega), f1 r j (by omega)]) (by rw [g1 _ _ (by omega), f1 _ _ (by decide)])
  refine wp_t0 (wp_mono (act_wp hn h1' hG hc (by have := hb.2.2; omega)) fun τ3 hq => wp_ok ?_)
  obtain ⟨q1, q2⟩ := hq
  refine ⟨⟨by rw [run_snoc]; exact q1, ⟨?_, ?_, ?_, fun i d hd => ?_⟩, okL_snoc h3 hc⟩, fun r j a b => ?_, ?_⟩
  · rw [q2 _ _ (by omega) (by omega), g2]; simp
  · rw [q2 _ _ (by omega) (by omega), g1 _ _ (by omega), f1 _ _ (by decide), h2.2.1]
    have : (l ++ [c]).length = l.length + 1 := by simp
    omega
  · have : (l ++ [c]).length = l.length + 1 := by simp
    have := h2.2.2.1
    omega
  · have e : ∀ z, τ3 1028 z = τ1 1028 z := fun z => by rw [q2 _ _ (by omega) (by omega), g1 _ _ (by omega)]
    rw [e, e, e, e, e]
    by_cases ci : i < l.length
    · rw [List.getElem?_append_left ci] at hd
      rw [f2 (5 * (i : Int)) (by omega), f2 (5 * (i : Int) + 1) (by omega), f2 (5 * (i : Int) + 2) (by omega), f2 (5 * (i : Int) + 3) (by omega), f2 (5 * (i : Int) + 4) (by omega)]
      exact h2.2.2.2 i d hd
    · have ei : i = l.length := by
        have := (List.getElem?_eq_some_iff.mp hd).1
        simp at this
        omega
      subst ei
      have : c = d := by simpa using hd
      rw [← this]
      exact f3
  · rw [q2 _ _ (by omega) (by omega), g1 _ _ (by omega), f1 _ _ (by omega)]
  · rw [q2 _ _ (by omega) (by omega), g1 _ _ (by omega), f1 _ _ (by omega)]
end TWC
