/-! PURE: graphs that changes make are well made -/
set_option maxRecDepth 100000
theorem okG0 : okG G0 := by
  refine ⟨fun n h => absurd rfl h, fun n h => absurd rfl h, fun e _ => ⟨rfl, rfl⟩, fun x hx => ?_, List.Pairwise.nil⟩
  cases hx
theorem small_ne {x : Int} (h : small x) : x ≠ -1 := by
  have := h.1
  omega
theorem okG_act {G : Gr} {c : Ch} (h : okG G) (hc : okC G c) : okG (actG G c) := by
  obtain ⟨h1, h2, h3, h4, h5⟩ := h
  have h5' : (gp G).Pairwise apart := h5
  rcases hc with ⟨e, a1, a2⟩ | ⟨e, a1, a2, a3, a4⟩ | ⟨e, a1, a2⟩ | ⟨e, a1⟩ | ⟨e, a1, a2, a3⟩ | ⟨e, a1, a2, a3⟩
  · -- a node
    unfold actG
    rw [if_pos e]
    have key : ∀ n, nodeAt G n → nodeAt (ud (gl G) (ff (gl G) 400 0) c.2.1, gt G, gf G, go G, gp G) n := fun n hn => by
      refine ⟨hn.1, hn.2.1, ?_⟩
      show ud (gl G) _ _ n ≠ -1
      rw [ud_at]
      by_cases q : n = (ff (gl G) 400 0 : Nat)
      · rw [if_pos q]; exact small_ne a1
      · rw [if_neg q]; exact hn.2.2
    refine ⟨fun n hn => ?_, fun e he => ?_, h3, fun x hx => ?_, h5⟩
    · change ud (gl G) _ _ n ≠ -1 at hn
      show 0 ≤ n ∧ n < 400 ∧ small (ud (gl G) _ _ n)
      rw [ud_at] at hn ⊢
      by_cases q : n = (ff (gl G) 400 0 : Nat)
      · rw [if_pos q]; exact ⟨by omega, by omega, a1⟩
      · rw [if_neg q] at hn ⊢; exact h1 n hn
    · obtain ⟨b1, b2, b3, b4, b5⟩ := h2 e he
      exact ⟨b1, b2, b3, key _ b4, key _ b5⟩
    · obtain ⟨b1, b2⟩ := h4 x hx
      exact ⟨b1.imp (fun q => ⟨q.1, key _ q.2⟩) id, b2⟩
  · -- an edge
    unfold actG
    rw [if_neg (by rw [e]; decide), if_pos e]
    refine ⟨h1, fun n hn => ?_, fun n hn => ?_, fun x hx => ?_, h5⟩
    · change ud (gt G) _ _ n ≠ -1 at hn
      show 0 ≤ n ∧ n < 1000 ∧ small (ud (gt G) _ _ n) ∧ nodeAt G (ud (gf G) _ _ n) ∧ nodeAt G (ud (go G) _ _ n)
      rw [ud_at] at hn
      rw [ud_at, ud_at, ud_at]
      by_cases q : n = (ff (gt G) 1000 0 : Nat)
      · rw [if_pos q, if_pos q, if_pos q]; exact ⟨by omega, by omega, a3, a1, a2⟩
      · rw [if_neg q] at hn
        rw [if_neg q, if_neg q, if_neg q]; exact h2 n hn
    · change ud (gt G) _ _ n = -1 at hn
      show ud (gf G) _ _ n = 0 ∧ ud (go G) _ _ n = 0
      rw [ud_at] at hn
      rw [ud_at, ud_at]
      by_cases q : n = (ff (gt G) 1000 0 : Nat)
      · rw [if_pos q] at hn; exact absurd hn (small_ne a3)
      · rw [if_neg q] at hn
        rw [if_neg q, if_neg q]; exact h3 n hn
    · obtain ⟨b1, b2⟩ := h4 x hx
      refine ⟨b1.imp id (fun q => ⟨q.1, q.2.1, q.2.2.1, ?_⟩), b2⟩
      show ud (gt G) _ _ _ ≠ -1
      rw [ud_at]
      by_cases q2 : x.2.1 = (ff (gt G) 1000 0 : Nat)
      · rw [if_pos q2]; exact small_ne a3
      · rw [if_neg q2]; exact q.2.2.2
  · -- a node goes
    unfold actG
    rw [if_neg (by rw [e]; decide), if_neg (by rw [e]; decide), if_pos e]
    have key : ∀ n, nodeAt G n → n ≠ c.2.1 → nodeAt (ud (gl G) c.2.1 (-1), gt G, gf G, go G, remA 0 c.2.1 (gp G)) n := fun n hn q => by
      refine ⟨hn.1, hn.2.1, ?_⟩
      show ud (gl G) _ _ n ≠ -1
      rw [ud_ne q]; exact hn.2.2
    refine ⟨fun n hn => ?_, fun e he => ?_, h3, fun x hx => ?_, pw_remA h5'⟩
    · change ud (gl G) _ _ n ≠ -1 at hn
      show 0 ≤ n ∧ n < 400 ∧ small (ud (gl G) _ _ n)
      rw [ud_at] at hn ⊢
      by_cases q : n = c.2.1
      · rw [if_pos q] at hn; exact absurd rfl hn
      · rw [if_neg q] at hn ⊢; exact h1 n hn
    · obtain ⟨b1, b2, b3, b4, b5⟩ := h2 e he
      obtain ⟨n1, n2⟩ := a2 e he
      exact ⟨b1, b2, b3, key _ b4 n1, key _ b5 n2⟩
    · obtain ⟨b0, b9⟩ := mem_remA.mp hx
      obtain ⟨b1, b2⟩ := h4 x b0
      exact ⟨b1.imp (fun q => ⟨q.1, key _ q.2 fun z => b9 ⟨q.1, z⟩⟩) id, b2⟩
  · -- an edge goes
    unfold actG
    rw [if_neg (by rw [e]; decide), if_neg (by rw [e]; decide), if_neg (by rw [e]; decide), if_pos e]
    refine ⟨h1, fun n hn => ?_, fun n hn => ?_, fun x hx => ?_, pw_remA h5'⟩
    · change ud (gt G) _ _ n ≠ -1 at hn
      show 0 ≤ n ∧ n < 1000 ∧ small (ud (gt G) _ _ n) ∧ nodeAt G (ud (gf G) _ _ n) ∧ nodeAt G (ud (go G) _ _ n)
      rw [ud_at] at hn
      rw [ud_at, ud_at, ud_at]
      by_cases q : n = c.2.1
      · rw [if_pos q] at hn; exact absurd rfl hn
      · rw [if_neg q] at hn
        rw [if_neg q, if_neg q, if_neg q]; exact h2 n hn
    · change ud (gt G) _ _ n = -1 at hn
      show ud (gf G) _ _ n = 0 ∧ ud (go G) _ _ n = 0
      rw [ud_at] at hn
      rw [ud_at, ud_at]
      by_cases q : n = c.2.1
      · rw [if_pos q, if_pos q]; exact ⟨rfl, rfl⟩
      · rw [if_neg q] at hn
        rw [if_neg q, if_neg q]; exact h3 n hn
    · obtain ⟨b0, b9⟩ := mem_remA.mp hx
      obtain ⟨b1, b2⟩ := h4 x b0
      refine ⟨b1.imp id (fun q => ⟨q.1, q.2.1, q.2.2.1, ?_⟩), b2⟩
      show ud (gt G) _ _ _ ≠ -1
      rw [ud_ne (fun z => b9 ⟨q.1, z⟩)]; exact q.2.2.2
  · -- a property is put
    unfold actG
    rw [if_neg (by rw [e]; decide), if_neg (by rw [e]; decide), if_neg (by rw [e]; decide), if_neg (by rw [e]; decide), if_neg (by rw [e]; decide)]
    refine ⟨h1, h2, h3, fun x hx => ?_, pw_setP h5'⟩
    rcases mem_setP hx with q | q
    · rw [q]; exact ⟨a1, a2, a3⟩
    · exact h4 x q
  · -- a property goes
    unfold actG
    rw [if_neg (by rw [e]; decide), if_neg (by rw [e]; decide), if_neg (by rw [e]; decide), if_neg (by rw [e]; decide), if_pos e]
    exact ⟨h1, h2, h3, fun x hx => h4 x (mem_remP hx), pw_remP h5'⟩
/-- changes, one after another, from G on -/
def okF (G : Gr) : List Ch → Prop
  | [] => True
  | c :: l => okC G c ∧ okF (actG G c) l
theorem okF_app {l2 : List Ch} : ∀ {l1 : List Ch} {G : Gr}, okF G (l1 ++ l2) ↔ okF G l1 ∧ okF (l1.foldl actG G) l2
  | [], G => ⟨fun h => ⟨trivial, h⟩, fun h => h.2⟩
  | c :: l1, G => by
    show okC G c ∧ okF (actG G c) (l1 ++ l2) ↔ (okC G c ∧ okF (actG G c) l1) ∧ okF (l1.foldl actG (actG G c)) l2
    rw [okF_app]
    exact ⟨fun h => ⟨⟨h.1, h.2.1⟩, h.2.2⟩, fun h => ⟨h.1.1, h.1.2, h.2⟩⟩
theorem okG_fold : ∀ {l : List Ch} {G : Gr}, okG G → okF G l → okG (l.foldl actG G)
  | [], _, h, _ => h
  | c :: l, G, h, q => okG_fold (l := l) (G := actG G c) (okG_act h q.1) q.2
def okL (l : List Ch) : Prop := okF G0 l
theorem okL_run {l : List Ch} (h : okL l) : okG (run l) := okG_fold okG0 h
theorem okL_snoc {l : List Ch} {c : Ch} (h : okL l) (hc : okC (run l) c) : okL (l ++ [c]) := okF_app.mpr ⟨h, hc, trivial⟩
theorem okL_take {l : List Ch} {n : Nat} (h : okL l) : okL (l.take n) := by
  have : okF G0 (l.take n ++ l.drop n) := by rw [List.take_append_drop]; exact h
  exact (okF_app.mp this).1
theorem okL_at {l : List Ch} {n : Nat} {c : Ch} (h : okL l) (hc : l[n]? = some c) : okC (run (l.take n)) c := by
  have e : l = l.take n ++ c :: l.drop (n + 1) := by
    obtain ⟨hn, hv⟩ := List.getElem?_eq_some_iff.mp hc
    rw [← hv, ← List.drop_eq_getElem_cons hn, List.take_append_drop]
  have h2 : okF G0 l := h
  rw [e] at h2
  exact (okF_app.mp h2).2.1
/-- all lies below m -/
def bndG (G : Gr) (m : Nat) : Prop := (∀ n : Int, (m : Int) ≤ n → gl G n = -1) ∧ (∀ e : Int, (m : Int) ≤ e → gt G e = -1) ∧ (gp G).length ≤ m
theorem bndG_ff {f : Int → Int} {m k : Nat} (h : ∀ n : Int, (m : Int) ≤ n → f n = -1) (hk : m < k) : ff f k 0 ≤ m ∧ f (ff f k 0 : Int) = -1 := ff_free (Nat.zero_le m) (by omega) (h m (Int.le_refl _))
theorem len_setP {s b k d : Int} : ∀ {L : List Pr}, (setP s b k d L).length ≤ L.length + 1
  | [] => Nat.le_refl 1
  | y :: L => by
    unfold setP
    by_cases hy : y.1 = s ∧ y.2.1 = b ∧ y.2.2.1 = k
    · rw [if_pos hy]; simp
    · rw [if_neg hy]
      have := len_setP (s := s) (b := b) (k := k) (d := d) (L := L)
      simp only [List.length_cons]
      omega
theorem len_remP {s b k : Int} : ∀ {L : List Pr}, (remP s b k L).length ≤ L.length
  | [] => Nat.le_refl 0
  | y :: L => by
    unfold remP
    by_cases hy : y.1 = s ∧ y.2.1 = b ∧ y.2.2.1 = k
    · rw [if_pos hy]; simp
    · rw [if_neg hy]
      have := len_remP (s := s) (b := b) (k := k) (L := L)
      simp only [List.length_cons]
      omega
theorem len_remA {s b : Int} : ∀ {L : List Pr}, (remA s b L).length ≤ L.length
  | [] => Nat.le_refl 0
  | y :: L => by
    have := len_remA (s := s) (b := b) (L := L)
    unfold remA
    by_cases hy : y.1 = s ∧ y.2.1 = b
    · rw [if_pos hy]; simp only [List.length_cons]; omega
    · rw [if_neg hy]; simp only [List.length_cons]; omega
theorem bndG_act {G : Gr} {c : Ch} {m : Nat} (h : bndG G m) (hm : m < 400) : bndG (actG G c) (m + 1) := by
  obtain ⟨h1, h2, h3⟩ := h
  have f1 := (bndG_ff (k := 400) h1 hm).1
  have f2 := (bndG_ff (k := 1000) h2 (by omega)).1
  have g1 : ∀ n : Int, ((m + 1 : Nat) : Int) ≤ n → gl G n = -1 := fun n hn => h1 n (by omega)
  have g2 : ∀ n : Int, ((m + 1 : Nat) : Int) ≤ n → gt G n = -1 := fun n hn => h2 n (by omega)
  unfold actG
  by_cases e0 : c.1 = 0
  · rw [if_pos e0]
    refine ⟨fun n hn => ?_, g2, by show (gp G).length ≤ _; omega⟩
    show ud (gl G) _ _ n = -1
    rw [ud_ne (by omega)]; exact g1 n hn
  rw [if_neg e0]
  by_cases e1 : c.1 = 1
  · rw [if_pos e1]
    refine ⟨g1, fun n hn => ?_, by show (gp G).length ≤ _; omega⟩
    show ud (gt G) _ _ n = -1
    rw [ud_ne (by omega)]; exact g2 n hn
  rw [if_neg e1]
  by_cases e2 : c.1 = 2
  · rw [if_pos e2]
    refine ⟨fun n hn => ?_, g2, ?_⟩
    · show ud (gl G) _ _ n = -1
      rw [ud_at]
      by_cases q : n = c.2.1
      · rw [if_pos q]
      · rw [if_neg q]; exact g1 n hn
    · show (remA 0 c.2.1 (gp G)).length ≤ _
      have := len_remA (s := 0) (b := c.2.1) (L := gp G)
      omega
  rw [if_neg e2]
  by_cases e3 : c.1 = 3
  · rw [if_pos e3]
    refine ⟨g1, fun n hn => ?_, ?_⟩
    · show ud (gt G) _ _ n = -1
      rw [ud_at]
      by_cases q : n = c.2.1
      · rw [if_pos q]
      · rw [if_neg q]; exact g2 n hn
    · show (remA 1 c.2.1 (gp G)).length ≤ _
      have := len_remA (s := 1) (b := c.2.1) (L := gp G)
      omega
  rw [if_neg e3]
  by_cases e5 : c.1 = 5
  · rw [if_pos e5]
    refine ⟨g1, g2, ?_⟩
    show (remP _ _ _ (gp G)).length ≤ _
    have := len_remP (s := c.2.1) (b := c.2.2.1) (k := c.2.2.2.1) (L := gp G)
    omega
  · rw [if_neg e5]
    refine ⟨g1, g2, ?_⟩
    show (setP _ _ _ _ (gp G)).length ≤ _
    have := len_setP (s := c.2.1) (b := c.2.2.1) (k := c.2.2.2.1) (d := c.2.2.2.2) (L := gp G)
    omega
theorem bndG_fold : ∀ {l : List Ch} {G : Gr} {m : Nat}, bndG G m → m + l.length ≤ 400 → bndG (l.foldl actG G) (m + l.length)
  | [], _, _, h, _ => h
  | c :: l, G, m, h, q => by
    have q' : m + (l.length + 1) ≤ 400 := q
    have := bndG_fold (l := l) (bndG_act (c := c) h (by omega)) (by omega)
    have e : m + (c :: l).length = m + 1 + l.length := by simp; omega
    rw [e]
    exact this
theorem bnd_run {l : List Ch} (h : l.length ≤ 400) : bndG (run l) l.length := by
  have := bndG_fold (l := l) (G := G0) (m := 0) ⟨fun _ _ => rfl, fun _ _ => rfl, Nat.le_refl 0⟩ (by omega)
  rw [Nat.zero_add] at this
  exact this
