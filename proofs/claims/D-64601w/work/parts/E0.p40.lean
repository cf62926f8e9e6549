/-! SNAPSHOTS: each change of the plain graph; counts -/
set_option maxRecDepth 100000
section LKC
variable {σ : AS} {ty fr too : F1} {no ed : F1} {fm : Int → F1} {G : Gr} {v p l : Int}
theorem lk_gone {s b k : Int} (hG : okG G) (h : ¬ thingAt G s b) : lk s b k (gp G) = none := lk_none.mpr fun x hx q => h (by
  have := (hG.2.2.2.1 x hx).1
  rw [q.1, q.2.1] at this
  exact this)
theorem ff_at {f g : F1} {n : Nat} (h : ∀ i, f i ≠ 0 ↔ g i ≠ -1) (h0 : 0 ≤ v ∧ v < n) (h1 : f v = 0) (h2 : ∀ i, 0 ≤ i → i < v → f i ≠ 0) : ((ff g n 0 : Nat) : Int) = v := by
  have hv : g v = -1 := Classical.not_not.mp fun z => (h v).mpr z h1
  have e : ((v.toNat : Nat) : Int) = v := by omega
  obtain ⟨a, b⟩ := ff_free (f := g) (m := n) (k := 0) (j := v.toNat) (by omega) (by omega) (by rw [e]; exact hv)
  by_cases c : ((ff g n 0 : Nat) : Int) = v
  · exact c
  · exact absurd b ((h _).mp (h2 _ (by omega) (by omega)))
theorem LK.node (h : LK σ ty fr too (no, ed, fm) G) (hG : okG G) (h0 : 0 ≤ v ∧ v < 400) (h1 : no v = 0) (h2 : ∀ i, 0 ≤ i → i < v → no i ≠ 0) (hp : p ≠ 0) (hn : ∀ i, no i ≠ p) (he : ∀ i, ed i ≠ p) (hl : small l) : LK σ (ud ty p l) fr too (ud no v p, ed, fun q => if q = p then fun _ => 0 else fm q) (actG G (0, l, 0, 0, 0)) := by
  obtain ⟨a1, a2, a3, a4⟩ := h
  have ev := ff_at (n := 400) a1 h0 h1 h2
  unfold actG
  rw [if_pos rfl, ev]
  refine ⟨fun i => ?_, a2, fun i hi => ?_, fun i hi => ?_⟩
  · show ud no v p i ≠ 0 ↔ ud (gl G) v l i ≠ -1
    rw [ud_at, ud_at]
    by_cases c : i = v
    · rw [if_pos c, if_pos c]; exact ⟨fun _ => small_ne hl, fun _ => hp⟩
    · rw [if_neg c, if_neg c]; exact a1 i
  · change ud no v p i ≠ 0 at hi
    show ud ty p l (ud no v p i) = ud (gl G) v l i ∧ ∀ k, pv σ ((if ud no v p i = p then fun _ => 0 else fm (ud no v p i)) k) = lk 0 i k (gp G)
    rw [ud_at] at hi
    rw [ud_at (i := v), ud_at (i := v)]
    by_cases c : i = v
    · rw [if_pos c, if_pos c, ud_eq, if_pos rfl]
      refine ⟨rfl, fun k => ?_⟩
      rw [lk_gone hG]
      · rfl
      · rintro (⟨_, q⟩ | ⟨q, _⟩)
        · exact (a1 i).mpr q.2.2 (c ▸ h1)
        · exact absurd q (by decide)
    · rw [if_neg c] at hi
      rw [if_neg c, if_neg c, ud_ne (hn i), if_neg (hn i)]
      exact a3 i hi
  · obtain ⟨b, b4⟩ := a4 i hi
    show (ud ty p l (ed i) = gt G i ∧ fr (ed i) = gf G i ∧ too (ed i) = go G i) ∧ ∀ k, pv σ ((if ed i = p then fun _ => 0 else fm (ed i)) k) = lk 1 i k (gp G)
    rw [ud_ne (he i), if_neg (he i)]
    exact ⟨b, b4⟩
theorem LK.edge {a b : Int} (h : LK σ ty fr too (no, ed, fm) G) (hG : okG G) (h0 : 0 ≤ v ∧ v < 1000) (h1 : ed v = 0) (h2 : ∀ i, 0 ≤ i → i < v → ed i ≠ 0) (hp : p ≠ 0) (hn : ∀ i, no i ≠ p) (he : ∀ i, ed i ≠ p) (hl : small l) : LK σ (ud ty p l) (ud fr p a) (ud too p b) (no, ud ed v p, fun q => if q = p then fun _ => 0 else fm q) (actG G (1, a, b, l, 0)) := by
  obtain ⟨a1, a2, a3, a4⟩ := h
  have ev := ff_at (n := 1000) a2 h0 h1 h2
  unfold actG
  rw [if_neg (by show ¬ (1 : Int) = 0; decide), if_pos rfl, ev]
  refine ⟨a1, fun i => ?_, fun i hi => ?_, fun i hi => ?_⟩
  · show ud ed v p i ≠ 0 ↔ ud (gt G) v l i ≠ -1
    rw [ud_at, ud_at]
    by_cases c : i = v
    · rw [if_pos c, if_pos c]; exact ⟨fun _ => small_ne hl, fun _ => hp⟩
    · rw [if_neg c, if_neg c]; exact a2 i
  · obtain ⟨b1, b4⟩ := a3 i hi
    show ud ty p l (no i) = gl G i ∧ ∀ k, pv σ ((if no i = p then fun _ => 0 else fm (no i)) k) = lk 0 i k (gp G)
    rw [ud_ne (hn i), if_neg (hn i)]
    exact ⟨b1, b4⟩
  · change ud ed v p i ≠ 0 at hi
    show (ud ty p l (ud ed v p i) = ud (gt G) v l i ∧ ud fr p a (ud ed v p i) = ud (gf G) v a i ∧ ud too p b (ud ed v p i) = ud (go G) v b i) ∧ ∀ k, pv σ ((if ud ed v p i = p then fun _ => 0 else fm (ud ed v p i)) k) = lk 1 i k (gp G)
    rw [ud_at] at hi
    rw [ud_at (i := v), ud_at (i := v), ud_at (i := v), ud_at (i := v)]
    by_cases c : i = v
    · rw [if_pos c, if_pos c, if_pos c, if_pos c, ud_eq, ud_eq, ud_eq, if_pos rfl]
      refine ⟨⟨rfl, rfl, rfl⟩, fun k => ?_⟩
      rw [lk_gone hG]
      · rfl
      · rintro (⟨q, _⟩ | ⟨_, q⟩)
        · exact absurd q (by decide)
        · exact (a2 i).mpr q.2.2 (c ▸ h1)
    · rw [if_neg c] at hi
      rw [if_neg c, if_neg c, if_neg c, if_neg c, ud_ne (he i), ud_ne (he i), ud_ne (he i), if_neg (he i)]
      exact a4 i hi
theorem LK.dropN (h : LK σ ty fr too (no, ed, fm) G) : LK σ ty fr too (ud no v 0, ed, fm) (actG G (2, v, 0, 0, 0)) := by
  obtain ⟨a1, a2, a3, a4⟩ := h
  unfold actG
  rw [if_neg (by show ¬ (2 : Int) = 0; decide), if_neg (by show ¬ (2 : Int) = 1; decide), if_pos rfl]
  refine ⟨fun i => ?_, a2, fun i hi => ?_, fun i hi => ?_⟩
  · show ud no v 0 i ≠ 0 ↔ ud (gl G) v (-1) i ≠ -1
    rw [ud_at, ud_at]
    by_cases c : i = v
    · rw [if_pos c, if_pos c]; exact ⟨fun q => absurd rfl q, fun q => absurd rfl q⟩
    · rw [if_neg c, if_neg c]; exact a1 i
  · change ud no v 0 i ≠ 0 at hi
    show ty (ud no v 0 i) = ud (gl G) v (-1) i ∧ ∀ k, pv σ (fm (ud no v 0 i) k) = lk 0 i k (remA 0 v (gp G))
    rw [ud_at] at hi
    rw [ud_at, ud_at]
    by_cases c : i = v
    · rw [if_pos c] at hi; exact absurd rfl hi
    · rw [if_neg c] at hi
      rw [if_neg c, if_neg c]
      refine ⟨(a3 i hi).1, fun k => ?_⟩
      rw [lk_remA, if_neg (fun q => c q.2)]
      exact (a3 i hi).2 k
  · obtain ⟨b1, b4⟩ := a4 i hi
    refine ⟨b1, fun k => ?_⟩
    show _ = lk 1 i k (remA 0 v (gp G))
    rw [lk_remA, if_neg (fun q => absurd q.1 (by decide))]
    exact b4 k
theorem LK.dropE (h : LK σ ty fr too (no, ed, fm) G) : LK σ ty fr too (no, ud ed v 0, fm) (actG G (3, v, 0, 0, 0)) := by
  obtain ⟨a1, a2, a3, a4⟩ := h
  unfold actG
  rw [if_neg (by show ¬ (3 : Int) = 0; decide), if_neg (by show ¬ (3 : Int) = 1; decide), if_neg (by show ¬ (3 : Int) = 2; decide), if_pos rfl]
  refine ⟨a1, fun i => ?_, fun i hi => ?_, fun i hi => ?_⟩
  · show ud ed v 0 i ≠ 0 ↔ ud (gt G) v (-1) i ≠ -1
    rw [ud_at, ud_at]
    by_cases c : i = v
    · rw [if_pos c, if_pos c]; exact ⟨fun q => absurd rfl q, fun q => absurd rfl q⟩
    · rw [if_neg c, if_neg c]; exact a2 i
  · obtain ⟨b1, b4⟩ := a3 i hi
    refine ⟨b1, fun k => ?_⟩
    show _ = lk 0 i k (remA 1 v (gp G))
    rw [lk_remA, if_neg (fun q => absurd q.1 (by decide))]
    exact b4 k
  · change ud ed v 0 i ≠ 0 at hi
    show (ty (ud ed v 0 i) = ud (gt G) v (-1) i ∧ fr (ud ed v 0 i) = ud (gf G) v 0 i ∧ too (ud ed v 0 i) = ud (go G) v 0 i) ∧ ∀ k, pv σ (fm (ud ed v 0 i) k) = lk 1 i k (remA 1 v (gp G))
    rw [ud_at] at hi
    rw [ud_at, ud_at, ud_at, ud_at]
    by_cases c : i = v
    · rw [if_pos c] at hi; exact absurd rfl hi
    · rw [if_neg c] at hi
      rw [if_neg c, if_neg c, if_neg c, if_neg c]
      refine ⟨(a4 i hi).1, fun k => ?_⟩
      rw [lk_remA, if_neg (fun q => c q.2)]
      exact (a4 i hi).2 k
theorem LK.prop {s b key r : Int} {P' : List Pr} (h : LK σ ty fr too (no, ed, fm) G) (hn : ∀ i, no i ≠ 0 → (no i = p ↔ s = 0 ∧ i = b)) (he : ∀ i, ed i ≠ 0 → (ed i = p ↔ s = 1 ∧ i = b)) (hP : ∀ s' b' k', lk s' b' k' P' = if s' = s ∧ b' = b ∧ k' = key then pv σ r else lk s' b' k' (gp G)) : LK σ ty fr too (no, ed, fun q => if q = p then ud (fm p) key r else fm q) (gl G, gt G, gf G, go G, P') := by
  obtain ⟨a1, a2, a3, a4⟩ := h
  refine ⟨a1, a2, fun i hi => ⟨(a3 i hi).1, fun k => ?_⟩, fun i hi => ⟨(a4 i hi).1, fun k => ?_⟩⟩
  · show pv σ ((if no i = p then ud (fm p) key r else fm (no i)) k) = lk 0 i k P'
    rw [hP]
    by_cases c : no i = p
    · have c2 := (hn i hi).mp c
      rw [if_pos c, ud_at]
      by_cases c3 : k = key
      · rw [if_pos c3, if_pos ⟨c2.1.symm, c2.2, c3⟩]
      · rw [if_neg c3, if_neg (fun q => c3 q.2.2), ← c]
        exact (a3 i hi).2 k
    · rw [if_neg c, if_neg (fun q => c ((hn i hi).mpr ⟨q.1.symm, q.2.1⟩))]
      exact (a3 i hi).2 k
  · show pv σ ((if ed i = p then ud (fm p) key r else fm (ed i)) k) = lk 1 i k P'
    rw [hP]
    by_cases c : ed i = p
    · have c2 := (he i hi).mp c
      rw [if_pos c, ud_at]
      by_cases c3 : k = key
      · rw [if_pos c3, if_pos ⟨c2.1.symm, c2.2, c3⟩]
      · rw [if_neg c3, if_neg (fun q => c3 q.2.2), ← c]
        exact (a4 i hi).2 k
    · rw [if_neg c, if_neg (fun q => c ((he i hi).mpr ⟨q.1.symm, q.2.1⟩))]
      exact (a4 i hi).2 k
theorem LK.put {s b key r d : Int} (h : LK σ ty fr too (no, ed, fm) G) (hn : ∀ i, no i ≠ 0 → (no i = p ↔ s = 0 ∧ i = b)) (he : ∀ i, ed i ≠ 0 → (ed i = p ↔ s = 1 ∧ i = b)) (hr : r ≠ 0) (hd : ld σ r 0 = d) : LK σ ty fr too (no, ed, fun q => if q = p then ud (fm p) key r else fm q) (actG G (4, s, b, key, d)) := by
  unfold actG
  rw [if_neg (by show ¬ (4 : Int) = 0; decide), if_neg (by show ¬ (4 : Int) = 1; decide), if_neg (by show ¬ (4 : Int) = 2; decide), if_neg (by show ¬ (4 : Int) = 3; decide), if_neg (by show ¬ (4 : Int) = 5; decide)]
  refine h.prop hn he fun s' b' k' => ?_
  rw [lk_setP]
  have : pv σ r = some d := by unfold pv; rw [if_neg hr, hd]
  rw [this]
theorem LK.rem {s b key : Int} (h : LK σ ty fr too (no, ed, fm) G) (hG : okG G) (hn : ∀ i, no i ≠ 0 → (no i = p ↔ s = 0 ∧ i = b)) (he : ∀ i, ed i ≠ 0 → (ed i = p ↔ s = 1 ∧ i = b)) : LK σ ty fr too (no, ed, fun q => if q = p then ud (fm p) key 0 else fm q) (actG G (5, s, b, key, 0)) := by
  unfold actG
  rw [if_neg (by show ¬ (5 : Int) = 0; decide), if_neg (by show ¬ (5 : Int) = 1; decide), if_neg (by show ¬ (5 : Int) = 2; decide), if_neg (by show ¬ (5 : Int) = 3; decide), if_pos rfl]
  refine h.prop hn he fun s' b' k' => ?_
  rw [lk_remP hG.2.2.2.2]
  rfl
end LKC
/-! counts -/
theorem sm_one {f g : Int → Nat} {a : Int} : ∀ {n : Nat}, (∀ i, i ≠ a → g i = f i) → (0 ≤ a ∧ a < n) → sm g n + f a = sm f n + g a
  | 0, _, h => by omega
  | n + 1, h, ha => by
    unfold sm
    by_cases e : a = n
    · subst e
      rw [show sm g n = sm f n from ?_]
      · omega
      · have : ∀ m : Nat, m ≤ n → sm g m = sm f m := by
          intro m
          induction m with
          | zero => intro _; rfl
          | succ m ih =>
            intro hm
            unfold sm
            rw [ih (by omega), h m (by omega)]
        exact this n (Nat.le_refl n)
    · have := sm_one (n := n) h ⟨ha.1, by omega⟩
      rw [h n (fun z => e z.symm)]
      omega
theorem sm_split {f g k : Int → Nat} (h : ∀ i, k i = f i + g i) {n : Nat} : sm k n = sm f n + sm g n := by
  rw [sm_add]
  exact sm_congr h
def szT (fm : Int → F1) (q : Int) : Nat := if q = 0 then 0 else sm (has (fm q)) 32
def cN (S : Sn) : Nat := sm (has S.1) 400
def cE (S : Sn) : Nat := sm (has S.2.1) 1000
def cP (S : Sn) : Nat := sm (fun i => szT S.2.2 (S.1 i)) 400 + sm (fun i => szT S.2.2 (S.2.1 i)) 1000
/-- how many properties of a thing are in a list -/
def ctT (s b : Int) : List Pr → Nat
  | [] => 0
  | x :: L => (if x.1 = s ∧ x.2.1 = b then 1 else 0) + ctT s b L
theorem sm_zero {n : Nat} : sm (fun _ => 0) n = 0 := by
  induction n with
  | zero => rfl
  | succ n ih => unfold sm; rw [ih]
theorem sm_ind {b : Int} {n : Nat} (h : 0 ≤ b ∧ b < n) : sm (fun i => if b = i then 1 else 0) n = 1 := by
  have := sm_one (f := fun _ => 0) (g := fun i => if b = i then 1 else 0) (a := b) (n := n) (fun i hi => if_neg (fun z => hi z.symm)) h
  rw [sm_zero, if_pos rfl] at this
  omega
theorem len_ct : ∀ {L : List Pr}, (∀ x ∈ L, (x.1 = 0 ∧ 0 ≤ x.2.1 ∧ x.2.1 < 400) ∨ (x.1 = 1 ∧ 0 ≤ x.2.1 ∧ x.2.1 < 1000)) → L.length = sm (fun i => ctT 0 i L) 400 + sm (fun i => ctT 1 i L) 1000
  | [], _ => by
    show 0 = sm (fun _ => 0) 400 + sm (fun _ => 0) 1000
    rw [sm_zero, sm_zero]
  | x :: L, h => by
    have ih := len_ct (L := L) fun y hy => h y (List.mem_cons_of_mem _ hy)
    have e0 : sm (fun i => ctT 0 i (x :: L)) 400 = sm (fun i => if x.1 = 0 ∧ x.2.1 = i then 1 else 0) 400 + sm (fun i => ctT 0 i L) 400 := sm_split fun i => rfl
    have e1 : sm (fun i => ctT 1 i (x :: L)) 1000 = sm (fun i => if x.1 = 1 ∧ x.2.1 = i then 1 else 0) 1000 + sm (fun i => ctT 1 i L) 1000 := sm_split fun i => rfl
    rw [e0, e1, List.length_cons, ih]
    rcases h x List.mem_cons_self with ⟨a, b⟩ | ⟨a, b⟩
    · have i0 : sm (fun i => if x.1 = 0 ∧ x.2.1 = i then 1 else 0) 400 = 1 := by
        rw [sm_congr (g := fun i => if x.2.1 = i then 1 else 0) (fun i => by simp [a])]
        exact sm_ind b
      have i1 : sm (fun i => if x.1 = 1 ∧ x.2.1 = i then 1 else 0) 1000 = 0 := by
        rw [sm_congr (g := fun _ => 0) (fun i => by simp [a])]
        exact sm_zero
      omega
    · have i0 : sm (fun i => if x.1 = 0 ∧ x.2.1 = i then 1 else 0) 400 = 0 := by
        rw [sm_congr (g := fun _ => 0) (fun i => by simp [a])]
        exact sm_zero
      have i1 : sm (fun i => if x.1 = 1 ∧ x.2.1 = i then 1 else 0) 1000 = 1 := by
        rw [sm_congr (g := fun i => if x.2.1 = i then 1 else 0) (fun i => by simp [a])]
        exact sm_ind b
      omega
theorem ct_lk {s b : Int} : ∀ {L : List Pr}, L.Pairwise apart → (∀ x ∈ L, small x.2.2.1) → ctT s b L = sm (fun k => if lk s b k L = none then 0 else 1) 32
  | [], _, _ => by
    show 0 = sm (fun _ => 0) 32
    rw [sm_zero]
  | x :: L, hp, hs => by
    rw [List.pairwise_cons] at hp
    have ih := ct_lk (s := s) (b := b) hp.2 fun y hy => hs y (List.mem_cons_of_mem _ hy)
    show (if x.1 = s ∧ x.2.1 = b then 1 else 0) + ctT s b L = _
    rw [ih]
    by_cases c : x.1 = s ∧ x.2.1 = b
    · rw [if_pos c]
      have hx := hs x List.mem_cons_self
      have hno : lk s b x.2.2.1 L = none := lk_none.mpr fun y hy q => hp.1 y hy ⟨c.1.trans q.1.symm, c.2.trans q.2.1.symm, q.2.2.symm⟩
      have hyes : lk s b x.2.2.1 (x :: L) ≠ none := by
        unfold lk
        rw [if_pos ⟨c.1, c.2, rfl⟩]
        exact fun z => by cases z
      have := sm_one (f := fun k => if lk s b k L = none then 0 else 1) (g := fun k => if lk s b k (x :: L) = none then 0 else 1) (a := x.2.2.1) (n := 32) (fun i hi => by
        have : lk s b i (x :: L) = lk s b i L := if_neg (fun q => hi q.2.2.symm)
        show (if lk s b i (x :: L) = none then 0 else 1) = _
        rw [this]) ⟨hx.1, hx.2⟩
      rw [if_pos hno, if_neg hyes] at this
      omega
    · rw [if_neg c, Nat.zero_add]
      refine sm_congr fun k => ?_
      have : lk s b k (x :: L) = lk s b k L := if_neg (fun q => c ⟨q.1, q.2.1⟩)
      rw [this]
section CT
variable {σ : AS} {ty fr too : F1} {S : Sn} {G : Gr}
theorem LK.counts (h : LK σ ty fr too S G) (hG : okG G) : cN S = sm (fun i => if gl G i = -1 then 0 else 1) 400 ∧ cE S = sm (fun i => if gt G i = -1 then 0 else 1) 1000 ∧ cP S = (gp G).length := by
  obtain ⟨a1, a2, a3, a4⟩ := h
  have key : ∀ (s b q : Int), (∀ k, pv σ (S.2.2 q k) = lk s b k (gp G)) → sm (has (S.2.2 q)) 32 = ctT s b (gp G) := fun s b q hq => by
    rw [ct_lk hG.2.2.2.2 fun x hx => (hG.2.2.2.1 x hx).2.1]
    refine sm_congr fun k => ?_
    unfold has
    rw [← hq k]
    unfold pv
    by_cases c : S.2.2 q k = 0
    · rw [if_pos c, if_pos c, if_pos rfl]
    · rw [if_neg c, if_neg c, if_neg (fun z => by cases z)]
  have gone : ∀ s b, ¬ thingAt G s b → ctT s b (gp G) = 0 := fun s b hb => by
    rw [ct_lk hG.2.2.2.2 fun x hx => (hG.2.2.2.1 x hx).2.1, sm_congr (g := fun _ => 0) (fun k => by rw [lk_gone hG hb, if_pos rfl])]
    exact sm_zero
  refine ⟨sm_congr fun i => ?_, sm_congr fun i => ?_, ?_⟩
  · unfold has
    by_cases c : S.1 i = 0
    · rw [if_pos c, if_pos (Classical.not_not.mp fun z => (a1 i).mpr z c)]
    · rw [if_neg c, if_neg ((a1 i).mp c)]
  · unfold has
    by_cases c : S.2.1 i = 0
    · rw [if_pos c, if_pos (Classical.not_not.mp fun z => (a2 i).mpr z c)]
    · rw [if_neg c, if_neg ((a2 i).mp c)]
  · rw [len_ct (L := gp G) fun x hx => ?_]
    · unfold cP
      congr 1
      · refine sm_congr fun i => ?_
        unfold szT
        by_cases c : S.1 i = 0
        · rw [if_pos c, gone]
          rintro (⟨_, q⟩ | ⟨q, _⟩)
          · exact (a1 i).mpr q.2.2 c
          · exact absurd q (by decide)
        · rw [if_neg c]
          exact key 0 i _ (a3 i c).2
      · refine sm_congr fun i => ?_
        unfold szT
        by_cases c : S.2.1 i = 0
        · rw [if_pos c, gone]
          rintro (⟨q, _⟩ | ⟨_, q⟩)
          · exact absurd q (by decide)
          · exact (a2 i).mpr q.2.2 c
        · rw [if_neg c]
          exact key 1 i _ (a4 i c).2
    · rcases (hG.2.2.2.1 x hx).1 with ⟨q1, q2⟩ | ⟨q1, q2⟩
      · exact Or.inl ⟨q1, q2.1, q2.2.1⟩
      · exact Or.inr ⟨q1, q2.1, q2.2.1⟩
end CT
