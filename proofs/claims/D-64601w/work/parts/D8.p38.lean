/-! PURE: matches op by op (as the twin does): the same ways, the same matches -/
set_option maxRecDepth 100000
/-- an op: sort, name, label or type, way (0 on, 1 back, 2 either), step -/
abbrev Op : Type := Int × Int × Int × Int × Int
/-- a state: node at hand, names' values, edges gone, whether steps have ended -/
abbrev TS : Type := Int × (Int → Int) × List Int × Bool
section RT
variable (G : Gr)
def goneT (o : Op) (cur : Int) (us : List Int) (e : Int) (back : Bool) : Bool := decide (gt G e ≠ -1 ∧ (o.2.2.1 = -1 ∨ gt G e = o.2.2.1) ∧ ¬ e ∈ us ∧ (back = true → ¬ (o.2.2.2.1 = 0 ∨ (o.2.2.2.1 = 2 ∧ gf G e = go G e))) ∧ (back = false → o.2.2.2.1 ≠ 1) ∧ (if back = true then go G e else gf G e) = cur)
def bindT (env : Int → Int) (v x : Int) : Bool := decide (v = -1 ∨ env v = -1 ∨ env v = x)
def nodeT (o : Op) (s : TS) (n : Int) : Option TS := if (0 ≤ n ∧ n < 400 ∧ gl G n ≠ -1) ∧ (o.2.2.1 = -1 ∨ gl G n = o.2.2.1) ∧ bindT s.2.1 o.2.1 n = true then some (n, bnd s.2.1 o.2.1 n, s.2.2.1, false) else none
def edgeT (o : Op) (s : TS) (e : Int) (back : Bool) : Option TS := if goneT G o s.1 s.2.2.1 e back = true ∧ bindT s.2.1 o.2.1 e = true then some (if back = true then gf G e else go G e, bnd s.2.1 o.2.1 e, e :: s.2.2.1, false) else none
def nch (o : Op) : Nat := if o.1 = 0 then 400 else if o.1 = 1 then 2000 else if o.1 = 2 then 1 else 2001
def chT (o : Op) (s : TS) (c : Int) : Option TS :=
  if o.1 = 0 then nodeT G o s c
  else if o.1 = 2 then nodeT G o s s.1
  else if o.1 = 1 then edgeT G o s (c / 2) (decide (c % 2 = 1))
  else if c = 0 then (if s.2.2.2 = true ∨ o.2.2.2.2 = 0 then some (s.1, s.2.1, s.2.2.1, true) else none)
  else if s.2.2.2 = true then none else edgeT G o s ((c - 1) / 2) (decide (c % 2 = 0))
def wyT (o : Op) (c : Int) : Nat := if o.1 = 3 ∧ c = 0 then 0 else 1
def subT (o : Op) (s : TS) (K : TS → MR) (c : Int) : MR := match chT G o s c with
  | none => m0
  | some s' => madd (wyT o c, []) (K s')
def runT : List Op → TS → MR
  | [] => fun s => (0, [s.2.1])
  | o :: os => fun s => msum (subT G o s (runT os)) (nums (nch o))
end RT
def twy (w tw : Int) : Prop := (w = 1 ∧ tw = 0) ∨ (w = -1 ∧ tw = 1) ∨ (w = 0 ∧ tw = 2)
def chn (p : Part) (tw : Int) : Nat → Nat → List Op
  | _, 0 => []
  | j, h + 1 => (3, -1, pT p, tw, if j < pLo p then 1 else 0) :: chn p tw (j + 1) h
def PartOps (p : Part) (L : List Op) : Prop := (pH p = 0 ∧ L = [(0, pV p, pL p, 0, 0)]) ∨ (pH p ≠ 0 ∧ ∃ tw, twy (pW p) tw ∧ ((pLo p = 1 ∧ pHi p = 1 ∧ L = [(1, pE p, pT p, tw, 0), (2, pV p, pL p, 0, 0)]) ∨ (pE p = -1 ∧ L = chn p tw 0 (pHi p) ++ [(2, pV p, pL p, 0, 0)])))
def OpsOf : List Part → List Op → Prop
  | [], L => L = []
  | p :: ps, L => ∃ a b, L = a ++ b ∧ PartOps p a ∧ OpsOf ps b
theorem OpsOf.snoc {p : Part} {a : List Op} (hp : PartOps p a) : ∀ {ps : List Part} {L : List Op}, OpsOf ps L → OpsOf (ps ++ [p]) (L ++ a)
  | [], L, h => ⟨a, [], by rw [show L = [] from h, List.append_nil]; rfl, hp, rfl⟩
  | q :: ps, L, h => by
    obtain ⟨x, y, e, h1, h2⟩ := h
    exact ⟨x, y ++ a, by rw [e, List.append_assoc], h1, OpsOf.snoc hp h2⟩
theorem chn_snoc {p : Part} {tw : Int} : ∀ {h j : Nat}, chn p tw j (h + 1) = chn p tw j h ++ [(3, -1, pT p, tw, if j + h < pLo p then 1 else 0)]
  | 0, j => rfl
  | h + 1, j => by
    have e : chn p tw (j + 1) (h + 1) = chn p tw (j + 1) h ++ [(3, -1, pT p, tw, if j + 1 + h < pLo p then 1 else 0)] := chn_snoc
    show (3, -1, pT p, tw, if j < pLo p then 1 else 0) :: chn p tw (j + 1) (h + 1) = ((3, -1, pT p, tw, if j < pLo p then 1 else 0) :: chn p tw (j + 1) h) ++ [(3, -1, pT p, tw, if j + (h + 1) < pLo p then 1 else 0)]
    rw [e, show j + 1 + h = j + (h + 1) by omega]
    rfl
theorem WFp.congr {K K' : Int → Prop} {M : Int} : ∀ {ps : List Part} {m : Int}, WFp K m ps M → (∀ k, 0 ≤ k → k < M → (K k ↔ K' k)) → m ≤ M ∧ WFp K' m ps M
  | [], m, h, _ => ⟨by have := h.1; omega, h⟩
  | p :: ps, m, h, q => by
    obtain ⟨hm, m1, m2, w1, w2, w3, w4⟩ := h
    obtain ⟨r1, r2⟩ := WFp.congr w4 q
    refine ⟨by omega, hm, m1, m2, w1, ?_, ?_, r2⟩
    · rcases w2 with a | ⟨a1, a2, a3, a4, a5⟩
      · exact Or.inl a
      · exact Or.inr ⟨a1, a2, (q m hm (by omega)).mp a3, a4, a5⟩
    · rcases w3 with a | ⟨a1, a2, a3, a4⟩ | ⟨a1, a2, a3⟩
      · exact Or.inl a
      · exact Or.inr (Or.inl ⟨a1, a2, fun z => a3 ((q _ a1 (by omega)).mpr z), a4⟩)
      · exact Or.inr (Or.inr ⟨a1, fun z => a2 ((q m1 (by omega) (by omega)).mpr z), a3⟩)
theorem WFp.snoc {K : Int → Prop} {M M2 : Int} {p : Part} (hp : WFp K M [p] M2) : ∀ {ps : List Part} {m : Int}, WFp K m ps M → WFp K m (ps ++ [p]) M2
  | [], m, h => h.1 ▸ hp
  | q :: ps, m, h => by
    obtain ⟨hm, m1, m2, w1, w2, w3, w4⟩ := h
    exact ⟨hm, m1, m2, w1, w2, w3, WFp.snoc hp w4⟩
section EQ
variable {G : Gr}
theorem chT0 {o : Op} {s : TS} {c : Int} (h : o.1 = 0) : chT G o s c = nodeT G o s c := by
  unfold chT
  rw [if_pos h]
theorem chT2 {o : Op} {s : TS} {c : Int} (h : o.1 = 2) : chT G o s c = nodeT G o s s.1 := by
  unfold chT
  rw [if_neg (by omega), if_pos h]
theorem chT1 {o : Op} {s : TS} {c : Int} (h : o.1 = 1) : chT G o s c = edgeT G o s (c / 2) (decide (c % 2 = 1)) := by
  unfold chT
  rw [if_neg (by omega), if_neg (by omega), if_pos h]
theorem chT30 {o : Op} {s : TS} {c : Int} (h : o.1 = 3) (hc : c = 0) : chT G o s c = if s.2.2.2 = true ∨ o.2.2.2.2 = 0 then some (s.1, s.2.1, s.2.2.1, true) else none := by
  unfold chT
  rw [if_neg (by omega), if_neg (by omega), if_neg (by omega), if_pos hc]
theorem chT31 {o : Op} {s : TS} {c : Int} (h : o.1 = 3) (hc : c ≠ 0) : chT G o s c = if s.2.2.2 = true then none else edgeT G o s ((c - 1) / 2) (decide (c % 2 = 0)) := by
  unfold chT
  rw [if_neg (by omega), if_neg (by omega), if_neg (by omega), if_neg hc]
theorem nums_mem_sum {f : Int → MR} {n : Nat} (h : ∀ c : Int, 1 ≤ c → c < n → f c = m0) (hn : 1 ≤ n) : msum f (nums n) = f 0 := by
  induction n with
  | zero => omega
  | succ n ih =>
    rw [nums_succ, msum_append]
    by_cases e : n = 0
    · subst e
      show madd (msum f []) (madd (f 0) m0) = f 0
      rw [madd_zero]; exact zero_madd
    · rw [ih (fun c a b => h c a (by omega)) (by omega)]
      show madd (f 0) (madd (f (n : Int)) m0) = f 0
      rw [h n (by omega) (by omega), madd_zero, madd_zero]
theorem chT_node {o : Op} {s : TS} {p : Part} {n : Int} (hn : nodeAt G n) (ho : o.2.1 = pV p ∧ o.2.2.1 = pL p) : nodeT G o s n = if canA G p s.2.1 n = true then some (n, bnd s.2.1 (pV p) n, s.2.2.1, false) else none := by
  unfold nodeT canA bindT
  rw [ho.1, ho.2]
  by_cases c1 : pV p = -1 ∨ s.2.1 (pV p) = -1 ∨ s.2.1 (pV p) = n
  · by_cases c2 : pL p = -1 ∨ gl G n = pL p
    · rw [if_pos ⟨hn, c2, decide_eq_true c1⟩, if_pos (decide_eq_true ⟨c1, c2⟩)]
    · rw [if_neg (fun z => c2 z.2.1), if_neg (fun z => c2 (of_decide_eq_true z).2)]
  · rw [if_neg (fun z => c1 (of_decide_eq_true z.2.2)), if_neg (fun z => c1 (of_decide_eq_true z).1)]
theorem runT_two {p : Part} {os : List Op} {A : MK} {n : Int} {env : Int → Int} {us : List Int} {ov : Bool} (hn : nodeAt G n) (hA : (pV p = -1 ∨ env (pV p) = -1 ∨ env (pV p) = n) → MEq (runT G os (n, bnd env (pV p) n, us, false)) (A n (bnd env (pV p) n) us)) : MEq (runT G ((2, pV p, pL p, 0, 0) :: os) (n, env, us, ov)) (arrC G p tt A n env us) := by
  show MEq (msum (subT G (2, pV p, pL p, 0, 0) (n, env, us, ov) (runT G os)) (nums 1)) _
  rw [nums_mem_sum (fun c a b => by omega) (by decide)]
  unfold subT
  rw [chT2 rfl, chT_node (o := (2, pV p, pL p, 0, 0)) (p := p) hn ⟨rfl, rfl⟩]
  unfold arrC
  by_cases c : canA G p env n = true
  · have c' : canA G p (n, env, us, ov).2.1 (n, env, us, ov).1 = true := c
    rw [if_pos c, if_pos c', if_pos (show tt (bnd env (pV p) n) = true from rfl)]
    unfold canA at c
    rw [decide_eq_true_iff] at c
    exact MEq.rfl'.add (hA c.1)
  · have c' : ¬ canA G p (n, env, us, ov).2.1 (n, env, us, ov).1 = true := c
    rw [if_neg c, if_neg c']
    exact MEq.rfl'
theorem runT_zero {p : Part} {os : List Op} {A : MK} {cur : Int} {env : Int → Int} {us : List Int} {ov : Bool} (hA : ∀ n, nodeAt G n → (pV p = -1 ∨ env (pV p) = -1 ∨ env (pV p) = n) → MEq (runT G os (n, bnd env (pV p) n, us, false)) (A n (bnd env (pV p) n) us)) : MEq (runT G ((0, pV p, pL p, 0, 0) :: os) (cur, env, us, ov)) (msum (fun n => arrC G p tt A n env us) (ndL G)) := by
  show MEq (msum (subT G (0, pV p, pL p, 0, 0) (cur, env, us, ov) (runT G os)) (nums 400)) _
  unfold ndL
  rw [msum_filter]
  refine msum_congr fun n hn => ?_
  have hm := mem_nums.mp hn
  unfold subT
  rw [chT0 rfl]
  by_cases hnd : gl G n ≠ -1
  · have hN : nodeAt G n := ⟨hm.1, hm.2, hnd⟩
    rw [if_pos (by simpa using hnd), chT_node (o := (0, pV p, pL p, 0, 0)) (p := p) hN ⟨rfl, rfl⟩]
    unfold arrC
    by_cases c : canA G p env n = true
    · have c' : canA G p (cur, env, us, ov).2.1 n = true := c
      rw [if_pos c, if_pos c', if_pos (show tt (bnd env (pV p) n) = true from rfl)]
      unfold canA at c
      rw [decide_eq_true_iff] at c
      exact MEq.rfl'.add (hA n hN c.1)
    · have c' : ¬ canA G p (cur, env, us, ov).2.1 n = true := c
      rw [if_neg c, if_neg c']
      exact MEq.rfl'
  · rw [if_neg (by simpa using hnd)]
    have : nodeT G (0, pV p, pL p, 0, 0) (cur, env, us, ov) n = none := by
      unfold nodeT
      rw [if_neg]
      intro q
      exact hnd q.1.2.2
    rw [this]
    exact MEq.rfl'
theorem gone_iff {p : Part} {o : Op} {cur e : Int} {us : List Int} (ht : o.2.2.1 = pT p) (hw : twy (pW p) o.2.2.2.1) : (goneT G o cur us e false = true ↔ 0 ≤ pW p ∧ (gt G e ≠ -1 ∧ gf G e = cur) ∧ canC G p true us e = true) ∧ (goneT G o cur us e true = true ↔ pW p ≤ 0 ∧ (gt G e ≠ -1 ∧ go G e = cur) ∧ canC G p false us e = true) := by
  unfold goneT canC
  rw [decide_eq_true_iff, decide_eq_true_iff, decide_eq_true_iff, decide_eq_true_iff, ht]
  generalize pW p = w at *
  generalize o.2.2.2.1 = tw at *
  unfold twy at hw
  constructor
  · constructor
    · rintro ⟨a1, a2, a3, a4, a5, a6⟩
      have := a5 rfl
      exact ⟨by omega, ⟨a1, a6⟩, fun z => absurd z.1 (by decide), a3, a2⟩
    · rintro ⟨a1, ⟨a2, a3⟩, a4, a5, a6⟩
      exact ⟨a2, a6, a5, fun z => absurd z (by decide), fun _ => by omega, a3⟩
  · constructor
    · rintro ⟨a1, a2, a3, a4, a5, a6⟩
      have := a4 rfl
      exact ⟨by omega, ⟨a1, a6⟩, fun z => this (Or.inr ⟨by omega, z.2.2⟩), a3, a2⟩
    · rintro ⟨a1, ⟨a2, a3⟩, a4, a5, a6⟩
      refine ⟨a2, a6, a5, fun _ z => ?_, fun z => absurd z (by decide), a3⟩
      rcases z with z | z
      · omega
      · exact a4 ⟨rfl, by omega, z.2⟩
/-- all edges, either way -/
theorem edges_sum {p : Part} {o : Op} {cur : Int} {env : Int → Int} {us : List Int} {S : MK} {T : TS → MR} (ht : o.2.2.1 = pT p) (hv : o.2.1 = pE p) (hw : twy (pW p) o.2.2.2.1) (hb : pE p = -1 ∨ env (pE p) = -1) (hS : ∀ e n, edgeAt G e → (n = gf G e ∨ n = go G e) → MEq (T (n, bnd env (pE p) e, e :: us, false)) (S n (bnd env (pE p) e) (e :: us))) {f : Int → MR} (hf : ∀ e : Int, 0 ≤ e → e < 1000 → (f (2 * e) = match edgeT G o (cur, env, us, false) e false with | none => m0 | some s' => madd (1, []) (T s')) ∧ f (2 * e + 1) = match edgeT G o (cur, env, us, false) e true with | none => m0 | some s' => madd (1, []) (T s')) : MEq (msum f (nums 2000)) (madd (if 0 ≤ pW p then msum (stepC G p S true env us) (outL G cur) else m0) (if pW p ≤ 0 then msum (stepC G p S false env us) (inL G cur) else m0)) := by
  refine (msum_two (n := 1000) (F := fun e => match edgeT G o (cur, env, us, false) e false with | none => m0 | some s' => madd (1, []) (T s')) (B := fun e => match edgeT G o (cur, env, us, false) e true with | none => m0 | some s' => madd (1, []) (T s')) (fun e a b => hf e a b)).trans ?_
  have hbt : ∀ e, bindT env o.2.1 e = true := fun e => by
    unfold bindT
    rw [decide_eq_true_iff, hv]
    exact hb.imp id Or.inl
  refine MEq.add ?_ ?_
  · by_cases c : 0 ≤ pW p
    · rw [if_pos c]
      unfold outL
      rw [msum_filter]
      refine msum_congr fun e he => ?_
      have hm := mem_nums.mp he
      unfold edgeT stepC
      have gi := (gone_iff (G := G) (cur := cur) (e := e) (us := us) ht hw).1
      by_cases c1 : gt G e ≠ -1 ∧ gf G e = cur
      · rw [if_pos (show decide (gt G e ≠ -1 ∧ gf G e = cur) = true from decide_eq_true c1)]
        by_cases c2 : canC G p true us e = true
        · have g : goneT G o cur us e false = true := gi.mpr ⟨c, c1, c2⟩
          rw [if_pos c2, if_pos (show goneT G o cur us e false = true ∧ bindT env o.2.1 e = true from ⟨g, hbt e⟩), hv]
          exact MEq.rfl'.add (hS e _ ⟨hm.1, hm.2, c1.1⟩ (Or.inr rfl))
        · have g : ¬ goneT G o cur us e false = true := fun z => c2 (gi.mp z).2.2
          rw [if_neg c2, if_neg (show ¬ (goneT G o cur us e false = true ∧ bindT env o.2.1 e = true) from fun z => g z.1)]
          exact MEq.rfl'
      · have g : ¬ goneT G o cur us e false = true := fun z => c1 (gi.mp z).2.1
        rw [if_neg (show ¬ decide (gt G e ≠ -1 ∧ gf G e = cur) = true from fun z => c1 (of_decide_eq_true z)), if_neg (show ¬ (goneT G o cur us e false = true ∧ bindT env o.2.1 e = true) from fun z => g z.1)]
        exact MEq.rfl'
    · rw [if_neg c, msum_zero fun e he => ?_]
      · exact MEq.rfl'
      · have gi := (gone_iff (G := G) (cur := cur) (e := e) (us := us) ht hw).1
        unfold edgeT
        rw [if_neg (show ¬ (goneT G o cur us e false = true ∧ bindT env o.2.1 e = true) from fun z => c (gi.mp z.1).1)]
  · by_cases c : pW p ≤ 0
    · rw [if_pos c]
      unfold inL
      rw [msum_filter]
      refine msum_congr fun e he => ?_
      have hm := mem_nums.mp he
      unfold edgeT stepC
      have gi := (gone_iff (G := G) (cur := cur) (e := e) (us := us) ht hw).2
      by_cases c1 : gt G e ≠ -1 ∧ go G e = cur
      · rw [if_pos (show decide (gt G e ≠ -1 ∧ go G e = cur) = true from decide_eq_true c1)]
        by_cases c2 : canC G p false us e = true
        · have g : goneT G o cur us e true = true := gi.mpr ⟨c, c1, c2⟩
          rw [if_pos c2, if_pos (show goneT G o cur us e true = true ∧ bindT env o.2.1 e = true from ⟨g, hbt e⟩), hv]
          exact MEq.rfl'.add (hS e _ ⟨hm.1, hm.2, c1.1⟩ (Or.inl rfl))
        · have g : ¬ goneT G o cur us e true = true := fun z => c2 (gi.mp z).2.2
          rw [if_neg c2, if_neg (show ¬ (goneT G o cur us e true = true ∧ bindT env o.2.1 e = true) from fun z => g z.1)]
          exact MEq.rfl'
      · have g : ¬ goneT G o cur us e true = true := fun z => c1 (gi.mp z).2.1
        rw [if_neg (show ¬ decide (gt G e ≠ -1 ∧ go G e = cur) = true from fun z => c1 (of_decide_eq_true z)), if_neg (show ¬ (goneT G o cur us e true = true ∧ bindT env o.2.1 e = true) from fun z => g z.1)]
        exact MEq.rfl'
    · rw [if_neg c, msum_zero fun e he => ?_]
      · exact MEq.rfl'
      · have gi := (gone_iff (G := G) (cur := cur) (e := e) (us := us) ht hw).2
        unfold edgeT
        rw [if_neg (show ¬ (goneT G o cur us e true = true ∧ bindT env o.2.1 e = true) from fun z => c (gi.mp z.1).1)]
/-- steps that have ended -/
theorem runT_over {p : Part} {tw : Int} {os : List Op} {n : Int} {env : Int → Int} {us : List Int} : ∀ {h j : Nat}, runT G (chn p tw j h ++ os) (n, env, us, true) = runT G os (n, env, us, true)
  | 0, j => rfl
  | h + 1, j => by
    show msum (subT G (3, -1, pT p, tw, if j < pLo p then 1 else 0) (n, env, us, true) (runT G (chn p tw (j + 1) h ++ os))) (nums 2001) = _
    rw [nums_mem_sum (fun c a b => ?_) (by decide)]
    · show madd (0, []) (runT G (chn p tw (j + 1) h ++ os) (n, env, us, true)) = _
      rw [runT_over]
      exact zero_madd
    · unfold subT
      rw [chT31 rfl (by omega), if_pos rfl]
theorem nums_one {f : Int → MR} : ∀ {n : Nat}, msum f (nums (n + 1)) = madd (f 0) (msum (fun c => f (c + 1)) (nums n))
  | 0 => rfl
  | n + 1 => by
    rw [nums_succ, msum_append, nums_one, nums_succ, msum_append, madd_assoc]
    rfl
theorem runT_chain {p : Part} {tw : Int} {os : List Op} {A : MK} (hG : okG G) (hE : pE p = -1) (hw : twy (pW p) tw) {env : Int → Int} (hA' : ∀ n us ov, nodeAt G n → MEq (runT G os (n, env, us, ov)) (A n env us)) : ∀ {h j : Nat} {n : Int} {us : List Int}, nodeAt G n → pLo p ≤ j + h → MEq (runT G (chn p tw j h ++ os) (n, env, us, false)) (stepsC G p A h j n env us)
  | 0, j, n, us, hn, hj => by
    unfold stepsC
    rw [if_pos (by omega)]
    exact hA' n us false hn
  | h + 1, j, n, us, hn, hj => by
    have hb : ∀ e, bnd env (pE p) e = env := fun e => by unfold bnd; rw [if_pos hE]
    show MEq (msum (subT G (3, -1, pT p, tw, if j < pLo p then 1 else 0) (n, env, us, false) (runT G (chn p tw (j + 1) h ++ os))) (nums (2000 + 1))) _
    rw [nums_one]
    unfold stepsC
    refine MEq.add ?_ ?_
    · unfold subT
      rw [chT30 rfl rfl]
      by_cases c : pLo p ≤ j
      · rw [if_pos (Or.inr (if_neg (by omega))), if_pos c]
        show MEq (madd (0, []) (runT G (chn p tw (j + 1) h ++ os) (n, env, us, true))) _
        rw [runT_over]
        exact (MEq.of_eq zero_madd).trans (hA' n us true hn)
      · rw [if_neg (fun z => ?_), if_neg c]
        · exact MEq.rfl'
        · rcases z with z | z
          · exact Bool.noConfusion (show false = true from z)
          · change (if j < pLo p then (1 : Int) else 0) = 0 at z
            rw [if_pos (by omega)] at z
            exact absurd z (by decide)
    · refine edges_sum (o := (3, -1, pT p, tw, if j < pLo p then 1 else 0)) (T := runT G (chn p tw (j + 1) h ++ os)) rfl hE.symm hw (Or.inl hE) (fun e m he hm => ?_) (fun e a b => ?_)
      · rw [hb]
        have hend := hG.2.1 e he.2.2
        exact runT_chain hG hE hw hA' (hm.elim (fun z => z ▸ hend.2.2.2.1) (fun z => z ▸ hend.2.2.2.2)) (by omega)
      · unfold subT
        refine ⟨?_, ?_⟩
        · rw [chT31 rfl (by omega), if_neg (show ¬ (n, env, us, false).2.2.2 = true from fun z => Bool.noConfusion z)]
          rw [show (2 * e + 1 - 1) / 2 = e by omega, show decide ((2 * e + 1) % 2 = 0) = false by rw [decide_eq_false_iff_not]; omega]
          rw [show wyT (3, -1, pT p, tw, if j < pLo p then 1 else 0) (2 * e + 1) = 1 from if_neg (by omega)]
        · rw [chT31 rfl (by omega), if_neg (show ¬ (n, env, us, false).2.2.2 = true from fun z => Bool.noConfusion z)]
          rw [show (2 * e + 1 + 1 - 1) / 2 = e by omega, show decide ((2 * e + 1 + 1) % 2 = 0) = true by rw [decide_eq_true_iff]; omega]
          rw [show wyT (3, -1, pT p, tw, if j < pLo p then 1 else 0) (2 * e + 1 + 1) = 1 from if_neg (by omega)]
theorem runT_edge {p : Part} {tw : Int} {os : List Op} {A : MK} {n : Int} {env : Int → Int} {us : List Int} {ov : Bool} (hG : okG G) (hw : twy (pW p) tw) (hb : pE p = -1 ∨ env (pE p) = -1) (h1 : pLo p = 1) (hA : ∀ n us e, nodeAt G n → edgeAt G e → MEq (runT G os (n, bnd env (pE p) e, us, false)) (A n (bnd env (pE p) e) us)) : MEq (runT G ((1, pE p, pT p, tw, 0) :: os) (n, env, us, ov)) (stepsC G p A 1 0 n env us) := by
  show MEq (msum (subT G (1, pE p, pT p, tw, 0) (n, env, us, ov) (runT G os)) (nums 2000)) _
  unfold stepsC
  rw [if_neg (by omega), zero_madd]
  have e1 : stepsC G p A 0 (0 + 1) = A := by
    funext a b c
    unfold stepsC
    rw [if_pos (by omega)]
  rw [e1]
  refine edges_sum (o := (1, pE p, pT p, tw, 0)) (T := runT G os) rfl rfl hw hb (fun e m he hm => ?_) (fun e a b => ?_)
  · have hend := hG.2.1 e he.2.2
    exact hA m _ e (hm.elim (fun z => z ▸ hend.2.2.2.1) (fun z => z ▸ hend.2.2.2.2)) he
  · have ov' : ∀ b, edgeT G (1, pE p, pT p, tw, 0) (n, env, us, ov) e b = edgeT G (1, pE p, pT p, tw, 0) (n, env, us, false) e b := fun _ => rfl
    unfold subT
    refine ⟨?_, ?_⟩
    · rw [chT1 rfl]
      rw [show (2 * e) / 2 = e by omega, show decide ((2 * e) % 2 = 1) = false by rw [decide_eq_false_iff_not]; omega, ov']
      rw [show wyT (1, pE p, pT p, tw, 0) (2 * e) = 1 from if_neg (fun z => absurd (show (1 : Int) = 3 from z.1) (by decide))]
    · rw [chT1 rfl]
      rw [show (2 * e + 1) / 2 = e by omega, show decide ((2 * e + 1) % 2 = 1) = true by rw [decide_eq_true_iff]; omega, ov']
      rw [show wyT (1, pE p, pT p, tw, 0) (2 * e + 1) = 1 from if_neg (fun z => absurd (show (1 : Int) = 3 from z.1) (by decide))]
theorem runT_runC {K : Int → Prop} {M : Int} (hG : okG G) : ∀ {ps : List Part} {L : List Op} {m cur : Int} {env : Int → Int} {us : List Int}, OpsOf ps L → WFp K m ps M → EnvI G K m env → (nodeAt G cur ∨ ∃ p ps', ps = p :: ps' ∧ pH p = 0) → MEq (runT G L (cur, env, us, false)) (runC G tt ps cur env us)
  | [], L, m, cur, env, us, ho, hw, hE, hc => by
    rw [show L = [] from ho]
    exact MEq.rfl'
  | p :: ps, L, m, cur, env, us, ho, hw, hE, hc => by
    obtain ⟨a, b, eL, hp, hb⟩ := ho
    obtain ⟨hm, m1, m2, w1, w2, w3, w4⟩ := hw
    have rest : ∀ n env' us', nodeAt G n → 0 ≤ m1 → EnvI G K m1 env' → (pV p = -1 ∨ env' (pV p) = -1 ∨ env' (pV p) = n) → MEq (runT G b (n, bnd env' (pV p) n, us', false)) (runC G tt ps n (bnd env' (pV p) n) us') := fun n env' us' hn h0 hE1 q => by
      obtain ⟨b1, b2, _⟩ := wf_node h0 hE1 w3 hn q
      exact runT_runC hG hb w4 b2 (Or.inl hn)
    unfold runC
    rw [eL]
    rcases hp with ⟨h0, ea⟩ | ⟨h0, tw, htw, hh⟩
    · rw [if_pos h0, ea]
      have m1m : m1 = m := by
        rcases w2 with a | a
        · exact a.2
        · exact absurd h0 a.1
      exact runT_zero fun n hn q => rest n env us hn (by omega) (by rw [m1m]; exact hE) q
    · rw [if_neg h0]
      have hcur : nodeAt G cur := by
        rcases hc with c | ⟨p', ps', e1, e2⟩
        · exact c
        · rw [(List.cons.inj e1).1] at h0; exact absurd e2 h0
      have w1' := w1.resolve_left h0
      rcases hh with ⟨l1, l2, ea⟩ | ⟨l1, ea⟩
      · rw [ea, l2]
        refine runT_edge (os := (2, pV p, pL p, 0, 0) :: b) hG htw ?_ l1 fun n us' e hn he => ?_
        · rcases w2 with q | q
          · exact Or.inl (q.1.resolve_left h0)
          · rw [q.2.1]; exact Or.inr ((hE m).1 (Or.inr (Int.le_refl m)))
        · obtain ⟨b1, b2, _⟩ := wf_edge (e := 0) hm hE h0 w2 (Or.inr ⟨e, he, rfl⟩)
          exact runT_two hn fun q => rest n _ us' hn b1 b2 q
      · rw [ea, List.append_assoc]
        have m1m : m1 = m := by
          rcases w2 with q | q
          · exact q.2
          · rw [l1] at q; omega
        exact runT_chain (os := (2, pV p, pL p, 0, 0) :: b) hG l1 htw (fun n us' ov hn => runT_two hn fun q => rest n env us' hn (by omega) (by rw [m1m]; exact hE) q) hcur (by omega)
end EQ
