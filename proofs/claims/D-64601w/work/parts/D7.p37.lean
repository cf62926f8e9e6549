/-! PURE: matches: patterns gone along part by part (as the component does), or op by op (as the twin does) -/
set_option maxRecDepth 100000
/-- how many ways, which matches -/
abbrev MR : Type := Nat × List (Int → Int)
def m0 : MR := (0, [])
def madd (a b : MR) : MR := (a.1 + b.1, a.2 ++ b.2)
def msum {α : Type} (f : α → MR) : List α → MR
  | [] => m0
  | x :: L => madd (f x) (msum f L)
/-- alike: as many ways, the same matches in some order -/
def MEq (a b : MR) : Prop := a.1 = b.1 ∧ a.2.Perm b.2
theorem MEq.rfl' {a : MR} : MEq a a := ⟨rfl, List.Perm.refl _⟩
theorem MEq.of_eq {a b : MR} (h : a = b) : MEq a b := h ▸ MEq.rfl'
theorem MEq.symm {a b : MR} (h : MEq a b) : MEq b a := ⟨h.1.symm, h.2.symm⟩
theorem MEq.trans {a b c : MR} (h : MEq a b) (h' : MEq b c) : MEq a c := ⟨h.1.trans h'.1, h.2.trans h'.2⟩
theorem MEq.add {a b c d : MR} (h : MEq a b) (h' : MEq c d) : MEq (madd a c) (madd b d) := ⟨by show a.1 + c.1 = b.1 + d.1; rw [h.1, h'.1], h.2.append h'.2⟩
theorem madd_zero {a : MR} : madd a m0 = a := Prod.ext (Nat.add_zero _) (List.append_nil _)
theorem zero_madd {a : MR} : madd m0 a = a := Prod.ext (Nat.zero_add _) rfl
theorem madd_assoc {a b c : MR} : madd (madd a b) c = madd a (madd b c) := Prod.ext (Nat.add_assoc _ _ _) (List.append_assoc _ _ _)
theorem MEq.comm {a b : MR} : MEq (madd a b) (madd b a) := ⟨Nat.add_comm _ _, List.perm_append_comm⟩
theorem MEq.swap {a b c d : MR} : MEq (madd (madd a b) (madd c d)) (madd (madd a c) (madd b d)) := by
  rw [madd_assoc, madd_assoc, ← madd_assoc (a := b), ← madd_assoc (a := c)]
  exact MEq.rfl'.add (MEq.comm.add MEq.rfl')
section MS
variable {α β : Type}
theorem msum_congr {f g : α → MR} : ∀ {L : List α}, (∀ x, x ∈ L → MEq (f x) (g x)) → MEq (msum f L) (msum g L)
  | [], _ => MEq.rfl'
  | x :: L, h => (h x List.mem_cons_self).add (msum_congr fun y hy => h y (List.mem_cons_of_mem _ hy))
theorem msum_eq {f g : α → MR} : ∀ {L : List α}, (∀ x, x ∈ L → f x = g x) → msum f L = msum g L
  | [], _ => rfl
  | x :: L, h => by
    show madd (f x) (msum f L) = madd (g x) (msum g L)
    rw [h x List.mem_cons_self, msum_eq fun y hy => h y (List.mem_cons_of_mem _ hy)]
theorem msum_zero {f : α → MR} : ∀ {L : List α}, (∀ x, x ∈ L → f x = m0) → msum f L = m0
  | [], _ => rfl
  | x :: L, h => by
    show madd (f x) (msum f L) = m0
    rw [h x List.mem_cons_self, msum_zero fun y hy => h y (List.mem_cons_of_mem _ hy)]
    rfl
theorem msum_append {f : α → MR} : ∀ {L M : List α}, msum f (L ++ M) = madd (msum f L) (msum f M)
  | [], M => zero_madd.symm
  | x :: L, M => by
    show madd (f x) (msum f (L ++ M)) = madd (madd (f x) (msum f L)) (msum f M)
    rw [msum_append, madd_assoc]
theorem msum_map {f : α → MR} {g : β → α} : ∀ {L : List β}, msum f (L.map g) = msum (fun x => f (g x)) L
  | [] => rfl
  | x :: L => by
    show madd (f (g x)) (msum f (L.map g)) = madd (f (g x)) (msum (fun x => f (g x)) L)
    rw [msum_map]
theorem msum_filter {f : α → MR} {P : α → Bool} : ∀ {L : List α}, msum f (L.filter P) = msum (fun x => if P x = true then f x else m0) L
  | [] => rfl
  | x :: L => by
    rw [List.filter_cons]
    show _ = madd (if P x = true then f x else m0) (msum (fun x => if P x = true then f x else m0) L)
    by_cases h : P x = true
    · rw [if_pos h, if_pos h]
      show madd (f x) (msum f (L.filter P)) = _
      rw [msum_filter]
    · rw [if_neg h, if_neg h, zero_madd, msum_filter]
theorem msum_madd {f g : α → MR} : ∀ {L : List α}, MEq (msum (fun x => madd (f x) (g x)) L) (madd (msum f L) (msum g L))
  | [] => MEq.rfl'
  | x :: L => (MEq.rfl'.add msum_madd).trans MEq.swap
theorem msum_mem {f : α → MR} {y : Int → Int} : ∀ {L : List α}, y ∈ (msum f L).2 ↔ ∃ x ∈ L, y ∈ (f x).2
  | [] => ⟨fun h => absurd h List.not_mem_nil, fun ⟨x, h, _⟩ => absurd h List.not_mem_nil⟩
  | x :: L => by
    show y ∈ (f x).2 ++ (msum f L).2 ↔ _
    rw [List.mem_append, msum_mem]
    constructor
    · rintro (h | ⟨z, h1, h2⟩)
      · exact ⟨x, List.mem_cons_self, h⟩
      · exact ⟨z, List.mem_cons_of_mem _ h1, h2⟩
    · rintro ⟨z, h1, h2⟩
      rcases List.mem_cons.mp h1 with e | e
      · exact Or.inl (e ▸ h2)
      · exact Or.inr ⟨z, e, h2⟩
theorem msum_le {f : α → MR} : ∀ {L : List α}, (∀ x, x ∈ L → (f x).2.length ≤ (f x).1) → (msum f L).2.length ≤ (msum f L).1
  | [], _ => Nat.le_refl _
  | x :: L, h => by
    show ((f x).2 ++ (msum f L).2).length ≤ (f x).1 + (msum f L).1
    rw [List.length_append]
    exact Nat.add_le_add (h x List.mem_cons_self) (msum_le fun y hy => h y (List.mem_cons_of_mem _ hy))
theorem msum_fil {f g : α → MR} {H : (Int → Int) → Bool} : ∀ {L : List α}, (∀ x, x ∈ L → (g x).2 = (f x).2.filter H) → (msum g L).2 = (msum f L).2.filter H
  | [], _ => rfl
  | x :: L, h => by
    show (g x).2 ++ (msum g L).2 = ((f x).2 ++ (msum f L).2).filter H
    rw [List.filter_append, h x List.mem_cons_self, msum_fil fun y hy => h y (List.mem_cons_of_mem _ hy)]
end MS
/-- numbers 0 .. n-1 -/
def nums (n : Nat) : List Int := (List.range n).map fun (i : Nat) => (i : Int)
theorem nums_succ {n : Nat} : nums (n + 1) = nums n ++ [(n : Int)] := by
  unfold nums
  rw [List.range_succ, List.map_append]
  rfl
theorem mem_nums {n : Nat} {x : Int} : x ∈ nums n ↔ 0 ≤ x ∧ x < n := by
  unfold nums
  rw [List.mem_map]
  constructor
  · rintro ⟨i, h, rfl⟩
    have := List.mem_range.mp h
    omega
  · intro h
    exact ⟨x.toNat, List.mem_range.mpr (by omega), by omega⟩
theorem nums_rise {n : Nat} : (nums n).Pairwise (· < ·) := by
  induction n with
  | zero => exact List.Pairwise.nil
  | succ n ih =>
    rw [nums_succ, List.pairwise_append]
    refine ⟨ih, List.pairwise_singleton _ _, fun a ha b hb => ?_⟩
    have := mem_nums.mp ha
    rw [List.mem_singleton.mp hb]
    omega
/-- a rising list is the numbers that have its property -/
theorem rise_filter {L : List Int} {P : Int → Bool} {n : Nat} (h : L.Pairwise (· < ·)) (hm : ∀ x, x ∈ L ↔ (0 ≤ x ∧ x < n) ∧ P x = true) : L = (nums n).filter P := by
  refine List.Perm.eq_of_pairwise (le := fun a b : Int => a < b) (fun a b _ _ h1 h2 => absurd h2 (by omega)) h (nums_rise.filter _) ?_
  refine (List.perm_ext_iff_of_nodup (h.imp fun {a b} q e => by omega) ((nums_rise.filter _).imp fun {a b} q e => by omega)).mpr fun x => ?_
  rw [hm, List.mem_filter, mem_nums]
/-- two by two -/
theorem msum_two {f F B : Int → MR} : ∀ {n : Nat}, (∀ e : Int, 0 ≤ e → e < n → f (2 * e) = F e ∧ f (2 * e + 1) = B e) → MEq (msum f (nums (2 * n))) (madd (msum F (nums n)) (msum B (nums n)))
  | 0, _ => MEq.rfl'
  | n + 1, h => by
    have e : 2 * (n + 1) = (2 * n + 1) + 1 := by omega
    rw [e, nums_succ, nums_succ, nums_succ, msum_append, msum_append, msum_append, msum_append]
    have h1 := h n (by omega) (by omega)
    have e1 : ((2 * n : Nat) : Int) = 2 * (n : Int) := by omega
    have e2 : ((2 * n + 1 : Nat) : Int) = 2 * (n : Int) + 1 := by omega
    have s : ∀ (g : Int → MR) (x : Int), msum g [x] = g x := fun g x => madd_zero
    rw [s, s, s, s, e1, e2, h1.1, h1.2, madd_assoc]
    exact ((msum_two (n := n) fun e a b => h e a (by omega)).add MEq.rfl').trans MEq.swap
/-! the component's way -/
/-- a part: node variable, label; has an edge, its variable, type, way (1 forth, -1 back, 0 either), least and most steps -/
abbrev Part : Type := Int × Int × Int × Int × Int × Int × Nat × Nat
def pV (p : Part) : Int := p.1
def pL (p : Part) : Int := p.2.1
def pH (p : Part) : Int := p.2.2.1
def pE (p : Part) : Int := p.2.2.2.1
def pT (p : Part) : Int := p.2.2.2.2.1
def pW (p : Part) : Int := p.2.2.2.2.2.1
def pLo (p : Part) : Nat := p.2.2.2.2.2.2.1
def pHi (p : Part) : Nat := p.2.2.2.2.2.2.2
/-- a variable gets a value -/
def bnd (env : Int → Int) (v x : Int) : Int → Int := if v = -1 then env else ud env v x
abbrev MK : Type := Int → (Int → Int) → List Int → MR
section RUN
variable (G : Gr)
def outL (u : Int) : List Int := (nums 1000).filter fun e => decide (gt G e ≠ -1 ∧ gf G e = u)
def inL (u : Int) : List Int := (nums 1000).filter fun e => decide (gt G e ≠ -1 ∧ go G e = u)
def ndL : List Int := (nums 400).filter fun n => decide (gl G n ≠ -1)
/-- an edge can be gone -/
def canC (p : Part) (forth : Bool) (us : List Int) (e : Int) : Bool := decide (¬ (forth = false ∧ pW p = 0 ∧ gf G e = go G e) ∧ ¬ e ∈ us ∧ (pT p = -1 ∨ gt G e = pT p))
def stepC (p : Part) (S : MK) (forth : Bool) (env : Int → Int) (us : List Int) (e : Int) : MR :=
  if canC G p forth us e = true then madd (1, []) (S (if forth = true then go G e else gf G e) (bnd env (pE p) e) (e :: us)) else m0
def stepsC (p : Part) (A : MK) : Nat → Nat → MK
  | 0, done => fun fr env us => if pLo p ≤ done then A fr env us else m0
  | h + 1, done => fun fr env us => madd (if pLo p ≤ done then A fr env us else m0) (madd (if 0 ≤ pW p then msum (stepC G p (stepsC p A h (done + 1)) true env us) (outL G fr) else m0) (if pW p ≤ 0 then msum (stepC G p (stepsC p A h (done + 1)) false env us) (inL G fr) else m0))
def canA (p : Part) (env : Int → Int) (n : Int) : Bool := decide ((pV p = -1 ∨ env (pV p) = -1 ∨ env (pV p) = n) ∧ (pL p = -1 ∨ gl G n = pL p))
def arrC (p : Part) (H : (Int → Int) → Bool) (K : MK) : MK := fun n env us =>
  if canA G p env n = true then madd (1, []) (if H (bnd env (pV p) n) = true then K n (bnd env (pV p) n) us else m0) else m0
def runC (H : (Int → Int) → Bool) : List Part → MK
  | [] => fun _ env _ => (0, [env])
  | p :: ps => fun cur env us => if pH p = 0 then msum (fun n => arrC G p H (runC H ps) n env us) (ndL G) else stepsC G p (arrC G p H (runC H ps)) (pHi p) 0 cur env us
end RUN
section PRUNE
variable {G : Gr} {H : (Int → Int) → Bool}
/-- env' has what env has -/
def Ext (env env' : Int → Int) : Prop := ∀ k, env k ≠ -1 → env' k = env k
theorem Ext.rf {env : Int → Int} : Ext env env := fun _ _ => rfl
theorem Ext.trans {a b c : Int → Int} (h : Ext a b) (h' : Ext b c) : Ext a c := fun k hk => by
  have e := h k hk
  rw [h' k (by rw [e]; exact hk), e]
theorem Ext.bndE {env : Int → Int} {v x : Int} (h : v = -1 ∨ env v = -1 ∨ env v = x) : Ext env (bnd env v x) := fun k hk => by
  unfold bnd
  by_cases e : v = -1
  · rw [if_pos e]
  · rw [if_neg e, ud_at]
    by_cases q : k = v
    · subst q
      rw [if_pos rfl]
      rcases h with h | h | h
      · exact absurd h e
      · exact absurd h hk
      · exact h.symm
    · rw [if_neg q]
/-- the names of the parts: m have been told before, M behind; new ones come one after another, an edge's is new; K: names of edges -/
def WFp (K : Int → Prop) : Int → List Part → Int → Prop
  | m, [], M => m = M ∧ 0 ≤ m
  | m, p :: ps, M => 0 ≤ m ∧ ∃ m1 m2, (pH p = 0 ∨ (1 ≤ pLo p ∧ pLo p ≤ pHi p ∧ pHi p ≤ 4)) ∧ (((pH p = 0 ∨ pE p = -1) ∧ m1 = m) ∨ (pH p ≠ 0 ∧ pE p = m ∧ K m ∧ m1 = m + 1 ∧ pLo p = 1 ∧ pHi p = 1)) ∧ ((pV p = -1 ∧ m2 = m1) ∨ (0 ≤ pV p ∧ pV p < m1 ∧ ¬ K (pV p) ∧ m2 = m1) ∨ (pV p = m1 ∧ ¬ K m1 ∧ m2 = m1 + 1)) ∧ WFp K m2 ps M
/-- what the names have: those below m -/
def EnvI (G : Gr) (K : Int → Prop) (m : Int) (env : Int → Int) : Prop := ∀ k, (k < 0 ∨ m ≤ k → env k = -1) ∧ (0 ≤ k → k < m → env k ≠ -1 ∧ (K k → edgeAt G (env k)) ∧ (¬ K k → nodeAt G (env k)))
theorem EnvI.new {K : Int → Prop} {m x : Int} {env : Int → Int} (h : EnvI G K m env) (hm : 0 ≤ m) (hx : (K m → edgeAt G x) ∧ (¬ K m → nodeAt G x)) : EnvI G K (m + 1) (bnd env m x) := by
  intro k
  have hk := h k
  unfold bnd
  rw [if_neg (by omega), ud_at]
  by_cases e : k = m
  · subst e
    rw [if_pos rfl]
    refine ⟨fun q => by omega, fun _ _ => ⟨?_, hx⟩⟩
    by_cases c : K k
    · have := (hx.1 c).1; omega
    · have := (hx.2 c).1; omega
  · rw [if_neg e]
    exact ⟨fun q => hk.1 (by omega), fun a b => hk.2 a (by omega)⟩
theorem EnvI.old {K : Int → Prop} {m v x : Int} {env : Int → Int} (h : EnvI G K m env) (hv : v = -1 ∨ (0 ≤ v ∧ v < m)) (hx : v = -1 ∨ env v = -1 ∨ env v = x) : bnd env v x = env := by
  unfold bnd
  by_cases e : v = -1
  · rw [if_pos e]
  · rw [if_neg e]
    have h1 := (h v).2 (by omega) (by omega)
    rcases hx with q | q | q
    · exact absurd q e
    · exact absurd q h1.1
    · rw [← q, ud_self]
theorem bnd_bnd {env : Int → Int} {v x y : Int} : bnd (bnd env v x) v y = bnd env v y := by
  unfold bnd
  by_cases e : v = -1
  · rw [if_pos e, if_pos e, if_pos e]
  · rw [if_neg e, if_neg e, if_neg e, ud_upd]
theorem mem_outL {u e : Int} : e ∈ outL G u ↔ (0 ≤ e ∧ e < 1000) ∧ gt G e ≠ -1 ∧ gf G e = u := by
  unfold outL
  rw [List.mem_filter, mem_nums, decide_eq_true_iff]
  exact Iff.rfl
theorem mem_inL {u e : Int} : e ∈ inL G u ↔ (0 ≤ e ∧ e < 1000) ∧ gt G e ≠ -1 ∧ go G e = u := by
  unfold inL
  rw [List.mem_filter, mem_nums, decide_eq_true_iff]
  exact Iff.rfl
theorem mem_ndL {n : Int} : n ∈ ndL G ↔ nodeAt G n := by
  unfold ndL
  rw [List.mem_filter, mem_nums, decide_eq_true_iff]
  exact ⟨fun h => ⟨h.1.1, h.1.2, h.2⟩, fun h => ⟨⟨h.1, h.2.1⟩, h.2.2⟩⟩
/-- where steps lead -/
theorem stepsC_mem {p : Part} {A : MK} {y : Int → Int} (hG : okG G) : ∀ {h done : Nat} {fr : Int} {env : Int → Int} {us : List Int}, nodeAt G fr → y ∈ (stepsC G p A h done fr env us).2 → ∃ n env' us', nodeAt G n ∧ y ∈ (A n env' us').2 ∧ ((env' = env ∧ pLo p ≤ done) ∨ ∃ e, edgeAt G e ∧ env' = bnd env (pE p) e)
  | 0, done, fr, env, us, hf, hy => by
    unfold stepsC at hy
    by_cases c : pLo p ≤ done
    · rw [if_pos c] at hy
      exact ⟨fr, env, us, hf, hy, Or.inl ⟨rfl, c⟩⟩
    · rw [if_neg c] at hy
      exact absurd hy List.not_mem_nil
  | h + 1, done, fr, env, us, hf, hy => by
    unfold stepsC at hy
    have key : ∀ (forth : Bool) e, edgeAt G e → y ∈ (stepC G p (stepsC G p A h (done + 1)) forth env us e).2 → ∃ n env' us', nodeAt G n ∧ y ∈ (A n env' us').2 ∧ ((env' = env ∧ pLo p ≤ done) ∨ ∃ e, edgeAt G e ∧ env' = bnd env (pE p) e) := fun forth e he q => by
      unfold stepC at q
      by_cases c : canC G p forth us e = true
      · rw [if_pos c] at q
        have q' : y ∈ [] ++ (stepsC G p A h (done + 1) (if forth = true then go G e else gf G e) (bnd env (pE p) e) (e :: us)).2 := q
        rw [List.nil_append] at q'
        have hend := hG.2.1 e he.2.2
        have hn : nodeAt G (if forth = true then go G e else gf G e) := by
          cases forth
          · exact hend.2.2.2.1
          · exact hend.2.2.2.2
        obtain ⟨n, env', us', a1, a2, a3⟩ := stepsC_mem hG hn q'
        refine ⟨n, env', us', a1, a2, Or.inr ?_⟩
        rcases a3 with ⟨b, _⟩ | ⟨e', b1, b2⟩
        · exact ⟨e, he, b⟩
        · exact ⟨e', b1, by rw [b2, bnd_bnd]⟩
      · rw [if_neg c] at q
        exact absurd q List.not_mem_nil
    have hy' : y ∈ (if pLo p ≤ done then A fr env us else m0).2 ++ ((if 0 ≤ pW p then msum (stepC G p (stepsC G p A h (done + 1)) true env us) (outL G fr) else m0).2 ++ (if pW p ≤ 0 then msum (stepC G p (stepsC G p A h (done + 1)) false env us) (inL G fr) else m0).2) := hy
    rw [List.mem_append, List.mem_append] at hy'
    rcases hy' with q | q | q
    · by_cases c : pLo p ≤ done
      · rw [if_pos c] at q
        exact ⟨fr, env, us, hf, q, Or.inl ⟨rfl, c⟩⟩
      · rw [if_neg c] at q
        exact absurd q List.not_mem_nil
    · by_cases c : 0 ≤ pW p
      · rw [if_pos c, msum_mem] at q
        obtain ⟨e, q1, q2⟩ := q
        have := mem_outL.mp q1
        exact key true e ⟨this.1.1, this.1.2, this.2.1⟩ q2
      · rw [if_neg c] at q
        exact absurd q List.not_mem_nil
    · by_cases c : pW p ≤ 0
      · rw [if_pos c, msum_mem] at q
        obtain ⟨e, q1, q2⟩ := q
        have := mem_inL.mp q1
        exact key false e ⟨this.1.1, this.1.2, this.2.1⟩ q2
      · rw [if_neg c] at q
        exact absurd q List.not_mem_nil
/-- a part's names behind its edge -/
theorem wf_edge {K : Int → Prop} {m m1 e : Int} {p : Part} {env env' : Int → Int} (hm : 0 ≤ m) (hE : EnvI G K m env) (hp : pH p ≠ 0) (h1 : ((pH p = 0 ∨ pE p = -1) ∧ m1 = m) ∨ (pH p ≠ 0 ∧ pE p = m ∧ K m ∧ m1 = m + 1 ∧ pLo p = 1 ∧ pHi p = 1)) (h : (env' = env ∧ pLo p ≤ 0) ∨ ∃ e, edgeAt G e ∧ env' = bnd env (pE p) e) : 0 ≤ m1 ∧ EnvI G K m1 env' ∧ Ext env env' := by
  rcases h1 with ⟨a1, a2⟩ | ⟨a1, a2, a3, a4, a5, a6⟩
  · have ee : env' = env := by
      rcases h with ⟨b, _⟩ | ⟨e, _, b⟩
      · exact b
      · rw [b]; unfold bnd; rw [if_pos (a1.resolve_left hp)]
    rw [ee, a2]
    exact ⟨hm, hE, Ext.rf⟩
  · rcases h with ⟨_, b⟩ | ⟨e, b1, b2⟩
    · omega
    · rw [b2, a2, a4]
      exact ⟨by omega, hE.new hm ⟨fun _ => b1, fun c => absurd a3 c⟩, Ext.bndE (Or.inr (Or.inl ((hE m).1 (Or.inr (Int.le_refl m)))))⟩
theorem wf_node {K : Int → Prop} {m1 m2 n : Int} {p : Part} {env : Int → Int} (hm : 0 ≤ m1) (hE : EnvI G K m1 env) (h2 : (pV p = -1 ∧ m2 = m1) ∨ (0 ≤ pV p ∧ pV p < m1 ∧ ¬ K (pV p) ∧ m2 = m1) ∨ (pV p = m1 ∧ ¬ K m1 ∧ m2 = m1 + 1)) (hn : nodeAt G n) (hc : pV p = -1 ∨ env (pV p) = -1 ∨ env (pV p) = n) : 0 ≤ m2 ∧ EnvI G K m2 (bnd env (pV p) n) ∧ Ext env (bnd env (pV p) n) := by
  refine ⟨by omega, ?_, Ext.bndE hc⟩
  rcases h2 with ⟨a1, a2⟩ | ⟨a1, a2, a3, a4⟩ | ⟨a1, a2, a3⟩
  · rw [hE.old (Or.inl a1) hc, a2]; exact hE
  · rw [hE.old (Or.inr ⟨a1, a2⟩) hc, a4]; exact hE
  · rw [a1, a3]; exact hE.new hm ⟨fun c => absurd c a2, fun _ => hn⟩
theorem arrC_mem {p : Part} {K : MK} {n : Int} {env y : Int → Int} {us : List Int} (h : y ∈ (arrC G p H K n env us).2) : (pV p = -1 ∨ env (pV p) = -1 ∨ env (pV p) = n) ∧ H (bnd env (pV p) n) = true ∧ y ∈ (K n (bnd env (pV p) n) us).2 := by
  unfold arrC at h
  by_cases c : canA G p env n = true
  · rw [if_pos c] at h
    have h' : y ∈ [] ++ (if H (bnd env (pV p) n) = true then K n (bnd env (pV p) n) us else m0).2 := h
    rw [List.nil_append] at h'
    unfold canA at c
    rw [decide_eq_true_iff] at c
    by_cases c2 : H (bnd env (pV p) n) = true
    · rw [if_pos c2] at h'
      exact ⟨c.1, c2, h'⟩
    · rw [if_neg c2] at h'
      exact absurd h' List.not_mem_nil
  · rw [if_neg c] at h
    exact absurd h List.not_mem_nil
theorem runC_mem {K : Int → Prop} {M : Int} {y : Int → Int} (hG : okG G) : ∀ {ps : List Part} {m cur : Int} {env : Int → Int} {us : List Int}, WFp K m ps M → EnvI G K m env → (nodeAt G cur ∨ ∃ p ps', ps = p :: ps' ∧ pH p = 0) → y ∈ (runC G H ps cur env us).2 → EnvI G K M y ∧ Ext env y
  | [], m, cur, env, us, hw, hE, _, hy => by
    rw [List.mem_singleton.mp hy, ← hw.1]
    exact ⟨hE, Ext.rf⟩
  | p :: ps, m, cur, env, us, hw, hE, hc, hy => by
    obtain ⟨hm, m1, m2, w1, w2, w3, w4⟩ := hw
    have arr : ∀ n env' us', nodeAt G n → 0 ≤ m1 → EnvI G K m1 env' → Ext env env' → y ∈ (arrC G p H (runC G H ps) n env' us').2 → EnvI G K M y ∧ Ext env y := fun n env' us' hn h0 hE1 hX q => by
      obtain ⟨c1, c2, c3⟩ := arrC_mem q
      obtain ⟨b1, b2, b3⟩ := wf_node h0 hE1 w3 hn c1
      obtain ⟨r1, r2⟩ := runC_mem hG w4 b2 (Or.inl hn) c3
      exact ⟨r1, (hX.trans b3).trans r2⟩
    unfold runC at hy
    by_cases e : pH p = 0
    · rw [if_pos e, msum_mem] at hy
      obtain ⟨n, h1, h2⟩ := hy
      have m1m : m1 = m := by
        rcases w2 with a | a
        · exact a.2
        · exact absurd e a.1
      exact arr n env us (mem_ndL.mp h1) (by omega) (by rw [m1m]; exact hE) Ext.rf h2
    · rw [if_neg e] at hy
      have hcur : nodeAt G cur := by
        rcases hc with c | ⟨p', ps', e1, e2⟩
        · exact c
        · rw [(List.cons.inj e1).1] at e; exact absurd e2 e
      obtain ⟨n, env', us', a1, a2, a3⟩ := stepsC_mem hG hcur hy
      obtain ⟨b1, b2, b3⟩ := wf_edge (e := 0) hm hE e w2 (a3.imp (fun q => ⟨q.1, by omega⟩) id)
      exact arr n env' us' a1 b1 b2 b3 a2
end PRUNE
section PRUNE2
variable {G : Gr} {H : (Int → Int) → Bool}
def tt : (Int → Int) → Bool := fun _ => true
theorem madd_len {a b : MR} (h : a.2.length ≤ a.1) (h' : b.2.length ≤ b.1) : (madd a b).2.length ≤ (madd a b).1 := by
  show (a.2 ++ b.2).length ≤ a.1 + b.1
  rw [List.length_append]
  exact Nat.add_le_add h h'
theorem stepsC_len {p : Part} {A : MK} (hA : ∀ n env us, (A n env us).2.length ≤ (A n env us).1) : ∀ {h done : Nat} {fr : Int} {env : Int → Int} {us : List Int}, (stepsC G p A h done fr env us).2.length ≤ (stepsC G p A h done fr env us).1
  | 0, done, fr, env, us => by
    unfold stepsC
    by_cases c : pLo p ≤ done
    · rw [if_pos c]; exact hA _ _ _
    · rw [if_neg c]; exact Nat.le_refl 0
  | h + 1, done, fr, env, us => by
    unfold stepsC
    have key : ∀ (forth : Bool) e, (stepC G p (stepsC G p A h (done + 1)) forth env us e).2.length ≤ (stepC G p (stepsC G p A h (done + 1)) forth env us e).1 := fun forth e => by
      unfold stepC
      by_cases c : canC G p forth us e = true
      · rw [if_pos c]
        have := stepsC_len (p := p) hA (h := h) (done := done + 1) (fr := if forth = true then go G e else gf G e) (env := bnd env (pE p) e) (us := e :: us)
        show ([] ++ (stepsC G p A h (done + 1) _ _ _).2).length ≤ 1 + _
        rw [List.nil_append]
        omega
      · rw [if_neg c]; exact Nat.le_refl 0
    have a1 : (if pLo p ≤ done then A fr env us else m0).2.length ≤ (if pLo p ≤ done then A fr env us else m0).1 := by
      by_cases c : pLo p ≤ done
      · rw [if_pos c]; exact hA _ _ _
      · rw [if_neg c]; exact Nat.le_refl 0
    have a2 : (if 0 ≤ pW p then msum (stepC G p (stepsC G p A h (done + 1)) true env us) (outL G fr) else m0).2.length ≤ (if 0 ≤ pW p then msum (stepC G p (stepsC G p A h (done + 1)) true env us) (outL G fr) else m0).1 := by
      by_cases c : 0 ≤ pW p
      · rw [if_pos c]; exact msum_le fun e _ => key true e
      · rw [if_neg c]; exact Nat.le_refl 0
    have a3 : (if pW p ≤ 0 then msum (stepC G p (stepsC G p A h (done + 1)) false env us) (inL G fr) else m0).2.length ≤ (if pW p ≤ 0 then msum (stepC G p (stepsC G p A h (done + 1)) false env us) (inL G fr) else m0).1 := by
      by_cases c : pW p ≤ 0
      · rw [if_pos c]; exact msum_le fun e _ => key false e
      · rw [if_neg c]; exact Nat.le_refl 0
    exact madd_len a1 (madd_len a2 a3)
theorem runC_len : ∀ {ps : List Part} {cur : Int} {env : Int → Int} {us : List Int}, (runC G H ps cur env us).2.length ≤ (runC G H ps cur env us).1 + (if ps = [] then 1 else 0)
  | [], cur, env, us => Nat.le_refl 1
  | p :: ps, cur, env, us => by
    have arr : ∀ n env us, (arrC G p H (runC G H ps) n env us).2.length ≤ (arrC G p H (runC G H ps) n env us).1 := fun n env us => by
      unfold arrC
      by_cases c : canA G p env n = true
      · rw [if_pos c]
        show ([] ++ (if H (bnd env (pV p) n) = true then runC G H ps n (bnd env (pV p) n) us else m0).2).length ≤ 1 + (if H (bnd env (pV p) n) = true then runC G H ps n (bnd env (pV p) n) us else m0).1
        rw [List.nil_append]
        by_cases c2 : H (bnd env (pV p) n) = true
        · rw [if_pos c2]
          have := runC_len (ps := ps) (cur := n) (env := bnd env (pV p) n) (us := us)
          by_cases e : ps = []
          · rw [if_pos e] at this; omega
          · rw [if_neg e] at this; omega
        · rw [if_neg c2]; exact Nat.zero_le _
      · rw [if_neg c]; exact Nat.le_refl 0
    rw [if_neg (by simp)]
    show _ ≤ (runC G H (p :: ps) cur env us).1
    unfold runC
    by_cases e : pH p = 0
    · rw [if_pos e]; exact msum_le fun n _ => arr n env us
    · rw [if_neg e]; exact stepsC_len arr
/-- pruning: those matches stay of which H holds -/
theorem stepsC_fil {p : Part} {A B : MK} {env0 : Int → Int} (hG : okG G) (hA : ∀ n env us, nodeAt G n → ((env = env0 ∧ pLo p ≤ 0) ∨ ∃ e, edgeAt G e ∧ env = bnd env0 (pE p) e) → (B n env us).2 = (A n env us).2.filter H) : ∀ {h done : Nat} {fr : Int} {env : Int → Int} {us : List Int}, nodeAt G fr → ((env = env0 ∧ done = 0) ∨ ∃ e, edgeAt G e ∧ env = bnd env0 (pE p) e) → (stepsC G p B h done fr env us).2 = (stepsC G p A h done fr env us).2.filter H
  | 0, done, fr, env, us, hf, hi => by
    unfold stepsC
    by_cases c : pLo p ≤ done
    · rw [if_pos c, if_pos c]; exact hA _ _ _ hf (hi.imp (fun q => ⟨q.1, by omega⟩) id)
    · rw [if_neg c, if_neg c]; rfl
  | h + 1, done, fr, env, us, hf, hi => by
    unfold stepsC
    have key : ∀ (forth : Bool) e, edgeAt G e → (stepC G p (stepsC G p B h (done + 1)) forth env us e).2 = (stepC G p (stepsC G p A h (done + 1)) forth env us e).2.filter H := fun forth e he => by
      unfold stepC
      by_cases c : canC G p forth us e = true
      · rw [if_pos c, if_pos c]
        have hend := hG.2.1 e he.2.2
        have hn : nodeAt G (if forth = true then go G e else gf G e) := by
          cases forth
          · exact hend.2.2.2.1
          · exact hend.2.2.2.2
        have hi' : (bnd env (pE p) e = env0 ∧ done + 1 = 0) ∨ ∃ e', edgeAt G e' ∧ bnd env (pE p) e = bnd env0 (pE p) e' := by
          rcases hi with ⟨q, _⟩ | ⟨e', _, q⟩
          · exact Or.inr ⟨e, he, by rw [q]⟩
          · exact Or.inr ⟨e, he, by rw [q, bnd_bnd]⟩
        have := stepsC_fil (h := h) (done := done + 1) (env := bnd env (pE p) e) (us := e :: us) hG hA hn hi'
        show [] ++ _ = ([] ++ _).filter H
        rw [List.nil_append, List.nil_append]
        exact this
      · rw [if_neg c, if_neg c]; rfl
    show (if pLo p ≤ done then B fr env us else m0).2 ++ ((if 0 ≤ pW p then msum (stepC G p (stepsC G p B h (done + 1)) true env us) (outL G fr) else m0).2 ++ (if pW p ≤ 0 then msum (stepC G p (stepsC G p B h (done + 1)) false env us) (inL G fr) else m0).2) = ((if pLo p ≤ done then A fr env us else m0).2 ++ ((if 0 ≤ pW p then msum (stepC G p (stepsC G p A h (done + 1)) true env us) (outL G fr) else m0).2 ++ (if pW p ≤ 0 then msum (stepC G p (stepsC G p A h (done + 1)) false env us) (inL G fr) else m0).2)).filter H
    rw [List.filter_append, List.filter_append]
    congr 1
    · by_cases c : pLo p ≤ done
      · rw [if_pos c, if_pos c]; exact hA _ _ _ hf (hi.imp (fun q => ⟨q.1, by omega⟩) id)
      · rw [if_neg c, if_neg c]; rfl
    congr 1
    · by_cases c : 0 ≤ pW p
      · rw [if_pos c, if_pos c]
        refine msum_fil fun e q => key true e ?_
        have := mem_outL.mp q
        exact ⟨this.1.1, this.1.2, this.2.1⟩
      · rw [if_neg c, if_neg c]; rfl
    · by_cases c : pW p ≤ 0
      · rw [if_pos c, if_pos c]
        refine msum_fil fun e q => key false e ?_
        have := mem_inL.mp q
        exact ⟨this.1.1, this.1.2, this.2.1⟩
      · rw [if_neg c, if_neg c]; rfl
theorem runC_fil {K : Int → Prop} {M : Int} (hG : okG G) (hH : ∀ env env', Ext env env' → H env = false → H env' = false) : ∀ {ps : List Part} {m cur : Int} {env : Int → Int} {us : List Int}, WFp K m ps M → EnvI G K m env → (nodeAt G cur ∨ ∃ p ps', ps = p :: ps' ∧ pH p = 0) → (ps ≠ [] ∨ H env = true) → (runC G H ps cur env us).2 = (runC G tt ps cur env us).2.filter H
  | [], m, cur, env, us, hw, hE, _, hh => by
    have := hh.resolve_left (fun z => z rfl)
    show [env] = [env].filter H
    rw [List.filter_cons, if_pos this]
    rfl
  | p :: ps, m, cur, env, us, hw, hE, hc, _ => by
    obtain ⟨hm, m1, m2, w1, w2, w3, w4⟩ := hw
    have arr : ∀ n env' us', nodeAt G n → 0 ≤ m1 → EnvI G K m1 env' → (arrC G p H (runC G H ps) n env' us').2 = (arrC G p tt (runC G tt ps) n env' us').2.filter H := fun n env' us' hn h0 hE1 => by
      unfold arrC
      by_cases c : canA G p env' n = true
      · rw [if_pos c, if_pos c]
        have c' := c
        unfold canA at c'
        rw [decide_eq_true_iff] at c'
        obtain ⟨b1, b2, b3⟩ := wf_node h0 hE1 w3 hn c'.1
        rw [if_pos (show tt (bnd env' (pV p) n) = true from rfl)]
        show [] ++ _ = ([] ++ _).filter H
        rw [List.nil_append, List.nil_append]
        by_cases c2 : H (bnd env' (pV p) n) = true
        · rw [if_pos c2]
          exact runC_fil hG hH w4 b2 (Or.inl hn) (Or.inr c2)
        · rw [if_neg c2]
          symm
          show List.filter H _ = []
          rw [List.filter_eq_nil_iff]
          intro y hy
          have := (runC_mem hG w4 b2 (Or.inl hn) hy).2
          rw [hH _ y this (by simpa using c2)]
          decide
      · rw [if_neg c, if_neg c]; rfl
    unfold runC
    by_cases e : pH p = 0
    · rw [if_pos e, if_pos e]
      have m1m : m1 = m := by
        rcases w2 with a | a
        · exact a.2
        · exact absurd e a.1
      exact msum_fil fun n hn => arr n env us (mem_ndL.mp hn) (by omega) (by rw [m1m]; exact hE)
    · rw [if_neg e, if_neg e]
      have hcur : nodeAt G cur := by
        rcases hc with c | ⟨p', ps', e1, e2⟩
        · exact c
        · rw [(List.cons.inj e1).1] at e; exact absurd e2 e
      refine stepsC_fil hG (fun n env' us' hn ha => ?_) hcur (Or.inl ⟨rfl, rfl⟩)
      obtain ⟨b1, b2, _⟩ := wf_edge (e := 0) hm hE e w2 ha
      exact arr n env' us' hn b1 b2
end PRUNE2
