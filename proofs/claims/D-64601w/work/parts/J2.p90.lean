/-! SIDE BY SIDE: the component's parser and the twin's -/
set_option maxRecDepth 100000
section LK
variable {α β : Type}
theorem wp_swap {f : Option α} {g : Option β} {R : α → β → Prop} (h : Wp g fun b => Wp f fun a => R a b) : Wp f fun a => Wp g fun b => R a b := by
  obtain ⟨b, e1, a, e2, h⟩ := h
  exact ⟨a, e2, b, e1, h⟩
theorem wp_join {m : Option (Int × AS)} {k : Int → AS → Option α} {m' : Option (Int × TT)} {k' : Int → TT → Option β} {R1 : Int × AS → Int × TT → Prop} {R : α → β → Prop} (h : Wp m fun p => Wp m' fun p' => R1 p p') (hk : ∀ p p', R1 p p' → Wp (k p.1 p.2) fun a => Wp (k' p'.1 p'.2) fun b => R a b) : Wp (c1 m k) fun a => Wp (t1 m' k') fun b => R a b := by
  obtain ⟨p, e1, p', e2, h⟩ := h
  obtain ⟨a, e3, b, e4, h⟩ := hk p p' h
  refine ⟨a, ?_, b, ?_, h⟩
  · rw [e1]; exact e3
  · rw [e2]; exact e4
theorem wp_join0 {m : Option AS} {k : AS → Option α} {m' : Option (Int × TT)} {k' : Int → TT → Option β} {R1 : AS → Int × TT → Prop} {R : α → β → Prop} (h : Wp m fun p => Wp m' fun p' => R1 p p') (hk : ∀ p p', R1 p p' → Wp (k p) fun a => Wp (k' p'.1 p'.2) fun b => R a b) : Wp (c0 m k) fun a => Wp (t1 m' k') fun b => R a b := by
  obtain ⟨p, e1, p', e2, h⟩ := h
  obtain ⟨a, e3, b, e4, h⟩ := hk p p' h
  refine ⟨a, ?_, b, ?_, h⟩
  · rw [e1]; exact e3
  · rw [e2]; exact e4
end LK
/-- the first misuse of a name, on both sides -/
def Lt (σ : AS) (τ : TT) (q : Int) : Prop := (ld σ 1007 5 = 0 ∧ τ 1022 28 = 100000) ∨ (ld σ 1007 5 = τ 1022 27 ∧ τ 1022 27 ≠ 0 ∧ ld σ 1007 6 = τ 1022 28 ∧ τ 1022 28 ≤ q)
/-- both are fine, at the token q -/
def OKB (T : List Int) (σ : AS) (τ : TT) (q : Int) (S : PS) : Prop := ld σ 1007 3 = 0 ∧ TkT τ T q ∧ TpT τ T ∧ Lt σ τ q ∧ NmT τ T (S.1.1.map S.1.2)
/-- the twin has failed, so has the component -/
def FlR (T : List Int) (N0 U0 : Int) (z k : Int) (S : PS) (σ : AS) (τ : TT) : Prop := ∃ q, ShP T N0 U0 σ z k q S ∧ CF T q σ (τ 1022 17) (τ 1022 18)
/-- what the twin's small steps write -/
def FgF (τ τ' : TT) : Prop := ∀ r j, ¬ (r = 1022 ∧ ((17 ≤ j ∧ j ≤ 22) ∨ j = 42)) → τ' r j = τ r j
theorem FgF.rf {τ : TT} : FgF τ τ := fun _ _ _ => rfl
theorem FgF.trans {τ τ1 τ2 : TT} (h : FgF τ τ1) (h' : FgF τ1 τ2) : FgF τ τ2 := fun r j a => (h' r j a).trans (h r j a)
theorem LxF.fg {τ τ' : TT} (h : LxF τ τ') : FgF τ τ' := fun r j a => h r j fun w => a ⟨w.1, Or.inl w.2⟩
theorem FgF.sa {τ : TT} {j v : Int} (h : (17 ≤ j ∧ j ≤ 22) ∨ j = 42) : FgF τ (sa τ 1022 j v) := fun r i a => by
  rw [sa_at, if_neg (fun z => a ⟨z.1, by rw [z.2]; exact h⟩)]
theorem TpT.fg {τ τ' : TT} {T : List Int} (h : TpT τ T) (hF : FgF τ τ') : TpT τ' T :=
  ⟨(hF _ _ (by omega)).trans h.1, fun i hi => (hF _ _ (by omega)).trans (h.2 i hi)⟩
theorem NmT.fg {τ τ' : TT} {T : List Int} {NL : List (List Int)} (h : NmT τ T NL) (hF : FgF τ τ') : NmT τ' T NL :=
  h.congr (hF _ _ (by omega)) fun i => ⟨hF _ _ (by omega), hF _ _ (by omega)⟩
section JN
variable {σ σ0 σ' : AS} {τ : TT} {n : Nat} {N0 U0 z k q q' c p v r C lo hi : Int} {T : List Int} {S : PS}
theorem nxq_le (h : ShP T N0 U0 σ z k q S) : q ≤ nxq T q := by
  have hr := sh_rng h
  have := tkB_le (T := T) hr.2.2.2
  unfold nxq
  omega
/-- the twin's step where the component has stepped -/
theorem ok_next (hn : 1000000 ≤ n) (hb : BtOk T) (h : ShP T N0 U0 σ z k q S) (hO : OKB T σ τ q S) (h' : ShP T N0 U0 σ' z k (nxq T q) S) (h7 : ∀ j, ld σ' 1007 j = ld σ 1007 j) : Wp (g_X7_next n 1022 τ) fun w => LxF τ w.2 ∧ ((w.1 = 1 ∧ OKB T σ' w.2 (nxq T q) S) ∨ (w.1 = 0 ∧ FlR T N0 U0 z k S σ' w.2)) := by
  obtain ⟨o1, o2, o3, o4, o5⟩ := hO
  have hr := sh_rng h
  refine wp_mono (tw_next hn hb o3 o2.2.2.1 ⟨by omega, hr.2.2.2⟩) fun w hw => ?_
  obtain ⟨w1, w2, w3⟩ := hw
  refine ⟨w3, ?_⟩
  have hle := nxq_le h
  by_cases c : tkC T (nxq T q) = 50
  · obtain ⟨e1, e2, e3⟩ := w2 c
    refine Or.inr ⟨e1, nxq T q, h', Or.inr ⟨by rw [h7]; exact o1, c, e2, ?_⟩⟩
    rw [e3]; rfl
  · obtain ⟨e1, e2⟩ := w1 c
    refine Or.inl ⟨e1, by rw [h7]; exact o1, e2, o3.lx w3, ?_, o5.fg w3.fg⟩
    unfold Lt
    rw [h7, h7, w3 1022 27 (by omega), w3 1022 28 (by omega)]
    rcases o4 with u | ⟨u1, u2, u3, u4⟩
    · exact Or.inl u
    · exact Or.inr ⟨u1, u2, u3, by omega⟩
/-- the twin says: cannot -/
theorem ok_cannot (hO : OKB T σ τ q S) : g_X7_cannot 1022 τ = some (0, sa (sa τ 1022 17 2) 1022 18 q) := by
  unfold g_X7_cannot g_X7_flaw
  rw [hO.2.1.1, nm_eq, nm_eq, t1_at, gd_pos (by decide)]
theorem flw_sa : sa (sa τ 1022 17 c) 1022 18 q 1022 17 = c ∧ sa (sa τ 1022 17 c) 1022 18 q 1022 18 = q := by
  constructor
  · simp [sa_at]
  · simp [sa_at]
/-- number and isFigure -/
theorem lk_number (hn : 1000000 ≤ n) (hb : BtOk T) (h : ShP T N0 U0 σ z k q S) (hO : OKB T σ τ q S) (hlo : -2147483648 ≤ lo) (hhi : hi ≤ 2147483647) : Wp (f_X3_number n 1007 lo hi σ) fun y => Wp (g_X7_isFigure n 1022 lo hi τ) fun w => Eff N0 σ y.2 ∧ FgF τ w.2 ∧ ((w.1 = 1 ∧ y.1 = w.2 1022 42 ∧ lo ≤ y.1 ∧ y.1 ≤ hi ∧ ∃ q', q ≤ q' ∧ ShP T N0 U0 y.2 z k q' S ∧ OKB T y.2 w.2 q' S) ∨ (w.1 = 0 ∧ FlR T N0 U0 z k S y.2 w.2)) := by
  obtain ⟨o1, o2, o3, o4, o5⟩ := id hO
  obtain ⟨t1', t2, t3, t4, t5, t6⟩ := id o2
  unfold g_X7_isFigure
  by_cases c2 : tkC T q = 2
  · have hA := t4 c2
    have flawR : Wp (g_X7_isFigure_33 n 1022 τ) fun w => w.1 = 0 ∧ w.2 = sa (sa τ 1022 17 3) 1022 18 q := by
      unfold g_X7_isFigure_33 g_X7_flaw
      rw [t1', nm_eq, nm_eq, t1_at]
      exact wp_gd (by decide) (wp_ok ⟨rfl, rfl⟩)
    have ff : FgF τ (sa (sa τ 1022 17 3) 1022 18 q) := (FgF.sa (by omega)).trans (FgF.sa (by omega))
    by_cases hr : lo ≤ nmA T q ∧ nmA T q ≤ hi
    · refine wp_mono (number_yes hn hb h o1 c2 hr hlo hhi) fun y hy => ?_
      obtain ⟨y1, y2, y3, y4⟩ := hy
      have hO1 : OKB T σ (sa τ 1022 42 (l2iW (τ 1022 22))) q S := by
        refine ⟨o1, ⟨by rw [sa_at, if_neg (by omega)]; exact t1', by rw [sa_at, if_neg (by omega)]; exact t2, by rw [sa_at, if_neg (by omega)]; exact t3, fun w => by rw [sa_at, if_neg (by omega)]; exact t4 w, t5, t6⟩, o3.fg (FgF.sa (by omega)), ?_, o5.fg (FgF.sa (by omega))⟩
        unfold Lt
        rw [sa_at, if_neg (by omega), sa_at, if_neg (by omega)]
        exact o4
      refine wp_pos (by rw [t2]; exact c2) (wp_neg (fun w => ?_) (wp_pos ?_ (wp_nm0 (wp_t1 (wp_mono (ok_next hn hb h hO1 y2 y4) fun w hw => ?_)))))
      · rw [hA, lcmp_lt] at w; omega
      · rw [hA]; exact lcmp_le.mpr hr.2
      · obtain ⟨w1, w2⟩ := hw
        have e42 : w.2 1022 42 = nmA T q := by
          rw [w1 1022 42 (by omega), sa_at, if_pos ⟨rfl, rfl⟩, hA, l2i_small ⟨by omega, by omega⟩]
        refine wp_gd (by rcases w2 with u | u <;> omega) (wp_ok ⟨y3, (FgF.sa (by omega)).trans w1.fg, ?_⟩)
        rcases w2 with ⟨u1, u2⟩ | ⟨u1, u2⟩
        · exact Or.inl ⟨u1, by show y.1 = w.2 1022 42; rw [e42]; exact y1, by omega, by omega, nxq T q, nxq_le h, y2, u2⟩
        · exact Or.inr ⟨u1, u2⟩
    · refine wp_mono (number_out h o1 c2 hr) fun y hy => ?_
      obtain ⟨y1, y2, y3⟩ := hy
      have fin : ∀ w : Int × TT, (w.1 = 0 ∧ w.2 = sa (sa τ 1022 17 3) 1022 18 q) → Eff N0 σ y.2 ∧ FgF τ w.2 ∧ ((w.1 = 1 ∧ y.1 = w.2 1022 42 ∧ lo ≤ y.1 ∧ y.1 ≤ hi ∧ ∃ q', q ≤ q' ∧ ShP T N0 U0 y.2 z k q' S ∧ OKB T y.2 w.2 q' S) ∨ (w.1 = 0 ∧ FlR T N0 U0 z k S y.2 w.2)) := fun w hw => by
        rw [hw.2]
        refine ⟨y2, ff, Or.inr ⟨hw.1, q, y1, ?_⟩⟩
        rw [flw_sa.1, flw_sa.2]
        exact Or.inl y3
      refine wp_pos (by rw [t2]; exact c2) (wp_ite (fun _ => wp_mono flawR fin) fun w1 => wp_neg (fun w2 => hr ⟨?_, ?_⟩) (wp_mono flawR fin))
      · rw [hA, lcmp_lt] at w1; omega
      · rw [hA] at w2; exact lcmp_le.mp w2
  · refine wp_mono (number_not h o1 c2) fun y hy => ?_
    obtain ⟨y0, y1, y2, y3⟩ := hy
    refine wp_neg (by rw [t2]; exact c2) ?_
    rw [ok_cannot hO, t1_at]
    refine wp_gd (by decide) (wp_ok ⟨y2, (FgF.sa (by omega)).trans (FgF.sa (by omega)), Or.inr ⟨rfl, q, y1, ?_⟩⟩)
    show CF T q y.2 (sa (sa τ 1022 17 2) 1022 18 q 1022 17) (sa (sa τ 1022 17 2) 1022 18 q 1022 18)
    rw [flw_sa.1, flw_sa.2]
    rw [if_neg t5] at y3
    exact Or.inl y3
end JN
