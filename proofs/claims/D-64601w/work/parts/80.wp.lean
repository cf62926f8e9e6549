/-! PLAIN LAWS: the words of the shallow functions, read from behind -/
set_option maxRecDepth 100000
/-- it answers, and the answer is so -/
def Wp {α : Type} (m : Option α) (Q : α → Prop) : Prop := ∃ a, m = some a ∧ Q a
section WP
variable {α β : Type}
theorem wp_ok {a : α} {Q : α → Prop} (h : Q a) : Wp (some a) Q := ⟨a, rfl, h⟩
theorem wp_of_eq {m : Option α} {a : α} {Q : α → Prop} (e : m = some a) (h : Q a) : Wp m Q := ⟨a, e, h⟩
theorem wp_mono {m : Option α} {Q Q' : α → Prop} (h : Wp m Q) (k : ∀ a, Q a → Q' a) : Wp m Q' := by
  obtain ⟨a, e, q⟩ := h
  exact ⟨a, e, k a q⟩
theorem wp_nm {x : α} {k : α → Option β} {Q : β → Prop} (h : ∀ z, z = x → Wp (k z) Q) : Wp (nm x k) Q := h x rfl
theorem wp_nm0 {x : α} {k : α → Option β} {Q : β → Prop} (h : Wp (k x) Q) : Wp (nm x k) Q := h
theorem wp_gd {c : Prop} [Decidable c] {k : Option β} {Q : β → Prop} (h : c) (hk : Wp k Q) : Wp (gd c k) Q := by
  rw [gd_pos h]; exact hk
theorem wp_gdc {c : Prop} {k : Option β} {Q : β → Prop} (h : c) (hk : Wp k Q) : Wp (gdc c k) Q := by
  rw [gdc_pos h]; exact hk
theorem wp_gI {x : Int} {k : Option β} {Q : β → Prop} (h : -2147483648 ≤ x ∧ x ≤ 2147483647) (hk : Wp k Q) : Wp (gI x k) Q := by
  rw [gI_pos h]; exact hk
theorem wp_gL {x : Int} {k : Option β} {Q : β → Prop} (h : -9223372036854775808 ≤ x ∧ x ≤ 9223372036854775807) (hk : Wp k Q) : Wp (gL x k) Q := by
  rw [gL_pos h]; exact hk
theorem wp_ite {c : Prop} [Decidable c] {a b : Option β} {Q : β → Prop} (ha : c → Wp a Q) (hb : ¬ c → Wp b Q) : Wp (if c then a else b) Q := by
  by_cases h : c
  · rw [if_pos h]; exact ha h
  · rw [if_neg h]; exact hb h
theorem wp_pos {c : Prop} [Decidable c] {a b : Option β} {Q : β → Prop} (h : c) (ha : Wp a Q) : Wp (if c then a else b) Q := by
  rw [if_pos h]; exact ha
theorem wp_neg {c : Prop} [Decidable c] {a b : Option β} {Q : β → Prop} (h : ¬ c) (hb : Wp b Q) : Wp (if c then a else b) Q := by
  rw [if_neg h]; exact hb
theorem wp_c1 {m : Option (Int × AS)} {k : Int → AS → Option β} {Q : β → Prop} (h : Wp m fun p => Wp (k p.1 p.2) Q) : Wp (c1 m k) Q := by
  obtain ⟨⟨a, s⟩, e, q⟩ := h
  rw [e]; exact q
theorem wp_c0 {m : Option AS} {k : AS → Option β} {Q : β → Prop} (h : Wp m fun s => Wp (k s) Q) : Wp (c0 m k) Q := by
  obtain ⟨s, e, q⟩ := h
  rw [e]; exact q
end WP
/-- as it was, but for the contents of S's references (and new ones) -/
def Fr (S : Int → Prop) (σ σ' : AS) : Prop := nx σ ≤ nx σ' ∧ us σ ≤ us σ' ∧ (∀ r, r < nx σ → kd σ' r = kd σ r ∧ ln σ' r = ln σ r) ∧ ∀ r, r < nx σ → ¬ S r → ∀ j, ld σ' r j = ld σ r j
theorem Fr.rf {S : Int → Prop} {σ : AS} : Fr S σ σ := ⟨Int.le_refl _, Int.le_refl _, fun _ _ => ⟨rfl, rfl⟩, fun _ _ _ _ => rfl⟩
theorem Fr.trans {S : Int → Prop} {σ σ1 σ2 : AS} (h : Fr S σ σ1) (h1 : Fr S σ1 σ2) : Fr S σ σ2 := by
  refine ⟨Int.le_trans h.1 h1.1, Int.le_trans h.2.1 h1.2.1, fun r hr => ?_, fun r hr hs j => ?_⟩
  · obtain ⟨a1, a2⟩ := h.2.2.1 r hr
    obtain ⟨b1, b2⟩ := h1.2.2.1 r (Int.lt_of_lt_of_le hr h.1)
    exact ⟨b1.trans a1, b2.trans a2⟩
  · exact (h1.2.2.2 r (Int.lt_of_lt_of_le hr h.1) hs j).trans (h.2.2.2 r hr hs j)
theorem Fr.sub {S S' : Int → Prop} {σ σ' : AS} (h : Fr S σ σ') (k : ∀ r, r < nx σ → S r → S' r) : Fr S' σ σ' := ⟨h.1, h.2.1, h.2.2.1, fun r hr hs => h.2.2.2 r hr fun q => hs (k r hr q)⟩
theorem Fr.wr {S : Int → Prop} {σ : AS} {r i v : Int} (h : S r) : Fr S σ (wr σ r i v) := by
  refine ⟨Int.le_refl _, Int.le_refl _, fun a _ => ⟨rfl, rfl⟩, fun a _ ha j => ?_⟩
  rw [ld_wr, if_neg (fun q : a = r ∧ j = i => ha (q.1 ▸ h))]
theorem Fr.cpy {S : Int → Prop} {σ : AS} {rs sp rd dp n : Int} (h : S rd) : Fr S σ (cpy σ rs sp rd dp n) := by
  refine ⟨Int.le_refl _, Int.le_refl _, fun a _ => ⟨rfl, rfl⟩, fun a _ ha j => ?_⟩
  rw [ld_cpy, if_neg (fun q : a = rd ∧ dp ≤ j ∧ j < dp + n => ha (q.1 ▸ h))]
theorem Fr.al {S : Int → Prop} {σ : AS} {k : Nat} {n s : Int} (hs : 0 ≤ s) : Fr S σ (al σ k n s) := by
  refine ⟨by rw [nx_al]; omega, by rw [us_al]; omega, fun a ha => ?_, fun a ha _ j => ?_⟩
  · have : a ≠ nx σ := by omega
    exact ⟨by rw [kd_al, if_neg this], by rw [ln_al, if_neg this]⟩
  · have : a ≠ nx σ := by omega
    rw [ld_al, if_neg this]
theorem Fr.kd {S : Int → Prop} {σ σ' : AS} (h : Fr S σ σ') {r : Int} (hr : r < nx σ) : kd σ' r = kd σ r := (h.2.2.1 r hr).1
theorem Fr.ln {S : Int → Prop} {σ σ' : AS} (h : Fr S σ σ') {r : Int} (hr : r < nx σ) : ln σ' r = ln σ r := (h.2.2.1 r hr).2
theorem Fr.ld {S : Int → Prop} {σ σ' : AS} (h : Fr S σ σ') {r : Int} (hr : r < nx σ) (hs : ¬ S r) (j : Int) : ld σ' r j = ld σ r j := h.2.2.2 r hr hs j
