/-! NAMES: hashes of strings, search in the map -/
set_option maxRecDepth 100000
/-- only hashes of strings were written -/
def HsF (σ σ' : AS) : Prop := nx σ' = nx σ ∧ us σ' = us σ ∧ (∀ r, kd σ' r = kd σ r ∧ ln σ' r = ln σ r) ∧ ∀ r j, ld σ' r j = ld σ r j ∨ (kd σ r = 24 ∧ (j = 2 ∨ j = 3))
theorem HsF.rf {σ : AS} : HsF σ σ := ⟨rfl, rfl, fun _ => ⟨rfl, rfl⟩, fun _ _ => Or.inl rfl⟩
theorem HsF.c {σ σ' : AS} (h : HsF σ σ') {r : Int} (hr : kd σ r ≠ 24) (j : Int) : ld σ' r j = ld σ r j := (h.2.2.2 r j).resolve_right fun z => hr z.1
theorem HsF.c01 {σ σ' : AS} (h : HsF σ σ') {r j : Int} (hj : j ≠ 2 ∧ j ≠ 3) : ld σ' r j = ld σ r j := (h.2.2.2 r j).resolve_right fun z => by omega
theorem HsF.kk {σ σ' : AS} (h : HsF σ σ') {r : Int} : kd σ' r = kd σ r := (h.2.2.1 r).1
theorem HsF.ll {σ σ' : AS} (h : HsF σ σ') {r : Int} : ln σ' r = ln σ r := (h.2.2.1 r).2
theorem HsF.fr {σ σ' : AS} (h : HsF σ σ') : Fr (fun r => kd σ r = 24) σ σ' := ⟨by rw [h.1]; exact Int.le_refl _, by rw [h.2.1]; exact Int.le_refl _, fun r _ => h.2.2.1 r, fun r _ hS j => h.c hS j⟩
section HASH
variable {σ σ0 : AS} {n : Nat} {s a : Int} {l m : List Int}
theorem hash_loop (ka : kd σ a = 102) (la : ln σ a = l.length) (ct : ∀ i : Nat, i < l.length → ld σ a i = l.getD i 0) (hl : l.length ≤ 2000) : ∀ (m k f : Nat), m < f → k + m = l.length → f_J21_signedHashCode_8 n f (hcf l k) a l.length k σ = some (hcf l l.length, σ)
  | m, k, 0, hf, _ => absurd hf (by omega)
  | 0, k, f + 1, hf, hk => by
    unfold f_J21_signedHashCode_8
    rw [if_pos (by omega), show k = l.length by omega]
  | m + 1, k, f + 1, hf, hk => by
    unfold f_J21_signedHashCode_8
    rw [if_neg (by omega), gd_pos ⟨Or.inl ka, by omega, by omega⟩, nm_eq, gI_pos (by omega), nm_eq, ct k (by omega), show (k : Int) + 1 = ((k + 1 : Nat) : Int) by omega]
    exact hash_loop ka la ct hl m (k + 1) f (by omega) (by omega)
theorem iadd0 {x : Int} (h : 0 ≤ x ∧ x ≤ 2000) : iaddW 0 x = x := by
  unfold iaddW
  rw [Int32.toInt_add, Int32.toInt_ofInt, Int32.toInt_ofInt]
  have e2 : x.bmod Int32.size = x := by apply Int.bmod_eq_of_le <;> simp <;> omega
  rw [e2, show (0 : Int).bmod Int32.size = 0 from rfl, Int.zero_add]
  exact e2
theorem arr_hash (hn : 1000000 ≤ n) (ka : kd σ a = 102) (la : ln σ a = l.length) (ct : ∀ i : Nat, i < l.length → ld σ a i = l.getD i 0) (hl : l.length ≤ 2000) : f_J20_hashCode n a σ = some (hcode l, σ) := by
  unfold f_J20_hashCode hcode
  rw [gd_pos (Or.inl ka), nm_eq, la]
  by_cases c0 : l.length = 0
  · rw [if_pos (by omega), if_pos c0]
  rw [if_neg (by omega), if_neg c0]
  by_cases c1 : l.length = 1
  · have := ct 0 (by omega)
    rw [show ((0 : Nat) : Int) = 0 from rfl] at this
    rw [if_pos (by omega), if_pos c1, gd_pos ⟨Or.inl ka, by decide, by omega⟩, this]
  rw [if_neg (by omega), if_neg c1, gd_pos (Or.inl ka)]
  unfold f_J21_vectorizedHashCode f_J21_signedHashCode
  rw [if_pos rfl, gd_pos ka, nm_eq, iadd0 (by omega)]
  have := hash_loop (n := n) ka la ct hl l.length 0 n (by omega) (by omega)
  have e0 : hcf l 0 = 0 := rfl
  rw [e0, show ((0 : Nat) : Int) = 0 from rfl] at this
  rw [this, c1_at, c1_at]
theorem str_hash (hn : 1000000 ≤ n) (hs : StrH σ s l) (hl : l.length ≤ 2000) : Wp (f_J15_hashCode n s σ) fun y => y.1 = hcode l ∧ StrH y.2 s l ∧ HsF σ y.2 ∧ Fr (fun r => r = s) σ y.2 := by
  have h0 := hs
  obtain ⟨⟨a1, a2, a3, a4, a5⟩, ⟨b1, b1'⟩, b2, b3, b4⟩ := hs
  have g : kd σ s = 24 ∨ kd σ s = 1024 := Or.inl b1
  unfold f_J15_hashCode
  refine wp_gd g (wp_nm0 ?_)
  refine wp_ite (fun z => ?_) fun z => ?_
  · refine wp_gd g (wp_ite (fun w => ?_) fun w => ?_)
    · unfold f_J15_isLatin1
      refine wp_gd g (wp_c1e (a := 1) (s := σ) (by rw [if_neg (by decide), gd_pos g, if_pos a2]) (wp_neg (by decide) (wp_gd g ?_)))
      rw [b2] at a4 a5 ⊢
      refine wp_c1e (arr_hash hn b1' a4 a5 hl) ?_
      have key : ∀ j v, (j = 2 ∧ v = hcode l) ∨ (j = 3 ∧ hcode l = 0) → StrH (wr σ s j v) s l ∧ HsF σ (wr σ s j v) ∧ Fr (fun r => r = s) σ (wr σ s j v) := fun j v hj => by
        have e : ∀ r i, ld (wr σ s j v) r i = ld σ r i ∨ (r = s ∧ i = j) := fun r i => by
          rw [ld_wr]
          by_cases y : r = s ∧ i = j
          · exact Or.inr y
          · rw [if_neg y]; exact Or.inl rfl
        have e01 : ∀ i, i ≠ 2 → i ≠ 3 → ld (wr σ s j v) s i = ld σ s i := fun i i2 i3 => (e s i).resolve_right fun y => by omega
        have e1 : ld (wr σ s j v) s 0 = s + 1 := (e01 0 (by decide) (by decide)).trans b2
        refine ⟨⟨⟨Or.inl b1, (e01 1 (by decide) (by decide)).trans a2, ?_, ?_, fun i hi => ?_⟩, ⟨b1, b1'⟩, e1, ?_, ?_⟩, ⟨rfl, rfl, fun _ => ⟨rfl, rfl⟩, fun r i => (e r i).imp id fun y => ⟨by rw [y.1]; exact b1, by omega⟩⟩, Fr.wr rfl⟩
        · rw [e1]; exact Or.inl b1'
        · rw [e1]; exact a4
        · rw [e1, ((e (s + 1) i).resolve_right fun y => by omega)]; exact a5 i hi
        · rw [ld_wr]
          by_cases y : s = s ∧ (2 : Int) = j
          · rw [if_pos y]; right; rcases hj with hj | hj
            · exact hj.2
            · omega
          · rw [if_neg y]; exact b3
        · rcases hj with hj | hj
          · rw [ld_wr, if_neg (by omega)]; exact b4
          · exact Or.inr hj.2
      refine wp_ite (fun y => wp_gd b1 (wp_nm0 (wp_ok ?_))) fun y => wp_gd b1 (wp_nm0 (wp_ok ?_))
      · exact ⟨rfl, key 3 1 (Or.inr ⟨rfl, y⟩)⟩
      · exact ⟨rfl, key 2 _ (Or.inl ⟨rfl, rfl⟩)⟩
    · refine wp_ok ⟨?_, h0, HsF.rf, Fr.rf⟩
      show ld σ s 2 = hcode l
      rw [z, b4.resolve_left w]
  · exact wp_ok ⟨b3.resolve_left z, h0, HsF.rf, Fr.rf⟩
theorem map_hash (hn : 1000000 ≤ n) (hs : StrH σ s l) (h0 : s ≠ 0) (hl : l.length ≤ 2000) : Wp (f_J33_hash n s σ) fun y => y.1 = hspr l ∧ StrH y.2 s l ∧ HsF σ y.2 ∧ Fr (fun r => r = s) σ y.2 := by
  unfold f_J33_hash
  refine wp_neg h0 (wp_gd (Or.inl hs.2.1.1) (wp_c1 (wp_mono (str_hash hn hs hl) fun y hy => wp_ok ⟨?_, hy.2.1, hy.2.2.1, hy.2.2.2⟩)))
  show ixorW y.1 (iushrW y.1 16) = _
  rw [hy.1]; rfl
theorem and15 {h : Int} : 0 ≤ iandW 15 h ∧ iandW 15 h < 16 := by
  unfold iandW
  have e : (Int32.ofInt 15 &&& Int32.ofInt h).toBitVec.toNat ≤ 15 := by
    rw [Int32.toBitVec_and, BitVec.toNat_and]
    exact Nat.and_le_left
  rw [← Int32.toInt_toBitVec, BitVec.toInt_eq_toNat_of_lt (by omega)]
  omega
/-! chains -/
def Chn (σ : AS) : Int → List Int → Prop
  | h, [] => h = 0
  | h, e :: L => h = e ∧ e ≠ 0 ∧ kd σ e = 33 ∧ Chn σ (ld σ e 3) L
/-- entry e of the map has the key w -/
def KeyE (σ : AS) (e : Int) (w : List Int) : Prop := kd σ e = 33 ∧ StrH σ (ld σ e 1) w ∧ ld σ e 1 ≠ 0 ∧ ld σ e 0 = hspr w ∧ w.length ≤ 2000
/-- the entry of L with the key l -/
def fdE (W : Int → List Int) (l : List Int) : List Int → Int
  | [] => 0
  | e :: L => if W e = l then e else fdE W l L
theorem cmp24 {x y : Int} (h : kd σ x = 24) (h' : kd σ y = 24) : cmpOk σ x y := Or.inr (Or.inr (Or.inr ⟨by rw [h]; decide, by rw [h']; decide, by rw [h]; exact Or.inl (by decide)⟩))
theorem chain_find (hn : 1000000 ≤ n) {W : Int → List Int} (hs : StrH σ s l) (h0 : s ≠ 0) (hl : l.length ≤ 2000) : ∀ (L : List Int) (e : Int) (f : Nat), L.length < f → Chn σ e L → L ≠ [] → (∀ e ∈ L, KeyE σ e (W e)) → f_J33_getNode_99 n f s e (hspr l) σ = some (fdE W l L, σ)
  | [], e, f, _, _, h, _ => absurd rfl h
  | e' :: L, e, 0, hf, _, _, _ => absurd hf (by simp)
  | e' :: L, e, f + 1, hf, hC, _, hK => by
    obtain ⟨c1, c2, c3, c4⟩ := hC
    subst c1
    obtain ⟨k1, k2, k3, k4, k5⟩ := hK e List.mem_cons_self
    have cont : W e ≠ l → f_J33_getNode_137 n (f_J33_getNode_99 n f) s e (hspr l) σ = some (fdE W l (e :: L), σ) := fun z => by
      unfold f_J33_getNode_137
      rw [gd_pos k1, nm_eq]
      show _ = some (if W e = l then e else fdE W l L, σ)
      rw [if_neg z]
      cases L with
      | nil =>
        have c4' : ld σ e 3 = 0 := c4
        rw [c4', if_pos rfl]; rfl
      | cons e2 L2 =>
        have hne : ld σ e 3 ≠ 0 := by rw [c4.1]; exact c4.2.1
        rw [if_neg hne]
        exact chain_find hn hs h0 hl (e2 :: L2) (ld σ e 3) f (by simp at hf ⊢; omega) c4 (by simp) fun a ha => hK a (List.mem_cons_of_mem _ ha)
    unfold f_J33_getNode_99
    rw [gd_pos k1, k4]
    by_cases hh : hspr (W e) = hspr l
    · rw [if_pos hh, gd_pos k1, nm_eq, gdc_pos (cmp24 k2.2.1.1 hs.2.1.1)]
      by_cases hp : ld σ e 1 = s
      · rw [if_pos hp]
        show _ = some (if W e = l then e else fdE W l L, σ)
        rw [if_pos ((by rw [← hp] at hs; exact k2.1.inj hs.1) : W e = l)]
      · rw [if_neg hp, if_neg h0, gd_pos (Or.inl hs.2.1.1), str_equals_eq hn hl hs.1 k2.1 (cmp24 hs.2.1.1 k2.2.1.1), c1_at]
        by_cases z : l = W e
        · rw [if_pos z, if_neg (by decide)]
          show _ = some (if W e = l then e else fdE W l L, σ)
          rw [if_pos z.symm]
        · rw [if_neg z, if_pos rfl]
          exact cont fun y => z y.symm
    · rw [if_neg hh]
      exact cont fun y => hh (by rw [y])
end HASH
