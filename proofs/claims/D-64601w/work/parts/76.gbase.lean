/-! THE REFERENCE BY ITS OWN CONTENTS (written by wip/tools/gtwin.py): TT, emb, words -/
set_option maxRecDepth 100000
/-- contents of the reference (its object 1022 and its arrays behind it) -/
abbrev TT : Type := Int → Int → Int
def sa (τ : TT) (r j v : Int) : TT := fun a => if a = r then fun i => if i = j then v else τ a i else τ a
theorem sa_at {τ : TT} {r j v a i : Int} : sa τ r j v a i = if a = r ∧ i = j then v else τ a i := by
  unfold sa
  by_cases h : a = r
  · rw [if_pos h]
    by_cases h2 : i = j
    · rw [if_pos h2, if_pos ⟨h, h2⟩]
    · rw [if_neg h2, if_neg (fun q => h2 q.2)]
  · rw [if_neg h, if_neg (fun q => h q.1)]
def tk (r : Int) : Nat := if 1023 ≤ r ∧ r ≤ 1052 then (if r = 1032 then 101 else if r = 1033 then 102 else if r = 1044 then 103 else if r = 1048 then 103 else if r = 1052 then 103 else 100) else if r = 1022 then 22 else 0
def tn (r : Int) : Int := if r = 1023 then 400 else if r = 1024 then 1000 else if r = 1025 then 1000 else if r = 1026 then 1000 else if r = 1027 then 12000 else if r = 1028 then 25000 else if r = 1029 then 400 else if r = 1030 then 400 else if r = 1031 then 400 else if r = 1032 then 400 else if r = 1033 then 2000 else if r = 1034 then 9 else if r = 1035 then 9 else if r = 1036 then 9 else if r = 1037 then 300 else if r = 1038 then 56 else if r = 1039 then 32 else if r = 1040 then 32 else if r = 1041 then 60 else if r = 1042 then 60 else if r = 1043 then 60 else if r = 1044 then 60 else if r = 1045 then 8 else if r = 1046 then 8 else if r = 1047 then 160016 else if r = 1048 then 160016 else if r = 1049 then 10001 else if r = 1050 then 10001 else if r = 1051 then 80008 else if r = 1052 then 80008 else 0
def ta (r : Int) : Int := if r = 1 then 1023 else if r = 2 then 1024 else if r = 3 then 1025 else if r = 4 then 1026 else if r = 5 then 1027 else if r = 7 then 1028 else if r = 10 then 1029 else if r = 11 then 1030 else if r = 12 then 1031 else if r = 14 then 1032 else if r = 15 then 1033 else if r = 23 then 1034 else if r = 24 then 1035 else if r = 25 then 1036 else if r = 31 then 1037 else if r = 33 then 1038 else if r = 35 then 1039 else if r = 37 then 1040 else if r = 44 then 1041 else if r = 45 then 1042 else if r = 46 then 1043 else if r = 47 then 1044 else if r = 48 then 1045 else if r = 49 then 1046 else if r = 50 then 1047 else if r = 51 then 1048 else if r = 52 then 1049 else if r = 56 then 1050 else if r = 57 then 1051 else if r = 58 then 1052 else 0
/-- a store's reference has these contents -/
def emb (σ : AS) (τ : TT) : AS := (fun r => if 1022 ≤ r ∧ r ≤ 1052 then tk r else σ.1 r, fun r => if 1022 ≤ r ∧ r ≤ 1052 then tn r else σ.2.1 r, fun r => if 1022 ≤ r ∧ r ≤ 1052 then fun i => (if r = 1022 ∧ ta i ≠ 0 then ta i else τ r i) else σ.2.2.1 r, σ.2.2.2.1, σ.2.2.2.2)
theorem nx_emb {σ : AS} {τ : TT} : nx (emb σ τ) = nx σ := rfl
theorem us_emb {σ : AS} {τ : TT} : us (emb σ τ) = us σ := rfl
theorem kd_emb {σ : AS} {τ : TT} {r : Int} : kd (emb σ τ) r = if 1022 ≤ r ∧ r ≤ 1052 then tk r else kd σ r := rfl
theorem ln_emb {σ : AS} {τ : TT} {r : Int} : ln (emb σ τ) r = if 1022 ≤ r ∧ r ≤ 1052 then tn r else ln σ r := rfl
theorem ld_emb {σ : AS} {τ : TT} {r i : Int} : ld (emb σ τ) r i = if 1022 ≤ r ∧ r ≤ 1052 then (if r = 1022 ∧ ta i ≠ 0 then ta i else τ r i) else ld σ r i := by
  show (if 1022 ≤ r ∧ r ≤ 1052 then fun i => (if r = 1022 ∧ ta i ≠ 0 then ta i else τ r i) else σ.2.2.1 r) i = _
  by_cases h : 1022 ≤ r ∧ r ≤ 1052
  · rw [if_pos h, if_pos h]
  · rw [if_neg h, if_neg h]; rfl
theorem wr_emb {σ : AS} {τ : TT} {r j v : Int} (h : 1022 ≤ r ∧ r ≤ 1052) (h2 : r = 1022 → ta j = 0) : wr (emb σ τ) r j v = emb σ (sa τ r j v) := by
  unfold wr
  refine Prod.ext rfl (Prod.ext rfl (Prod.ext ?_ rfl))
  funext a
  show (if a = r then _ else _) = _
  by_cases ha : a = r
  · subst ha
    rw [if_pos rfl]
    show _ = (if 1022 ≤ a ∧ a ≤ 1052 then fun i => (if a = 1022 ∧ ta i ≠ 0 then ta i else sa τ a j v a i) else σ.2.2.1 a)
    rw [if_pos h]
    funext i
    show (if i = j then v else (if 1022 ≤ a ∧ a ≤ 1052 then fun i => (if a = 1022 ∧ ta i ≠ 0 then ta i else τ a i) else σ.2.2.1 a) i) = (if a = 1022 ∧ ta i ≠ 0 then ta i else sa τ a j v a i)
    rw [if_pos h, sa_at]
    by_cases hi : i = j
    · subst hi
      rw [if_pos rfl, if_neg (fun q => q.2 (h2 q.1)), if_pos ⟨rfl, rfl⟩]
    · rw [if_neg hi, if_neg (fun q : a = a ∧ i = j => hi q.2)]
  · rw [if_neg ha]
    show (if 1022 ≤ a ∧ a ≤ 1052 then fun i => (if a = 1022 ∧ ta i ≠ 0 then ta i else τ a i) else σ.2.2.1 a) = (if 1022 ≤ a ∧ a ≤ 1052 then fun i => (if a = 1022 ∧ ta i ≠ 0 then ta i else sa τ r j v a i) else σ.2.2.1 a)
    have e : ∀ i, sa τ r j v a i = τ a i := fun i => by rw [sa_at, if_neg (fun q => ha q.1)]
    simp only [e]
theorem tk_rng {r : Int} {c : Nat} (h : tk r = c) (hc : 100 ≤ c) : 1023 ≤ r ∧ r ≤ 1052 := by
  unfold tk at h
  by_cases q : 1023 ≤ r ∧ r ≤ 1052
  · exact q
  · rw [if_neg q] at h
    by_cases q2 : r = 1022
    · rw [if_pos q2] at h; omega
    · rw [if_neg q2] at h; omega
section EM
variable {σ : AS} {τ : TT} {r j v : Int} {c : Nat}
theorem em_K (h : tk r = c) (hc : 100 ≤ c := by decide) : kd (emb σ τ) r = c := by
  have q := tk_rng h hc
  rw [kd_emb, if_pos ⟨by omega, q.2⟩, h]
theorem em_N (h : tk r = c) (hc : 100 ≤ c := by decide) : ln (emb σ τ) r = tn r := by
  have q := tk_rng h hc
  rw [ln_emb, if_pos ⟨by omega, q.2⟩]
theorem em_L (h : tk r = c) (hc : 100 ≤ c) : ld (emb σ τ) r j = τ r j := by
  have q := tk_rng h hc
  rw [ld_emb, if_pos ⟨by omega, q.2⟩, if_neg (fun e => by omega)]
theorem em_W (h : tk r = c) (hc : 100 ≤ c) : wr (emb σ τ) r j v = emb σ (sa τ r j v) := by
  have q := tk_rng h hc
  exact wr_emb ⟨by omega, q.2⟩ (fun e => by omega)
theorem em_k1022 : kd (emb σ τ) 1022 = 22 := rfl
theorem em_k1023 : kd (emb σ τ) 1023 = 100 := em_K (by decide)
theorem em_n1023 : ln (emb σ τ) 1023 = 400 := (em_N (c := 100) (by decide)).trans (by decide)
theorem em_l1023 : ld (emb σ τ) 1023 j = τ 1023 j := em_L (c := 100) (by decide) (by decide)
theorem em_w1023 : wr (emb σ τ) 1023 j v = emb σ (sa τ 1023 j v) := em_W (c := 100) (by decide) (by decide)
theorem em_k1024 : kd (emb σ τ) 1024 = 100 := em_K (by decide)
theorem em_n1024 : ln (emb σ τ) 1024 = 1000 := (em_N (c := 100) (by decide)).trans (by decide)
theorem em_l1024 : ld (emb σ τ) 1024 j = τ 1024 j := em_L (c := 100) (by decide) (by decide)
theorem em_w1024 : wr (emb σ τ) 1024 j v = emb σ (sa τ 1024 j v) := em_W (c := 100) (by decide) (by decide)
theorem em_k1025 : kd (emb σ τ) 1025 = 100 := em_K (by decide)
theorem em_n1025 : ln (emb σ τ) 1025 = 1000 := (em_N (c := 100) (by decide)).trans (by decide)
theorem em_l1025 : ld (emb σ τ) 1025 j = τ 1025 j := em_L (c := 100) (by decide) (by decide)
theorem em_w1025 : wr (emb σ τ) 1025 j v = emb σ (sa τ 1025 j v) := em_W (c := 100) (by decide) (by decide)
theorem em_k1026 : kd (emb σ τ) 1026 = 100 := em_K (by decide)
theorem em_n1026 : ln (emb σ τ) 1026 = 1000 := (em_N (c := 100) (by decide)).trans (by decide)
theorem em_l1026 : ld (emb σ τ) 1026 j = τ 1026 j := em_L (c := 100) (by decide) (by decide)
theorem em_w1026 : wr (emb σ τ) 1026 j v = emb σ (sa τ 1026 j v) := em_W (c := 100) (by decide) (by decide)
theorem em_k1027 : kd (emb σ τ) 1027 = 100 := em_K (by decide)
theorem em_n1027 : ln (emb σ τ) 1027 = 12000 := (em_N (c := 100) (by decide)).trans (by decide)
theorem em_l1027 : ld (emb σ τ) 1027 j = τ 1027 j := em_L (c := 100) (by decide) (by decide)
theorem em_w1027 : wr (emb σ τ) 1027 j v = emb σ (sa τ 1027 j v) := em_W (c := 100) (by decide) (by decide)
theorem em_k1028 : kd (emb σ τ) 1028 = 100 := em_K (by decide)
theorem em_n1028 : ln (emb σ τ) 1028 = 25000 := (em_N (c := 100) (by decide)).trans (by decide)
theorem em_l1028 : ld (emb σ τ) 1028 j = τ 1028 j := em_L (c := 100) (by decide) (by decide)
theorem em_w1028 : wr (emb σ τ) 1028 j v = emb σ (sa τ 1028 j v) := em_W (c := 100) (by decide) (by decide)
theorem em_k1029 : kd (emb σ τ) 1029 = 100 := em_K (by decide)
theorem em_n1029 : ln (emb σ τ) 1029 = 400 := (em_N (c := 100) (by decide)).trans (by decide)
theorem em_l1029 : ld (emb σ τ) 1029 j = τ 1029 j := em_L (c := 100) (by decide) (by decide)
theorem em_w1029 : wr (emb σ τ) 1029 j v = emb σ (sa τ 1029 j v) := em_W (c := 100) (by decide) (by decide)
theorem em_k1030 : kd (emb σ τ) 1030 = 100 := em_K (by decide)
theorem em_n1030 : ln (emb σ τ) 1030 = 400 := (em_N (c := 100) (by decide)).trans (by decide)
theorem em_l1030 : ld (emb σ τ) 1030 j = τ 1030 j := em_L (c := 100) (by decide) (by decide)
theorem em_w1030 : wr (emb σ τ) 1030 j v = emb σ (sa τ 1030 j v) := em_W (c := 100) (by decide) (by decide)
theorem em_k1031 : kd (emb σ τ) 1031 = 100 := em_K (by decide)
theorem em_n1031 : ln (emb σ τ) 1031 = 400 := (em_N (c := 100) (by decide)).trans (by decide)
theorem em_l1031 : ld (emb σ τ) 1031 j = τ 1031 j := em_L (c := 100) (by decide) (by decide)
theorem em_w1031 : wr (emb σ τ) 1031 j v = emb σ (sa τ 1031 j v) := em_W (c := 100) (by decide) (by decide)
theorem em_k1032 : kd (emb σ τ) 1032 = 101 := em_K (by decide)
theorem em_n1032 : ln (emb σ τ) 1032 = 400 := (em_N (c := 101) (by decide)).trans (by decide)
theorem em_l1032 : ld (emb σ τ) 1032 j = τ 1032 j := em_L (c := 101) (by decide) (by decide)
theorem em_w1032 : wr (emb σ τ) 1032 j v = emb σ (sa τ 1032 j v) := em_W (c := 101) (by decide) (by decide)
theorem em_k1033 : kd (emb σ τ) 1033 = 102 := em_K (by decide)
theorem em_n1033 : ln (emb σ τ) 1033 = 2000 := (em_N (c := 102) (by decide)).trans (by decide)
theorem em_l1033 : ld (emb σ τ) 1033 j = τ 1033 j := em_L (c := 102) (by decide) (by decide)
theorem em_w1033 : wr (emb σ τ) 1033 j v = emb σ (sa τ 1033 j v) := em_W (c := 102) (by decide) (by decide)
theorem em_k1034 : kd (emb σ τ) 1034 = 100 := em_K (by decide)
theorem em_n1034 : ln (emb σ τ) 1034 = 9 := (em_N (c := 100) (by decide)).trans (by decide)
theorem em_l1034 : ld (emb σ τ) 1034 j = τ 1034 j := em_L (c := 100) (by decide) (by decide)
theorem em_w1034 : wr (emb σ τ) 1034 j v = emb σ (sa τ 1034 j v) := em_W (c := 100) (by decide) (by decide)
theorem em_k1035 : kd (emb σ τ) 1035 = 100 := em_K (by decide)
theorem em_n1035 : ln (emb σ τ) 1035 = 9 := (em_N (c := 100) (by decide)).trans (by decide)
theorem em_l1035 : ld (emb σ τ) 1035 j = τ 1035 j := em_L (c := 100) (by decide) (by decide)
theorem em_w1035 : wr (emb σ τ) 1035 j v = emb σ (sa τ 1035 j v) := em_W (c := 100) (by decide) (by decide)
theorem em_k1036 : kd (emb σ τ) 1036 = 100 := em_K (by decide)
theorem em_n1036 : ln (emb σ τ) 1036 = 9 := (em_N (c := 100) (by decide)).trans (by decide)
theorem em_l1036 : ld (emb σ τ) 1036 j = τ 1036 j := em_L (c := 100) (by decide) (by decide)
theorem em_w1036 : wr (emb σ τ) 1036 j v = emb σ (sa τ 1036 j v) := em_W (c := 100) (by decide) (by decide)
theorem em_k1037 : kd (emb σ τ) 1037 = 100 := em_K (by decide)
theorem em_n1037 : ln (emb σ τ) 1037 = 300 := (em_N (c := 100) (by decide)).trans (by decide)
theorem em_l1037 : ld (emb σ τ) 1037 j = τ 1037 j := em_L (c := 100) (by decide) (by decide)
theorem em_w1037 : wr (emb σ τ) 1037 j v = emb σ (sa τ 1037 j v) := em_W (c := 100) (by decide) (by decide)
theorem em_k1038 : kd (emb σ τ) 1038 = 100 := em_K (by decide)
theorem em_n1038 : ln (emb σ τ) 1038 = 56 := (em_N (c := 100) (by decide)).trans (by decide)
theorem em_l1038 : ld (emb σ τ) 1038 j = τ 1038 j := em_L (c := 100) (by decide) (by decide)
theorem em_w1038 : wr (emb σ τ) 1038 j v = emb σ (sa τ 1038 j v) := em_W (c := 100) (by decide) (by decide)
theorem em_k1039 : kd (emb σ τ) 1039 = 100 := em_K (by decide)
theorem em_n1039 : ln (emb σ τ) 1039 = 32 := (em_N (c := 100) (by decide)).trans (by decide)
theorem em_l1039 : ld (emb σ τ) 1039 j = τ 1039 j := em_L (c := 100) (by decide) (by decide)
theorem em_w1039 : wr (emb σ τ) 1039 j v = emb σ (sa τ 1039 j v) := em_W (c := 100) (by decide) (by decide)
theorem em_k1040 : kd (emb σ τ) 1040 = 100 := em_K (by decide)
theorem em_n1040 : ln (emb σ τ) 1040 = 32 := (em_N (c := 100) (by decide)).trans (by decide)
theorem em_l1040 : ld (emb σ τ) 1040 j = τ 1040 j := em_L (c := 100) (by decide) (by decide)
theorem em_w1040 : wr (emb σ τ) 1040 j v = emb σ (sa τ 1040 j v) := em_W (c := 100) (by decide) (by decide)
theorem em_k1041 : kd (emb σ τ) 1041 = 100 := em_K (by decide)
theorem em_n1041 : ln (emb σ τ) 1041 = 60 := (em_N (c := 100) (by decide)).trans (by decide)
theorem em_l1041 : ld (emb σ τ) 1041 j = τ 1041 j := em_L (c := 100) (by decide) (by decide)
theorem em_w1041 : wr (emb σ τ) 1041 j v = emb σ (sa τ 1041 j v) := em_W (c := 100) (by decide) (by decide)
theorem em_k1042 : kd (emb σ τ) 1042 = 100 := em_K (by decide)
theorem em_n1042 : ln (emb σ τ) 1042 = 60 := (em_N (c := 100) (by decide)).trans (by decide)
theorem em_l1042 : ld (emb σ τ) 1042 j = τ 1042 j := em_L (c := 100) (by decide) (by decide)
theorem em_w1042 : wr (emb σ τ) 1042 j v = emb σ (sa τ 1042 j v) := em_W (c := 100) (by decide) (by decide)
theorem em_k1043 : kd (emb σ τ) 1043 = 100 := em_K (by decide)
theorem em_n1043 : ln (emb σ τ) 1043 = 60 := (em_N (c := 100) (by decide)).trans (by decide)
theorem em_l1043 : ld (emb σ τ) 1043 j = τ 1043 j := em_L (c := 100) (by decide) (by decide)
theorem em_w1043 : wr (emb σ τ) 1043 j v = emb σ (sa τ 1043 j v) := em_W (c := 100) (by decide) (by decide)
theorem em_k1044 : kd (emb σ τ) 1044 = 103 := em_K (by decide)
theorem em_n1044 : ln (emb σ τ) 1044 = 60 := (em_N (c := 103) (by decide)).trans (by decide)
theorem em_l1044 : ld (emb σ τ) 1044 j = τ 1044 j := em_L (c := 103) (by decide) (by decide)
theorem em_w1044 : wr (emb σ τ) 1044 j v = emb σ (sa τ 1044 j v) := em_W (c := 103) (by decide) (by decide)
theorem em_k1045 : kd (emb σ τ) 1045 = 100 := em_K (by decide)
theorem em_n1045 : ln (emb σ τ) 1045 = 8 := (em_N (c := 100) (by decide)).trans (by decide)
theorem em_l1045 : ld (emb σ τ) 1045 j = τ 1045 j := em_L (c := 100) (by decide) (by decide)
theorem em_w1045 : wr (emb σ τ) 1045 j v = emb σ (sa τ 1045 j v) := em_W (c := 100) (by decide) (by decide)
theorem em_k1046 : kd (emb σ τ) 1046 = 100 := em_K (by decide)
theorem em_n1046 : ln (emb σ τ) 1046 = 8 := (em_N (c := 100) (by decide)).trans (by decide)
theorem em_l1046 : ld (emb σ τ) 1046 j = τ 1046 j := em_L (c := 100) (by decide) (by decide)
theorem em_w1046 : wr (emb σ τ) 1046 j v = emb σ (sa τ 1046 j v) := em_W (c := 100) (by decide) (by decide)
theorem em_k1047 : kd (emb σ τ) 1047 = 100 := em_K (by decide)
theorem em_n1047 : ln (emb σ τ) 1047 = 160016 := (em_N (c := 100) (by decide)).trans (by decide)
theorem em_l1047 : ld (emb σ τ) 1047 j = τ 1047 j := em_L (c := 100) (by decide) (by decide)
theorem em_w1047 : wr (emb σ τ) 1047 j v = emb σ (sa τ 1047 j v) := em_W (c := 100) (by decide) (by decide)
theorem em_k1048 : kd (emb σ τ) 1048 = 103 := em_K (by decide)
theorem em_n1048 : ln (emb σ τ) 1048 = 160016 := (em_N (c := 103) (by decide)).trans (by decide)
theorem em_l1048 : ld (emb σ τ) 1048 j = τ 1048 j := em_L (c := 103) (by decide) (by decide)
theorem em_w1048 : wr (emb σ τ) 1048 j v = emb σ (sa τ 1048 j v) := em_W (c := 103) (by decide) (by decide)
theorem em_k1049 : kd (emb σ τ) 1049 = 100 := em_K (by decide)
theorem em_n1049 : ln (emb σ τ) 1049 = 10001 := (em_N (c := 100) (by decide)).trans (by decide)
theorem em_l1049 : ld (emb σ τ) 1049 j = τ 1049 j := em_L (c := 100) (by decide) (by decide)
theorem em_w1049 : wr (emb σ τ) 1049 j v = emb σ (sa τ 1049 j v) := em_W (c := 100) (by decide) (by decide)
theorem em_k1050 : kd (emb σ τ) 1050 = 100 := em_K (by decide)
theorem em_n1050 : ln (emb σ τ) 1050 = 10001 := (em_N (c := 100) (by decide)).trans (by decide)
theorem em_l1050 : ld (emb σ τ) 1050 j = τ 1050 j := em_L (c := 100) (by decide) (by decide)
theorem em_w1050 : wr (emb σ τ) 1050 j v = emb σ (sa τ 1050 j v) := em_W (c := 100) (by decide) (by decide)
theorem em_k1051 : kd (emb σ τ) 1051 = 100 := em_K (by decide)
theorem em_n1051 : ln (emb σ τ) 1051 = 80008 := (em_N (c := 100) (by decide)).trans (by decide)
theorem em_l1051 : ld (emb σ τ) 1051 j = τ 1051 j := em_L (c := 100) (by decide) (by decide)
theorem em_w1051 : wr (emb σ τ) 1051 j v = emb σ (sa τ 1051 j v) := em_W (c := 100) (by decide) (by decide)
theorem em_k1052 : kd (emb σ τ) 1052 = 103 := em_K (by decide)
theorem em_n1052 : ln (emb σ τ) 1052 = 80008 := (em_N (c := 103) (by decide)).trans (by decide)
theorem em_l1052 : ld (emb σ τ) 1052 j = τ 1052 j := em_L (c := 103) (by decide) (by decide)
theorem em_w1052 : wr (emb σ τ) 1052 j v = emb σ (sa τ 1052 j v) := em_W (c := 103) (by decide) (by decide)
theorem em_f0 : ld (emb σ τ) 1022 0 = τ 1022 0 := by rw [ld_emb, if_pos (by decide), if_neg (by decide)]
theorem em_w_0 : wr (emb σ τ) 1022 0 v = emb σ (sa τ 1022 0 v) := wr_emb (by decide) (fun _ => by decide)
theorem em_f1 : ld (emb σ τ) 1022 1 = 1023 := by rw [ld_emb, if_pos (by decide), if_pos (by decide)]; rfl
theorem em_f2 : ld (emb σ τ) 1022 2 = 1024 := by rw [ld_emb, if_pos (by decide), if_pos (by decide)]; rfl
theorem em_f3 : ld (emb σ τ) 1022 3 = 1025 := by rw [ld_emb, if_pos (by decide), if_pos (by decide)]; rfl
theorem em_f4 : ld (emb σ τ) 1022 4 = 1026 := by rw [ld_emb, if_pos (by decide), if_pos (by decide)]; rfl
theorem em_f5 : ld (emb σ τ) 1022 5 = 1027 := by rw [ld_emb, if_pos (by decide), if_pos (by decide)]; rfl
theorem em_f6 : ld (emb σ τ) 1022 6 = τ 1022 6 := by rw [ld_emb, if_pos (by decide), if_neg (by decide)]
theorem em_w_6 : wr (emb σ τ) 1022 6 v = emb σ (sa τ 1022 6 v) := wr_emb (by decide) (fun _ => by decide)
theorem em_f7 : ld (emb σ τ) 1022 7 = 1028 := by rw [ld_emb, if_pos (by decide), if_pos (by decide)]; rfl
theorem em_f8 : ld (emb σ τ) 1022 8 = τ 1022 8 := by rw [ld_emb, if_pos (by decide), if_neg (by decide)]
theorem em_w_8 : wr (emb σ τ) 1022 8 v = emb σ (sa τ 1022 8 v) := wr_emb (by decide) (fun _ => by decide)
theorem em_f9 : ld (emb σ τ) 1022 9 = τ 1022 9 := by rw [ld_emb, if_pos (by decide), if_neg (by decide)]
theorem em_w_9 : wr (emb σ τ) 1022 9 v = emb σ (sa τ 1022 9 v) := wr_emb (by decide) (fun _ => by decide)
theorem em_f10 : ld (emb σ τ) 1022 10 = 1029 := by rw [ld_emb, if_pos (by decide), if_pos (by decide)]; rfl
theorem em_f11 : ld (emb σ τ) 1022 11 = 1030 := by rw [ld_emb, if_pos (by decide), if_pos (by decide)]; rfl
theorem em_f12 : ld (emb σ τ) 1022 12 = 1031 := by rw [ld_emb, if_pos (by decide), if_pos (by decide)]; rfl
theorem em_f13 : ld (emb σ τ) 1022 13 = τ 1022 13 := by rw [ld_emb, if_pos (by decide), if_neg (by decide)]
theorem em_w_13 : wr (emb σ τ) 1022 13 v = emb σ (sa τ 1022 13 v) := wr_emb (by decide) (fun _ => by decide)
theorem em_f14 : ld (emb σ τ) 1022 14 = 1032 := by rw [ld_emb, if_pos (by decide), if_pos (by decide)]; rfl
theorem em_f15 : ld (emb σ τ) 1022 15 = 1033 := by rw [ld_emb, if_pos (by decide), if_pos (by decide)]; rfl
theorem em_f16 : ld (emb σ τ) 1022 16 = τ 1022 16 := by rw [ld_emb, if_pos (by decide), if_neg (by decide)]
theorem em_w_16 : wr (emb σ τ) 1022 16 v = emb σ (sa τ 1022 16 v) := wr_emb (by decide) (fun _ => by decide)
theorem em_f17 : ld (emb σ τ) 1022 17 = τ 1022 17 := by rw [ld_emb, if_pos (by decide), if_neg (by decide)]
theorem em_w_17 : wr (emb σ τ) 1022 17 v = emb σ (sa τ 1022 17 v) := wr_emb (by decide) (fun _ => by decide)
theorem em_f18 : ld (emb σ τ) 1022 18 = τ 1022 18 := by rw [ld_emb, if_pos (by decide), if_neg (by decide)]
theorem em_w_18 : wr (emb σ τ) 1022 18 v = emb σ (sa τ 1022 18 v) := wr_emb (by decide) (fun _ => by decide)
theorem em_f19 : ld (emb σ τ) 1022 19 = τ 1022 19 := by rw [ld_emb, if_pos (by decide), if_neg (by decide)]
theorem em_w_19 : wr (emb σ τ) 1022 19 v = emb σ (sa τ 1022 19 v) := wr_emb (by decide) (fun _ => by decide)
theorem em_f20 : ld (emb σ τ) 1022 20 = τ 1022 20 := by rw [ld_emb, if_pos (by decide), if_neg (by decide)]
theorem em_w_20 : wr (emb σ τ) 1022 20 v = emb σ (sa τ 1022 20 v) := wr_emb (by decide) (fun _ => by decide)
theorem em_f21 : ld (emb σ τ) 1022 21 = τ 1022 21 := by rw [ld_emb, if_pos (by decide), if_neg (by decide)]
theorem em_w_21 : wr (emb σ τ) 1022 21 v = emb σ (sa τ 1022 21 v) := wr_emb (by decide) (fun _ => by decide)
theorem em_f22 : ld (emb σ τ) 1022 22 = τ 1022 22 := by rw [ld_emb, if_pos (by decide), if_neg (by decide)]
theorem em_w_22 : wr (emb σ τ) 1022 22 v = emb σ (sa τ 1022 22 v) := wr_emb (by decide) (fun _ => by decide)
theorem em_f23 : ld (emb σ τ) 1022 23 = 1034 := by rw [ld_emb, if_pos (by decide), if_pos (by decide)]; rfl
theorem em_f24 : ld (emb σ τ) 1022 24 = 1035 := by rw [ld_emb, if_pos (by decide), if_pos (by decide)]; rfl
theorem em_f25 : ld (emb σ τ) 1022 25 = 1036 := by rw [ld_emb, if_pos (by decide), if_pos (by decide)]; rfl
theorem em_f26 : ld (emb σ τ) 1022 26 = τ 1022 26 := by rw [ld_emb, if_pos (by decide), if_neg (by decide)]
theorem em_w_26 : wr (emb σ τ) 1022 26 v = emb σ (sa τ 1022 26 v) := wr_emb (by decide) (fun _ => by decide)
theorem em_f27 : ld (emb σ τ) 1022 27 = τ 1022 27 := by rw [ld_emb, if_pos (by decide), if_neg (by decide)]
theorem em_w_27 : wr (emb σ τ) 1022 27 v = emb σ (sa τ 1022 27 v) := wr_emb (by decide) (fun _ => by decide)
theorem em_f28 : ld (emb σ τ) 1022 28 = τ 1022 28 := by rw [ld_emb, if_pos (by decide), if_neg (by decide)]
theorem em_w_28 : wr (emb σ τ) 1022 28 v = emb σ (sa τ 1022 28 v) := wr_emb (by decide) (fun _ => by decide)
theorem em_f29 : ld (emb σ τ) 1022 29 = τ 1022 29 := by rw [ld_emb, if_pos (by decide), if_neg (by decide)]
theorem em_w_29 : wr (emb σ τ) 1022 29 v = emb σ (sa τ 1022 29 v) := wr_emb (by decide) (fun _ => by decide)
theorem em_f30 : ld (emb σ τ) 1022 30 = τ 1022 30 := by rw [ld_emb, if_pos (by decide), if_neg (by decide)]
theorem em_w_30 : wr (emb σ τ) 1022 30 v = emb σ (sa τ 1022 30 v) := wr_emb (by decide) (fun _ => by decide)
theorem em_f31 : ld (emb σ τ) 1022 31 = 1037 := by rw [ld_emb, if_pos (by decide), if_pos (by decide)]; rfl
theorem em_f32 : ld (emb σ τ) 1022 32 = τ 1022 32 := by rw [ld_emb, if_pos (by decide), if_neg (by decide)]
theorem em_w_32 : wr (emb σ τ) 1022 32 v = emb σ (sa τ 1022 32 v) := wr_emb (by decide) (fun _ => by decide)
theorem em_f33 : ld (emb σ τ) 1022 33 = 1038 := by rw [ld_emb, if_pos (by decide), if_pos (by decide)]; rfl
theorem em_f34 : ld (emb σ τ) 1022 34 = τ 1022 34 := by rw [ld_emb, if_pos (by decide), if_neg (by decide)]
theorem em_w_34 : wr (emb σ τ) 1022 34 v = emb σ (sa τ 1022 34 v) := wr_emb (by decide) (fun _ => by decide)
theorem em_f35 : ld (emb σ τ) 1022 35 = 1039 := by rw [ld_emb, if_pos (by decide), if_pos (by decide)]; rfl
theorem em_f36 : ld (emb σ τ) 1022 36 = τ 1022 36 := by rw [ld_emb, if_pos (by decide), if_neg (by decide)]
theorem em_w_36 : wr (emb σ τ) 1022 36 v = emb σ (sa τ 1022 36 v) := wr_emb (by decide) (fun _ => by decide)
theorem em_f37 : ld (emb σ τ) 1022 37 = 1040 := by rw [ld_emb, if_pos (by decide), if_pos (by decide)]; rfl
theorem em_f38 : ld (emb σ τ) 1022 38 = τ 1022 38 := by rw [ld_emb, if_pos (by decide), if_neg (by decide)]
theorem em_w_38 : wr (emb σ τ) 1022 38 v = emb σ (sa τ 1022 38 v) := wr_emb (by decide) (fun _ => by decide)
theorem em_f39 : ld (emb σ τ) 1022 39 = τ 1022 39 := by rw [ld_emb, if_pos (by decide), if_neg (by decide)]
theorem em_w_39 : wr (emb σ τ) 1022 39 v = emb σ (sa τ 1022 39 v) := wr_emb (by decide) (fun _ => by decide)
theorem em_f40 : ld (emb σ τ) 1022 40 = τ 1022 40 := by rw [ld_emb, if_pos (by decide), if_neg (by decide)]
theorem em_w_40 : wr (emb σ τ) 1022 40 v = emb σ (sa τ 1022 40 v) := wr_emb (by decide) (fun _ => by decide)
theorem em_f41 : ld (emb σ τ) 1022 41 = τ 1022 41 := by rw [ld_emb, if_pos (by decide), if_neg (by decide)]
theorem em_w_41 : wr (emb σ τ) 1022 41 v = emb σ (sa τ 1022 41 v) := wr_emb (by decide) (fun _ => by decide)
theorem em_f42 : ld (emb σ τ) 1022 42 = τ 1022 42 := by rw [ld_emb, if_pos (by decide), if_neg (by decide)]
theorem em_w_42 : wr (emb σ τ) 1022 42 v = emb σ (sa τ 1022 42 v) := wr_emb (by decide) (fun _ => by decide)
theorem em_f43 : ld (emb σ τ) 1022 43 = τ 1022 43 := by rw [ld_emb, if_pos (by decide), if_neg (by decide)]
theorem em_w_43 : wr (emb σ τ) 1022 43 v = emb σ (sa τ 1022 43 v) := wr_emb (by decide) (fun _ => by decide)
theorem em_f44 : ld (emb σ τ) 1022 44 = 1041 := by rw [ld_emb, if_pos (by decide), if_pos (by decide)]; rfl
theorem em_f45 : ld (emb σ τ) 1022 45 = 1042 := by rw [ld_emb, if_pos (by decide), if_pos (by decide)]; rfl
theorem em_f46 : ld (emb σ τ) 1022 46 = 1043 := by rw [ld_emb, if_pos (by decide), if_pos (by decide)]; rfl
theorem em_f47 : ld (emb σ τ) 1022 47 = 1044 := by rw [ld_emb, if_pos (by decide), if_pos (by decide)]; rfl
theorem em_f48 : ld (emb σ τ) 1022 48 = 1045 := by rw [ld_emb, if_pos (by decide), if_pos (by decide)]; rfl
theorem em_f49 : ld (emb σ τ) 1022 49 = 1046 := by rw [ld_emb, if_pos (by decide), if_pos (by decide)]; rfl
theorem em_f50 : ld (emb σ τ) 1022 50 = 1047 := by rw [ld_emb, if_pos (by decide), if_pos (by decide)]; rfl
theorem em_f51 : ld (emb σ τ) 1022 51 = 1048 := by rw [ld_emb, if_pos (by decide), if_pos (by decide)]; rfl
theorem em_f52 : ld (emb σ τ) 1022 52 = 1049 := by rw [ld_emb, if_pos (by decide), if_pos (by decide)]; rfl
theorem em_f53 : ld (emb σ τ) 1022 53 = τ 1022 53 := by rw [ld_emb, if_pos (by decide), if_neg (by decide)]
theorem em_w_53 : wr (emb σ τ) 1022 53 v = emb σ (sa τ 1022 53 v) := wr_emb (by decide) (fun _ => by decide)
theorem em_f54 : ld (emb σ τ) 1022 54 = τ 1022 54 := by rw [ld_emb, if_pos (by decide), if_neg (by decide)]
theorem em_w_54 : wr (emb σ τ) 1022 54 v = emb σ (sa τ 1022 54 v) := wr_emb (by decide) (fun _ => by decide)
theorem em_f55 : ld (emb σ τ) 1022 55 = τ 1022 55 := by rw [ld_emb, if_pos (by decide), if_neg (by decide)]
theorem em_w_55 : wr (emb σ τ) 1022 55 v = emb σ (sa τ 1022 55 v) := wr_emb (by decide) (fun _ => by decide)
theorem em_f56 : ld (emb σ τ) 1022 56 = 1050 := by rw [ld_emb, if_pos (by decide), if_pos (by decide)]; rfl
theorem em_f57 : ld (emb σ τ) 1022 57 = 1051 := by rw [ld_emb, if_pos (by decide), if_pos (by decide)]; rfl
theorem em_f58 : ld (emb σ τ) 1022 58 = 1052 := by rw [ld_emb, if_pos (by decide), if_pos (by decide)]; rfl
theorem em_f59 : ld (emb σ τ) 1022 59 = τ 1022 59 := by rw [ld_emb, if_pos (by decide), if_neg (by decide)]
theorem em_w_59 : wr (emb σ τ) 1022 59 v = emb σ (sa τ 1022 59 v) := wr_emb (by decide) (fun _ => by decide)
theorem em_f60 : ld (emb σ τ) 1022 60 = τ 1022 60 := by rw [ld_emb, if_pos (by decide), if_neg (by decide)]
theorem em_w_60 : wr (emb σ τ) 1022 60 v = emb σ (sa τ 1022 60 v) := wr_emb (by decide) (fun _ => by decide)
theorem em_f61 : ld (emb σ τ) 1022 61 = τ 1022 61 := by rw [ld_emb, if_pos (by decide), if_neg (by decide)]
theorem em_w_61 : wr (emb σ τ) 1022 61 v = emb σ (sa τ 1022 61 v) := wr_emb (by decide) (fun _ => by decide)
end EM
section TW
variable {α β γ : Type}
/-- calls, over contents -/
def t1 (m : Option (Int × TT)) (k : Int → TT → Option β) : Option β := match m with
  | none => none
  | some (a, s) => k a s
def t0 (m : Option TT) (k : TT → Option β) : Option β := match m with
  | none => none
  | some s => k s
theorem t1_at {a : Int} {s : TT} {k : Int → TT → Option β} : t1 (some (a, s)) k = k a s := rfl
theorem t0_at {s : TT} {k : TT → Option β} : t0 (some s) k = k s := rfl
theorem t1_some {m : Option (Int × TT)} {k : Int → TT → Option β} {y : β} (h : t1 m k = some y) : ∃ a s, m = some (a, s) ∧ k a s = some y := by
  unfold t1 at h
  cases hm : m with
  | none => rw [hm] at h; cases h
  | some q => rw [hm] at h; exact ⟨q.1, q.2, rfl, h⟩
def o1 (σ : AS) (m : Option (Int × TT)) : Option (Int × AS) := match m with
  | none => none
  | some (a, s) => some (a, emb σ s)
def o0 (σ : AS) (m : Option TT) : Option AS := match m with
  | none => none
  | some s => some (emb σ s)
variable {σ : AS} {x : α} {k : α → Option (Int × TT)} {k0 : α → Option TT} {m m2 : Option (Int × TT)} {n n2 : Option TT} {c : Prop}
theorem gd_true {k : Option β} : gd True k = k := if_pos trivial
theorem nm_emb {τ : TT} {k : AS → Option β} : nm (emb σ τ) k = nm τ (fun t => k (emb σ t)) := rfl
theorem o1_some {a : Int} {s : TT} : o1 σ (some (a, s)) = some (a, emb σ s) := rfl
theorem o0_some {s : TT} : o0 σ (some s) = some (emb σ s) := rfl
theorem o1_gd [Decidable c] : o1 σ (gd c m) = gd c (o1 σ m) := by unfold gd; by_cases h : c <;> simp only [h, if_true, if_false] <;> rfl
theorem o0_gd [Decidable c] : o0 σ (gd c n) = gd c (o0 σ n) := by unfold gd; by_cases h : c <;> simp only [h, if_true, if_false] <;> rfl
theorem o1_ite [Decidable c] : o1 σ (if c then m else m2) = if c then o1 σ m else o1 σ m2 := by by_cases h : c <;> simp only [h, if_true, if_false]
theorem o0_ite [Decidable c] : o0 σ (if c then n else n2) = if c then o0 σ n else o0 σ n2 := by by_cases h : c <;> simp only [h, if_true, if_false]
theorem o1_gI {i : Int} : o1 σ (gI i m) = gI i (o1 σ m) := by unfold gI; by_cases h : -2147483648 ≤ i ∧ i ≤ 2147483647 <;> simp only [h, if_true, if_false] <;> rfl
theorem o0_gI {i : Int} : o0 σ (gI i n) = gI i (o0 σ n) := by unfold gI; by_cases h : -2147483648 ≤ i ∧ i ≤ 2147483647 <;> simp only [h, if_true, if_false] <;> rfl
theorem o1_gL {i : Int} : o1 σ (gL i m) = gL i (o1 σ m) := by unfold gL; by_cases h : -9223372036854775808 ≤ i ∧ i ≤ 9223372036854775807 <;> simp only [h, if_true, if_false] <;> rfl
theorem o0_gL {i : Int} : o0 σ (gL i n) = gL i (o0 σ n) := by unfold gL; by_cases h : -9223372036854775808 ≤ i ∧ i ≤ 9223372036854775807 <;> simp only [h, if_true, if_false] <;> rfl
theorem o1_nm : o1 σ (nm x k) = nm x (fun z => o1 σ (k z)) := rfl
theorem o0_nm : o0 σ (nm x k0) = nm x (fun z => o0 σ (k0 z)) := rfl
theorem o1_t1 {k : Int → TT → Option (Int × TT)} : o1 σ (t1 m k) = t1 m (fun a s => o1 σ (k a s)) := by cases m <;> rfl
theorem o0_t1 {k : Int → TT → Option TT} : o0 σ (t1 m k) = t1 m (fun a s => o0 σ (k a s)) := by cases m <;> rfl
theorem o1_t0 {k : TT → Option (Int × TT)} : o1 σ (t0 n k) = t0 n (fun s => o1 σ (k s)) := by cases n <;> rfl
theorem o0_t0 {k : TT → Option TT} : o0 σ (t0 n k) = t0 n (fun s => o0 σ (k s)) := by cases n <;> rfl
theorem c1_o1 {k : Int → AS → Option β} : c1 (o1 σ m) k = t1 m (fun a s => k a (emb σ s)) := by cases m <;> rfl
theorem c0_o0 {k : AS → Option β} : c0 (o0 σ n) k = t0 n (fun s => k (emb σ s)) := by cases n <;> rfl
end TW
