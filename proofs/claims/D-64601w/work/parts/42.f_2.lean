/-! shallow functions (written by wip/tools/gen.py) -/
set_option maxRecDepth 1000000
noncomputable def f_X7_sort_87 (n : Nat) (k115 : Int → Int → Int → Int → Int → Int → Int → AS → Option AS) (k44 : Int → Int → Int → Int → Int → Int → Int → AS → Option AS) (l0 l1 l2 l3 l4 l5 l6 s0 : Int) (σ : AS) : Option AS :=
  if s0 ≤ 0 then (
    k115 l0 l1 l2 l3 l4 l5 l6 σ)
  else (
    gd (kd σ l0 = 22) <|
    gd (kd σ l0 = 22) <|
    gI (l6 - l3) <|
    gd (kd σ (ld σ l0 56) = 100 ∧ (0 : Int) ≤ (l6 - l3) ∧ (l6 - l3) < ln σ (ld σ l0 56)) <|
    gd (kd σ (ld σ l0 56) = 100 ∧ (0 : Int) ≤ l6 ∧ l6 < ln σ (ld σ l0 56)) <|
    nm (wr σ (ld σ l0 56) l6 (ld σ (ld σ l0 56) (l6 - l3))) fun σ7 =>
    gI (l6 - l3) <|
    nm (l6 - l3) fun u10 =>
    k44 l0 l1 l2 l3 l4 l5 u10 σ7)
noncomputable def f_X7_sort_115 (n : Nat) (k25 : Int → Int → Int → Int → Int → AS → Option AS) (l0 l1 l2 l3 l4 l5 l6 : Int) (σ : AS) : Option AS :=
  gd (kd σ l0 = 22) <|
  gd (kd σ (ld σ l0 56) = 100 ∧ (0 : Int) ≤ l6 ∧ l6 < ln σ (ld σ l0 56)) <|
  nm (wr σ (ld σ l0 56) l6 l5) fun σ14 =>
  gI (l4 + 1) <|
  nm (l4 + 1) fun u17 =>
  k25 l0 l1 l2 l3 u17 σ14
noncomputable def f_X7_sort_44 (n : Nat) (k25 : Int → Int → Int → Int → Int → AS → Option AS) : Nat → Int → Int → Int → Int → Int → Int → Int → AS → Option AS
  | 0, _, _, _, _, _, _, _, _ => none
  | q + 1, l0, l1, l2, l3, l4, l5, l6, σ =>
    if l6 < l3 then (
      f_X7_sort_115 n k25 l0 l1 l2 l3 l4 l5 l6 σ)
    else (
      if l2 = 0 then (
        gd (kd σ l0 = 22) <|
        gI (l6 - l3) <|
        gd (kd σ (ld σ l0 56) = 100 ∧ (0 : Int) ≤ (l6 - l3) ∧ (l6 - l3) < ln σ (ld σ l0 56)) <|
        gd (kd σ l0 = 22) <|
        c1 (f_X7_compareItems n l0 (ld σ (ld σ l0 56) (l6 - l3)) l5 σ) fun v41 σ42 =>
        f_X7_sort_87 n (f_X7_sort_115 n k25) (f_X7_sort_44 n k25 q) l0 l1 l2 l3 l4 l5 l6 v41 σ42)
      else (
        gd (kd σ l0 = 22) <|
        gI (l6 - l3) <|
        gd (kd σ (ld σ l0 56) = 100 ∧ (0 : Int) ≤ (l6 - l3) ∧ (l6 - l3) < ln σ (ld σ l0 56)) <|
        gd (kd σ l0 = 22) <|
        c1 (f_X7_compareAll n l0 (ld σ (ld σ l0 56) (l6 - l3)) l5 σ) fun v48 σ49 =>
        f_X7_sort_87 n (f_X7_sort_115 n k25) (f_X7_sort_44 n k25 q) l0 l1 l2 l3 l4 l5 l6 v48 σ49))
noncomputable def f_X7_sort_25 (n : Nat) (k18 : Int → Int → Int → Int → AS → Option AS) : Nat → Int → Int → Int → Int → Int → AS → Option AS
  | 0, _, _, _, _, _, _ => none
  | q + 1, l0, l1, l2, l3, l4, σ =>
    if l1 ≤ l4 then (
      nm (idivW l3 3) fun u59 =>
      k18 l0 l1 l2 u59 σ)
    else (
      gd (kd σ l0 = 22) <|
      gd (kd σ (ld σ l0 56) = 100 ∧ (0 : Int) ≤ l4 ∧ l4 < ln σ (ld σ l0 56)) <|
      nm (ld σ (ld σ l0 56) l4) fun u63 =>
      f_X7_sort_44 n (f_X7_sort_25 n k18 q) n l0 l1 l2 l3 l4 u63 l4 σ)
noncomputable def f_X7_sort_18 (n : Nat) : Nat → Int → Int → Int → Int → AS → Option AS
  | 0, _, _, _, _, _ => none
  | q + 1, l0, l1, l2, l3, σ =>
    if l3 ≤ 0 then (
      some σ)
    else (
      f_X7_sort_25 n (f_X7_sort_18 n q) n l0 l1 l2 l3 l3 σ)
noncomputable def f_X7_sort_2 (n : Nat) : Nat → Int → Int → Int → Int → AS → Option AS
  | 0, _, _, _, _, _ => none
  | q + 1, l0, l1, l2, l3, σ =>
    if (idivW l1 3) ≤ l3 then (
      f_X7_sort_18 n n l0 l1 l2 l3 σ)
    else (
      gI (3 * l3) <|
      gI ((3 * l3) + 1) <|
      nm ((3 * l3) + 1) fun u75 =>
      f_X7_sort_2 n q l0 l1 l2 u75 σ)
noncomputable def f_X7_sort (n : Nat) (a0 a1 a2 : Int) (σ : AS) : Option AS :=
  f_X7_sort_2 n n a0 a1 a2 1 σ
noncomputable def f_X7_join_86 (n : Nat) (k17 : Int → Int → Int → Int → AS → Option AS) (l0 l1 l2 l3 : Int) (σ : AS) : Option AS :=
  gI (l3 + 1) <|
  nm (l3 + 1) fun u2 =>
  k17 l0 l1 l2 u2 σ
noncomputable def f_X7_join_17 (n : Nat) : Nat → Int → Int → Int → Int → AS → Option AS
  | 0, _, _, _, _, _ => none
  | q + 1, l0, l1, l2, l3, σ =>
    gd (kd σ l0 = 22) <|
    if (ld σ l0 38) ≤ l3 then (
      some σ)
    else (
      gI (16 * l1) <|
      gI ((16 * l1) + 8) <|
      gI (((16 * l1) + 8) + l3) <|
      nm (((16 * l1) + 8) + l3) fun u39 =>
      gI (16 * l2) <|
      gI ((16 * l2) + 8) <|
      gI (((16 * l2) + 8) + l3) <|
      nm (((16 * l2) + 8) + l3) fun u44 =>
      gd (kd σ l0 = 22) <|
      c1 (f_X7_compareCells l0 u44 u39 σ) fun v47 σ48 =>
      if 0 ≤ v47 then (
        f_X7_join_86 n (f_X7_join_17 n q) l0 l1 l2 l3 σ48)
      else (
        gd (kd σ48 l0 = 22) <|
        gd (kd σ48 l0 = 22) <|
        gd (kd σ48 (ld σ48 l0 50) = 100 ∧ (0 : Int) ≤ u44 ∧ u44 < ln σ48 (ld σ48 l0 50)) <|
        gd (kd σ48 (ld σ48 l0 50) = 100 ∧ (0 : Int) ≤ u39 ∧ u39 < ln σ48 (ld σ48 l0 50)) <|
        nm (wr σ48 (ld σ48 l0 50) u39 (ld σ48 (ld σ48 l0 50) u44)) fun σ55 =>
        gd (kd σ55 l0 = 22) <|
        gd (kd σ55 l0 = 22) <|
        gd (kd σ55 (ld σ55 l0 51) = 103 ∧ (0 : Int) ≤ u44 ∧ u44 < ln σ55 (ld σ55 l0 51)) <|
        gd (kd σ55 (ld σ55 l0 51) = 103 ∧ (0 : Int) ≤ u39 ∧ u39 < ln σ55 (ld σ55 l0 51)) <|
        gd (0 ≤ (ld σ55 (ld σ55 l0 51) u44) ∧ (ld σ55 (ld σ55 l0 51) u44) ≤ 1) <|
        nm (wr σ55 (ld σ55 l0 51) u39 (ld σ55 (ld σ55 l0 51) u44)) fun σ62 =>
        f_X7_join_86 n (f_X7_join_17 n q) l0 l1 l2 l3 σ62))
noncomputable def f_X7_join (n : Nat) (a0 a1 a2 : Int) (σ : AS) : Option AS :=
  gd (kd σ a0 = 22) <|
  gd (kd σ (ld σ a0 52) = 100 ∧ (0 : Int) ≤ a1 ∧ a1 < ln σ (ld σ a0 52)) <|
  gd (kd σ a0 = 22) <|
  gd (kd σ (ld σ a0 52) = 100 ∧ (0 : Int) ≤ a2 ∧ a2 < ln σ (ld σ a0 52)) <|
  gI ((ld σ (ld σ a0 52) a1) + (ld σ (ld σ a0 52) a2)) <|
  gd (kd σ (ld σ a0 52) = 100 ∧ (0 : Int) ≤ a1 ∧ a1 < ln σ (ld σ a0 52)) <|
  nm (wr σ (ld σ a0 52) a1 ((ld σ (ld σ a0 52) a1) + (ld σ (ld σ a0 52) a2))) fun σ70 =>
  f_X7_join_17 n n a0 a1 a2 0 σ70
noncomputable def f_X7_group_67 (n : Nat) (k82 : Int → Int → Int → AS → Option (Int × AS)) (l0 l1 l2 : Int) (σ : AS) : Option (Int × AS) :=
  gd (kd σ l0 = 22) <|
  gd (kd σ l0 = 22) <|
  gd (kd σ (ld σ l0 56) = 100 ∧ (0 : Int) ≤ l2 ∧ l2 < ln σ (ld σ l0 56)) <|
  gd (kd σ (ld σ l0 56) = 100 ∧ (0 : Int) ≤ l1 ∧ l1 < ln σ (ld σ l0 56)) <|
  nm (wr σ (ld σ l0 56) l1 (ld σ (ld σ l0 56) l2)) fun σ5 =>
  gI (l1 + 1) <|
  nm (l1 + 1) fun u8 =>
  k82 l0 u8 l2 σ5
noncomputable def f_X7_group_82 (n : Nat) (k13 : Int → Int → Int → AS → Option (Int × AS)) (l0 l1 l2 : Int) (σ : AS) : Option (Int × AS) :=
  gI (l2 + 1) <|
  nm (l2 + 1) fun u11 =>
  k13 l0 l1 u11 σ
noncomputable def f_X7_group_13 (n : Nat) : Nat → Int → Int → Int → AS → Option (Int × AS)
  | 0, _, _, _, _ => none
  | q + 1, l0, l1, l2, σ =>
    gd (kd σ l0 = 22) <|
    if (ld σ l0 53) ≤ l2 then (
      some (l1, σ))
    else (
      if l1 ≤ 0 then (
        f_X7_group_67 n (f_X7_group_82 n (f_X7_group_13 n q)) l0 l1 l2 σ)
      else (
        gd (kd σ l0 = 22) <|
        gI (l1 - 1) <|
        gd (kd σ (ld σ l0 56) = 100 ∧ (0 : Int) ≤ (l1 - 1) ∧ (l1 - 1) < ln σ (ld σ l0 56)) <|
        gd (kd σ l0 = 22) <|
        gd (kd σ (ld σ l0 56) = 100 ∧ (0 : Int) ≤ l2 ∧ l2 < ln σ (ld σ l0 56)) <|
        gd (kd σ l0 = 22) <|
        c1 (f_X7_compareItems n l0 (ld σ (ld σ l0 56) (l1 - 1)) (ld σ (ld σ l0 56) l2) σ) fun v44 σ45 =>
        if v44 = 0 then (
          gd (kd σ45 l0 = 22) <|
          gI (l1 - 1) <|
          gd (kd σ45 (ld σ45 l0 56) = 100 ∧ (0 : Int) ≤ (l1 - 1) ∧ (l1 - 1) < ln σ45 (ld σ45 l0 56)) <|
          gd (kd σ45 l0 = 22) <|
          gd (kd σ45 (ld σ45 l0 56) = 100 ∧ (0 : Int) ≤ l2 ∧ l2 < ln σ45 (ld σ45 l0 56)) <|
          gd (kd σ45 l0 = 22) <|
          c0 (f_X7_join n l0 (ld σ45 (ld σ45 l0 56) (l1 - 1)) (ld σ45 (ld σ45 l0 56) l2) σ45) fun σ55 =>
          f_X7_group_82 n (f_X7_group_13 n q) l0 l1 l2 σ55)
        else (
          f_X7_group_67 n (f_X7_group_82 n (f_X7_group_13 n q)) l0 l1 l2 σ45)))
noncomputable def f_X7_group (n : Nat) (a0 : Int) (σ : AS) : Option (Int × AS) :=
  gd (kd σ a0 = 22) <|
  gd (kd σ a0 = 22) <|
  c0 (f_X7_sort n a0 (ld σ a0 53) 0 σ) fun σ60 =>
  f_X7_group_13 n n a0 0 0 σ60
noncomputable def f_X7_isBare_31 (n : Nat) (k32 : Int → Int → Int → AS → Option (Int × AS)) (l0 l2 : Int) (σ : AS) : Option (Int × AS) :=
  k32 l0 l2 0 σ
noncomputable def f_X7_isBare_32 (n : Nat) (k4 : Int → Int → Int → AS → Option (Int × AS)) (l0 l2 s0 : Int) (σ : AS) : Option (Int × AS) :=
  gI (l2 + 1) <|
  nm (l2 + 1) fun u2 =>
  k4 l0 s0 u2 σ
noncomputable def f_X7_isBare_4 (n : Nat) : Nat → Int → Int → Int → AS → Option (Int × AS)
  | 0, _, _, _, _ => none
  | q + 1, l0, l1, l2, σ =>
    gd (kd σ l0 = 22) <|
    if (ld σ l0 36) ≤ l2 then (
      gd (0 ≤ l1 ∧ l1 ≤ 1) <|
      some (l1, σ))
    else (
      if l1 = 0 then (
        f_X7_isBare_31 n (f_X7_isBare_32 n (f_X7_isBare_4 n q)) l0 l2 σ)
      else (
        gd (kd σ l0 = 22) <|
        gI (4 * l2) <|
        gd (kd σ (ld σ l0 35) = 100 ∧ (0 : Int) ≤ (4 * l2) ∧ (4 * l2) < ln σ (ld σ l0 35)) <|
        if (ld σ (ld σ l0 35) (4 * l2)) = 0 then (
          f_X7_isBare_32 n (f_X7_isBare_4 n q) l0 l2 1 σ)
        else (
          f_X7_isBare_31 n (f_X7_isBare_32 n (f_X7_isBare_4 n q)) l0 l2 σ)))
noncomputable def f_X7_isBare (n : Nat) (a0 : Int) (σ : AS) : Option (Int × AS) :=
  f_X7_isBare_4 n n a0 1 0 σ
noncomputable def f_X7_none_2 (n : Nat) : Nat → Int → Int → AS → Option AS
  | 0, _, _, _ => none
  | q + 1, l0, l1, σ =>
    if 16 ≤ l1 then (
      gd (kd σ l0 = 22) <|
      gd (kd σ (ld σ l0 52) = 100 ∧ (0 : Int) ≤ 0 ∧ 0 < ln σ (ld σ l0 52)) <|
      nm (wr σ (ld σ l0 52) 0 0) fun σ24 =>
      gd (kd σ24 l0 = 22) <|
      gd (kd σ24 (ld σ24 l0 56) = 100 ∧ (0 : Int) ≤ 0 ∧ 0 < ln σ24 (ld σ24 l0 56)) <|
      nm (wr σ24 (ld σ24 l0 56) 0 0) fun σ28 =>
      some σ28)
    else (
      gd (kd σ l0 = 22) <|
      gd (kd σ (ld σ l0 50) = 100 ∧ (0 : Int) ≤ l1 ∧ l1 < ln σ (ld σ l0 50)) <|
      nm (wr σ (ld σ l0 50) l1 0) fun σ32 =>
      gd (kd σ32 l0 = 22) <|
      gd (kd σ32 (ld σ32 l0 51) = 103 ∧ (0 : Int) ≤ l1 ∧ l1 < ln σ32 (ld σ32 l0 51)) <|
      nm (wr σ32 (ld σ32 l0 51) l1 0) fun σ36 =>
      gI (l1 + 1) <|
      nm (l1 + 1) fun u39 =>
      f_X7_none_2 n q l0 u39 σ36)
noncomputable def f_X7_none (n : Nat) (a0 : Int) (σ : AS) : Option AS :=
  f_X7_none_2 n n a0 0 σ
noncomputable def f_X7_tell_49 (n : Nat) (k7 : Int → Int → Int → Int → AS → Option AS) (l0 l1 l2 l3 : Int) (σ : AS) : Option AS :=
  gI (l3 + 1) <|
  nm (l3 + 1) fun u2 =>
  k7 l0 l1 l2 u2 σ
noncomputable def f_X7_tell_105 (n : Nat) (k57 : Int → Int → Int → Int → AS → Option AS) (l0 l1 l2 l3 : Int) (σ : AS) : Option AS :=
  gI (l3 + 1) <|
  nm (l3 + 1) fun u5 =>
  k57 l0 l1 l2 u5 σ
noncomputable def f_X7_tell_57 (n : Nat) : Nat → Int → Int → Int → Int → AS → Option AS
  | 0, _, _, _, _, _ => none
  | q + 1, l0, l1, l2, l3, σ =>
    gd (kd σ l0 = 22) <|
    if (ld σ l0 38) ≤ l3 then (
      some σ)
    else (
      gd (kd σ l0 = 22) <|
      gI (4 * l3) <|
      gd (kd σ (ld σ l0 37) = 100 ∧ (0 : Int) ≤ (4 * l3) ∧ (4 * l3) < ln σ (ld σ l0 37)) <|
      if (ld σ (ld σ l0 37) (4 * l3)) = 0 then (
        gd (kd σ l0 = 22) <|
        gI (l2 + 8) <|
        gI ((l2 + 8) + l3) <|
        gd (kd σ l0 = 22) <|
        gd (kd σ (ld σ l0 52) = 100 ∧ (0 : Int) ≤ l1 ∧ l1 < ln σ (ld σ l0 52)) <|
        gd (kd σ (ld σ l0 50) = 100 ∧ (0 : Int) ≤ ((l2 + 8) + l3) ∧ ((l2 + 8) + l3) < ln σ (ld σ l0 50)) <|
        nm (wr σ (ld σ l0 50) ((l2 + 8) + l3) (ld σ (ld σ l0 52) l1)) fun σ39 =>
        gd (kd σ39 l0 = 22) <|
        gI (l2 + 8) <|
        gI ((l2 + 8) + l3) <|
        gd (kd σ39 (ld σ39 l0 51) = 103 ∧ (0 : Int) ≤ ((l2 + 8) + l3) ∧ ((l2 + 8) + l3) < ln σ39 (ld σ39 l0 51)) <|
        nm (wr σ39 (ld σ39 l0 51) ((l2 + 8) + l3) 1) fun σ45 =>
        f_X7_tell_105 n (f_X7_tell_57 n q) l0 l1 l2 l3 σ45)
      else (
        f_X7_tell_105 n (f_X7_tell_57 n q) l0 l1 l2 l3 σ))
noncomputable def f_X7_tell_7 (n : Nat) : Nat → Int → Int → Int → Int → AS → Option AS
  | 0, _, _, _, _, _ => none
  | q + 1, l0, l1, l2, l3, σ =>
    gd (kd σ l0 = 22) <|
    if (ld σ l0 36) ≤ l3 then (
      f_X7_tell_57 n n l0 l1 l2 0 σ)
    else (
      gd (kd σ l0 = 22) <|
      gI (4 * l3) <|
      gd (kd σ (ld σ l0 35) = 100 ∧ (0 : Int) ≤ (4 * l3) ∧ (4 * l3) < ln σ (ld σ l0 35)) <|
      if (ld σ (ld σ l0 35) (4 * l3)) = 0 then (
        gd (kd σ l0 = 22) <|
        gI (l2 + l3) <|
        gd (kd σ l0 = 22) <|
        gd (kd σ (ld σ l0 52) = 100 ∧ (0 : Int) ≤ l1 ∧ l1 < ln σ (ld σ l0 52)) <|
        gd (kd σ (ld σ l0 50) = 100 ∧ (0 : Int) ≤ (l2 + l3) ∧ (l2 + l3) < ln σ (ld σ l0 50)) <|
        nm (wr σ (ld σ l0 50) (l2 + l3) (ld σ (ld σ l0 52) l1)) fun σ76 =>
        gd (kd σ76 l0 = 22) <|
        gI (l2 + l3) <|
        gd (kd σ76 (ld σ76 l0 51) = 103 ∧ (0 : Int) ≤ (l2 + l3) ∧ (l2 + l3) < ln σ76 (ld σ76 l0 51)) <|
        nm (wr σ76 (ld σ76 l0 51) (l2 + l3) 1) fun σ81 =>
        f_X7_tell_49 n (f_X7_tell_7 n q) l0 l1 l2 l3 σ81)
      else (
        f_X7_tell_49 n (f_X7_tell_7 n q) l0 l1 l2 l3 σ))
noncomputable def f_X7_tell (n : Nat) (a0 a1 : Int) (σ : AS) : Option AS :=
  gI (16 * a1) <|
  nm (16 * a1) fun u84 =>
  f_X7_tell_7 n n a0 a1 u84 0 σ
noncomputable def f_X7_show_42 (n : Nat) (k71 : Int → Int → AS → Option AS) (l0 : Int) (σ : AS) : Option AS :=
  gd (kd σ l0 = 22) <|
  c1 (f_X7_group n l0 σ) fun v2 σ3 =>
  gd (kd σ3 l0 = 22) <|
  c1 (f_X7_hasCount n l0 σ3) fun v6 σ7 =>
  if v6 = 0 then (
    k71 l0 v2 σ7)
  else (
    gd (kd σ7 l0 = 22) <|
    c1 (f_X7_isBare n l0 σ7) fun v11 σ12 =>
    if v11 = 0 then (
      k71 l0 v2 σ12)
    else (
      if v2 = 0 then (
        gd (kd σ12 l0 = 22) <|
        c0 (f_X7_none n l0 σ12) fun σ18 =>
        k71 l0 1 σ18)
      else (
        k71 l0 v2 σ12)))
noncomputable def f_X7_show_143 (n : Nat) (k133 : Int → Int → AS → Option AS) : Nat → Int → Int → Int → AS → Option AS
  | 0, _, _, _, _ => none
  | q + 1, l0, l2, l3, σ =>
    gd (kd σ l0 = 22) <|
    if (ld σ l0 60) ≤ l3 then (
      gI (l2 + 1) <|
      nm (l2 + 1) fun u56 =>
      k133 l0 u56 σ)
    else (
      gd (kd σ l0 = 22) <|
      gI (8 * l2) <|
      gI ((8 * l2) + l3) <|
      gd (kd σ l0 = 22) <|
      gd (kd σ l0 = 22) <|
      gd (kd σ (ld σ l0 56) = 100 ∧ (0 : Int) ≤ l2 ∧ l2 < ln σ (ld σ l0 56)) <|
      gI (16 * (ld σ (ld σ l0 56) l2)) <|
      gI ((16 * (ld σ (ld σ l0 56) l2)) + l3) <|
      gd (kd σ (ld σ l0 50) = 100 ∧ (0 : Int) ≤ ((16 * (ld σ (ld σ l0 56) l2)) + l3) ∧ ((16 * (ld σ (ld σ l0 56) l2)) + l3) < ln σ (ld σ l0 50)) <|
      gd (kd σ (ld σ l0 57) = 100 ∧ (0 : Int) ≤ ((8 * l2) + l3) ∧ ((8 * l2) + l3) < ln σ (ld σ l0 57)) <|
      nm (wr σ (ld σ l0 57) ((8 * l2) + l3) (ld σ (ld σ l0 50) ((16 * (ld σ (ld σ l0 56) l2)) + l3))) fun σ68 =>
      gd (kd σ68 l0 = 22) <|
      gI (8 * l2) <|
      gI ((8 * l2) + l3) <|
      gd (kd σ68 l0 = 22) <|
      gd (kd σ68 l0 = 22) <|
      gd (kd σ68 (ld σ68 l0 56) = 100 ∧ (0 : Int) ≤ l2 ∧ l2 < ln σ68 (ld σ68 l0 56)) <|
      gI (16 * (ld σ68 (ld σ68 l0 56) l2)) <|
      gI ((16 * (ld σ68 (ld σ68 l0 56) l2)) + l3) <|
      gd (kd σ68 (ld σ68 l0 51) = 103 ∧ (0 : Int) ≤ ((16 * (ld σ68 (ld σ68 l0 56) l2)) + l3) ∧ ((16 * (ld σ68 (ld σ68 l0 56) l2)) + l3) < ln σ68 (ld σ68 l0 51)) <|
      gd (kd σ68 (ld σ68 l0 58) = 103 ∧ (0 : Int) ≤ ((8 * l2) + l3) ∧ ((8 * l2) + l3) < ln σ68 (ld σ68 l0 58)) <|
      gd (0 ≤ (ld σ68 (ld σ68 l0 51) ((16 * (ld σ68 (ld σ68 l0 56) l2)) + l3)) ∧ (ld σ68 (ld σ68 l0 51) ((16 * (ld σ68 (ld σ68 l0 56) l2)) + l3)) ≤ 1) <|
      nm (wr σ68 (ld σ68 l0 58) ((8 * l2) + l3) (ld σ68 (ld σ68 l0 51) ((16 * (ld σ68 (ld σ68 l0 56) l2)) + l3))) fun σ81 =>
      gI (l3 + 1) <|
      nm (l3 + 1) fun u84 =>
      f_X7_show_143 n k133 q l0 l2 u84 σ81)
noncomputable def f_X7_show_133 (n : Nat) : Nat → Int → Int → AS → Option AS
  | 0, _, _, _ => none
  | q + 1, l0, l2, σ =>
    gd (kd σ l0 = 22) <|
    if (ld σ l0 59) ≤ l2 then (
      some σ)
    else (
      f_X7_show_143 n (f_X7_show_133 n q) n l0 l2 0 σ)
noncomputable def f_X7_show_120 (n : Nat) (l0 s0 s1 : Int) (σ : AS) : Option AS :=
  gd (kd σ s0 = 22) <|
  nm (wr σ s0 59 s1) fun σ91 =>
  gd (kd σ91 l0 = 22) <|
  gd (kd σ91 l0 = 22) <|
  nm (wr σ91 l0 60 (ld σ91 l0 36)) fun σ95 =>
  f_X7_show_133 n n l0 0 σ95
noncomputable def f_X7_show_73 (n : Nat) : Nat → Int → Int → Int → AS → Option AS
  | 0, _, _, _, _ => none
  | q + 1, l0, l1, l2, σ =>
    if l1 ≤ l2 then (
      gd (kd σ l0 = 22) <|
      c0 (f_X7_sort n l0 l1 1 σ) fun σ117 =>
      gd (kd σ117 l0 = 22) <|
      if (lcmpW l1 (ld σ117 l0 40)) ≤ 0 then (
        f_X7_show_120 n l0 l0 l1 σ117)
      else (
        gd (kd σ117 l0 = 22) <|
        f_X7_show_120 n l0 l0 (l2iW (ld σ117 l0 40)) σ117))
    else (
      gd (kd σ l0 = 22) <|
      gd (kd σ (ld σ l0 56) = 100 ∧ (0 : Int) ≤ l2 ∧ l2 < ln σ (ld σ l0 56)) <|
      gd (kd σ l0 = 22) <|
      c0 (f_X7_tell n l0 (ld σ (ld σ l0 56) l2) σ) fun σ126 =>
      gI (l2 + 1) <|
      nm (l2 + 1) fun u129 =>
      f_X7_show_73 n q l0 l1 u129 σ126)
noncomputable def f_X7_show_71 (n : Nat) (l0 l1 : Int) (σ : AS) : Option AS :=
  f_X7_show_73 n n l0 l1 0 σ
noncomputable def f_X7_show_2 (n : Nat) : Nat → Int → Int → AS → Option AS
  | 0, _, _, _ => none
  | q + 1, l0, l1, σ =>
    gd (kd σ l0 = 22) <|
    if (ld σ l0 53) ≤ l1 then (
      gd (kd σ l0 = 22) <|
      nm (ld σ l0 53) fun u153 =>
      gd (kd σ l0 = 22) <|
      c1 (f_X7_hasCount n l0 σ) fun v156 σ157 =>
      if v156 = 0 then (
        gd (kd σ157 l0 = 22) <|
        if (ld σ157 l0 39) = 0 then (
          f_X7_show_71 n l0 u153 σ157)
        else (
          f_X7_show_42 n (f_X7_show_71 n) l0 σ157))
      else (
        f_X7_show_42 n (f_X7_show_71 n) l0 σ157))
    else (
      gd (kd σ l0 = 22) <|
      gd (kd σ (ld σ l0 56) = 100 ∧ (0 : Int) ≤ l1 ∧ l1 < ln σ (ld σ l0 56)) <|
      nm (wr σ (ld σ l0 56) l1 l1) fun σ164 =>
      gI (l1 + 1) <|
      nm (l1 + 1) fun u167 =>
      f_X7_show_2 n q l0 u167 σ164)
noncomputable def f_X7_show (n : Nat) (a0 : Int) (σ : AS) : Option AS :=
  f_X7_show_2 n n a0 0 σ
noncomputable def f_X7_ask (n : Nat) (a0 : Int) (σ : AS) : Option (Int × AS) :=
  gd (kd σ a0 = 22) <|
  nm (wr σ a0 0 0) fun σ2 =>
  gd (kd σ2 a0 = 22) <|
  nm (ld σ2 a0 17) fun u5 =>
  gd (kd σ2 a0 = 22) <|
  c1 (f_X7_question n a0 σ2) fun v8 σ9 =>
  if v8 = 0 then (
    gd (kd σ9 a0 = 22) <|
    nm (wr σ9 a0 16 0) fun σ32 =>
    gd (kd σ32 a0 = 22) <|
    gI ((-1) - (ld σ32 a0 18)) <|
    some (((-1) - (ld σ32 a0 18)), σ32))
  else (
    gd (kd σ9 a0 = 22) <|
    c1 (f_X7_isMatched n a0 σ9) fun v13 σ14 =>
    if v13 = 0 then (
      gd (kd σ14 a0 = 22) <|
      nm (wr σ14 a0 0 1) fun σ26 =>
      gd (kd σ26 a0 = 22) <|
      nm (wr σ26 a0 17 u5) fun σ29 =>
      some (0, σ29))
    else (
      gd (kd σ14 a0 = 22) <|
      nm (wr σ14 a0 16 0) fun σ18 =>
      gd (kd σ18 a0 = 22) <|
      c0 (f_X7_show n a0 σ18) fun σ22 =>
      gd (kd σ22 a0 = 22) <|
      some ((ld σ22 a0 59), σ22)))
noncomputable def f_X1_fault (a0 : Int) (σ : AS) : Option (Int × AS) :=
  gd (kd σ a0 = 1) <|
  some ((ld σ a0 5), σ)
noncomputable def f_X7_fault (a0 : Int) (σ : AS) : Option (Int × AS) :=
  gd (kd σ a0 = 22) <|
  nm (wr σ a0 0 0) fun σ2 =>
  gd (kd σ2 a0 = 22) <|
  some ((ld σ2 a0 17), σ2)
noncomputable def f_X1_columns (a0 : Int) (σ : AS) : Option (Int × AS) :=
  gd (kd σ a0 = 1) <|
  some ((ld σ a0 10), σ)
noncomputable def f_X7_columns (a0 : Int) (σ : AS) : Option (Int × AS) :=
  gd (kd σ a0 = 22) <|
  nm (wr σ a0 0 0) fun σ2 =>
  gd (kd σ2 a0 = 22) <|
  some ((ld σ2 a0 60), σ2)
noncomputable def f_X1_value_28 (k29 : Int → Int → Int → Int → AS → Option ((Nat ⊕ Int) × AS)) (l0 l1 l2 : Int) (σ : AS) : Option ((Nat ⊕ Int) × AS) :=
  k29 l0 l1 l2 0 σ
noncomputable def f_X1_value_29 (l0 l1 l2 s0 : Int) (σ : AS) : Option ((Nat ⊕ Int) × AS) :=
  cx (f_X1_inside s0 σ) fun _ σ2 =>
    gd (kd σ2 l0 = 1) <|
    gI (8 * l1) <|
    gI ((8 * l1) + l2) <|
    gd (kd σ2 (ld σ2 l0 8) = 101 ∧ (0 : Int) ≤ ((8 * l1) + l2) ∧ ((8 * l1) + l2) < ln σ2 (ld σ2 l0 8)) <|
    some (.inr (ld σ2 (ld σ2 l0 8) ((8 * l1) + l2)), σ2)
noncomputable def f_X1_value (a0 a1 a2 : Int) (σ : AS) : Option ((Nat ⊕ Int) × AS) :=
  if a1 < 0 then (
    f_X1_value_28 (f_X1_value_29) a0 a1 a2 σ)
  else (
    gd (kd σ a0 = 1) <|
    if (ld σ a0 9) ≤ a1 then (
      f_X1_value_28 (f_X1_value_29) a0 a1 a2 σ)
    else (
      if a2 < 0 then (
        f_X1_value_28 (f_X1_value_29) a0 a1 a2 σ)
      else (
        gd (kd σ a0 = 1) <|
        if (ld σ a0 10) ≤ a2 then (
          f_X1_value_28 (f_X1_value_29) a0 a1 a2 σ)
        else (
          f_X1_value_29 a0 a1 a2 1 σ))))
noncomputable def f_X1_isThere (a0 a1 a2 : Int) (σ : AS) : Option ((Nat ⊕ Int) × AS) :=
  gd (kd σ a0 = 1) <|
  cx (f_X1_value a0 a1 a2 σ) fun v2 σ3 =>
    if (lcmpW v2 (-9223372036854775808)) = 0 then (
      some (.inr 0, σ3))
    else (
      some (.inr 1, σ3))
noncomputable def f_X0_isThere (a0 a1 a2 a3 : Int) (σ : AS) : Option (Int × AS) :=
  gd (kd σ a0 = 1) <|
  cy (f_X1_isThere a0 a1 a2 σ) (fun E5 σ3 =>
    if E5 = 1 then (
      nm (nx σ3) fun r7 =>
      nm (al σ3 0 0 0) fun σ9 =>
      some (1, σ9)
    ) else (
      none)) fun v2 σ3 =>
    if v2 = 0 then (
      gd (kd σ3 a3 = 101 ∧ (0 : Int) ≤ 0 ∧ 0 < ln σ3 a3) <|
      nm (wr σ3 a3 0 0) fun σ13 =>
      some (0, σ13))
    else (
      gd (kd σ3 a3 = 101 ∧ (0 : Int) ≤ 0 ∧ 0 < ln σ3 a3) <|
      nm (wr σ3 a3 0 1) fun σ16 =>
      some (0, σ16))
noncomputable def f_X7_isCell (a0 a1 a2 : Int) (σ : AS) : Option (Int × AS) :=
  if a1 < 0 then (
    some (0, σ))
  else (
    gd (kd σ a0 = 22) <|
    if (ld σ a0 59) ≤ a1 then (
      some (0, σ))
    else (
      if a2 < 0 then (
        some (0, σ))
      else (
        gd (kd σ a0 = 22) <|
        if (ld σ a0 60) ≤ a2 then (
          some (0, σ))
        else (
          some (1, σ)))))
noncomputable def f_X7_isThere_15 (l0 l1 l2 s0 s1 : Int) (σ : AS) : Option (Int × AS) :=
  gd (kd σ s0 = 22) <|
  nm (wr σ s0 0 s1) fun σ2 =>
  gd (kd σ2 l0 = 22) <|
  if (ld σ2 l0 0) = 0 then (
    gd (kd σ2 l0 = 22) <|
    gI (8 * l1) <|
    gI ((8 * l1) + l2) <|
    gd (kd σ2 (ld σ2 l0 58) = 103 ∧ (0 : Int) ≤ ((8 * l1) + l2) ∧ ((8 * l1) + l2) < ln σ2 (ld σ2 l0 58)) <|
    if (ld σ2 (ld σ2 l0 58) ((8 * l1) + l2)) = 0 then (
      some (0, σ2))
    else (
      some (1, σ2)))
  else (
    some (0, σ2))
noncomputable def f_X7_isThere (a0 a1 a2 : Int) (σ : AS) : Option (Int × AS) :=
  gd (kd σ a0 = 22) <|
  c1 (f_X7_isCell a0 a1 a2 σ) fun v12 σ13 =>
  if v12 = 0 then (
    f_X7_isThere_15 a0 a1 a2 a0 1 σ13)
  else (
    f_X7_isThere_15 a0 a1 a2 a0 0 σ13)
noncomputable def f_X1_cell (a0 a1 a2 : Int) (σ : AS) : Option ((Nat ⊕ Int) × AS) :=
  gd (kd σ a0 = 1) <|
  cx (f_X1_value a0 a1 a2 σ) fun v2 σ3 =>
    if (lcmpW v2 (-9223372036854775808)) = 0 then (
      some (.inr 0, σ3))
    else (
      some (.inr (l2iW v2), σ3))
noncomputable def f_X0_cell (a0 a1 a2 a3 : Int) (σ : AS) : Option (Int × AS) :=
  gd (kd σ a0 = 1) <|
  cy (f_X1_cell a0 a1 a2 σ) (fun E5 σ3 =>
    if E5 = 1 then (
      nm (nx σ3) fun r7 =>
      nm (al σ3 0 0 0) fun σ9 =>
      some (1, σ9)
    ) else (
      none)) fun v2 σ3 =>
    gd (kd σ3 a3 = 101 ∧ (0 : Int) ≤ 0 ∧ 0 < ln σ3 a3) <|
    nm (wr σ3 a3 0 v2) fun σ12 =>
    some (0, σ12)
noncomputable def f_X7_cell_15 (l0 l1 l2 s0 s1 : Int) (σ : AS) : Option (Int × AS) :=
  gd (kd σ s0 = 22) <|
  nm (wr σ s0 0 s1) fun σ2 =>
  gd (kd σ2 l0 = 22) <|
  if 0 < (ld σ2 l0 0) then (
    some (0, σ2))
  else (
    gd (kd σ2 l0 = 22) <|
    gI (8 * l1) <|
    gI ((8 * l1) + l2) <|
    gd (kd σ2 (ld σ2 l0 58) = 103 ∧ (0 : Int) ≤ ((8 * l1) + l2) ∧ ((8 * l1) + l2) < ln σ2 (ld σ2 l0 58)) <|
    if (ld σ2 (ld σ2 l0 58) ((8 * l1) + l2)) = 0 then (
      some (0, σ2))
    else (
      gd (kd σ2 l0 = 22) <|
      gI (8 * l1) <|
      gI ((8 * l1) + l2) <|
      gd (kd σ2 (ld σ2 l0 57) = 100 ∧ (0 : Int) ≤ ((8 * l1) + l2) ∧ ((8 * l1) + l2) < ln σ2 (ld σ2 l0 57)) <|
      some ((ld σ2 (ld σ2 l0 57) ((8 * l1) + l2)), σ2)))
noncomputable def f_X7_cell (a0 a1 a2 : Int) (σ : AS) : Option (Int × AS) :=
  gd (kd σ a0 = 22) <|
  c1 (f_X7_isCell a0 a1 a2 σ) fun v16 σ17 =>
  if v16 = 0 then (
    f_X7_cell_15 a0 a1 a2 a0 1 σ17)
  else (
    f_X7_cell_15 a0 a1 a2 a0 0 σ17)
noncomputable def f_X1_count (a0 a1 : Int) (σ : AS) : Option ((Nat ⊕ Int) × AS) :=
  if a1 = 0 then (
    gd (kd σ a0 = 1) <|
    gd (kd σ (ld σ a0 0) = 2) <|
    some (.inr (ld σ (ld σ a0 0) 2), σ))
  else (
    if a1 = 1 then (
      gd (kd σ a0 = 1) <|
      gd (kd σ (ld σ a0 0) = 2) <|
      some (.inr (ld σ (ld σ a0 0) 3), σ))
    else (
      if a1 = 2 then (
        gd (kd σ a0 = 1) <|
        gd (kd σ (ld σ a0 0) = 2) <|
        some (.inr (ld σ (ld σ a0 0) 4), σ))
      else (
        if a1 = 3 then (
          gd (kd σ a0 = 1) <|
          gd (kd σ (ld σ a0 1) = 23) <|
          c1 (f_J1_size (ld σ a0 1) σ) fun v13 σ14 =>
          some (.inr v13, σ14))
        else (
          if a1 = 4 then (
            gd (kd σ a0 = 1) <|
            some (.inr (ld σ a0 9), σ))
          else (
            if a1 = 5 then (
              gd (kd σ a0 = 1) <|
              some (.inr (ld σ a0 13), σ))
            else (
              some (.inl 2, al σ 0 0 6)))))))
noncomputable def f_X0_count (a0 a1 a2 : Int) (σ : AS) : Option (Int × AS) :=
  gd (kd σ a0 = 1) <|
  cy (f_X1_count a0 a1 σ) (fun E5 σ3 =>
    if E5 = 2 then (
      nm (nx σ3) fun r7 =>
      nm (al σ3 0 0 0) fun σ9 =>
      some (1, σ9)
    ) else (
      none)) fun v2 σ3 =>
    gd (kd σ3 a2 = 101 ∧ (0 : Int) ≤ 0 ∧ 0 < ln σ3 a2) <|
    nm (wr σ3 a2 0 v2) fun σ12 =>
    some (0, σ12)
noncomputable def f_X7_count_10 (n : Nat) (k15 : Int → Int → Int → Int → AS → Option (Int × AS)) (l0 l1 s0 : Int) (σ : AS) : Option (Int × AS) :=
  k15 l0 l1 s0 1 σ
noncomputable def f_X7_count_82 (n : Nat) (k31 : Int → Int → Int → Int → AS → Option (Int × AS)) (l0 l1 l3 s0 s1 : Int) (σ : AS) : Option (Int × AS) :=
  gI (s0 + s1) <|
  nm (s0 + s1) fun u2 =>
  gI (l3 + 1) <|
  nm (l3 + 1) fun u5 =>
  k31 l0 l1 u2 u5 σ
noncomputable def f_X7_count_73 (n : Nat) (k31 : Int → Int → Int → Int → AS → Option (Int × AS)) (l0 l1 l3 s0 s1 : Int) (σ : AS) : Option (Int × AS) :=
  if s1 = (-1) then (
    f_X7_count_82 n k31 l0 l1 l3 s0 0 σ)
  else (
    f_X7_count_82 n k31 l0 l1 l3 s0 1 σ)
noncomputable def f_X7_count_90 (n : Nat) (l0 l1 l2 : Int) (σ : AS) : Option (Int × AS) :=
  if 2 ≤ l1 then (
    if l1 = 2 then (
      gd (kd σ l0 = 22) <|
      some ((ld σ l0 6), σ))
    else (
      if l1 = 3 then (
        gd (kd σ l0 = 22) <|
        gd (kd σ l0 = 22) <|
        gI ((ld σ l0 8) - (ld σ l0 9)) <|
        some (((ld σ l0 8) - (ld σ l0 9)), σ))
      else (
        if l1 = 4 then (
          gd (kd σ l0 = 22) <|
          some ((ld σ l0 59), σ))
        else (
          gd (kd σ l0 = 22) <|
          some ((ld σ l0 13), σ)))))
  else (
    some (l2, σ))
noncomputable def f_X7_count_45 (n : Nat) (k31 : Int → Int → Int → Int → AS → Option (Int × AS)) (l0 l1 l2 l3 s0 s1 : Int) (σ : AS) : Option (Int × AS) :=
  if s1 ≤ s0 then (
    f_X7_count_90 n l0 l1 l2 σ)
  else (
    if 2 ≤ l1 then (
      f_X7_count_90 n l0 l1 l2 σ)
    else (
      if l1 = 0 then (
        gd (kd σ l0 = 22) <|
        gd (kd σ (ld σ l0 1) = 100 ∧ (0 : Int) ≤ l3 ∧ l3 < ln σ (ld σ l0 1)) <|
        f_X7_count_73 n k31 l0 l1 l3 l2 (ld σ (ld σ l0 1) l3) σ)
      else (
        gd (kd σ l0 = 22) <|
        gd (kd σ (ld σ l0 2) = 100 ∧ (0 : Int) ≤ l3 ∧ l3 < ln σ (ld σ l0 2)) <|
        f_X7_count_73 n k31 l0 l1 l3 l2 (ld σ (ld σ l0 2) l3) σ)))
noncomputable def f_X7_count_31 (n : Nat) : Nat → Int → Int → Int → Int → AS → Option (Int × AS)
  | 0, _, _, _, _, _ => none
  | q + 1, l0, l1, l2, l3, σ =>
    if l1 = 0 then (
      f_X7_count_45 n (f_X7_count_31 n q) l0 l1 l2 l3 l3 400 σ)
    else (
      f_X7_count_45 n (f_X7_count_31 n q) l0 l1 l2 l3 l3 1000 σ)
noncomputable def f_X7_count_15 (n : Nat) (l0 l1 s0 s1 : Int) (σ : AS) : Option (Int × AS) :=
  gd (kd σ s0 = 22) <|
  nm (wr σ s0 0 s1) fun σ28 =>
  gd (kd σ28 l0 = 22) <|
  if (ld σ28 l0 0) ≤ 0 then (
    f_X7_count_31 n n l0 l1 0 0 σ28)
  else (
    some (0, σ28))
noncomputable def f_X7_count (n : Nat) (a0 a1 : Int) (σ : AS) : Option (Int × AS) :=
  if a1 < 0 then (
    f_X7_count_10 n (f_X7_count_15 n) a0 a1 a0 σ)
  else (
    if a1 ≤ 5 then (
      f_X7_count_15 n a0 a1 a0 0 σ)
    else (
      f_X7_count_10 n (f_X7_count_15 n) a0 a1 a0 σ))
noncomputable def f_L_law_205 (n : Nat) (k1730 : Int → Int → Int → Int → Int → AS → Option (Int × AS)) (l0 l1 l2 l3 l4 : Int) (σ : AS) : Option (Int × AS) :=
  k1730 l0 l1 l2 l3 l4 σ
noncomputable def f_L_law_285 (n : Nat) (k1730 : Int → Int → Int → Int → Int → AS → Option (Int × AS)) (l0 l1 l2 l3 l4 : Int) (σ : AS) : Option (Int × AS) :=
  k1730 l0 l1 l2 l3 l4 σ
noncomputable def f_L_law_466 (n : Nat) (k472 : Int → Int → Int → Int → Int → AS → Option (Int × AS)) (l0 l1 l2 l3 l4 s0 s1 : Int) (σ : AS) : Option (Int × AS) :=
  if (lcmpW s0 s1) = 0 then (
    k472 l0 l1 l2 l3 l4 σ)
  else (
    some (0, σ))
noncomputable def f_L_law_472 (n : Nat) (k1730 : Int → Int → Int → Int → Int → AS → Option (Int × AS)) (l0 l1 l2 l3 l4 : Int) (σ : AS) : Option (Int × AS) :=
  k1730 l0 l1 l2 l3 l4 σ
noncomputable def f_L_law_414 (n : Nat) (k1730 : Int → Int → Int → Int → Int → AS → Option (Int × AS)) (l0 l1 l2 l3 l4 l5 s0 s1 : Int) (σ : AS) : Option (Int × AS) :=
  gI (l4 + 2) <|
  gd (kd σ l0 = 1100 ∧ (0 : Int) ≤ (l4 + 2) ∧ (l4 + 2) < ln σ l0) <|
  gI (l4 + 3) <|
  gd (kd σ l0 = 1100 ∧ (0 : Int) ≤ (l4 + 3) ∧ (l4 + 3) < ln σ l0) <|
  gI (l4 + 4) <|
  gd (kd σ l0 = 1100 ∧ (0 : Int) ≤ (l4 + 4) ∧ (l4 + 4) < ln σ l0) <|
  gd (kd σ s0 = 22) <|
  c1 (f_X7_put n s0 s1 (ld σ l0 (l4 + 2)) (ld σ l0 (l4 + 3)) (ld σ l0 (l4 + 4)) σ) fun v9 σ10 =>
  gd (kd σ10 l2 = 22) <|
  c1 (f_X7_thrown l2 σ10) fun v13 σ14 =>
  if v13 = l5 then (
    if l5 = 0 then (
      gd (kd σ14 l3 = 101 ∧ (0 : Int) ≤ 0 ∧ 0 < ln σ14 l3) <|
      if v9 = 0 then (
        f_L_law_466 n (f_L_law_472 n k1730) l0 l1 l2 l3 l4 (ld σ14 l3 0) 0 σ14)
      else (
        f_L_law_466 n (f_L_law_472 n k1730) l0 l1 l2 l3 l4 (ld σ14 l3 0) 1 σ14))
    else (
      f_L_law_472 n k1730 l0 l1 l2 l3 l4 σ14))
  else (
    some (0, σ14))
noncomputable def f_L_law_375 (n : Nat) (k1730 : Int → Int → Int → Int → Int → AS → Option (Int × AS)) (l0 l1 l2 l3 l4 s0 s1 : Int) (σ : AS) : Option (Int × AS) :=
  gI (l4 + 2) <|
  gd (kd σ l0 = 1100 ∧ (0 : Int) ≤ (l4 + 2) ∧ (l4 + 2) < ln σ l0) <|
  gI (l4 + 3) <|
  gd (kd σ l0 = 1100 ∧ (0 : Int) ≤ (l4 + 3) ∧ (l4 + 3) < ln σ l0) <|
  gI (l4 + 4) <|
  gd (kd σ l0 = 1100 ∧ (0 : Int) ≤ (l4 + 4) ∧ (l4 + 4) < ln σ l0) <|
  c1 (f_X0_put n s0 s1 (ld σ l0 (l4 + 2)) (ld σ l0 (l4 + 3)) (ld σ l0 (l4 + 4)) l3 σ) fun v26 σ27 =>
  gI (l4 + 1) <|
  gd (kd σ27 l0 = 1100 ∧ (0 : Int) ≤ (l4 + 1) ∧ (l4 + 1) < ln σ27 l0) <|
  if (ld σ27 l0 (l4 + 1)) = 0 then (
    f_L_law_414 n k1730 l0 l1 l2 l3 l4 v26 l2 0 σ27)
  else (
    f_L_law_414 n k1730 l0 l1 l2 l3 l4 v26 l2 1 σ27)
noncomputable def f_L_law_569 (n : Nat) (k575 : Int → Int → Int → Int → Int → AS → Option (Int × AS)) (l0 l1 l2 l3 l4 s0 s1 : Int) (σ : AS) : Option (Int × AS) :=
  if (lcmpW s0 s1) = 0 then (
    k575 l0 l1 l2 l3 l4 σ)
  else (
    some (0, σ))
noncomputable def f_L_law_575 (n : Nat) (k1730 : Int → Int → Int → Int → Int → AS → Option (Int × AS)) (l0 l1 l2 l3 l4 : Int) (σ : AS) : Option (Int × AS) :=
  k1730 l0 l1 l2 l3 l4 σ
noncomputable def f_L_law_523 (n : Nat) (k1730 : Int → Int → Int → Int → Int → AS → Option (Int × AS)) (l0 l1 l2 l3 l4 l5 s0 s1 : Int) (σ : AS) : Option (Int × AS) :=
  gI (l4 + 2) <|
  gd (kd σ l0 = 1100 ∧ (0 : Int) ≤ (l4 + 2) ∧ (l4 + 2) < ln σ l0) <|
  gI (l4 + 3) <|
  gd (kd σ l0 = 1100 ∧ (0 : Int) ≤ (l4 + 3) ∧ (l4 + 3) < ln σ l0) <|
  gd (kd σ s0 = 22) <|
  c1 (f_X7_remove n s0 s1 (ld σ l0 (l4 + 2)) (ld σ l0 (l4 + 3)) σ) fun v38 σ39 =>
  gd (kd σ39 l2 = 22) <|
  c1 (f_X7_thrown l2 σ39) fun v42 σ43 =>
  if v42 = l5 then (
    if l5 = 0 then (
      gd (kd σ43 l3 = 101 ∧ (0 : Int) ≤ 0 ∧ 0 < ln σ43 l3) <|
      if v38 = 0 then (
        f_L_law_569 n (f_L_law_575 n k1730) l0 l1 l2 l3 l4 (ld σ43 l3 0) 0 σ43)
      else (
        f_L_law_569 n (f_L_law_575 n k1730) l0 l1 l2 l3 l4 (ld σ43 l3 0) 1 σ43))
    else (
      f_L_law_575 n k1730 l0 l1 l2 l3 l4 σ43))
  else (
    some (0, σ43))
noncomputable def f_L_law_490 (n : Nat) (k1730 : Int → Int → Int → Int → Int → AS → Option (Int × AS)) (l0 l1 l2 l3 l4 s0 s1 : Int) (σ : AS) : Option (Int × AS) :=
  gI (l4 + 2) <|
  gd (kd σ l0 = 1100 ∧ (0 : Int) ≤ (l4 + 2) ∧ (l4 + 2) < ln σ l0) <|
  gI (l4 + 3) <|
  gd (kd σ l0 = 1100 ∧ (0 : Int) ≤ (l4 + 3) ∧ (l4 + 3) < ln σ l0) <|
  c1 (f_X0_remove n s0 s1 (ld σ l0 (l4 + 2)) (ld σ l0 (l4 + 3)) l3 σ) fun v53 σ54 =>
  gI (l4 + 1) <|
  gd (kd σ54 l0 = 1100 ∧ (0 : Int) ≤ (l4 + 1) ∧ (l4 + 1) < ln σ54 l0) <|
  if (ld σ54 l0 (l4 + 1)) = 0 then (
    f_L_law_523 n k1730 l0 l1 l2 l3 l4 v53 l2 0 σ54)
  else (
    f_L_law_523 n k1730 l0 l1 l2 l3 l4 v53 l2 1 σ54)
noncomputable def f_L_law_672 (n : Nat) (k678 : Int → Int → Int → Int → Int → AS → Option (Int × AS)) (l0 l1 l2 l3 l4 s0 s1 : Int) (σ : AS) : Option (Int × AS) :=
  if (lcmpW s0 s1) = 0 then (
    k678 l0 l1 l2 l3 l4 σ)
  else (
    some (0, σ))
noncomputable def f_L_law_678 (n : Nat) (k1730 : Int → Int → Int → Int → Int → AS → Option (Int × AS)) (l0 l1 l2 l3 l4 : Int) (σ : AS) : Option (Int × AS) :=
  k1730 l0 l1 l2 l3 l4 σ
noncomputable def f_L_law_626 (n : Nat) (k1730 : Int → Int → Int → Int → Int → AS → Option (Int × AS)) (l0 l1 l2 l3 l4 l5 s0 s1 : Int) (σ : AS) : Option (Int × AS) :=
  gI (l4 + 2) <|
  gd (kd σ l0 = 1100 ∧ (0 : Int) ≤ (l4 + 2) ∧ (l4 + 2) < ln σ l0) <|
  gI (l4 + 3) <|
  gd (kd σ l0 = 1100 ∧ (0 : Int) ≤ (l4 + 3) ∧ (l4 + 3) < ln σ l0) <|
  gd (kd σ s0 = 22) <|
  c1 (f_X7_has n s0 s1 (ld σ l0 (l4 + 2)) (ld σ l0 (l4 + 3)) σ) fun v65 σ66 =>
  gd (kd σ66 l2 = 22) <|
  c1 (f_X7_thrown l2 σ66) fun v69 σ70 =>
  if v69 = l5 then (
    if l5 = 0 then (
      gd (kd σ70 l3 = 101 ∧ (0 : Int) ≤ 0 ∧ 0 < ln σ70 l3) <|
      if v65 = 0 then (
        f_L_law_672 n (f_L_law_678 n k1730) l0 l1 l2 l3 l4 (ld σ70 l3 0) 0 σ70)
      else (
        f_L_law_672 n (f_L_law_678 n k1730) l0 l1 l2 l3 l4 (ld σ70 l3 0) 1 σ70))
    else (
      f_L_law_678 n k1730 l0 l1 l2 l3 l4 σ70))
  else (
    some (0, σ70))
noncomputable def f_L_law_593 (n : Nat) (k1730 : Int → Int → Int → Int → Int → AS → Option (Int × AS)) (l0 l1 l2 l3 l4 s0 s1 : Int) (σ : AS) : Option (Int × AS) :=
  gI (l4 + 2) <|
  gd (kd σ l0 = 1100 ∧ (0 : Int) ≤ (l4 + 2) ∧ (l4 + 2) < ln σ l0) <|
  gI (l4 + 3) <|
  gd (kd σ l0 = 1100 ∧ (0 : Int) ≤ (l4 + 3) ∧ (l4 + 3) < ln σ l0) <|
  c1 (f_X0_has n s0 s1 (ld σ l0 (l4 + 2)) (ld σ l0 (l4 + 3)) l3 σ) fun v80 σ81 =>
  gI (l4 + 1) <|
  gd (kd σ81 l0 = 1100 ∧ (0 : Int) ≤ (l4 + 1) ∧ (l4 + 1) < ln σ81 l0) <|
  if (ld σ81 l0 (l4 + 1)) = 0 then (
    f_L_law_626 n k1730 l0 l1 l2 l3 l4 v80 l2 0 σ81)
  else (
    f_L_law_626 n k1730 l0 l1 l2 l3 l4 v80 l2 1 σ81)
noncomputable def f_L_law_774 (n : Nat) (k1730 : Int → Int → Int → Int → Int → AS → Option (Int × AS)) (l0 l1 l2 l3 l4 : Int) (σ : AS) : Option (Int × AS) :=
  k1730 l0 l1 l2 l3 l4 σ
noncomputable def f_L_law_729 (n : Nat) (k1730 : Int → Int → Int → Int → Int → AS → Option (Int × AS)) (l0 l1 l2 l3 l4 l5 s0 s1 : Int) (σ : AS) : Option (Int × AS) :=
  gI (l4 + 2) <|
  gd (kd σ l0 = 1100 ∧ (0 : Int) ≤ (l4 + 2) ∧ (l4 + 2) < ln σ l0) <|
  gI (l4 + 3) <|
  gd (kd σ l0 = 1100 ∧ (0 : Int) ≤ (l4 + 3) ∧ (l4 + 3) < ln σ l0) <|
  gd (kd σ s0 = 22) <|
  c1 (f_X7_get n s0 s1 (ld σ l0 (l4 + 2)) (ld σ l0 (l4 + 3)) σ) fun v91 σ92 =>
  gd (kd σ92 l2 = 22) <|
  c1 (f_X7_thrown l2 σ92) fun v95 σ96 =>
  if v95 = l5 then (
    if l5 = 0 then (
      gd (kd σ96 l3 = 101 ∧ (0 : Int) ≤ 0 ∧ 0 < ln σ96 l3) <|
      if (lcmpW (ld σ96 l3 0) v91) = 0 then (
        f_L_law_774 n k1730 l0 l1 l2 l3 l4 σ96)
      else (
        some (0, σ96)))
    else (
      f_L_law_774 n k1730 l0 l1 l2 l3 l4 σ96))
  else (
    some (0, σ96))
noncomputable def f_L_law_696 (n : Nat) (k1730 : Int → Int → Int → Int → Int → AS → Option (Int × AS)) (l0 l1 l2 l3 l4 s0 s1 : Int) (σ : AS) : Option (Int × AS) :=
  gI (l4 + 2) <|
  gd (kd σ l0 = 1100 ∧ (0 : Int) ≤ (l4 + 2) ∧ (l4 + 2) < ln σ l0) <|
  gI (l4 + 3) <|
  gd (kd σ l0 = 1100 ∧ (0 : Int) ≤ (l4 + 3) ∧ (l4 + 3) < ln σ l0) <|
  c1 (f_X0_get n s0 s1 (ld σ l0 (l4 + 2)) (ld σ l0 (l4 + 3)) l3 σ) fun v106 σ107 =>
  gI (l4 + 1) <|
  gd (kd σ107 l0 = 1100 ∧ (0 : Int) ≤ (l4 + 1) ∧ (l4 + 1) < ln σ107 l0) <|
  if (ld σ107 l0 (l4 + 1)) = 0 then (
    f_L_law_729 n k1730 l0 l1 l2 l3 l4 v106 l2 0 σ107)
  else (
    f_L_law_729 n k1730 l0 l1 l2 l3 l4 v106 l2 1 σ107)
noncomputable def f_L_law_842 (n : Nat) (k1730 : Int → Int → Int → Int → Int → AS → Option (Int × AS)) (l0 l1 l2 l3 l4 : Int) (σ : AS) : Option (Int × AS) :=
  k1730 l0 l1 l2 l3 l4 σ
noncomputable def f_L_law_910 (n : Nat) (k1730 : Int → Int → Int → Int → Int → AS → Option (Int × AS)) (l0 l1 l2 l3 l4 : Int) (σ : AS) : Option (Int × AS) :=
  k1730 l0 l1 l2 l3 l4 σ
noncomputable def f_L_law_1006 (n : Nat) (k1730 : Int → Int → Int → Int → Int → AS → Option (Int × AS)) (l0 l1 l2 l3 l4 : Int) (σ : AS) : Option (Int × AS) :=
  k1730 l0 l1 l2 l3 l4 σ
noncomputable def f_L_law_967 (n : Nat) (k1730 : Int → Int → Int → Int → Int → AS → Option (Int × AS)) (l0 l1 l2 l3 l4 l5 s0 s1 s2 : Int) (σ : AS) : Option (Int × AS) :=
  gI (l4 + 3) <|
  gd (kd σ l0 = 1100 ∧ (0 : Int) ≤ (l4 + 3) ∧ (l4 + 3) < ln σ l0) <|
  gd (kd σ s0 = 22) <|
  c1 (f_X7_edgeAt n s0 s1 s2 (ld σ l0 (l4 + 3)) σ) fun v115 σ116 =>
  gd (kd σ116 l2 = 22) <|
  c1 (f_X7_thrown l2 σ116) fun v119 σ120 =>
  if v119 = l5 then (
    if l5 = 0 then (
      gd (kd σ120 l3 = 101 ∧ (0 : Int) ≤ 0 ∧ 0 < ln σ120 l3) <|
      if (lcmpW (ld σ120 l3 0) v115) = 0 then (
        f_L_law_1006 n k1730 l0 l1 l2 l3 l4 σ120)
      else (
        some (0, σ120)))
    else (
      f_L_law_1006 n k1730 l0 l1 l2 l3 l4 σ120))
  else (
    some (0, σ120))
noncomputable def f_L_law_934 (n : Nat) (k1730 : Int → Int → Int → Int → Int → AS → Option (Int × AS)) (l0 l1 l2 l3 l4 s0 s1 s2 : Int) (σ : AS) : Option (Int × AS) :=
  gI (l4 + 3) <|
  gd (kd σ l0 = 1100 ∧ (0 : Int) ≤ (l4 + 3) ∧ (l4 + 3) < ln σ l0) <|
  c1 (f_X0_edgeAt s0 s1 s2 (ld σ l0 (l4 + 3)) l3 σ) fun v128 σ129 =>
  gI (l4 + 1) <|
  gd (kd σ129 l0 = 1100 ∧ (0 : Int) ≤ (l4 + 1) ∧ (l4 + 1) < ln σ129 l0) <|
  gI (l4 + 2) <|
  gd (kd σ129 l0 = 1100 ∧ (0 : Int) ≤ (l4 + 2) ∧ (l4 + 2) < ln σ129 l0) <|
  if (ld σ129 l0 (l4 + 2)) = 0 then (
    f_L_law_967 n k1730 l0 l1 l2 l3 l4 v128 l2 (ld σ129 l0 (l4 + 1)) 0 σ129)
  else (
    f_L_law_967 n k1730 l0 l1 l2 l3 l4 v128 l2 (ld σ129 l0 (l4 + 1)) 1 σ129)
noncomputable def f_L_law_1075 (n : Nat) (k1730 : Int → Int → Int → Int → Int → AS → Option (Int × AS)) (l0 l1 l2 l3 l4 : Int) (σ : AS) : Option (Int × AS) :=
  k1730 l0 l1 l2 l3 l4 σ
noncomputable def f_L_law_1155 (n : Nat) (k1730 : Int → Int → Int → Int → Int → AS → Option (Int × AS)) (l0 l1 l2 l3 l4 : Int) (σ : AS) : Option (Int × AS) :=
  k1730 l0 l1 l2 l3 l4 σ
noncomputable def f_L_law_1239 (n : Nat) (k1730 : Int → Int → Int → Int → Int → AS → Option (Int × AS)) (l0 l1 l2 l3 l4 : Int) (σ : AS) : Option (Int × AS) :=
  k1730 l0 l1 l2 l3 l4 σ
noncomputable def f_L_law_1206 (n : Nat) (k1730 : Int → Int → Int → Int → Int → AS → Option (Int × AS)) (l0 l1 l2 l3 l4 l5 s0 s1 s2 : Int) (σ : AS) : Option (Int × AS) :=
  gd (kd σ s0 = 22) <|
  c1 (f_X7_walked s0 s1 s2 σ) fun v137 σ138 =>
  gd (kd σ138 l2 = 22) <|
  c1 (f_X7_thrown l2 σ138) fun v141 σ142 =>
  if v141 = l5 then (
    if l5 = 0 then (
      gd (kd σ142 l3 = 101 ∧ (0 : Int) ≤ 0 ∧ 0 < ln σ142 l3) <|
      if (lcmpW (ld σ142 l3 0) v137) = 0 then (
        f_L_law_1239 n k1730 l0 l1 l2 l3 l4 σ142)
      else (
        some (0, σ142)))
    else (
      f_L_law_1239 n k1730 l0 l1 l2 l3 l4 σ142))
  else (
    some (0, σ142))
noncomputable def f_L_law_1179 (n : Nat) (k1730 : Int → Int → Int → Int → Int → AS → Option (Int × AS)) (l0 l1 l2 l3 l4 s0 s1 s2 : Int) (σ : AS) : Option (Int × AS) :=
  c1 (f_X0_walked s0 s1 s2 l3 σ) fun v148 σ149 =>
  gI (l4 + 1) <|
  gd (kd σ149 l0 = 1100 ∧ (0 : Int) ≤ (l4 + 1) ∧ (l4 + 1) < ln σ149 l0) <|
  gI (l4 + 2) <|
  gd (kd σ149 l0 = 1100 ∧ (0 : Int) ≤ (l4 + 2) ∧ (l4 + 2) < ln σ149 l0) <|
  if (ld σ149 l0 (l4 + 2)) = 0 then (
    f_L_law_1206 n k1730 l0 l1 l2 l3 l4 v148 l2 (ld σ149 l0 (l4 + 1)) 0 σ149)
  else (
    f_L_law_1206 n k1730 l0 l1 l2 l3 l4 v148 l2 (ld σ149 l0 (l4 + 1)) 1 σ149)
noncomputable def f_L_law_1318 (n : Nat) (k1730 : Int → Int → Int → Int → Int → AS → Option (Int × AS)) (l0 l1 l2 l3 l4 : Int) (σ : AS) : Option (Int × AS) :=
  k1730 l0 l1 l2 l3 l4 σ
noncomputable def f_L_law_1422 (n : Nat) (k1730 : Int → Int → Int → Int → Int → AS → Option (Int × AS)) (l0 l1 l2 l3 l4 : Int) (σ : AS) : Option (Int × AS) :=
  k1730 l0 l1 l2 l3 l4 σ
noncomputable def f_L_law_1502 (n : Nat) (k1730 : Int → Int → Int → Int → Int → AS → Option (Int × AS)) (l0 l1 l2 l3 l4 : Int) (σ : AS) : Option (Int × AS) :=
  k1730 l0 l1 l2 l3 l4 σ
noncomputable def f_L_law_1597 (n : Nat) (k1603 : Int → Int → Int → Int → Int → AS → Option (Int × AS)) (l0 l1 l2 l3 l4 s0 s1 : Int) (σ : AS) : Option (Int × AS) :=
  if (lcmpW s0 s1) = 0 then (
    k1603 l0 l1 l2 l3 l4 σ)
  else (
    some (0, σ))
noncomputable def f_L_law_1603 (n : Nat) (k1730 : Int → Int → Int → Int → Int → AS → Option (Int × AS)) (l0 l1 l2 l3 l4 : Int) (σ : AS) : Option (Int × AS) :=
  k1730 l0 l1 l2 l3 l4 σ
noncomputable def f_L_law_1671 (n : Nat) (k1730 : Int → Int → Int → Int → Int → AS → Option (Int × AS)) (l0 l1 l2 l3 l4 : Int) (σ : AS) : Option (Int × AS) :=
  k1730 l0 l1 l2 l3 l4 σ
noncomputable def f_L_law_1727 (n : Nat) (k1730 : Int → Int → Int → Int → Int → AS → Option (Int × AS)) (l0 l1 l2 l3 l4 : Int) (σ : AS) : Option (Int × AS) :=
  k1730 l0 l1 l2 l3 l4 σ
noncomputable def f_L_law_1730 (n : Nat) (k23 : Int → Int → Int → Int → Int → AS → Option (Int × AS)) (l0 l1 l2 l3 l4 : Int) (σ : AS) : Option (Int × AS) :=
  gI (l4 + 6) <|
  nm (l4 + 6) fun u158 =>
  k23 l0 l1 l2 l3 u158 σ
noncomputable def f_L_law_23 (n : Nat) : Nat → Int → Int → Int → Int → Int → AS → Option (Int × AS)
  | 0, _, _, _, _, _, _ => none
  | q + 1, l0, l1, l2, l3, l4, σ =>
    gd (kd σ l0 = 1100) <|
    gI ((ln σ l0) - 6) <|
    if ((ln σ l0) - 6) < l4 then (
      some (1, σ))
    else (
      gd (kd σ l0 = 1100 ∧ (0 : Int) ≤ l4 ∧ l4 < ln σ l0) <|
      nm (iandW (ld σ l0 l4) 31) fun v571 =>
      if v571 = 0 then (
        gI (l4 + 1) <|
        gd (kd σ l0 = 1100 ∧ (0 : Int) ≤ (l4 + 1) ∧ (l4 + 1) < ln σ l0) <|
        c1 (f_X0_node n l1 (ld σ l0 (l4 + 1)) l3 σ) fun v576 σ577 =>
        gI (l4 + 1) <|
        gd (kd σ577 l0 = 1100 ∧ (0 : Int) ≤ (l4 + 1) ∧ (l4 + 1) < ln σ577 l0) <|
        gd (kd σ577 l2 = 22) <|
        c1 (f_X7_node n l2 (ld σ577 l0 (l4 + 1)) σ577) fun v582 σ583 =>
        gd (kd σ583 l2 = 22) <|
        c1 (f_X7_thrown l2 σ583) fun v586 σ587 =>
        if v586 = v576 then (
          if v576 = 0 then (
            gd (kd σ587 l3 = 101 ∧ (0 : Int) ≤ 0 ∧ 0 < ln σ587 l3) <|
            if (lcmpW (ld σ587 l3 0) v582) = 0 then (
              f_L_law_205 n (f_L_law_1730 n (f_L_law_23 n q)) l0 l1 l2 l3 l4 σ587)
            else (
              some (0, σ587)))
          else (
            f_L_law_205 n (f_L_law_1730 n (f_L_law_23 n q)) l0 l1 l2 l3 l4 σ587))
        else (
          some (0, σ587)))
      else (
        if v571 = 1 then (
          gI (l4 + 1) <|
          gd (kd σ l0 = 1100 ∧ (0 : Int) ≤ (l4 + 1) ∧ (l4 + 1) < ln σ l0) <|
          gI (l4 + 2) <|
          gd (kd σ l0 = 1100 ∧ (0 : Int) ≤ (l4 + 2) ∧ (l4 + 2) < ln σ l0) <|
          gI (l4 + 3) <|
          gd (kd σ l0 = 1100 ∧ (0 : Int) ≤ (l4 + 3) ∧ (l4 + 3) < ln σ l0) <|
          c1 (f_X0_edge n l1 (ld σ l0 (l4 + 1)) (ld σ l0 (l4 + 2)) (ld σ l0 (l4 + 3)) l3 σ) fun v600 σ601 =>
          gI (l4 + 1) <|
          gd (kd σ601 l0 = 1100 ∧ (0 : Int) ≤ (l4 + 1) ∧ (l4 + 1) < ln σ601 l0) <|
          gI (l4 + 2) <|
          gd (kd σ601 l0 = 1100 ∧ (0 : Int) ≤ (l4 + 2) ∧ (l4 + 2) < ln σ601 l0) <|
          gI (l4 + 3) <|
          gd (kd σ601 l0 = 1100 ∧ (0 : Int) ≤ (l4 + 3) ∧ (l4 + 3) < ln σ601 l0) <|
          gd (kd σ601 l2 = 22) <|
          c1 (f_X7_edge n l2 (ld σ601 l0 (l4 + 1)) (ld σ601 l0 (l4 + 2)) (ld σ601 l0 (l4 + 3)) σ601) fun v610 σ611 =>
          gd (kd σ611 l2 = 22) <|
          c1 (f_X7_thrown l2 σ611) fun v614 σ615 =>
          if v614 = v600 then (
            if v600 = 0 then (
              gd (kd σ615 l3 = 101 ∧ (0 : Int) ≤ 0 ∧ 0 < ln σ615 l3) <|
              if (lcmpW (ld σ615 l3 0) v610) = 0 then (
                f_L_law_285 n (f_L_law_1730 n (f_L_law_23 n q)) l0 l1 l2 l3 l4 σ615)
              else (
                some (0, σ615)))
            else (
              f_L_law_285 n (f_L_law_1730 n (f_L_law_23 n q)) l0 l1 l2 l3 l4 σ615))
          else (
            some (0, σ615)))
        else (
          if v571 = 2 then (
            gI (l4 + 1) <|
            gd (kd σ l0 = 1100 ∧ (0 : Int) ≤ (l4 + 1) ∧ (l4 + 1) < ln σ l0) <|
            c1 (f_X0_dropNode n l1 (ld σ l0 (l4 + 1)) σ) fun v624 σ625 =>
            gI (l4 + 1) <|
            gd (kd σ625 l0 = 1100 ∧ (0 : Int) ≤ (l4 + 1) ∧ (l4 + 1) < ln σ625 l0) <|
            gd (kd σ625 l2 = 22) <|
            c0 (f_X7_dropNode n l2 (ld σ625 l0 (l4 + 1)) σ625) fun σ631 =>
            gd (kd σ631 l2 = 22) <|
            c1 (f_X7_thrown l2 σ631) fun v634 σ635 =>
            if v634 = v624 then (
              f_L_law_1730 n (f_L_law_23 n q) l0 l1 l2 l3 l4 σ635)
            else (
              some (0, σ635)))
          else (
            if v571 = 3 then (
              gI (l4 + 1) <|
              gd (kd σ l0 = 1100 ∧ (0 : Int) ≤ (l4 + 1) ∧ (l4 + 1) < ln σ l0) <|
              c1 (f_X0_dropEdge n l1 (ld σ l0 (l4 + 1)) σ) fun v641 σ642 =>
              gI (l4 + 1) <|
              gd (kd σ642 l0 = 1100 ∧ (0 : Int) ≤ (l4 + 1) ∧ (l4 + 1) < ln σ642 l0) <|
              gd (kd σ642 l2 = 22) <|
              c0 (f_X7_dropEdge n l2 (ld σ642 l0 (l4 + 1)) σ642) fun σ648 =>
              gd (kd σ648 l2 = 22) <|
              c1 (f_X7_thrown l2 σ648) fun v651 σ652 =>
              if v651 = v641 then (
                f_L_law_1730 n (f_L_law_23 n q) l0 l1 l2 l3 l4 σ652)
              else (
                some (0, σ652)))
            else (
              if v571 = 4 then (
                gI (l4 + 1) <|
                gd (kd σ l0 = 1100 ∧ (0 : Int) ≤ (l4 + 1) ∧ (l4 + 1) < ln σ l0) <|
                if (ld σ l0 (l4 + 1)) = 0 then (
                  f_L_law_375 n (f_L_law_1730 n (f_L_law_23 n q)) l0 l1 l2 l3 l4 l1 0 σ)
                else (
                  f_L_law_375 n (f_L_law_1730 n (f_L_law_23 n q)) l0 l1 l2 l3 l4 l1 1 σ))
              else (
                if v571 = 5 then (
                  gI (l4 + 1) <|
                  gd (kd σ l0 = 1100 ∧ (0 : Int) ≤ (l4 + 1) ∧ (l4 + 1) < ln σ l0) <|
                  if (ld σ l0 (l4 + 1)) = 0 then (
                    f_L_law_490 n (f_L_law_1730 n (f_L_law_23 n q)) l0 l1 l2 l3 l4 l1 0 σ)
                  else (
                    f_L_law_490 n (f_L_law_1730 n (f_L_law_23 n q)) l0 l1 l2 l3 l4 l1 1 σ))
                else (
                  if v571 = 6 then (
                    gI (l4 + 1) <|
                    gd (kd σ l0 = 1100 ∧ (0 : Int) ≤ (l4 + 1) ∧ (l4 + 1) < ln σ l0) <|
                    if (ld σ l0 (l4 + 1)) = 0 then (
                      f_L_law_593 n (f_L_law_1730 n (f_L_law_23 n q)) l0 l1 l2 l3 l4 l1 0 σ)
                    else (
                      f_L_law_593 n (f_L_law_1730 n (f_L_law_23 n q)) l0 l1 l2 l3 l4 l1 1 σ))
                  else (
                    if v571 = 7 then (
                      gI (l4 + 1) <|
                      gd (kd σ l0 = 1100 ∧ (0 : Int) ≤ (l4 + 1) ∧ (l4 + 1) < ln σ l0) <|
                      if (ld σ l0 (l4 + 1)) = 0 then (
                        f_L_law_696 n (f_L_law_1730 n (f_L_law_23 n q)) l0 l1 l2 l3 l4 l1 0 σ)
                      else (
                        f_L_law_696 n (f_L_law_1730 n (f_L_law_23 n q)) l0 l1 l2 l3 l4 l1 1 σ))
                    else (
                      if v571 = 8 then (
                        gI (l4 + 1) <|
                        gd (kd σ l0 = 1100 ∧ (0 : Int) ≤ (l4 + 1) ∧ (l4 + 1) < ln σ l0) <|
                        gI (l4 + 2) <|
                        gd (kd σ l0 = 1100 ∧ (0 : Int) ≤ (l4 + 2) ∧ (l4 + 2) < ln σ l0) <|
                        c1 (f_X0_ofNode l1 (ld σ l0 (l4 + 1)) (ld σ l0 (l4 + 2)) l3 σ) fun v676 σ677 =>
                        gI (l4 + 1) <|
                        gd (kd σ677 l0 = 1100 ∧ (0 : Int) ≤ (l4 + 1) ∧ (l4 + 1) < ln σ677 l0) <|
                        gI (l4 + 2) <|
                        gd (kd σ677 l0 = 1100 ∧ (0 : Int) ≤ (l4 + 2) ∧ (l4 + 2) < ln σ677 l0) <|
                        gd (kd σ677 l2 = 22) <|
                        c1 (f_X7_ofNode n l2 (ld σ677 l0 (l4 + 1)) (ld σ677 l0 (l4 + 2)) σ677) fun v684 σ685 =>
                        gd (kd σ685 l2 = 22) <|
                        c1 (f_X7_thrown l2 σ685) fun v688 σ689 =>
                        if v688 = v676 then (
                          if v676 = 0 then (
                            gd (kd σ689 l3 = 101 ∧ (0 : Int) ≤ 0 ∧ 0 < ln σ689 l3) <|
                            if (lcmpW (ld σ689 l3 0) v684) = 0 then (
                              f_L_law_842 n (f_L_law_1730 n (f_L_law_23 n q)) l0 l1 l2 l3 l4 σ689)
                            else (
                              some (0, σ689)))
                          else (
                            f_L_law_842 n (f_L_law_1730 n (f_L_law_23 n q)) l0 l1 l2 l3 l4 σ689))
                        else (
                          some (0, σ689)))
                      else (
                        if v571 = 9 then (
                          gI (l4 + 1) <|
                          gd (kd σ l0 = 1100 ∧ (0 : Int) ≤ (l4 + 1) ∧ (l4 + 1) < ln σ l0) <|
                          gI (l4 + 2) <|
                          gd (kd σ l0 = 1100 ∧ (0 : Int) ≤ (l4 + 2) ∧ (l4 + 2) < ln σ l0) <|
                          c1 (f_X0_ofEdge l1 (ld σ l0 (l4 + 1)) (ld σ l0 (l4 + 2)) l3 σ) fun v700 σ701 =>
                          gI (l4 + 1) <|
                          gd (kd σ701 l0 = 1100 ∧ (0 : Int) ≤ (l4 + 1) ∧ (l4 + 1) < ln σ701 l0) <|
                          gI (l4 + 2) <|
                          gd (kd σ701 l0 = 1100 ∧ (0 : Int) ≤ (l4 + 2) ∧ (l4 + 2) < ln σ701 l0) <|
                          gd (kd σ701 l2 = 22) <|
                          c1 (f_X7_ofEdge n l2 (ld σ701 l0 (l4 + 1)) (ld σ701 l0 (l4 + 2)) σ701) fun v708 σ709 =>
                          gd (kd σ709 l2 = 22) <|
                          c1 (f_X7_thrown l2 σ709) fun v712 σ713 =>
                          if v712 = v700 then (
                            if v700 = 0 then (
                              gd (kd σ713 l3 = 101 ∧ (0 : Int) ≤ 0 ∧ 0 < ln σ713 l3) <|
                              if (lcmpW (ld σ713 l3 0) v708) = 0 then (
                                f_L_law_910 n (f_L_law_1730 n (f_L_law_23 n q)) l0 l1 l2 l3 l4 σ713)
                              else (
                                some (0, σ713)))
                            else (
                              f_L_law_910 n (f_L_law_1730 n (f_L_law_23 n q)) l0 l1 l2 l3 l4 σ713))
                          else (
                            some (0, σ713)))
                        else (
                          if v571 = 10 then (
                            gI (l4 + 1) <|
                            gd (kd σ l0 = 1100 ∧ (0 : Int) ≤ (l4 + 1) ∧ (l4 + 1) < ln σ l0) <|
                            gI (l4 + 2) <|
                            gd (kd σ l0 = 1100 ∧ (0 : Int) ≤ (l4 + 2) ∧ (l4 + 2) < ln σ l0) <|
                            if (ld σ l0 (l4 + 2)) = 0 then (
                              f_L_law_934 n (f_L_law_1730 n (f_L_law_23 n q)) l0 l1 l2 l3 l4 l1 (ld σ l0 (l4 + 1)) 0 σ)
                            else (
                              f_L_law_934 n (f_L_law_1730 n (f_L_law_23 n q)) l0 l1 l2 l3 l4 l1 (ld σ l0 (l4 + 1)) 1 σ))
                          else (
                            if v571 = 11 then (
                              gd (kd σ l1 = 1) <|
                              c1 (f_X1_sync n l1 σ) fun v727 σ728 =>
                              gd (kd σ728 l2 = 22) <|
                              c1 (f_X7_sync l2 σ728) fun v731 σ732 =>
                              if v727 = v731 then (
                                f_L_law_1730 n (f_L_law_23 n q) l0 l1 l2 l3 l4 σ732)
                              else (
                                some (0, σ732)))
                            else (
                              if v571 = 12 then (
                                gI (l4 + 1) <|
                                gd (kd σ l0 = 1100 ∧ (0 : Int) ≤ (l4 + 1) ∧ (l4 + 1) < ln σ l0) <|
                                c1 (f_X0_crash n l1 (ld σ l0 (l4 + 1)) l3 σ) fun v738 σ739 =>
                                gI (l4 + 1) <|
                                gd (kd σ739 l0 = 1100 ∧ (0 : Int) ≤ (l4 + 1) ∧ (l4 + 1) < ln σ739 l0) <|
                                gd (kd σ739 l2 = 22) <|
                                c1 (f_X7_crash n l2 (ld σ739 l0 (l4 + 1)) σ739) fun v744 σ745 =>
                                gd (kd σ745 l2 = 22) <|
                                c1 (f_X7_thrown l2 σ745) fun v748 σ749 =>
                                if v748 = v738 then (
                                  if v738 = 0 then (
                                    gd (kd σ749 l3 = 101 ∧ (0 : Int) ≤ 0 ∧ 0 < ln σ749 l3) <|
                                    if (lcmpW (ld σ749 l3 0) v744) = 0 then (
                                      f_L_law_1075 n (f_L_law_1730 n (f_L_law_23 n q)) l0 l1 l2 l3 l4 σ749)
                                    else (
                                      some (0, σ749)))
                                  else (
                                    f_L_law_1075 n (f_L_law_1730 n (f_L_law_23 n q)) l0 l1 l2 l3 l4 σ749))
                                else (
                                  some (0, σ749)))
                              else (
                                if v571 = 13 then (
                                  gI (l4 + 1) <|
                                  gd (kd σ l0 = 1100 ∧ (0 : Int) ≤ (l4 + 1) ∧ (l4 + 1) < ln σ l0) <|
                                  gI (l4 + 2) <|
                                  gd (kd σ l0 = 1100 ∧ (0 : Int) ≤ (l4 + 2) ∧ (l4 + 2) < ln σ l0) <|
                                  gI (l4 + 3) <|
                                  gd (kd σ l0 = 1100 ∧ (0 : Int) ≤ (l4 + 3) ∧ (l4 + 3) < ln σ l0) <|
                                  c1 (f_X0_walk n l1 (ld σ l0 (l4 + 1)) (ld σ l0 (l4 + 2)) (ld σ l0 (l4 + 3)) l3 σ) fun v762 σ763 =>
                                  gI (l4 + 1) <|
                                  gd (kd σ763 l0 = 1100 ∧ (0 : Int) ≤ (l4 + 1) ∧ (l4 + 1) < ln σ763 l0) <|
                                  gI (l4 + 2) <|
                                  gd (kd σ763 l0 = 1100 ∧ (0 : Int) ≤ (l4 + 2) ∧ (l4 + 2) < ln σ763 l0) <|
                                  gI (l4 + 3) <|
                                  gd (kd σ763 l0 = 1100 ∧ (0 : Int) ≤ (l4 + 3) ∧ (l4 + 3) < ln σ763 l0) <|
                                  gd (kd σ763 l2 = 22) <|
                                  c1 (f_X7_walk n l2 (ld σ763 l0 (l4 + 1)) (ld σ763 l0 (l4 + 2)) (ld σ763 l0 (l4 + 3)) σ763) fun v772 σ773 =>
                                  gd (kd σ773 l2 = 22) <|
                                  c1 (f_X7_thrown l2 σ773) fun v776 σ777 =>
                                  if v776 = v762 then (
                                    if v762 = 0 then (
                                      gd (kd σ777 l3 = 101 ∧ (0 : Int) ≤ 0 ∧ 0 < ln σ777 l3) <|
                                      if (lcmpW (ld σ777 l3 0) v772) = 0 then (
                                        f_L_law_1155 n (f_L_law_1730 n (f_L_law_23 n q)) l0 l1 l2 l3 l4 σ777)
                                      else (
                                        some (0, σ777)))
                                    else (
                                      f_L_law_1155 n (f_L_law_1730 n (f_L_law_23 n q)) l0 l1 l2 l3 l4 σ777))
                                  else (
                                    some (0, σ777)))
                                else (
                                  if v571 = 14 then (
                                    gI (l4 + 1) <|
                                    gd (kd σ l0 = 1100 ∧ (0 : Int) ≤ (l4 + 1) ∧ (l4 + 1) < ln σ l0) <|
                                    gI (l4 + 2) <|
                                    gd (kd σ l0 = 1100 ∧ (0 : Int) ≤ (l4 + 2) ∧ (l4 + 2) < ln σ l0) <|
                                    if (ld σ l0 (l4 + 2)) = 0 then (
                                      f_L_law_1179 n (f_L_law_1730 n (f_L_law_23 n q)) l0 l1 l2 l3 l4 l1 (ld σ l0 (l4 + 1)) 0 σ)
                                    else (
                                      f_L_law_1179 n (f_L_law_1730 n (f_L_law_23 n q)) l0 l1 l2 l3 l4 l1 (ld σ l0 (l4 + 1)) 1 σ))
                                  else (
                                    if v571 = 15 then (
                                      gI (l4 + 1) <|
                                      gd (kd σ l0 = 1100 ∧ (0 : Int) ≤ (l4 + 1) ∧ (l4 + 1) < ln σ l0) <|
                                      gI (l4 + 2) <|
                                      gd (kd σ l0 = 1100 ∧ (0 : Int) ≤ (l4 + 2) ∧ (l4 + 2) < ln σ l0) <|
                                      gI (l4 + 3) <|
                                      gd (kd σ l0 = 1100 ∧ (0 : Int) ≤ (l4 + 3) ∧ (l4 + 3) < ln σ l0) <|
                                      c1 (f_X0_cost n l1 (ld σ l0 (l4 + 1)) (ld σ l0 (l4 + 2)) (ld σ l0 (l4 + 3)) l3 σ) fun v796 σ797 =>
                                      gI (l4 + 1) <|
                                      gd (kd σ797 l0 = 1100 ∧ (0 : Int) ≤ (l4 + 1) ∧ (l4 + 1) < ln σ797 l0) <|
                                      gI (l4 + 2) <|
                                      gd (kd σ797 l0 = 1100 ∧ (0 : Int) ≤ (l4 + 2) ∧ (l4 + 2) < ln σ797 l0) <|
                                      gI (l4 + 3) <|
                                      gd (kd σ797 l0 = 1100 ∧ (0 : Int) ≤ (l4 + 3) ∧ (l4 + 3) < ln σ797 l0) <|
                                      gd (kd σ797 l2 = 22) <|
                                      c1 (f_X7_cost n l2 (ld σ797 l0 (l4 + 1)) (ld σ797 l0 (l4 + 2)) (ld σ797 l0 (l4 + 3)) σ797) fun v806 σ807 =>
                                      gd (kd σ807 l2 = 22) <|
                                      c1 (f_X7_thrown l2 σ807) fun v810 σ811 =>
                                      if v810 = v796 then (
                                        if v796 = 0 then (
                                          gd (kd σ811 l3 = 101 ∧ (0 : Int) ≤ 0 ∧ 0 < ln σ811 l3) <|
                                          if (lcmpW (ld σ811 l3 0) v806) = 0 then (
                                            f_L_law_1318 n (f_L_law_1730 n (f_L_law_23 n q)) l0 l1 l2 l3 l4 σ811)
                                          else (
                                            some (0, σ811)))
                                        else (
                                          f_L_law_1318 n (f_L_law_1730 n (f_L_law_23 n q)) l0 l1 l2 l3 l4 σ811))
                                      else (
                                        some (0, σ811)))
                                    else (
                                      if v571 = 16 then (
                                        gI (l4 + 1) <|
                                        gd (kd σ l0 = 1100 ∧ (0 : Int) ≤ (l4 + 1) ∧ (l4 + 1) < ln σ l0) <|
                                        gI (l4 + 2) <|
                                        gd (kd σ l0 = 1100 ∧ (0 : Int) ≤ (l4 + 2) ∧ (l4 + 2) < ln σ l0) <|
                                        gI (l4 + 3) <|
                                        gd (kd σ l0 = 1100 ∧ (0 : Int) ≤ (l4 + 3) ∧ (l4 + 3) < ln σ l0) <|
                                        gI (l4 + 4) <|
                                        gd (kd σ l0 = 1100 ∧ (0 : Int) ≤ (l4 + 4) ∧ (l4 + 4) < ln σ l0) <|
                                        gI (l4 + 5) <|
                                        gd (kd σ l0 = 1100 ∧ (0 : Int) ≤ (l4 + 5) ∧ (l4 + 5) < ln σ l0) <|
                                        c1 (f_X0_feed n l1 (ld σ l0 (l4 + 1)) (ld σ l0 (l4 + 2)) (ld σ l0 (l4 + 3)) (ld σ l0 (l4 + 4)) (ld σ l0 (l4 + 5)) l3 σ) fun v828 σ829 =>
                                        gI (l4 + 1) <|
                                        gd (kd σ829 l0 = 1100 ∧ (0 : Int) ≤ (l4 + 1) ∧ (l4 + 1) < ln σ829 l0) <|
                                        gI (l4 + 2) <|
                                        gd (kd σ829 l0 = 1100 ∧ (0 : Int) ≤ (l4 + 2) ∧ (l4 + 2) < ln σ829 l0) <|
                                        gI (l4 + 3) <|
                                        gd (kd σ829 l0 = 1100 ∧ (0 : Int) ≤ (l4 + 3) ∧ (l4 + 3) < ln σ829 l0) <|
                                        gI (l4 + 4) <|
                                        gd (kd σ829 l0 = 1100 ∧ (0 : Int) ≤ (l4 + 4) ∧ (l4 + 4) < ln σ829 l0) <|
                                        gI (l4 + 5) <|
                                        gd (kd σ829 l0 = 1100 ∧ (0 : Int) ≤ (l4 + 5) ∧ (l4 + 5) < ln σ829 l0) <|
                                        gd (kd σ829 l2 = 22) <|
                                        c1 (f_X7_feed n l2 (ld σ829 l0 (l4 + 1)) (ld σ829 l0 (l4 + 2)) (ld σ829 l0 (l4 + 3)) (ld σ829 l0 (l4 + 4)) (ld σ829 l0 (l4 + 5)) σ829) fun v842 σ843 =>
                                        gd (kd σ843 l2 = 22) <|
                                        c1 (f_X7_thrown l2 σ843) fun v846 σ847 =>
                                        if v846 = v828 then (
                                          if v828 = 0 then (
                                            gd (kd σ847 l3 = 101 ∧ (0 : Int) ≤ 0 ∧ 0 < ln σ847 l3) <|
                                            if (lcmpW (ld σ847 l3 0) v842) = 0 then (
                                              f_L_law_1422 n (f_L_law_1730 n (f_L_law_23 n q)) l0 l1 l2 l3 l4 σ847)
                                            else (
                                              some (0, σ847)))
                                          else (
                                            f_L_law_1422 n (f_L_law_1730 n (f_L_law_23 n q)) l0 l1 l2 l3 l4 σ847))
                                        else (
                                          some (0, σ847)))
                                      else (
                                        if v571 = 17 then (
                                          gI (l4 + 1) <|
                                          gd (kd σ l0 = 1100 ∧ (0 : Int) ≤ (l4 + 1) ∧ (l4 + 1) < ln σ l0) <|
                                          c1 (f_X0_end l1 (ld σ l0 (l4 + 1)) σ) fun v856 σ857 =>
                                          gI (l4 + 1) <|
                                          gd (kd σ857 l0 = 1100 ∧ (0 : Int) ≤ (l4 + 1) ∧ (l4 + 1) < ln σ857 l0) <|
                                          gd (kd σ857 l2 = 22) <|
                                          c0 (f_X7_end l2 (ld σ857 l0 (l4 + 1)) σ857) fun σ863 =>
                                          gd (kd σ863 l2 = 22) <|
                                          c1 (f_X7_thrown l2 σ863) fun v866 σ867 =>
                                          if v866 = v856 then (
                                            f_L_law_1730 n (f_L_law_23 n q) l0 l1 l2 l3 l4 σ867)
                                          else (
                                            some (0, σ867)))
                                        else (
                                          if v571 = 18 then (
                                            c1 (f_X0_ask n l1 l3 σ) fun v871 σ872 =>
                                            gd (kd σ872 l2 = 22) <|
                                            c1 (f_X7_ask n l2 σ872) fun v875 σ876 =>
                                            gd (kd σ876 l2 = 22) <|
                                            c1 (f_X7_thrown l2 σ876) fun v879 σ880 =>
                                            if v879 = v871 then (
                                              if v871 = 0 then (
                                                gd (kd σ880 l3 = 101 ∧ (0 : Int) ≤ 0 ∧ 0 < ln σ880 l3) <|
                                                if (lcmpW (ld σ880 l3 0) v875) = 0 then (
                                                  f_L_law_1502 n (f_L_law_1730 n (f_L_law_23 n q)) l0 l1 l2 l3 l4 σ880)
                                                else (
                                                  some (0, σ880)))
                                              else (
                                                f_L_law_1502 n (f_L_law_1730 n (f_L_law_23 n q)) l0 l1 l2 l3 l4 σ880))
                                            else (
                                              some (0, σ880)))
                                          else (
                                            if v571 = 19 then (
                                              gd (kd σ l1 = 1) <|
                                              c1 (f_X1_fault l1 σ) fun v888 σ889 =>
                                              gd (kd σ889 l2 = 22) <|
                                              c1 (f_X7_fault l2 σ889) fun v892 σ893 =>
                                              if v888 = v892 then (
                                                f_L_law_1730 n (f_L_law_23 n q) l0 l1 l2 l3 l4 σ893)
                                              else (
                                                some (0, σ893)))
                                            else (
                                              if v571 = 20 then (
                                                gd (kd σ l1 = 1) <|
                                                c1 (f_X1_columns l1 σ) fun v898 σ899 =>
                                                gd (kd σ899 l2 = 22) <|
                                                c1 (f_X7_columns l2 σ899) fun v902 σ903 =>
                                                if v898 = v902 then (
                                                  f_L_law_1730 n (f_L_law_23 n q) l0 l1 l2 l3 l4 σ903)
                                                else (
                                                  some (0, σ903)))
                                              else (
                                                if v571 = 21 then (
                                                  gI (l4 + 1) <|
                                                  gd (kd σ l0 = 1100 ∧ (0 : Int) ≤ (l4 + 1) ∧ (l4 + 1) < ln σ l0) <|
                                                  gI (l4 + 2) <|
                                                  gd (kd σ l0 = 1100 ∧ (0 : Int) ≤ (l4 + 2) ∧ (l4 + 2) < ln σ l0) <|
                                                  c1 (f_X0_isThere l1 (ld σ l0 (l4 + 1)) (ld σ l0 (l4 + 2)) l3 σ) fun v911 σ912 =>
                                                  gI (l4 + 1) <|
                                                  gd (kd σ912 l0 = 1100 ∧ (0 : Int) ≤ (l4 + 1) ∧ (l4 + 1) < ln σ912 l0) <|
                                                  gI (l4 + 2) <|
                                                  gd (kd σ912 l0 = 1100 ∧ (0 : Int) ≤ (l4 + 2) ∧ (l4 + 2) < ln σ912 l0) <|
                                                  gd (kd σ912 l2 = 22) <|
                                                  c1 (f_X7_isThere l2 (ld σ912 l0 (l4 + 1)) (ld σ912 l0 (l4 + 2)) σ912) fun v919 σ920 =>
                                                  gd (kd σ920 l2 = 22) <|
                                                  c1 (f_X7_thrown l2 σ920) fun v923 σ924 =>
                                                  if v923 = v911 then (
                                                    if v911 = 0 then (
                                                      gd (kd σ924 l3 = 101 ∧ (0 : Int) ≤ 0 ∧ 0 < ln σ924 l3) <|
                                                      if v919 = 0 then (
                                                        f_L_law_1597 n (f_L_law_1603 n (f_L_law_1730 n (f_L_law_23 n q))) l0 l1 l2 l3 l4 (ld σ924 l3 0) 0 σ924)
                                                      else (
                                                        f_L_law_1597 n (f_L_law_1603 n (f_L_law_1730 n (f_L_law_23 n q))) l0 l1 l2 l3 l4 (ld σ924 l3 0) 1 σ924))
                                                    else (
                                                      f_L_law_1603 n (f_L_law_1730 n (f_L_law_23 n q)) l0 l1 l2 l3 l4 σ924))
                                                  else (
                                                    some (0, σ924)))
                                                else (
                                                  if v571 = 22 then (
                                                    gI (l4 + 1) <|
                                                    gd (kd σ l0 = 1100 ∧ (0 : Int) ≤ (l4 + 1) ∧ (l4 + 1) < ln σ l0) <|
                                                    gI (l4 + 2) <|
                                                    gd (kd σ l0 = 1100 ∧ (0 : Int) ≤ (l4 + 2) ∧ (l4 + 2) < ln σ l0) <|
                                                    c1 (f_X0_cell l1 (ld σ l0 (l4 + 1)) (ld σ l0 (l4 + 2)) l3 σ) fun v935 σ936 =>
                                                    gI (l4 + 1) <|
                                                    gd (kd σ936 l0 = 1100 ∧ (0 : Int) ≤ (l4 + 1) ∧ (l4 + 1) < ln σ936 l0) <|
                                                    gI (l4 + 2) <|
                                                    gd (kd σ936 l0 = 1100 ∧ (0 : Int) ≤ (l4 + 2) ∧ (l4 + 2) < ln σ936 l0) <|
                                                    gd (kd σ936 l2 = 22) <|
                                                    c1 (f_X7_cell l2 (ld σ936 l0 (l4 + 1)) (ld σ936 l0 (l4 + 2)) σ936) fun v943 σ944 =>
                                                    gd (kd σ944 l2 = 22) <|
                                                    c1 (f_X7_thrown l2 σ944) fun v947 σ948 =>
                                                    if v947 = v935 then (
                                                      if v935 = 0 then (
                                                        gd (kd σ948 l3 = 101 ∧ (0 : Int) ≤ 0 ∧ 0 < ln σ948 l3) <|
                                                        if (lcmpW (ld σ948 l3 0) v943) = 0 then (
                                                          f_L_law_1671 n (f_L_law_1730 n (f_L_law_23 n q)) l0 l1 l2 l3 l4 σ948)
                                                        else (
                                                          some (0, σ948)))
                                                      else (
                                                        f_L_law_1671 n (f_L_law_1730 n (f_L_law_23 n q)) l0 l1 l2 l3 l4 σ948))
                                                    else (
                                                      some (0, σ948)))
                                                  else (
                                                    if v571 = 23 then (
                                                      gI (l4 + 1) <|
                                                      gd (kd σ l0 = 1100 ∧ (0 : Int) ≤ (l4 + 1) ∧ (l4 + 1) < ln σ l0) <|
                                                      c1 (f_X0_count l1 (ld σ l0 (l4 + 1)) l3 σ) fun v957 σ958 =>
                                                      gI (l4 + 1) <|
                                                      gd (kd σ958 l0 = 1100 ∧ (0 : Int) ≤ (l4 + 1) ∧ (l4 + 1) < ln σ958 l0) <|
                                                      gd (kd σ958 l2 = 22) <|
                                                      c1 (f_X7_count n l2 (ld σ958 l0 (l4 + 1)) σ958) fun v963 σ964 =>
                                                      gd (kd σ964 l2 = 22) <|
                                                      c1 (f_X7_thrown l2 σ964) fun v967 σ968 =>
                                                      if v967 = v957 then (
                                                        if v957 = 0 then (
                                                          gd (kd σ968 l3 = 101 ∧ (0 : Int) ≤ 0 ∧ 0 < ln σ968 l3) <|
                                                          if (lcmpW (ld σ968 l3 0) v963) = 0 then (
                                                            f_L_law_1727 n (f_L_law_1730 n (f_L_law_23 n q)) l0 l1 l2 l3 l4 σ968)
                                                          else (
                                                            some (0, σ968)))
                                                        else (
                                                          f_L_law_1727 n (f_L_law_1730 n (f_L_law_23 n q)) l0 l1 l2 l3 l4 σ968))
                                                      else (
                                                        some (0, σ968)))
                                                    else (
                                                      f_L_law_1730 n (f_L_law_23 n q) l0 l1 l2 l3 l4 σ)))))))))))))))))))))))))
noncomputable def f_L_law (n : Nat) (a0 : Int) (σ : AS) : Option (Int × AS) :=
  nm (nx σ) fun r974 =>
  nm (al σ 1 0 15) fun σ976 =>
  gd (r974 ≠ 0) <|
  c0 (f_X1_init r974 σ976) fun σ980 =>
  nm (nx σ980) fun r982 =>
  nm (al σ980 22 0 61) fun σ984 =>
  gd (r982 ≠ 0) <|
  c0 (f_X7_init n r982 σ984) fun σ988 =>
  nm (nx σ988) fun r990 =>
  nm (al σ988 101 1 1) fun σ992 =>
  f_L_law_23 n n a0 r974 r982 r990 0 σ992
