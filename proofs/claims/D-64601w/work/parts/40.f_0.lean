/-! shallow functions (written by wip/tools/gen.py) -/
set_option maxRecDepth 1000000
noncomputable def f_X2_init (a0 : Int) (σ : AS) : Option AS :=
  gd (a0 ≠ 0) <|
  nm (nx σ) fun r2 =>
  nm (al σ 106 400 400) fun σ4 =>
  gd (kd σ4 a0 = 2) <|
  nm (wr σ4 a0 0 r2) fun σ7 =>
  nm (nx σ7) fun r9 =>
  nm (al σ7 107 1000 1000) fun σ11 =>
  gd (kd σ11 a0 = 2) <|
  nm (wr σ11 a0 1 r9) fun σ14 =>
  some σ14
noncomputable def f_J0_init (a0 : Int) (σ : AS) : Option AS :=
  gd (a0 ≠ 0) <|
  some σ
noncomputable def f_J1_init (a0 : Int) (σ : AS) : Option AS :=
  gd (a0 ≠ 0) <|
  c0 (f_J0_init a0 σ) fun σ3 =>
  nm (nx σ3) fun r5 =>
  nm (al σ3 105 17 17) fun σ7 =>
  gd (kd σ7 a0 = 23) <|
  nm (wr σ7 a0 0 r5) fun σ10 =>
  some σ10
noncomputable def f_X4_init (a0 : Int) (σ : AS) : Option AS :=
  gd (a0 ≠ 0) <|
  some σ
noncomputable def f_X3_init (a0 : Int) (σ : AS) : Option AS :=
  gd (a0 ≠ 0) <|
  nm (nx σ) fun r2 =>
  nm (al σ 19 0 7) fun σ4 =>
  gd (r2 ≠ 0) <|
  c0 (f_X4_init r2 σ4) fun σ8 =>
  gd (kd σ8 a0 = 18) <|
  nm (wr σ8 a0 0 r2) fun σ11 =>
  some σ11
noncomputable def f_X5_init (a0 : Int) (σ : AS) : Option AS :=
  gd (a0 ≠ 0) <|
  nm (nx σ) fun r2 =>
  nm (al σ 101 80000 80000) fun σ4 =>
  gd (kd σ4 a0 = 20) <|
  nm (wr σ4 a0 0 r2) fun σ7 =>
  nm (nx σ7) fun r9 =>
  nm (al σ7 101 80000 80000) fun σ11 =>
  gd (kd σ11 a0 = 20) <|
  nm (wr σ11 a0 1 r9) fun σ14 =>
  nm (nx σ14) fun r16 =>
  nm (al σ14 100 10000 10000) fun σ18 =>
  gd (kd σ18 a0 = 20) <|
  nm (wr σ18 a0 2 r16) fun σ21 =>
  nm (nx σ21) fun r23 =>
  nm (al σ21 100 10000 10000) fun σ25 =>
  gd (kd σ25 a0 = 20) <|
  nm (wr σ25 a0 3 r23) fun σ28 =>
  some σ28
noncomputable def f_X6_init (a0 a1 a2 : Int) (σ : AS) : Option AS :=
  gd (a0 ≠ 0) <|
  nm (nx σ) fun r2 =>
  nm (al σ 100 12 12) fun σ4 =>
  gd (kd σ4 a0 = 21) <|
  nm (wr σ4 a0 3 r2) fun σ7 =>
  nm (nx σ7) fun r9 =>
  nm (al σ7 100 8 8) fun σ11 =>
  gd (kd σ11 a0 = 21) <|
  nm (wr σ11 a0 4 r9) fun σ14 =>
  nm (nx σ14) fun r16 =>
  nm (al σ14 103 1000 1000) fun σ18 =>
  gd (kd σ18 a0 = 21) <|
  nm (wr σ18 a0 5 r16) fun σ21 =>
  gd (kd σ21 a0 = 21) <|
  nm (wr σ21 a0 0 a1) fun σ24 =>
  gd (kd σ24 a0 = 21) <|
  nm (wr σ24 a0 1 a2) fun σ27 =>
  some σ27
noncomputable def f_X1_init (a0 : Int) (σ : AS) : Option AS :=
  gd (a0 ≠ 0) <|
  nm (nx σ) fun r2 =>
  nm (al σ 2 0 5) fun σ4 =>
  gd (r2 ≠ 0) <|
  c0 (f_X2_init r2 σ4) fun σ8 =>
  gd (kd σ8 a0 = 1) <|
  nm (wr σ8 a0 0 r2) fun σ11 =>
  nm (nx σ11) fun r13 =>
  nm (al σ11 23 0 3) fun σ15 =>
  gd (r13 ≠ 0) <|
  c0 (f_J1_init r13 σ15) fun σ19 =>
  gd (kd σ19 a0 = 1) <|
  nm (wr σ19 a0 1 r13) fun σ22 =>
  nm (nx σ22) fun r24 =>
  nm (al σ22 102 2000 2000) fun σ26 =>
  gd (kd σ26 a0 = 1) <|
  nm (wr σ26 a0 2 r24) fun σ29 =>
  nm (nx σ29) fun r31 =>
  nm (al σ29 18 0 7) fun σ33 =>
  gd (r31 ≠ 0) <|
  c0 (f_X3_init r31 σ33) fun σ37 =>
  gd (kd σ37 a0 = 1) <|
  nm (wr σ37 a0 4 r31) fun σ40 =>
  nm (nx σ40) fun r42 =>
  nm (al σ40 20 0 7) fun σ44 =>
  gd (r42 ≠ 0) <|
  c0 (f_X5_init r42 σ44) fun σ48 =>
  gd (kd σ48 a0 = 1) <|
  nm (wr σ48 a0 6 r42) fun σ51 =>
  nm (nx σ51) fun r53 =>
  nm (al σ51 21 0 8) fun σ55 =>
  gd (kd σ55 a0 = 1) <|
  gd (kd σ55 a0 = 1) <|
  gd (r53 ≠ 0) <|
  c0 (f_X6_init r53 (ld σ55 a0 0) (ld σ55 a0 6) σ55) fun σ61 =>
  gd (kd σ61 a0 = 1) <|
  nm (wr σ61 a0 7 r53) fun σ64 =>
  nm (nx σ64) fun r66 =>
  nm (al σ64 101 80000 80000) fun σ68 =>
  gd (kd σ68 a0 = 1) <|
  nm (wr σ68 a0 8 r66) fun σ71 =>
  nm (nx σ71) fun r73 =>
  nm (al σ71 100 400 400) fun σ75 =>
  gd (kd σ75 a0 = 1) <|
  nm (wr σ75 a0 11 r73) fun σ78 =>
  nm (nx σ78) fun r80 =>
  nm (al σ78 100 400 400) fun σ82 =>
  gd (kd σ82 a0 = 1) <|
  nm (wr σ82 a0 12 r80) fun σ85 =>
  nm (nx σ85) fun r87 =>
  nm (al σ85 100 400 400) fun σ89 =>
  gd (kd σ89 a0 = 1) <|
  nm (wr σ89 a0 14 r87) fun σ92 =>
  some σ92
noncomputable def f_X7_empty_24 (n : Nat) : Nat → Int → Int → AS → Option AS
  | 0, _, _, _ => none
  | q + 1, l0, l1, σ =>
    if 1000 ≤ l1 then (
      gd (kd σ l0 = 22) <|
      nm (wr σ l0 6 0) fun σ14 =>
      some σ14)
    else (
      gd (kd σ l0 = 22) <|
      gd (kd σ (ld σ l0 2) = 100 ∧ (0 : Int) ≤ l1 ∧ l1 < ln σ (ld σ l0 2)) <|
      nm (wr σ (ld σ l0 2) l1 (-1)) fun σ18 =>
      gI (l1 + 1) <|
      nm (l1 + 1) fun u21 =>
      f_X7_empty_24 n q l0 u21 σ18)
noncomputable def f_X7_empty_2 (n : Nat) : Nat → Int → Int → AS → Option AS
  | 0, _, _, _ => none
  | q + 1, l0, l1, σ =>
    if 400 ≤ l1 then (
      f_X7_empty_24 n n l0 0 σ)
    else (
      gd (kd σ l0 = 22) <|
      gd (kd σ (ld σ l0 1) = 100 ∧ (0 : Int) ≤ l1 ∧ l1 < ln σ (ld σ l0 1)) <|
      nm (wr σ (ld σ l0 1) l1 (-1)) fun σ34 =>
      gI (l1 + 1) <|
      nm (l1 + 1) fun u37 =>
      f_X7_empty_2 n q l0 u37 σ34)
noncomputable def f_X7_empty (n : Nat) (a0 : Int) (σ : AS) : Option AS :=
  f_X7_empty_2 n n a0 0 σ
noncomputable def f_X7_init (n : Nat) (a0 : Int) (σ : AS) : Option AS :=
  gd (a0 ≠ 0) <|
  nm (nx σ) fun r2 =>
  nm (al σ 100 400 400) fun σ4 =>
  gd (kd σ4 a0 = 22) <|
  nm (wr σ4 a0 1 r2) fun σ7 =>
  nm (nx σ7) fun r9 =>
  nm (al σ7 100 1000 1000) fun σ11 =>
  gd (kd σ11 a0 = 22) <|
  nm (wr σ11 a0 2 r9) fun σ14 =>
  nm (nx σ14) fun r16 =>
  nm (al σ14 100 1000 1000) fun σ18 =>
  gd (kd σ18 a0 = 22) <|
  nm (wr σ18 a0 3 r16) fun σ21 =>
  nm (nx σ21) fun r23 =>
  nm (al σ21 100 1000 1000) fun σ25 =>
  gd (kd σ25 a0 = 22) <|
  nm (wr σ25 a0 4 r23) fun σ28 =>
  nm (nx σ28) fun r30 =>
  nm (al σ28 100 12000 12000) fun σ32 =>
  gd (kd σ32 a0 = 22) <|
  nm (wr σ32 a0 5 r30) fun σ35 =>
  nm (nx σ35) fun r37 =>
  nm (al σ35 100 25000 25000) fun σ39 =>
  gd (kd σ39 a0 = 22) <|
  nm (wr σ39 a0 7 r37) fun σ42 =>
  nm (nx σ42) fun r44 =>
  nm (al σ42 100 400 400) fun σ46 =>
  gd (kd σ46 a0 = 22) <|
  nm (wr σ46 a0 10 r44) fun σ49 =>
  nm (nx σ49) fun r51 =>
  nm (al σ49 100 400 400) fun σ53 =>
  gd (kd σ53 a0 = 22) <|
  nm (wr σ53 a0 11 r51) fun σ56 =>
  nm (nx σ56) fun r58 =>
  nm (al σ56 100 400 400) fun σ60 =>
  gd (kd σ60 a0 = 22) <|
  nm (wr σ60 a0 12 r58) fun σ63 =>
  nm (nx σ63) fun r65 =>
  nm (al σ63 101 400 400) fun σ67 =>
  gd (kd σ67 a0 = 22) <|
  nm (wr σ67 a0 14 r65) fun σ70 =>
  nm (nx σ70) fun r72 =>
  nm (al σ70 102 2000 2000) fun σ74 =>
  gd (kd σ74 a0 = 22) <|
  nm (wr σ74 a0 15 r72) fun σ77 =>
  nm (nx σ77) fun r79 =>
  nm (al σ77 100 9 9) fun σ81 =>
  gd (kd σ81 a0 = 22) <|
  nm (wr σ81 a0 23 r79) fun σ84 =>
  nm (nx σ84) fun r86 =>
  nm (al σ84 100 9 9) fun σ88 =>
  gd (kd σ88 a0 = 22) <|
  nm (wr σ88 a0 24 r86) fun σ91 =>
  nm (nx σ91) fun r93 =>
  nm (al σ91 100 9 9) fun σ95 =>
  gd (kd σ95 a0 = 22) <|
  nm (wr σ95 a0 25 r93) fun σ98 =>
  nm (nx σ98) fun r100 =>
  nm (al σ98 100 300 300) fun σ102 =>
  gd (kd σ102 a0 = 22) <|
  nm (wr σ102 a0 31 r100) fun σ105 =>
  nm (nx σ105) fun r107 =>
  nm (al σ105 100 56 56) fun σ109 =>
  gd (kd σ109 a0 = 22) <|
  nm (wr σ109 a0 33 r107) fun σ112 =>
  nm (nx σ112) fun r114 =>
  nm (al σ112 100 32 32) fun σ116 =>
  gd (kd σ116 a0 = 22) <|
  nm (wr σ116 a0 35 r114) fun σ119 =>
  nm (nx σ119) fun r121 =>
  nm (al σ119 100 32 32) fun σ123 =>
  gd (kd σ123 a0 = 22) <|
  nm (wr σ123 a0 37 r121) fun σ126 =>
  nm (nx σ126) fun r128 =>
  nm (al σ126 100 60 60) fun σ130 =>
  gd (kd σ130 a0 = 22) <|
  nm (wr σ130 a0 44 r128) fun σ133 =>
  nm (nx σ133) fun r135 =>
  nm (al σ133 100 60 60) fun σ137 =>
  gd (kd σ137 a0 = 22) <|
  nm (wr σ137 a0 45 r135) fun σ140 =>
  nm (nx σ140) fun r142 =>
  nm (al σ140 100 60 60) fun σ144 =>
  gd (kd σ144 a0 = 22) <|
  nm (wr σ144 a0 46 r142) fun σ147 =>
  nm (nx σ147) fun r149 =>
  nm (al σ147 103 60 60) fun σ151 =>
  gd (kd σ151 a0 = 22) <|
  nm (wr σ151 a0 47 r149) fun σ154 =>
  nm (nx σ154) fun r156 =>
  nm (al σ154 100 8 8) fun σ158 =>
  gd (kd σ158 a0 = 22) <|
  nm (wr σ158 a0 48 r156) fun σ161 =>
  nm (nx σ161) fun r163 =>
  nm (al σ161 100 8 8) fun σ165 =>
  gd (kd σ165 a0 = 22) <|
  nm (wr σ165 a0 49 r163) fun σ168 =>
  nm (nx σ168) fun r170 =>
  nm (al σ168 100 160016 160016) fun σ172 =>
  gd (kd σ172 a0 = 22) <|
  nm (wr σ172 a0 50 r170) fun σ175 =>
  nm (nx σ175) fun r177 =>
  nm (al σ175 103 160016 160016) fun σ179 =>
  gd (kd σ179 a0 = 22) <|
  nm (wr σ179 a0 51 r177) fun σ182 =>
  nm (nx σ182) fun r184 =>
  nm (al σ182 100 10001 10001) fun σ186 =>
  gd (kd σ186 a0 = 22) <|
  nm (wr σ186 a0 52 r184) fun σ189 =>
  nm (nx σ189) fun r191 =>
  nm (al σ189 100 10001 10001) fun σ193 =>
  gd (kd σ193 a0 = 22) <|
  nm (wr σ193 a0 56 r191) fun σ196 =>
  nm (nx σ196) fun r198 =>
  nm (al σ196 100 80008 80008) fun σ200 =>
  gd (kd σ200 a0 = 22) <|
  nm (wr σ200 a0 57 r198) fun σ203 =>
  nm (nx σ203) fun r205 =>
  nm (al σ203 103 80008 80008) fun σ207 =>
  gd (kd σ207 a0 = 22) <|
  nm (wr σ207 a0 58 r205) fun σ210 =>
  gd (kd σ210 a0 = 22) <|
  c0 (f_X7_empty n a0 σ210) fun σ214 =>
  some σ214
noncomputable def f_X1_isNumber (a0 : Int) (σ : AS) : Option (Int × AS) :=
  if a0 < 0 then (
    some (0, σ))
  else (
    if 32 ≤ a0 then (
      some (0, σ))
    else (
      some (1, σ)))
noncomputable def f_X1_need (a0 : Int) (σ : AS) : Option ((Nat ⊕ Unit) × AS) :=
  if a0 = 0 then (
    some (.inl 2, al σ 0 0 6))
  else (
    some (.inr (), σ))
noncomputable def f_X1_room (a0 : Int) (σ : AS) : Option ((Nat ⊕ Unit) × AS) :=
  if a0 = 0 then (
    some (.inl 3, al σ 0 0 6))
  else (
    some (.inr (), σ))
noncomputable def f_X2_free_2 (n : Nat) : Nat → Int → Int → AS → Option (Int × AS)
  | 0, _, _, _ => none
  | q + 1, l0, l1, σ =>
    gd ((kd σ l0 = 106 ∨ kd σ l0 = 107) ∧ (0 : Int) ≤ l1 ∧ l1 < ln σ l0) <|
    if (ld σ l0 l1) = 0 then (
      some (l1, σ))
    else (
      gI (l1 + 1) <|
      nm (l1 + 1) fun u9 =>
      f_X2_free_2 n q l0 u9 σ)
noncomputable def f_X2_free (n : Nat) (a0 : Int) (σ : AS) : Option (Int × AS) :=
  f_X2_free_2 n n a0 0 σ
noncomputable def f_J7_init (a0 : Int) (σ : AS) : Option AS :=
  gd (a0 ≠ 0) <|
  some σ
noncomputable def f_J8_init (a0 : Int) (σ : AS) : Option AS :=
  gd (a0 ≠ 0) <|
  c0 (f_J7_init a0 σ) fun σ3 =>
  gd (kd σ3 a0 = 26) <|
  nm (wr σ3 a0 4 0) fun σ6 =>
  gd (kd σ6 a0 = 26) <|
  nm (wr σ6 a0 5 0) fun σ9 =>
  gd (kd σ9 a0 = 26) <|
  nm (wr σ9 a0 2 0) fun σ12 =>
  some σ12
noncomputable def f_X8_init (a0 : Int) (σ : AS) : Option AS :=
  gd (a0 ≠ 0) <|
  nm (nx σ) fun r2 =>
  nm (al σ 26 0 9) fun σ4 =>
  gd (r2 ≠ 0) <|
  c0 (f_J8_init r2 σ4) fun σ8 =>
  if kd σ8 a0 = 4 then (
    gd (kd σ8 a0 = 4) <|
    nm (wr σ8 a0 0 r2) fun σ12 =>
    some σ12)
  else (
    gd (kd σ8 a0 = 5) <|
    gd (kd σ8 a0 = 5) <|
    nm (wr σ8 a0 0 r2) fun σ16 =>
    some σ16)
noncomputable def f_X10_init (a0 : Int) (σ : AS) : Option AS :=
  gd (a0 ≠ 0) <|
  nm (nx σ) fun r2 =>
  nm (al σ 100 4 4) fun σ4 =>
  gd (kd σ4 a0 = 3) <|
  nm (wr σ4 a0 0 r2) fun σ7 =>
  some σ7
noncomputable def f_X9_init (a0 a1 : Int) (σ : AS) : Option AS :=
  gd (a0 ≠ 0) <|
  c0 (f_X8_init a0 σ) fun σ3 =>
  nm (nx σ3) fun r5 =>
  nm (al σ3 3 0 2) fun σ7 =>
  gd (r5 ≠ 0) <|
  c0 (f_X10_init r5 σ7) fun σ11 =>
  gd (kd σ11 a0 = 4) <|
  nm (wr σ11 a0 2 r5) fun σ14 =>
  nm (nx σ14) fun r16 =>
  nm (al σ14 3 0 2) fun σ18 =>
  gd (r16 ≠ 0) <|
  c0 (f_X10_init r16 σ18) fun σ22 =>
  gd (kd σ22 a0 = 4) <|
  nm (wr σ22 a0 3 r16) fun σ25 =>
  gd (kd σ25 a0 = 4) <|
  nm (wr σ25 a0 1 a1) fun σ28 =>
  some σ28
noncomputable def f_J8_size (a0 : Int) (σ : AS) : Option (Int × AS) :=
  gd (kd σ a0 = 26) <|
  some ((ld σ a0 4), σ)
noncomputable def f_X2_enter (a0 a1 a2 : Int) (σ : AS) : Option AS :=
  gd (kd σ a0 = 2) <|
  gd (kd σ (ld σ a0 0) = 106 ∧ (0 : Int) ≤ a1 ∧ a1 < ln σ (ld σ a0 0)) <|
  gd (a2 = 0 ∨ kd σ a2 = 4) <|
  nm (wr σ (ld σ a0 0) a1 a2) fun σ4 =>
  gd (kd σ4 a0 = 2) <|
  gI ((ld σ4 a0 2) + 1) <|
  gd (kd σ4 a0 = 2) <|
  nm (wr σ4 a0 2 ((ld σ4 a0 2) + 1)) fun σ9 =>
  gd (kd σ9 a0 = 2) <|
  gd (kd σ9 a2 = 4) <|
  gd (kd σ9 (ld σ9 a2 0) = 26) <|
  c1 (f_J8_size (ld σ9 a2 0) σ9) fun v14 σ15 =>
  gI ((ld σ9 a0 4) + v14) <|
  gd (kd σ15 a0 = 2) <|
  nm (wr σ15 a0 4 ((ld σ9 a0 4) + v14)) fun σ19 =>
  some σ19
noncomputable def f_J9_init (a0 : Int) (σ : AS) : Option AS :=
  gd (a0 ≠ 0) <|
  some σ
noncomputable def f_X11_init (a0 a1 : Int) (σ : AS) : Option AS :=
  gd (a0 ≠ 0) <|
  c0 (f_J9_init a0 σ) fun σ3 =>
  gd (kd σ3 a0 = 6) <|
  nm (wr σ3 a0 0 a1) fun σ6 =>
  some σ6
noncomputable def f_J1_dec (a0 a1 : Int) (σ : AS) : Option (Int × AS) :=
  gI (a0 + (-1)) <|
  nm (a0 + (-1)) fun u2 =>
  if 0 ≤ u2 then (
    some (u2, σ))
  else (
    gI (a1 - 1) <|
    nm (a1 - 1) fun u6 =>
    some (u6, σ))
noncomputable def f_J1_newCapacity (a0 a1 a2 : Int) (σ : AS) : Option (Int × AS) :=
  gd (kd σ a0 = 23) <|
  gd (kd σ (ld σ a0 0) = 105 ∨ kd σ (ld σ a0 0) = 1105) <|
  nm (ln σ (ld σ a0 0)) fun u3 =>
  gI (u3 + a1) <|
  nm (u3 + a1) fun v6 =>
  gI (v6 - 2147483639) <|
  if (v6 - 2147483639) ≤ 0 then (
    if a1 ≤ a2 then (
      gI (u3 + a2) <|
      gI ((u3 + a2) - 2147483639) <|
      if 0 ≤ ((u3 + a2) - 2147483639) then (
        some (2147483639, σ))
      else (
        gI (u3 + a2) <|
        some ((u3 + a2), σ)))
    else (
      some (v6, σ)))
  else (
    if 0 ≤ v6 then (
      some (2147483647, σ))
    else (
      none))
noncomputable def f_J12_min (a0 a1 : Int) (σ : AS) : Option (Int × AS) :=
  if a1 < a0 then (
    some (a1, σ))
  else (
    some (a0, σ))
noncomputable def f_J11_copyOf_2 (a0 a1 a2 : Int) (σ : AS) : Option (Int × AS) :=
  gdc (cmpOk σ a2 130) <|
  if a2 = 130 then (
    gd ((0 : Int) ≤ a1 ∧ a1 ≤ 67108864) <|
    nm (nx σ) fun r4 =>
    nm (al σ 105 a1 a1) fun σ6 =>
    gd (kd σ6 a0 = 105 ∨ kd σ6 a0 = 1105) <|
    c1 (f_J12_min (ln σ6 a0) a1 σ6) fun v9 σ10 =>
    gd ((kd σ10 a0 = 105 ∨ kd σ10 a0 = 1105) ∧ kd σ10 r4 = 105 ∧ (0 : Int) ≤ 0 ∧ (0 : Int) ≤ 0 ∧ (0 : Int) ≤ v9 ∧ 0 + v9 ≤ ln σ10 a0 ∧ 0 + v9 ≤ ln σ10 r4) <|
    gdc (∀ i, 0 ≤ i → i < v9 → elOk σ10 (.object "java/lang/Object") (ld σ10 a0 (0 + i))) <|
    nm (cpy σ10 a0 0 r4 0 v9) fun σ14 =>
    some (r4, σ14))
  else (
    none)
noncomputable def f_J11_copyOf (a0 a1 : Int) (σ : AS) : Option (Int × AS) :=
  gd (kd σ a0 = 105) <|
  c1 (f_J11_copyOf_2 a0 a1 130 σ) fun v2 σ3 =>
  some (v2, σ3)
noncomputable def f_J1_grow_41 (n : Nat) (k49 : Int → Int → Int → AS → Option AS) (l0 l1 l2 l4 : Int) (σ : AS) : Option AS :=
  gd (kd σ l0 = 23) <|
  c1 (f_J1_newCapacity l0 l1 l4 σ) fun v2 σ3 =>
  k49 l0 l2 v2 σ3
noncomputable def f_J1_grow_145 (n : Nat) : Nat → Int → Int → Int → AS → Option AS
  | 0, _, _, _, _ => none
  | q + 1, l5, l7, l8, σ =>
    if l8 ≤ l7 then (
      some σ)
    else (
      gd (kd σ l5 = 105 ∧ (0 : Int) ≤ l7 ∧ l7 < ln σ l5) <|
      nm (wr σ l5 l7 0) fun σ14 =>
      gI (l7 + 1) <|
      nm (l7 + 1) fun u17 =>
      f_J1_grow_145 n q l5 u17 l8 σ14)
noncomputable def f_J1_grow_96 (n : Nat) (l0 l2 l3 l5 : Int) (σ : AS) : Option AS :=
  gI (l3 - l2) <|
  nm (l3 - l2) fun u20 =>
  gd (kd σ l0 = 23) <|
  gd (kd σ l0 = 23) <|
  gI ((ld σ l0 1) + u20) <|
  gd (kd σ l0 = 23) <|
  gI (l2 - (ld σ l0 1)) <|
  gd ((kd σ l5 = 105 ∨ kd σ l5 = 1105) ∧ kd σ l5 = 105 ∧ (0 : Int) ≤ (ld σ l0 1) ∧ (0 : Int) ≤ ((ld σ l0 1) + u20) ∧ (0 : Int) ≤ (l2 - (ld σ l0 1)) ∧ (ld σ l0 1) + (l2 - (ld σ l0 1)) ≤ ln σ l5 ∧ ((ld σ l0 1) + u20) + (l2 - (ld σ l0 1)) ≤ ln σ l5) <|
  gdc (∀ i, 0 ≤ i → i < (l2 - (ld σ l0 1)) → elOk σ (.object "java/lang/Object") (ld σ l5 ((ld σ l0 1) + i))) <|
  nm (cpy σ l5 (ld σ l0 1) l5 ((ld σ l0 1) + u20) (l2 - (ld σ l0 1))) fun σ29 =>
  gd (kd σ29 l0 = 23) <|
  nm (ld σ29 l0 1) fun u32 =>
  gd (kd σ29 l0 = 23) <|
  gI ((ld σ29 l0 1) + u20) <|
  nm ((ld σ29 l0 1) + u20) fun v36 =>
  gd (kd σ29 l0 = 23) <|
  nm (wr σ29 l0 1 v36) fun σ39 =>
  f_J1_grow_145 n n l5 u32 v36 σ39
noncomputable def f_J1_grow_49 (n : Nat) (l0 l2 l3 : Int) (σ : AS) : Option AS :=
  gd (kd σ l0 = 23) <|
  c1 (f_J11_copyOf (ld σ l0 0) l3 σ) fun v42 σ43 =>
  gd (kd σ43 l0 = 23) <|
  nm (wr σ43 l0 0 v42) fun σ46 =>
  gd (kd σ46 l0 = 23) <|
  gd (kd σ46 l0 = 23) <|
  if (ld σ46 l0 2) < (ld σ46 l0 1) then (
    f_J1_grow_96 n l0 l2 l3 v42 σ46)
  else (
    gd (kd σ46 l0 = 23) <|
    gd (kd σ46 l0 = 23) <|
    if (ld σ46 l0 2) = (ld σ46 l0 1) then (
      gd (kd σ46 l0 = 23) <|
      gd ((kd σ46 v42 = 105 ∨ kd σ46 v42 = 1105) ∧ (0 : Int) ≤ (ld σ46 l0 1) ∧ (ld σ46 l0 1) < ln σ46 v42) <|
      if (ld σ46 v42 (ld σ46 l0 1)) = 0 then (
        some σ46)
      else (
        f_J1_grow_96 n l0 l2 l3 v42 σ46))
    else (
      some σ46))
noncomputable def f_J1_grow_21 (n : Nat) (l0 l1 l2 s0 : Int) (σ : AS) : Option AS :=
  if s0 < l1 then (
    f_J1_grow_41 n (f_J1_grow_49 n) l0 l1 l2 s0 σ)
  else (
    gI (l2 + s0) <|
    nm (l2 + s0) fun v59 =>
    gI (v59 - 2147483639) <|
    if (v59 - 2147483639) ≤ 0 then (
      f_J1_grow_49 n l0 l2 v59 σ)
    else (
      f_J1_grow_41 n (f_J1_grow_49 n) l0 l1 l2 s0 σ))
noncomputable def f_J1_grow (n : Nat) (a0 a1 : Int) (σ : AS) : Option AS :=
  gd (kd σ a0 = 23) <|
  gd (kd σ (ld σ a0 0) = 105 ∨ kd σ (ld σ a0 0) = 1105) <|
  nm (ln σ (ld σ a0 0)) fun u65 =>
  if 64 ≤ u65 then (
    f_J1_grow_21 n a0 a1 u65 (ishrW u65 1) σ)
  else (
    gI (u65 + 2) <|
    f_J1_grow_21 n a0 a1 u65 (u65 + 2) σ)
noncomputable def f_J1_addFirst (n : Nat) (a0 a1 : Int) (σ : AS) : Option AS :=
  if a1 = 0 then (
    none)
  else (
    gd (kd σ a0 = 23) <|
    nm (ld σ a0 0) fun u3 =>
    gd (kd σ a0 = 23) <|
    gd (kd σ u3 = 105 ∨ kd σ u3 = 1105) <|
    c1 (f_J1_dec (ld σ a0 1) (ln σ u3) σ) fun v7 σ8 =>
    gd (kd σ8 a0 = 23) <|
    nm (wr σ8 a0 1 v7) fun σ11 =>
    gd (kd σ11 u3 = 105 ∧ (0 : Int) ≤ v7 ∧ v7 < ln σ11 u3) <|
    gdc (elOk σ11 (.object "java/lang/Object") a1) <|
    nm (wr σ11 u3 v7 a1) fun σ15 =>
    gd (kd σ15 a0 = 23) <|
    gd (kd σ15 a0 = 23) <|
    if (ld σ15 a0 1) = (ld σ15 a0 2) then (
      gd (kd σ15 a0 = 23) <|
      c0 (f_J1_grow n a0 1 σ15) fun σ22 =>
      some σ22)
    else (
      some σ15))
noncomputable def f_J1_push (n : Nat) (a0 a1 : Int) (σ : AS) : Option AS :=
  gd (kd σ a0 = 23) <|
  c0 (f_J1_addFirst n a0 a1 σ) fun σ3 =>
  some σ3
noncomputable def f_X1_node_25 (n : Nat) (l0 l1 s0 : Int) (σ : AS) : Option ((Nat ⊕ Int) × AS) :=
  cx (f_X1_room s0 σ) fun _ σ2 =>
    gd (kd σ2 l0 = 1) <|
    gd (kd σ2 (ld σ2 l0 0) = 2) <|
    c1 (f_X2_free n (ld σ2 (ld σ2 l0 0) 0) σ2) fun v7 σ8 =>
    gd (kd σ8 l0 = 1) <|
    nm (nx σ8) fun r11 =>
    nm (al σ8 4 0 4) fun σ13 =>
    gd (r11 ≠ 0) <|
    c0 (f_X9_init r11 l1 σ13) fun σ17 =>
    gd (kd σ17 (ld σ8 l0 0) = 2) <|
    c0 (f_X2_enter (ld σ8 l0 0) v7 r11 σ17) fun σ21 =>
    gd (kd σ21 l0 = 1) <|
    nm (nx σ21) fun r24 =>
    nm (al σ21 6 0 1) fun σ26 =>
    gd (r24 ≠ 0) <|
    c0 (f_X11_init r24 v7 σ26) fun σ30 =>
    gd (kd σ30 (ld σ21 l0 1) = 23) <|
    c0 (f_J1_push n (ld σ21 l0 1) r24 σ30) fun σ34 =>
    some (.inr v7, σ34)
noncomputable def f_X1_node (n : Nat) (a0 a1 : Int) (σ : AS) : Option ((Nat ⊕ Int) × AS) :=
  c1 (f_X1_isNumber a1 σ) fun v36 σ37 =>
  cx (f_X1_need v36 σ37) fun _ σ40 =>
    gd (kd σ40 a0 = 1) <|
    gd (kd σ40 (ld σ40 a0 0) = 2) <|
    if 400 ≤ (ld σ40 (ld σ40 a0 0) 2) then (
      f_X1_node_25 n a0 a1 0 σ40)
    else (
      f_X1_node_25 n a0 a1 1 σ40)
noncomputable def f_X0_node (n : Nat) (a0 a1 a2 : Int) (σ : AS) : Option (Int × AS) :=
  gd (kd σ a0 = 1) <|
  cy (f_X1_node n a0 a1 σ) (fun E5 σ3 =>
    if E5 = 2 then (
      nm (nx σ3) fun r7 =>
      nm (al σ3 0 0 0) fun σ9 =>
      some (1, σ9)
    ) else (
      if E5 = 3 then (
        nm (nx σ3) fun r12 =>
        nm (al σ3 0 0 0) fun σ14 =>
        some (2, σ14)
      ) else (
        none))) fun v2 σ3 =>
    gd (kd σ3 a2 = 101 ∧ (0 : Int) ≤ 0 ∧ 0 < ln σ3 a2) <|
    nm (wr σ3 a2 0 v2) fun σ17 =>
    some (0, σ17)
noncomputable def f_X7_first_2 (n : Nat) : Nat → Int → Int → Int → AS → Option (Int × AS)
  | 0, _, _, _, _ => none
  | q + 1, l0, l1, l2, σ =>
    if l1 ≤ l2 then (
      some (l2, σ))
    else (
      gd (kd σ l0 = 100 ∧ (0 : Int) ≤ l2 ∧ l2 < ln σ l0) <|
      if (ld σ l0 l2) = (-1) then (
        some (l2, σ))
      else (
        gI (l2 + 1) <|
        nm (l2 + 1) fun u11 =>
        f_X7_first_2 n q l0 l1 u11 σ))
noncomputable def f_X7_first (n : Nat) (a0 a1 : Int) (σ : AS) : Option (Int × AS) :=
  f_X7_first_2 n n a0 a1 0 σ
noncomputable def f_X7_isSmall (a0 : Int) (σ : AS) : Option (Int × AS) :=
  if a0 < 0 then (
    some (0, σ))
  else (
    if 32 ≤ a0 then (
      some (0, σ))
    else (
      some (1, σ)))
noncomputable def f_X7_removeProperty_14 (n : Nat) : Nat → Int → Int → AS → Option AS
  | 0, _, _, _ => none
  | q + 1, l0, l2, σ =>
    gd (kd σ l0 = 22) <|
    gI (4 * (ld σ l0 6)) <|
    if (4 * (ld σ l0 6)) ≤ l2 then (
      some σ)
    else (
      gd (kd σ l0 = 22) <|
      gd (kd σ l0 = 22) <|
      gI (l2 + 4) <|
      gd (kd σ (ld σ l0 5) = 100 ∧ (0 : Int) ≤ (l2 + 4) ∧ (l2 + 4) < ln σ (ld σ l0 5)) <|
      gd (kd σ (ld σ l0 5) = 100 ∧ (0 : Int) ≤ l2 ∧ l2 < ln σ (ld σ l0 5)) <|
      nm (wr σ (ld σ l0 5) l2 (ld σ (ld σ l0 5) (l2 + 4))) fun σ22 =>
      gI (l2 + 1) <|
      nm (l2 + 1) fun u25 =>
      f_X7_removeProperty_14 n q l0 u25 σ22)
noncomputable def f_X7_removeProperty (n : Nat) (a0 a1 : Int) (σ : AS) : Option AS :=
  gd (kd σ a0 = 22) <|
  gI ((ld σ a0 6) - 1) <|
  gd (kd σ a0 = 22) <|
  nm (wr σ a0 6 ((ld σ a0 6) - 1)) fun σ30 =>
  gI (4 * a1) <|
  nm (4 * a1) fun u33 =>
  f_X7_removeProperty_14 n n a0 u33 σ30
noncomputable def f_X7_removeAll_50 (n : Nat) (k7 : Int → Int → Int → Int → AS → Option AS) (l0 l1 l2 l3 : Int) (σ : AS) : Option AS :=
  gI (l3 + (-1)) <|
  nm (l3 + (-1)) fun u2 =>
  k7 l0 l1 l2 u2 σ
noncomputable def f_X7_removeAll_28 (n : Nat) (k7 : Int → Int → Int → Int → AS → Option AS) (l0 l1 l2 l3 s0 s1 : Int) (σ : AS) : Option AS :=
  if s0 = s1 then (
    gd (kd σ l0 = 22) <|
    gI (4 * l3) <|
    gI ((4 * l3) + 1) <|
    gd (kd σ (ld σ l0 5) = 100 ∧ (0 : Int) ≤ ((4 * l3) + 1) ∧ ((4 * l3) + 1) < ln σ (ld σ l0 5)) <|
    if (ld σ (ld σ l0 5) ((4 * l3) + 1)) = l2 then (
      gd (kd σ l0 = 22) <|
      c0 (f_X7_removeProperty n l0 l3 σ) fun σ12 =>
      f_X7_removeAll_50 n k7 l0 l1 l2 l3 σ12)
    else (
      f_X7_removeAll_50 n k7 l0 l1 l2 l3 σ))
  else (
    f_X7_removeAll_50 n k7 l0 l1 l2 l3 σ)
noncomputable def f_X7_removeAll_7 (n : Nat) : Nat → Int → Int → Int → Int → AS → Option AS
  | 0, _, _, _, _, _ => none
  | q + 1, l0, l1, l2, l3, σ =>
    if l3 < 0 then (
      some σ)
    else (
      gd (kd σ l0 = 22) <|
      gI (4 * l3) <|
      gd (kd σ (ld σ l0 5) = 100 ∧ (0 : Int) ≤ (4 * l3) ∧ (4 * l3) < ln σ (ld σ l0 5)) <|
      if l1 = 0 then (
        f_X7_removeAll_28 n (f_X7_removeAll_7 n q) l0 l1 l2 l3 (ld σ (ld σ l0 5) (4 * l3)) 0 σ)
      else (
        f_X7_removeAll_28 n (f_X7_removeAll_7 n q) l0 l1 l2 l3 (ld σ (ld σ l0 5) (4 * l3)) 1 σ))
noncomputable def f_X7_removeAll (n : Nat) (a0 a1 a2 : Int) (σ : AS) : Option AS :=
  gd (kd σ a0 = 22) <|
  gI ((ld σ a0 6) - 1) <|
  nm ((ld σ a0 6) - 1) fun u26 =>
  f_X7_removeAll_7 n n a0 a1 a2 u26 σ
noncomputable def f_X7_property_66 (n : Nat) (k3 : Int → Int → Int → Int → Int → AS → Option (Int × AS)) (l0 l1 l2 l3 l4 : Int) (σ : AS) : Option (Int × AS) :=
  gI (l4 + 1) <|
  nm (l4 + 1) fun u2 =>
  k3 l0 l1 l2 l3 u2 σ
noncomputable def f_X7_property_30 (n : Nat) (k3 : Int → Int → Int → Int → Int → AS → Option (Int × AS)) (l0 l1 l2 l3 l4 s0 s1 : Int) (σ : AS) : Option (Int × AS) :=
  if s0 = s1 then (
    gd (kd σ l0 = 22) <|
    gI (4 * l4) <|
    gI ((4 * l4) + 1) <|
    gd (kd σ (ld σ l0 5) = 100 ∧ (0 : Int) ≤ ((4 * l4) + 1) ∧ ((4 * l4) + 1) < ln σ (ld σ l0 5)) <|
    if (ld σ (ld σ l0 5) ((4 * l4) + 1)) = l2 then (
      gd (kd σ l0 = 22) <|
      gI (4 * l4) <|
      gI ((4 * l4) + 2) <|
      gd (kd σ (ld σ l0 5) = 100 ∧ (0 : Int) ≤ ((4 * l4) + 2) ∧ ((4 * l4) + 2) < ln σ (ld σ l0 5)) <|
      if (ld σ (ld σ l0 5) ((4 * l4) + 2)) = l3 then (
        some (l4, σ))
      else (
        f_X7_property_66 n k3 l0 l1 l2 l3 l4 σ))
    else (
      f_X7_property_66 n k3 l0 l1 l2 l3 l4 σ))
  else (
    f_X7_property_66 n k3 l0 l1 l2 l3 l4 σ)
noncomputable def f_X7_property_3 (n : Nat) : Nat → Int → Int → Int → Int → Int → AS → Option (Int × AS)
  | 0, _, _, _, _, _, _ => none
  | q + 1, l0, l1, l2, l3, l4, σ =>
    gd (kd σ l0 = 22) <|
    if (ld σ l0 6) ≤ l4 then (
      some ((-1), σ))
    else (
      gd (kd σ l0 = 22) <|
      gI (4 * l4) <|
      gd (kd σ (ld σ l0 5) = 100 ∧ (0 : Int) ≤ (4 * l4) ∧ (4 * l4) < ln σ (ld σ l0 5)) <|
      if l1 = 0 then (
        f_X7_property_30 n (f_X7_property_3 n q) l0 l1 l2 l3 l4 (ld σ (ld σ l0 5) (4 * l4)) 0 σ)
      else (
        f_X7_property_30 n (f_X7_property_3 n q) l0 l1 l2 l3 l4 (ld σ (ld σ l0 5) (4 * l4)) 1 σ))
noncomputable def f_X7_property (n : Nat) (a0 a1 a2 a3 : Int) (σ : AS) : Option (Int × AS) :=
  f_X7_property_3 n n a0 a1 a2 a3 0 σ
noncomputable def f_X7_act_163 (n : Nat) (l0 l2 l3 l4 l5 l6 : Int) (σ : AS) : Option AS :=
  gd (kd σ l0 = 22) <|
  gI (4 * l6) <|
  gd (kd σ (ld σ l0 5) = 100 ∧ (0 : Int) ≤ (4 * l6) ∧ (4 * l6) < ln σ (ld σ l0 5)) <|
  nm (wr σ (ld σ l0 5) (4 * l6) l2) fun σ4 =>
  gd (kd σ4 l0 = 22) <|
  gI (4 * l6) <|
  gI ((4 * l6) + 1) <|
  gd (kd σ4 (ld σ4 l0 5) = 100 ∧ (0 : Int) ≤ ((4 * l6) + 1) ∧ ((4 * l6) + 1) < ln σ4 (ld σ4 l0 5)) <|
  nm (wr σ4 (ld σ4 l0 5) ((4 * l6) + 1) l3) fun σ10 =>
  gd (kd σ10 l0 = 22) <|
  gI (4 * l6) <|
  gI ((4 * l6) + 2) <|
  gd (kd σ10 (ld σ10 l0 5) = 100 ∧ (0 : Int) ≤ ((4 * l6) + 2) ∧ ((4 * l6) + 2) < ln σ10 (ld σ10 l0 5)) <|
  nm (wr σ10 (ld σ10 l0 5) ((4 * l6) + 2) l4) fun σ16 =>
  gd (kd σ16 l0 = 22) <|
  gI (4 * l6) <|
  gI ((4 * l6) + 3) <|
  gd (kd σ16 (ld σ16 l0 5) = 100 ∧ (0 : Int) ≤ ((4 * l6) + 3) ∧ ((4 * l6) + 3) < ln σ16 (ld σ16 l0 5)) <|
  nm (wr σ16 (ld σ16 l0 5) ((4 * l6) + 3) l5) fun σ22 =>
  some σ22
noncomputable def f_X7_act_121 (n : Nat) (l0 l1 l2 l3 l4 l5 s0 s1 : Int) (σ : AS) : Option AS :=
  gd (kd σ s0 = 22) <|
  c1 (f_X7_property n s0 s1 l3 l4 σ) fun v25 σ26 =>
  if l1 = 5 then (
    gd (kd σ26 l0 = 22) <|
    c0 (f_X7_removeProperty n l0 v25 σ26) fun σ40 =>
    some σ40)
  else (
    if v25 = (-1) then (
      gd (kd σ26 l0 = 22) <|
      nm (ld σ26 l0 6) fun u31 =>
      gd (kd σ26 l0 = 22) <|
      gI ((ld σ26 l0 6) + 1) <|
      gd (kd σ26 l0 = 22) <|
      nm (wr σ26 l0 6 ((ld σ26 l0 6) + 1)) fun σ36 =>
      f_X7_act_163 n l0 l2 l3 l4 l5 u31 σ36)
    else (
      f_X7_act_163 n l0 l2 l3 l4 l5 v25 σ26))
noncomputable def f_X7_act (n : Nat) (a0 a1 a2 a3 a4 a5 : Int) (σ : AS) : Option AS :=
  if a1 = 0 then (
    gd (kd σ a0 = 22) <|
    gd (kd σ a0 = 22) <|
    c1 (f_X7_first n (ld σ a0 1) 400 σ) fun v81 σ82 =>
    gd (kd σ82 (ld σ a0 1) = 100 ∧ (0 : Int) ≤ v81 ∧ v81 < ln σ82 (ld σ a0 1)) <|
    nm (wr σ82 (ld σ a0 1) v81 a2) fun σ85 =>
    some σ85)
  else (
    if a1 = 1 then (
      gd (kd σ a0 = 22) <|
      c1 (f_X7_first n (ld σ a0 2) 1000 σ) fun v64 σ65 =>
      gd (kd σ65 a0 = 22) <|
      gd (kd σ65 (ld σ65 a0 2) = 100 ∧ (0 : Int) ≤ v64 ∧ v64 < ln σ65 (ld σ65 a0 2)) <|
      nm (wr σ65 (ld σ65 a0 2) v64 a4) fun σ69 =>
      gd (kd σ69 a0 = 22) <|
      gd (kd σ69 (ld σ69 a0 3) = 100 ∧ (0 : Int) ≤ v64 ∧ v64 < ln σ69 (ld σ69 a0 3)) <|
      nm (wr σ69 (ld σ69 a0 3) v64 a2) fun σ73 =>
      gd (kd σ73 a0 = 22) <|
      gd (kd σ73 (ld σ73 a0 4) = 100 ∧ (0 : Int) ≤ v64 ∧ v64 < ln σ73 (ld σ73 a0 4)) <|
      nm (wr σ73 (ld σ73 a0 4) v64 a3) fun σ77 =>
      some σ77)
    else (
      if a1 = 2 then (
        gd (kd σ a0 = 22) <|
        c0 (f_X7_removeAll n a0 0 a2 σ) fun σ57 =>
        gd (kd σ57 a0 = 22) <|
        gd (kd σ57 (ld σ57 a0 1) = 100 ∧ (0 : Int) ≤ a2 ∧ a2 < ln σ57 (ld σ57 a0 1)) <|
        nm (wr σ57 (ld σ57 a0 1) a2 (-1)) fun σ61 =>
        some σ61)
      else (
        if a1 = 3 then (
          gd (kd σ a0 = 22) <|
          c0 (f_X7_removeAll n a0 1 a2 σ) fun σ49 =>
          gd (kd σ49 a0 = 22) <|
          gd (kd σ49 (ld σ49 a0 2) = 100 ∧ (0 : Int) ≤ a2 ∧ a2 < ln σ49 (ld σ49 a0 2)) <|
          nm (wr σ49 (ld σ49 a0 2) a2 (-1)) fun σ53 =>
          some σ53)
        else (
          if a2 = 1 then (
            f_X7_act_121 n a0 a1 a2 a3 a4 a5 a0 1 σ)
          else (
            f_X7_act_121 n a0 a1 a2 a3 a4 a5 a0 0 σ)))))
noncomputable def f_X7_change (n : Nat) (a0 a1 a2 a3 a4 a5 : Int) (σ : AS) : Option AS :=
  gd (kd σ a0 = 22) <|
  gI (5 * (ld σ a0 8)) <|
  nm (5 * (ld σ a0 8)) fun u3 =>
  gd (kd σ a0 = 22) <|
  gd (kd σ (ld σ a0 7) = 100 ∧ (0 : Int) ≤ u3 ∧ u3 < ln σ (ld σ a0 7)) <|
  nm (wr σ (ld σ a0 7) u3 a1) fun σ7 =>
  gd (kd σ7 a0 = 22) <|
  gI (u3 + 1) <|
  gd (kd σ7 (ld σ7 a0 7) = 100 ∧ (0 : Int) ≤ (u3 + 1) ∧ (u3 + 1) < ln σ7 (ld σ7 a0 7)) <|
  nm (wr σ7 (ld σ7 a0 7) (u3 + 1) a2) fun σ12 =>
  gd (kd σ12 a0 = 22) <|
  gI (u3 + 2) <|
  gd (kd σ12 (ld σ12 a0 7) = 100 ∧ (0 : Int) ≤ (u3 + 2) ∧ (u3 + 2) < ln σ12 (ld σ12 a0 7)) <|
  nm (wr σ12 (ld σ12 a0 7) (u3 + 2) a3) fun σ17 =>
  gd (kd σ17 a0 = 22) <|
  gI (u3 + 3) <|
  gd (kd σ17 (ld σ17 a0 7) = 100 ∧ (0 : Int) ≤ (u3 + 3) ∧ (u3 + 3) < ln σ17 (ld σ17 a0 7)) <|
  nm (wr σ17 (ld σ17 a0 7) (u3 + 3) a4) fun σ22 =>
  gd (kd σ22 a0 = 22) <|
  gI (u3 + 4) <|
  gd (kd σ22 (ld σ22 a0 7) = 100 ∧ (0 : Int) ≤ (u3 + 4) ∧ (u3 + 4) < ln σ22 (ld σ22 a0 7)) <|
  nm (wr σ22 (ld σ22 a0 7) (u3 + 4) a5) fun σ27 =>
  gd (kd σ27 a0 = 22) <|
  gI ((ld σ27 a0 8) + 1) <|
  gd (kd σ27 a0 = 22) <|
  nm (wr σ27 a0 8 ((ld σ27 a0 8) + 1)) fun σ32 =>
  gd (kd σ32 a0 = 22) <|
  c0 (f_X7_act n a0 a1 a2 a3 a4 a5 σ32) fun σ36 =>
  some σ36
noncomputable def f_X7_node_35 (n : Nat) (l0 l1 l2 s0 s1 : Int) (σ : AS) : Option (Int × AS) :=
  gd (kd σ s0 = 22) <|
  nm (wr σ s0 0 s1) fun σ2 =>
  gd (kd σ2 l0 = 22) <|
  if (ld σ2 l0 0) ≤ 0 then (
    gd (kd σ2 l0 = 22) <|
    c0 (f_X7_change n l0 0 l1 0 0 0 σ2) fun σ8 =>
    some (l2, σ8))
  else (
    some (0, σ2))
noncomputable def f_X7_node (n : Nat) (a0 a1 : Int) (σ : AS) : Option (Int × AS) :=
  gd (kd σ a0 = 22) <|
  c1 (f_X7_first n (ld σ a0 1) 400 σ) fun v11 σ12 =>
  c1 (f_X7_isSmall a1 σ12) fun v14 σ15 =>
  if v14 = 0 then (
    f_X7_node_35 n a0 a1 v11 a0 1 σ15)
  else (
    if v11 = 400 then (
      f_X7_node_35 n a0 a1 v11 a0 2 σ15)
    else (
      f_X7_node_35 n a0 a1 v11 a0 0 σ15))
noncomputable def f_X7_thrown (a0 : Int) (σ : AS) : Option (Int × AS) :=
  gd (kd σ a0 = 22) <|
  some ((ld σ a0 0), σ)
noncomputable def f_X1_inside (a0 : Int) (σ : AS) : Option ((Nat ⊕ Unit) × AS) :=
  if a0 = 0 then (
    some (.inl 1, al σ 0 0 6))
  else (
    some (.inr (), σ))
noncomputable def f_X1_nodeOf_23 (k24 : Int → AS → Option ((Nat ⊕ Int) × AS)) (σ : AS) : Option ((Nat ⊕ Int) × AS) :=
  k24 0 σ
noncomputable def f_X1_nodeOf_34 (l2 s0 : Int) (σ : AS) : Option ((Nat ⊕ Int) × AS) :=
  cx (f_X1_inside s0 σ) fun _ σ2 =>
    some (.inr l2, σ2)
noncomputable def f_X1_nodeOf_24 (s0 : Int) (σ : AS) : Option ((Nat ⊕ Int) × AS) :=
  if s0 = 0 then (
    f_X1_nodeOf_34 s0 0 σ)
  else (
    f_X1_nodeOf_34 s0 1 σ)
noncomputable def f_X1_nodeOf (a0 a1 : Int) (σ : AS) : Option ((Nat ⊕ Int) × AS) :=
  if a1 < 0 then (
    f_X1_nodeOf_23 (f_X1_nodeOf_24)  σ)
  else (
    if 400 ≤ a1 then (
      f_X1_nodeOf_23 (f_X1_nodeOf_24)  σ)
    else (
      gd (kd σ a0 = 1) <|
      gd (kd σ (ld σ a0 0) = 2) <|
      gd (kd σ (ld σ (ld σ a0 0) 0) = 106 ∧ (0 : Int) ≤ a1 ∧ a1 < ln σ (ld σ (ld σ a0 0) 0)) <|
      f_X1_nodeOf_24 (ld σ (ld σ (ld σ a0 0) 0) a1) σ))
noncomputable def f_X12_init (a0 a1 a2 a3 : Int) (σ : AS) : Option AS :=
  gd (a0 ≠ 0) <|
  c0 (f_X8_init a0 σ) fun σ3 =>
  gd (kd σ3 a0 = 5) <|
  nm (wr σ3 a0 1 a1) fun σ6 =>
  gd (kd σ6 a0 = 5) <|
  nm (wr σ6 a0 2 a2) fun σ9 =>
  gd (kd σ9 a0 = 5) <|
  nm (wr σ9 a0 3 a3) fun σ12 =>
  some σ12
noncomputable def f_X10_add_88 (n : Nat) (l0 l1 l2 : Int) (σ : AS) : Option AS :=
  gd (kd σ l0 = 3) <|
  gd (kd σ (ld σ l0 0) = 100 ∧ (0 : Int) ≤ l2 ∧ l2 < ln σ (ld σ l0 0)) <|
  nm (wr σ (ld σ l0 0) l2 l1) fun σ3 =>
  some σ3
noncomputable def f_X10_add_52 (n : Nat) : Nat → Int → Int → Int → AS → Option AS
  | 0, _, _, _, _ => none
  | q + 1, l0, l1, l2, σ =>
    if l2 ≤ 0 then (
      f_X10_add_88 n l0 l1 l2 σ)
    else (
      gd (kd σ l0 = 3) <|
      gI (l2 - 1) <|
      gd (kd σ (ld σ l0 0) = 100 ∧ (0 : Int) ≤ (l2 - 1) ∧ (l2 - 1) < ln σ (ld σ l0 0)) <|
      if (ld σ (ld σ l0 0) (l2 - 1)) ≤ l1 then (
        f_X10_add_88 n l0 l1 l2 σ)
      else (
        gd (kd σ l0 = 3) <|
        gd (kd σ l0 = 3) <|
        gI (l2 - 1) <|
        gd (kd σ (ld σ l0 0) = 100 ∧ (0 : Int) ≤ (l2 - 1) ∧ (l2 - 1) < ln σ (ld σ l0 0)) <|
        gd (kd σ (ld σ l0 0) = 100 ∧ (0 : Int) ≤ l2 ∧ l2 < ln σ (ld σ l0 0)) <|
        nm (wr σ (ld σ l0 0) l2 (ld σ (ld σ l0 0) (l2 - 1))) fun σ30 =>
        gI (l2 + (-1)) <|
        nm (l2 + (-1)) fun u33 =>
        f_X10_add_52 n q l0 l1 u33 σ30))
noncomputable def f_X10_add_40 (n : Nat) (l0 l1 : Int) (σ : AS) : Option AS :=
  gd (kd σ l0 = 3) <|
  nm (ld σ l0 1) fun v36 =>
  gI (v36 + 1) <|
  gd (kd σ l0 = 3) <|
  nm (wr σ l0 1 (v36 + 1)) fun σ40 =>
  f_X10_add_52 n n l0 l1 v36 σ40
noncomputable def f_X10_add (n : Nat) (a0 a1 : Int) (σ : AS) : Option AS :=
  gd (kd σ a0 = 3) <|
  gd (kd σ a0 = 3) <|
  gd (kd σ (ld σ a0 0) = 100) <|
  if (ld σ a0 1) = (ln σ (ld σ a0 0)) then (
    gd (kd σ a0 = 3) <|
    gI (2 * (ld σ a0 1)) <|
    gd ((0 : Int) ≤ (2 * (ld σ a0 1)) ∧ (2 * (ld σ a0 1)) ≤ 67108864) <|
    nm (nx σ) fun r49 =>
    nm (al σ 100 (2 * (ld σ a0 1)) (2 * (ld σ a0 1))) fun σ51 =>
    gd (kd σ51 a0 = 3) <|
    gd (kd σ51 a0 = 3) <|
    gd ((kd σ51 (ld σ51 a0 0) = 100 ∨ kd σ51 (ld σ51 a0 0) = 1100) ∧ kd σ51 r49 = 100 ∧ (0 : Int) ≤ 0 ∧ (0 : Int) ≤ 0 ∧ (0 : Int) ≤ (ld σ51 a0 1) ∧ 0 + (ld σ51 a0 1) ≤ ln σ51 (ld σ51 a0 0) ∧ 0 + (ld σ51 a0 1) ≤ ln σ51 r49) <|
    nm (cpy σ51 (ld σ51 a0 0) 0 r49 0 (ld σ51 a0 1)) fun σ56 =>
    gd (kd σ56 a0 = 3) <|
    nm (wr σ56 a0 0 r49) fun σ59 =>
    f_X10_add_40 n a0 a1 σ59)
  else (
    f_X10_add_40 n a0 a1 σ)
noncomputable def f_X2_enter_2 (n : Nat) (a0 a1 a2 : Int) (σ : AS) : Option AS :=
  gd (kd σ a0 = 2) <|
  gd (kd σ (ld σ a0 1) = 107 ∧ (0 : Int) ≤ a1 ∧ a1 < ln σ (ld σ a0 1)) <|
  gd (a2 = 0 ∨ kd σ a2 = 5) <|
  nm (wr σ (ld σ a0 1) a1 a2) fun σ4 =>
  gd (kd σ4 a0 = 2) <|
  gI ((ld σ4 a0 3) + 1) <|
  gd (kd σ4 a0 = 2) <|
  nm (wr σ4 a0 3 ((ld σ4 a0 3) + 1)) fun σ9 =>
  gd (kd σ9 a0 = 2) <|
  gd (kd σ9 a2 = 5) <|
  gd (kd σ9 (ld σ9 a0 0) = 106 ∧ (0 : Int) ≤ (ld σ9 a2 2) ∧ (ld σ9 a2 2) < ln σ9 (ld σ9 a0 0)) <|
  gd (kd σ9 (ld σ9 (ld σ9 a0 0) (ld σ9 a2 2)) = 4) <|
  gd (kd σ9 (ld σ9 (ld σ9 (ld σ9 a0 0) (ld σ9 a2 2)) 2) = 3) <|
  c0 (f_X10_add n (ld σ9 (ld σ9 (ld σ9 a0 0) (ld σ9 a2 2)) 2) a1 σ9) fun σ17 =>
  gd (kd σ17 a0 = 2) <|
  gd (kd σ17 a2 = 5) <|
  gd (kd σ17 (ld σ17 a0 0) = 106 ∧ (0 : Int) ≤ (ld σ17 a2 3) ∧ (ld σ17 a2 3) < ln σ17 (ld σ17 a0 0)) <|
  gd (kd σ17 (ld σ17 (ld σ17 a0 0) (ld σ17 a2 3)) = 4) <|
  gd (kd σ17 (ld σ17 (ld σ17 (ld σ17 a0 0) (ld σ17 a2 3)) 3) = 3) <|
  c0 (f_X10_add n (ld σ17 (ld σ17 (ld σ17 a0 0) (ld σ17 a2 3)) 3) a1 σ17) fun σ25 =>
  gd (kd σ25 a0 = 2) <|
  gd (kd σ25 a2 = 5) <|
  gd (kd σ25 (ld σ25 a2 0) = 26) <|
  c1 (f_J8_size (ld σ25 a2 0) σ25) fun v30 σ31 =>
  gI ((ld σ25 a0 4) + v30) <|
  gd (kd σ31 a0 = 2) <|
  nm (wr σ31 a0 4 ((ld σ25 a0 4) + v30)) fun σ35 =>
  some σ35
noncomputable def f_X13_init (a0 a1 : Int) (σ : AS) : Option AS :=
  gd (a0 ≠ 0) <|
  c0 (f_J9_init a0 σ) fun σ3 =>
  gd (kd σ3 a0 = 7) <|
  nm (wr σ3 a0 0 a1) fun σ6 =>
  some σ6
noncomputable def f_X1_edge_37 (n : Nat) (l0 l1 l2 l3 s0 : Int) (σ : AS) : Option ((Nat ⊕ Int) × AS) :=
  cx (f_X1_room s0 σ) fun _ σ2 =>
    gd (kd σ2 l0 = 1) <|
    gd (kd σ2 (ld σ2 l0 0) = 2) <|
    c1 (f_X2_free n (ld σ2 (ld σ2 l0 0) 1) σ2) fun v7 σ8 =>
    gd (kd σ8 l0 = 1) <|
    nm (nx σ8) fun r11 =>
    nm (al σ8 5 0 4) fun σ13 =>
    gd (r11 ≠ 0) <|
    c0 (f_X12_init r11 l3 l1 l2 σ13) fun σ17 =>
    gd (kd σ17 (ld σ8 l0 0) = 2) <|
    c0 (f_X2_enter_2 n (ld σ8 l0 0) v7 r11 σ17) fun σ21 =>
    gd (kd σ21 l0 = 1) <|
    nm (nx σ21) fun r24 =>
    nm (al σ21 7 0 1) fun σ26 =>
    gd (r24 ≠ 0) <|
    c0 (f_X13_init r24 v7 σ26) fun σ30 =>
    gd (kd σ30 (ld σ21 l0 1) = 23) <|
    c0 (f_J1_push n (ld σ21 l0 1) r24 σ30) fun σ34 =>
    some (.inr v7, σ34)
noncomputable def f_X1_edge (n : Nat) (a0 a1 a2 a3 : Int) (σ : AS) : Option ((Nat ⊕ Int) × AS) :=
  gd (kd σ a0 = 1) <|
  cx (f_X1_nodeOf a0 a1 σ) fun v37 σ38 =>
    gd (kd σ38 a0 = 1) <|
    cx (f_X1_nodeOf a0 a2 σ38) fun v42 σ43 =>
      c1 (f_X1_isNumber a3 σ43) fun v46 σ47 =>
      cx (f_X1_need v46 σ47) fun _ σ50 =>
        gd (kd σ50 a0 = 1) <|
        gd (kd σ50 (ld σ50 a0 0) = 2) <|
        if 1000 ≤ (ld σ50 (ld σ50 a0 0) 3) then (
          f_X1_edge_37 n a0 a1 a2 a3 0 σ50)
        else (
          f_X1_edge_37 n a0 a1 a2 a3 1 σ50)
noncomputable def f_X0_edge (n : Nat) (a0 a1 a2 a3 a4 : Int) (σ : AS) : Option (Int × AS) :=
  gd (kd σ a0 = 1) <|
  cy (f_X1_edge n a0 a1 a2 a3 σ) (fun E5 σ3 =>
    if E5 = 1 then (
      nm (nx σ3) fun r7 =>
      nm (al σ3 0 0 0) fun σ9 =>
      some (1, σ9)
    ) else (
      if E5 = 2 then (
        nm (nx σ3) fun r12 =>
        nm (al σ3 0 0 0) fun σ14 =>
        some (2, σ14)
      ) else (
        if E5 = 3 then (
          nm (nx σ3) fun r17 =>
          nm (al σ3 0 0 0) fun σ19 =>
          some (3, σ19)
        ) else (
          none)))) fun v2 σ3 =>
    gd (kd σ3 a4 = 101 ∧ (0 : Int) ≤ 0 ∧ 0 < ln σ3 a4) <|
    nm (wr σ3 a4 0 v2) fun σ22 =>
    some (0, σ22)
noncomputable def f_X7_isNode (a0 a1 : Int) (σ : AS) : Option (Int × AS) :=
  if a1 < 0 then (
    some (0, σ))
  else (
    if 400 ≤ a1 then (
      some (0, σ))
    else (
      gd (kd σ a0 = 22) <|
      gd (kd σ (ld σ a0 1) = 100 ∧ (0 : Int) ≤ a1 ∧ a1 < ln σ (ld σ a0 1)) <|
      if (ld σ (ld σ a0 1) a1) = (-1) then (
        some (0, σ))
      else (
        some (1, σ))))
noncomputable def f_X7_edge_29 (n : Nat) (k57 : Int → Int → Int → Int → Int → Int → Int → AS → Option (Int × AS)) (l0 l1 l2 l3 l4 s0 : Int) (σ : AS) : Option (Int × AS) :=
  k57 l0 l1 l2 l3 l4 s0 1 σ
noncomputable def f_X7_edge_57 (n : Nat) (l0 l1 l2 l3 l4 s0 s1 : Int) (σ : AS) : Option (Int × AS) :=
  gd (kd σ s0 = 22) <|
  nm (wr σ s0 0 s1) fun σ2 =>
  gd (kd σ2 l0 = 22) <|
  if (ld σ2 l0 0) ≤ 0 then (
    gd (kd σ2 l0 = 22) <|
    c0 (f_X7_change n l0 1 l1 l2 l3 0 σ2) fun σ8 =>
    some (l4, σ8))
  else (
    some (0, σ2))
noncomputable def f_X7_edge (n : Nat) (a0 a1 a2 a3 : Int) (σ : AS) : Option (Int × AS) :=
  gd (kd σ a0 = 22) <|
  c1 (f_X7_first n (ld σ a0 2) 1000 σ) fun v11 σ12 =>
  gd (kd σ12 a0 = 22) <|
  c1 (f_X7_isNode a0 a1 σ12) fun v15 σ16 =>
  if v15 = 0 then (
    f_X7_edge_29 n (f_X7_edge_57 n) a0 a1 a2 a3 v11 a0 σ16)
  else (
    gd (kd σ16 a0 = 22) <|
    c1 (f_X7_isNode a0 a2 σ16) fun v20 σ21 =>
    if v20 = 0 then (
      f_X7_edge_29 n (f_X7_edge_57 n) a0 a1 a2 a3 v11 a0 σ21)
    else (
      c1 (f_X7_isSmall a3 σ21) fun v24 σ25 =>
      if v24 = 0 then (
        f_X7_edge_57 n a0 a1 a2 a3 v11 a0 2 σ25)
      else (
        if v11 = 1000 then (
          f_X7_edge_57 n a0 a1 a2 a3 v11 a0 3 σ25)
        else (
          f_X7_edge_57 n a0 a1 a2 a3 v11 a0 0 σ25))))
noncomputable def f_X2_leave (a0 a1 : Int) (σ : AS) : Option AS :=
  gd (kd σ a0 = 2) <|
  gd (kd σ a0 = 2) <|
  gd (kd σ (ld σ a0 0) = 106 ∧ (0 : Int) ≤ a1 ∧ a1 < ln σ (ld σ a0 0)) <|
  gd (kd σ (ld σ (ld σ a0 0) a1) = 4) <|
  gd (kd σ (ld σ (ld σ (ld σ a0 0) a1) 0) = 26) <|
  c1 (f_J8_size (ld σ (ld σ (ld σ a0 0) a1) 0) σ) fun v6 σ7 =>
  gI ((ld σ a0 4) - v6) <|
  gd (kd σ7 a0 = 2) <|
  nm (wr σ7 a0 4 ((ld σ a0 4) - v6)) fun σ11 =>
  gd (kd σ11 a0 = 2) <|
  gd (kd σ11 (ld σ11 a0 0) = 106 ∧ (0 : Int) ≤ a1 ∧ a1 < ln σ11 (ld σ11 a0 0)) <|
  nm (wr σ11 (ld σ11 a0 0) a1 0) fun σ15 =>
  gd (kd σ15 a0 = 2) <|
  gI ((ld σ15 a0 2) - 1) <|
  gd (kd σ15 a0 = 2) <|
  nm (wr σ15 a0 2 ((ld σ15 a0 2) - 1)) fun σ20 =>
  some σ20
noncomputable def f_X14_init (a0 a1 a2 : Int) (σ : AS) : Option AS :=
  gd (a0 ≠ 0) <|
  c0 (f_J9_init a0 σ) fun σ3 =>
  gd (kd σ3 a0 = 8) <|
  nm (wr σ3 a0 0 a1) fun σ6 =>
  gd (kd σ6 a0 = 8) <|
  nm (wr σ6 a0 1 a2) fun σ9 =>
  some σ9
noncomputable def f_X1_dropNode (n : Nat) (a0 a1 : Int) (σ : AS) : Option ((Nat ⊕ Unit) × AS) :=
  gd (kd σ a0 = 1) <|
  cx (f_X1_nodeOf a0 a1 σ) fun v2 σ3 =>
    gd (kd σ3 v2 = 4) <|
    gd (kd σ3 (ld σ3 v2 2) = 3) <|
    gd (kd σ3 v2 = 4) <|
    gd (kd σ3 (ld σ3 v2 3) = 3) <|
    gI ((ld σ3 (ld σ3 v2 2) 1) + (ld σ3 (ld σ3 v2 3) 1)) <|
    if ((ld σ3 (ld σ3 v2 2) 1) + (ld σ3 (ld σ3 v2 3) 1)) ≤ 0 then (
      gd (kd σ3 a0 = 1) <|
      gd (kd σ3 (ld σ3 a0 0) = 2) <|
      c0 (f_X2_leave (ld σ3 a0 0) a1 σ3) fun σ15 =>
      gd (kd σ15 a0 = 1) <|
      nm (nx σ15) fun r18 =>
      nm (al σ15 8 0 2) fun σ20 =>
      gd (r18 ≠ 0) <|
      c0 (f_X14_init r18 a1 v2 σ20) fun σ24 =>
      gd (kd σ24 (ld σ15 a0 1) = 23) <|
      c0 (f_J1_push n (ld σ15 a0 1) r18 σ24) fun σ28 =>
      some (.inr (), σ28))
    else (
      some (.inl 4, al σ3 0 0 6))
noncomputable def f_X0_dropNode (n : Nat) (a0 a1 : Int) (σ : AS) : Option (Int × AS) :=
  gd (kd σ a0 = 1) <|
  cy (f_X1_dropNode n a0 a1 σ) (fun E5 σ3 =>
    if E5 = 1 then (
      nm (nx σ3) fun r7 =>
      nm (al σ3 0 0 0) fun σ9 =>
      some (1, σ9)
    ) else (
      if E5 = 4 then (
        nm (nx σ3) fun r12 =>
        nm (al σ3 0 0 0) fun σ14 =>
        some (2, σ14)
      ) else (
        none))) fun _ σ3 =>
    some (0, σ3)
noncomputable def f_X7_degree_46 (n : Nat) (k54 : Int → Int → Int → Int → Int → AS → Option (Int × AS)) (k55 : Int → Int → Int → Int → Int → Int → AS → Option (Int × AS)) (l0 l1 l2 l4 s0 s1 : Int) (σ : AS) : Option (Int × AS) :=
  if s1 = l1 then (
    k55 l0 l1 l2 l4 s0 1 σ)
  else (
    k54 l0 l1 l2 l4 s0 σ)
noncomputable def f_X7_degree_54 (n : Nat) (k55 : Int → Int → Int → Int → Int → Int → AS → Option (Int × AS)) (l0 l1 l2 l4 s0 : Int) (σ : AS) : Option (Int × AS) :=
  k55 l0 l1 l2 l4 s0 0 σ
noncomputable def f_X7_degree_55 (n : Nat) (k5 : Int → Int → Int → Int → Int → AS → Option (Int × AS)) (l0 l1 l2 l4 s0 s1 : Int) (σ : AS) : Option (Int × AS) :=
  gI (s0 + s1) <|
  nm (s0 + s1) fun u3 =>
  gI (l4 + 1) <|
  nm (l4 + 1) fun u6 =>
  k5 l0 l1 l2 u3 u6 σ
noncomputable def f_X7_degree_5 (n : Nat) : Nat → Int → Int → Int → Int → Int → AS → Option (Int × AS)
  | 0, _, _, _, _, _, _ => none
  | q + 1, l0, l1, l2, l3, l4, σ =>
    if 1000 ≤ l4 then (
      some (l3, σ))
    else (
      gd (kd σ l0 = 22) <|
      gd (kd σ (ld σ l0 2) = 100 ∧ (0 : Int) ≤ l4 ∧ l4 < ln σ (ld σ l0 2)) <|
      if (ld σ (ld σ l0 2) l4) = (-1) then (
        f_X7_degree_54 n (f_X7_degree_55 n (f_X7_degree_5 n q)) l0 l1 l2 l4 l3 σ)
      else (
        if l2 = 0 then (
          gd (kd σ l0 = 22) <|
          gd (kd σ (ld σ l0 3) = 100 ∧ (0 : Int) ≤ l4 ∧ l4 < ln σ (ld σ l0 3)) <|
          f_X7_degree_46 n (f_X7_degree_54 n (f_X7_degree_55 n (f_X7_degree_5 n q))) (f_X7_degree_55 n (f_X7_degree_5 n q)) l0 l1 l2 l4 l3 (ld σ (ld σ l0 3) l4) σ)
        else (
          gd (kd σ l0 = 22) <|
          gd (kd σ (ld σ l0 4) = 100 ∧ (0 : Int) ≤ l4 ∧ l4 < ln σ (ld σ l0 4)) <|
          f_X7_degree_46 n (f_X7_degree_54 n (f_X7_degree_55 n (f_X7_degree_5 n q))) (f_X7_degree_55 n (f_X7_degree_5 n q)) l0 l1 l2 l4 l3 (ld σ (ld σ l0 4) l4) σ)))
noncomputable def f_X7_degree (n : Nat) (a0 a1 a2 : Int) (σ : AS) : Option (Int × AS) :=
  f_X7_degree_5 n n a0 a1 a2 0 0 σ
noncomputable def f_X7_dropNode_34 (n : Nat) (l0 l1 s0 s1 : Int) (σ : AS) : Option AS :=
  gd (kd σ s0 = 22) <|
  nm (wr σ s0 0 s1) fun σ2 =>
  gd (kd σ2 l0 = 22) <|
  if (ld σ2 l0 0) = 0 then (
    gd (kd σ2 l0 = 22) <|
    c0 (f_X7_change n l0 2 l1 0 0 0 σ2) fun σ8 =>
    some σ8)
  else (
    some σ2)
noncomputable def f_X7_dropNode (n : Nat) (a0 a1 : Int) (σ : AS) : Option AS :=
  gd (kd σ a0 = 22) <|
  c1 (f_X7_isNode a0 a1 σ) fun v11 σ12 =>
  if v11 = 0 then (
    f_X7_dropNode_34 n a0 a1 a0 1 σ12)
  else (
    gd (kd σ12 a0 = 22) <|
    c1 (f_X7_degree n a0 a1 1 σ12) fun v16 σ17 =>
    gd (kd σ17 a0 = 22) <|
    c1 (f_X7_degree n a0 a1 0 σ17) fun v20 σ21 =>
    gI (v16 + v20) <|
    if (v16 + v20) ≤ 0 then (
      f_X7_dropNode_34 n a0 a1 a0 0 σ21)
    else (
      f_X7_dropNode_34 n a0 a1 a0 2 σ21))
noncomputable def f_X1_edgeOf_23 (k24 : Int → AS → Option ((Nat ⊕ Int) × AS)) (σ : AS) : Option ((Nat ⊕ Int) × AS) :=
  k24 0 σ
noncomputable def f_X1_edgeOf_34 (l2 s0 : Int) (σ : AS) : Option ((Nat ⊕ Int) × AS) :=
  cx (f_X1_inside s0 σ) fun _ σ2 =>
    some (.inr l2, σ2)
noncomputable def f_X1_edgeOf_24 (s0 : Int) (σ : AS) : Option ((Nat ⊕ Int) × AS) :=
  if s0 = 0 then (
    f_X1_edgeOf_34 s0 0 σ)
  else (
    f_X1_edgeOf_34 s0 1 σ)
noncomputable def f_X1_edgeOf (a0 a1 : Int) (σ : AS) : Option ((Nat ⊕ Int) × AS) :=
  if a1 < 0 then (
    f_X1_edgeOf_23 (f_X1_edgeOf_24)  σ)
  else (
    if 1000 ≤ a1 then (
      f_X1_edgeOf_23 (f_X1_edgeOf_24)  σ)
    else (
      gd (kd σ a0 = 1) <|
      gd (kd σ (ld σ a0 0) = 2) <|
      gd (kd σ (ld σ (ld σ a0 0) 1) = 107 ∧ (0 : Int) ≤ a1 ∧ a1 < ln σ (ld σ (ld σ a0 0) 1)) <|
      f_X1_edgeOf_24 (ld σ (ld σ (ld σ a0 0) 1) a1) σ))
noncomputable def f_X10_remove_28 (n : Nat) : Nat → Int → Int → AS → Option AS
  | 0, _, _, _ => none
  | q + 1, l0, l2, σ =>
    gd (kd σ l0 = 3) <|
    if (ld σ l0 1) ≤ l2 then (
      some σ)
    else (
      gd (kd σ l0 = 3) <|
      gd (kd σ l0 = 3) <|
      gI (l2 + 1) <|
      gd (kd σ (ld σ l0 0) = 100 ∧ (0 : Int) ≤ (l2 + 1) ∧ (l2 + 1) < ln σ (ld σ l0 0)) <|
      gd (kd σ (ld σ l0 0) = 100 ∧ (0 : Int) ≤ l2 ∧ l2 < ln σ (ld σ l0 0)) <|
      nm (wr σ (ld σ l0 0) l2 (ld σ (ld σ l0 0) (l2 + 1))) fun σ20 =>
      gI (l2 + 1) <|
      nm (l2 + 1) fun u23 =>
      f_X10_remove_28 n q l0 u23 σ20)
noncomputable def f_X10_remove_2 (n : Nat) : Nat → Int → Int → Int → AS → Option AS
  | 0, _, _, _, _ => none
  | q + 1, l0, l1, l2, σ =>
    gd (kd σ l0 = 3) <|
    gd (kd σ (ld σ l0 0) = 100 ∧ (0 : Int) ≤ l2 ∧ l2 < ln σ (ld σ l0 0)) <|
    if (ld σ (ld σ l0 0) l2) = l1 then (
      gd (kd σ l0 = 3) <|
      gI ((ld σ l0 1) - 1) <|
      gd (kd σ l0 = 3) <|
      nm (wr σ l0 1 ((ld σ l0 1) - 1)) fun σ42 =>
      f_X10_remove_28 n n l0 l2 σ42)
    else (
      gI (l2 + 1) <|
      nm (l2 + 1) fun u45 =>
      f_X10_remove_2 n q l0 l1 u45 σ)
noncomputable def f_X10_remove (n : Nat) (a0 a1 : Int) (σ : AS) : Option AS :=
  f_X10_remove_2 n n a0 a1 0 σ
noncomputable def f_X2_cut (n : Nat) (a0 a1 : Int) (σ : AS) : Option AS :=
  gd (kd σ a0 = 2) <|
  gd (kd σ (ld σ a0 1) = 107 ∧ (0 : Int) ≤ a1 ∧ a1 < ln σ (ld σ a0 1)) <|
  nm (ld σ (ld σ a0 1) a1) fun u3 =>
  gd (kd σ a0 = 2) <|
  gd (kd σ (ld σ a0 1) = 107 ∧ (0 : Int) ≤ a1 ∧ a1 < ln σ (ld σ a0 1)) <|
  nm (wr σ (ld σ a0 1) a1 0) fun σ7 =>
  gd (kd σ7 a0 = 2) <|
  gI ((ld σ7 a0 3) - 1) <|
  gd (kd σ7 a0 = 2) <|
  nm (wr σ7 a0 3 ((ld σ7 a0 3) - 1)) fun σ12 =>
  gd (kd σ12 a0 = 2) <|
  gd (kd σ12 u3 = 5) <|
  gd (kd σ12 (ld σ12 a0 0) = 106 ∧ (0 : Int) ≤ (ld σ12 u3 2) ∧ (ld σ12 u3 2) < ln σ12 (ld σ12 a0 0)) <|
  gd (kd σ12 (ld σ12 (ld σ12 a0 0) (ld σ12 u3 2)) = 4) <|
  gd (kd σ12 (ld σ12 (ld σ12 (ld σ12 a0 0) (ld σ12 u3 2)) 2) = 3) <|
  c0 (f_X10_remove n (ld σ12 (ld σ12 (ld σ12 a0 0) (ld σ12 u3 2)) 2) a1 σ12) fun σ20 =>
  gd (kd σ20 a0 = 2) <|
  gd (kd σ20 u3 = 5) <|
  gd (kd σ20 (ld σ20 a0 0) = 106 ∧ (0 : Int) ≤ (ld σ20 u3 3) ∧ (ld σ20 u3 3) < ln σ20 (ld σ20 a0 0)) <|
  gd (kd σ20 (ld σ20 (ld σ20 a0 0) (ld σ20 u3 3)) = 4) <|
  gd (kd σ20 (ld σ20 (ld σ20 (ld σ20 a0 0) (ld σ20 u3 3)) 3) = 3) <|
  c0 (f_X10_remove n (ld σ20 (ld σ20 (ld σ20 a0 0) (ld σ20 u3 3)) 3) a1 σ20) fun σ28 =>
  gd (kd σ28 a0 = 2) <|
  gd (kd σ28 u3 = 5) <|
  gd (kd σ28 (ld σ28 u3 0) = 26) <|
  c1 (f_J8_size (ld σ28 u3 0) σ28) fun v33 σ34 =>
  gI ((ld σ28 a0 4) - v33) <|
  gd (kd σ34 a0 = 2) <|
  nm (wr σ34 a0 4 ((ld σ28 a0 4) - v33)) fun σ38 =>
  some σ38
noncomputable def f_X15_init (a0 a1 a2 : Int) (σ : AS) : Option AS :=
  gd (a0 ≠ 0) <|
  c0 (f_J9_init a0 σ) fun σ3 =>
  gd (kd σ3 a0 = 9) <|
  nm (wr σ3 a0 0 a1) fun σ6 =>
  gd (kd σ6 a0 = 9) <|
  nm (wr σ6 a0 1 a2) fun σ9 =>
  some σ9
noncomputable def f_X1_dropEdge (n : Nat) (a0 a1 : Int) (σ : AS) : Option ((Nat ⊕ Unit) × AS) :=
  gd (kd σ a0 = 1) <|
  cx (f_X1_edgeOf a0 a1 σ) fun v2 σ3 =>
    gd (kd σ3 a0 = 1) <|
    gd (kd σ3 (ld σ3 a0 0) = 2) <|
    c0 (f_X2_cut n (ld σ3 a0 0) a1 σ3) fun σ9 =>
    gd (kd σ9 a0 = 1) <|
    nm (nx σ9) fun r12 =>
    nm (al σ9 9 0 2) fun σ14 =>
    gd (r12 ≠ 0) <|
    c0 (f_X15_init r12 a1 v2 σ14) fun σ18 =>
    gd (kd σ18 (ld σ9 a0 1) = 23) <|
    c0 (f_J1_push n (ld σ9 a0 1) r12 σ18) fun σ22 =>
    some (.inr (), σ22)
noncomputable def f_X0_dropEdge (n : Nat) (a0 a1 : Int) (σ : AS) : Option (Int × AS) :=
  gd (kd σ a0 = 1) <|
  cy (f_X1_dropEdge n a0 a1 σ) (fun E5 σ3 =>
    if E5 = 1 then (
      nm (nx σ3) fun r7 =>
      nm (al σ3 0 0 0) fun σ9 =>
      some (1, σ9)
    ) else (
      none)) fun _ σ3 =>
    some (0, σ3)
noncomputable def f_X7_isEdge (a0 a1 : Int) (σ : AS) : Option (Int × AS) :=
  if a1 < 0 then (
    some (0, σ))
  else (
    if 1000 ≤ a1 then (
      some (0, σ))
    else (
      gd (kd σ a0 = 22) <|
      gd (kd σ (ld σ a0 2) = 100 ∧ (0 : Int) ≤ a1 ∧ a1 < ln σ (ld σ a0 2)) <|
      if (ld σ (ld σ a0 2) a1) = (-1) then (
        some (0, σ))
      else (
        some (1, σ))))
noncomputable def f_X7_dropEdge_14 (n : Nat) (l0 l1 s0 s1 : Int) (σ : AS) : Option AS :=
  gd (kd σ s0 = 22) <|
  nm (wr σ s0 0 s1) fun σ2 =>
  gd (kd σ2 l0 = 22) <|
  if (ld σ2 l0 0) = 0 then (
    gd (kd σ2 l0 = 22) <|
    c0 (f_X7_change n l0 3 l1 0 0 0 σ2) fun σ8 =>
    some σ8)
  else (
    some σ2)
noncomputable def f_X7_dropEdge (n : Nat) (a0 a1 : Int) (σ : AS) : Option AS :=
  gd (kd σ a0 = 22) <|
  c1 (f_X7_isEdge a0 a1 σ) fun v11 σ12 =>
  if v11 = 0 then (
    f_X7_dropEdge_14 n a0 a1 a0 1 σ12)
  else (
    f_X7_dropEdge_14 n a0 a1 a0 0 σ12)
noncomputable def f_X1_thing (a0 a1 a2 : Int) (σ : AS) : Option ((Nat ⊕ Int) × AS) :=
  if a1 = 0 then (
    gd (kd σ a0 = 1) <|
    cx (f_X1_nodeOf a0 a2 σ) fun v3 σ4 =>
      some (.inr v3, σ4))
  else (
    gd (kd σ a0 = 1) <|
    cx (f_X1_edgeOf a0 a2 σ) fun v8 σ9 =>
      some (.inr v8, σ9))
noncomputable def f_J16_init (a0 : Int) (σ : AS) : Option AS :=
  gd (a0 ≠ 0) <|
  some σ
noncomputable def f_J17_init (a0 a1 : Int) (σ : AS) : Option AS :=
  gd (a0 ≠ 0) <|
  c0 (f_J16_init a0 σ) fun σ3 =>
  gd (kd σ3 a0 = 25) <|
  nm (wr σ3 a0 0 a1) fun σ6 =>
  some σ6
noncomputable def f_J17_valueOf_23 (l0 : Int) (σ : AS) : Option (Int × AS) :=
  nm (nx σ) fun r1 =>
  nm (al σ 25 0 1) fun σ3 =>
  gd (r1 ≠ 0) <|
  c0 (f_J17_init r1 l0 σ3) fun σ7 =>
  some (r1, σ7)
noncomputable def f_J17_valueOf (a0 : Int) (σ : AS) : Option (Int × AS) :=
  if a0 < (-128) then (
    f_J17_valueOf_23 a0 σ)
  else (
    if 127 < a0 then (
      f_J17_valueOf_23 a0 σ)
    else (
      gI (a0 + 128) <|
      gd (kd σ 120 = 1109 ∧ (0 : Int) ≤ (a0 + 128) ∧ (a0 + 128) < ln σ 120) <|
      some ((ld σ 120 (a0 + 128)), σ)))
noncomputable def f_J18_requireNonNull (a0 : Int) (σ : AS) : Option (Int × AS) :=
  if a0 = 0 then (
    none)
  else (
    some (a0, σ))
noncomputable def f_J17_compare (a0 a1 : Int) (σ : AS) : Option (Int × AS) :=
  if a1 ≤ a0 then (
    if a0 = a1 then (
      some (0, σ))
    else (
      some (1, σ)))
  else (
    some ((-1), σ))
noncomputable def f_J17_compareTo_2 (a0 a1 : Int) (σ : AS) : Option (Int × AS) :=
  gd (kd σ a0 = 25 ∨ kd σ a0 = 1025) <|
  gd (kd σ a1 = 25 ∨ kd σ a1 = 1025) <|
  c1 (f_J17_compare (ld σ a0 0) (ld σ a1 0) σ) fun v3 σ4 =>
  some (v3, σ4)
noncomputable def f_J17_compareTo (a0 a1 : Int) (σ : AS) : Option (Int × AS) :=
  gd (a1 = 0 ∨ kd σ a1 = 25 ∨ kd σ a1 = 1025) <|
  gd (kd σ a0 = 25 ∨ kd σ a0 = 1025) <|
  c1 (f_J17_compareTo_2 a0 a1 σ) fun v3 σ4 =>
  some (v3, σ4)
noncomputable def f_J8_getEntry_72 (n : Nat) (k28 : Int → Int → AS → Option (Int × AS)) (l2 l3 : Int) (σ : AS) : Option (Int × AS) :=
  k28 l2 l3 σ
noncomputable def f_J8_getEntry_28 (n : Nat) : Nat → Int → Int → AS → Option (Int × AS)
  | 0, _, _, _ => none
  | q + 1, l2, l3, σ =>
    if l3 = 0 then (
      some (0, σ))
    else (
      gd (kd σ l3 = 27) <|
      gd (kd σ l2 = 25 ∨ kd σ l2 = 1025) <|
      c1 (f_J17_compareTo l2 (ld σ l3 0) σ) fun v18 σ19 =>
      if 0 ≤ v18 then (
        if v18 ≤ 0 then (
          some (l3, σ19))
        else (
          gd (kd σ19 l3 = 27) <|
          nm (ld σ19 l3 3) fun u24 =>
          f_J8_getEntry_72 n (f_J8_getEntry_28 n q) l2 u24 σ19))
      else (
        gd (kd σ19 l3 = 27) <|
        nm (ld σ19 l3 2) fun u27 =>
        f_J8_getEntry_72 n (f_J8_getEntry_28 n q) l2 u27 σ19))
noncomputable def f_J8_getEntry (n : Nat) (a0 a1 : Int) (σ : AS) : Option (Int × AS) :=
  gd (kd σ a0 = 26) <|
  if (ld σ a0 2) = 0 then (
    c1 (f_J18_requireNonNull a1 σ) fun v31 σ32 =>
    gd (a1 = 0 ∨ kd σ32 a1 = 25 ∨ kd σ32 a1 = 1025) <|
    gd (kd σ32 a0 = 26) <|
    nm (ld σ32 a0 3) fun u36 =>
    f_J8_getEntry_28 n n a1 u36 σ32)
  else (
    none)
noncomputable def f_J8_containsKey (n : Nat) (a0 a1 : Int) (σ : AS) : Option (Int × AS) :=
  gd (kd σ a0 = 26) <|
  c1 (f_J8_getEntry n a0 a1 σ) fun v2 σ3 =>
  if v2 = 0 then (
    some (0, σ3))
  else (
    some (1, σ3))
noncomputable def f_J8_successor_18 (n : Nat) : Nat → Int → AS → Option (Int × AS)
  | 0, _, _ => none
  | q + 1, l1, σ =>
    gd (kd σ l1 = 27) <|
    if (ld σ l1 2) = 0 then (
      some (l1, σ))
    else (
      gd (kd σ l1 = 27) <|
      nm (ld σ l1 2) fun u9 =>
      f_J8_successor_18 n q u9 σ)
noncomputable def f_J8_successor_42 (n : Nat) : Nat → Int → Int → AS → Option (Int × AS)
  | 0, _, _, _ => none
  | q + 1, l1, l2, σ =>
    if l1 = 0 then (
      some (l1, σ))
    else (
      gd (kd σ l1 = 27) <|
      gdc (cmpOk σ l2 (ld σ l1 3)) <|
      if l2 = (ld σ l1 3) then (
        gd (kd σ l1 = 27) <|
        nm (ld σ l1 4) fun u23 =>
        f_J8_successor_42 n q u23 l1 σ)
      else (
        some (l1, σ)))
noncomputable def f_J8_successor (n : Nat) (a0 : Int) (σ : AS) : Option (Int × AS) :=
  if a0 = 0 then (
    some (0, σ))
  else (
    gd (kd σ a0 = 27) <|
    if (ld σ a0 3) = 0 then (
      gd (kd σ a0 = 27) <|
      nm (ld σ a0 4) fun u29 =>
      f_J8_successor_42 n n u29 a0 σ)
    else (
      gd (kd σ a0 = 27) <|
      nm (ld σ a0 3) fun u32 =>
      f_J8_successor_18 n n u32 σ))
noncomputable def f_J8_colorOf (a0 : Int) (σ : AS) : Option (Int × AS) :=
  if a0 = 0 then (
    some (1, σ))
  else (
    gd (kd σ a0 = 27) <|
    gd (0 ≤ (ld σ a0 5) ∧ (ld σ a0 5) ≤ 1) <|
    some ((ld σ a0 5), σ))
noncomputable def f_J8_parentOf (a0 : Int) (σ : AS) : Option (Int × AS) :=
  if a0 = 0 then (
    some (0, σ))
  else (
    gd (kd σ a0 = 27) <|
    some ((ld σ a0 4), σ))
noncomputable def f_J8_leftOf (a0 : Int) (σ : AS) : Option (Int × AS) :=
  if a0 = 0 then (
    some (0, σ))
  else (
    gd (kd σ a0 = 27) <|
    some ((ld σ a0 2), σ))
noncomputable def f_J8_rightOf (a0 : Int) (σ : AS) : Option (Int × AS) :=
  if a0 = 0 then (
    some (0, σ))
  else (
    gd (kd σ a0 = 27) <|
    some ((ld σ a0 3), σ))
noncomputable def f_J8_setColor (a0 a1 : Int) (σ : AS) : Option AS :=
  if a0 = 0 then (
    some σ)
  else (
    gd (kd σ a0 = 27) <|
    gd (0 ≤ a1 ∧ a1 ≤ 1) <|
    nm (wr σ a0 5 a1) fun σ4 =>
    some σ4)
noncomputable def f_J8_rotateLeft_85 (l1 l2 : Int) (σ : AS) : Option AS :=
  gd (kd σ l2 = 27) <|
  nm (wr σ l2 2 l1) fun σ2 =>
  gd (kd σ2 l1 = 27) <|
  nm (wr σ2 l1 4 l2) fun σ5 =>
  some σ5
noncomputable def f_J8_rotateLeft_32 (l0 l1 l2 : Int) (σ : AS) : Option AS :=
  gd (kd σ l1 = 27) <|
  gd (kd σ l2 = 27) <|
  nm (wr σ l2 4 (ld σ l1 4)) fun σ9 =>
  gd (kd σ9 l1 = 27) <|
  if (ld σ9 l1 4) = 0 then (
    gd (kd σ9 l0 = 26) <|
    nm (wr σ9 l0 3 l2) fun σ26 =>
    f_J8_rotateLeft_85 l1 l2 σ26)
  else (
    gd (kd σ9 l1 = 27) <|
    gd (kd σ9 (ld σ9 l1 4) = 27) <|
    gdc (cmpOk σ9 (ld σ9 (ld σ9 l1 4) 2) l1) <|
    if (ld σ9 (ld σ9 l1 4) 2) = l1 then (
      gd (kd σ9 l1 = 27) <|
      gd (kd σ9 (ld σ9 l1 4) = 27) <|
      nm (wr σ9 (ld σ9 l1 4) 2 l2) fun σ23 =>
      f_J8_rotateLeft_85 l1 l2 σ23)
    else (
      gd (kd σ9 l1 = 27) <|
      gd (kd σ9 (ld σ9 l1 4) = 27) <|
      nm (wr σ9 (ld σ9 l1 4) 3 l2) fun σ19 =>
      f_J8_rotateLeft_85 l1 l2 σ19))
noncomputable def f_J8_rotateLeft (a0 a1 : Int) (σ : AS) : Option AS :=
  if a1 = 0 then (
    some σ)
  else (
    gd (kd σ a1 = 27) <|
    nm (ld σ a1 3) fun u30 =>
    gd (kd σ u30 = 27) <|
    gd (kd σ a1 = 27) <|
    nm (wr σ a1 3 (ld σ u30 2)) fun σ34 =>
    gd (kd σ34 u30 = 27) <|
    if (ld σ34 u30 2) = 0 then (
      f_J8_rotateLeft_32 a0 a1 u30 σ34)
    else (
      gd (kd σ34 u30 = 27) <|
      gd (kd σ34 (ld σ34 u30 2) = 27) <|
      nm (wr σ34 (ld σ34 u30 2) 4 a1) fun σ40 =>
      f_J8_rotateLeft_32 a0 a1 u30 σ40))
noncomputable def f_J8_rotateRight_85 (l1 l2 : Int) (σ : AS) : Option AS :=
  gd (kd σ l2 = 27) <|
  nm (wr σ l2 3 l1) fun σ2 =>
  gd (kd σ2 l1 = 27) <|
  nm (wr σ2 l1 4 l2) fun σ5 =>
  some σ5
noncomputable def f_J8_rotateRight_32 (l0 l1 l2 : Int) (σ : AS) : Option AS :=
  gd (kd σ l1 = 27) <|
  gd (kd σ l2 = 27) <|
  nm (wr σ l2 4 (ld σ l1 4)) fun σ9 =>
  gd (kd σ9 l1 = 27) <|
  if (ld σ9 l1 4) = 0 then (
    gd (kd σ9 l0 = 26) <|
    nm (wr σ9 l0 3 l2) fun σ26 =>
    f_J8_rotateRight_85 l1 l2 σ26)
  else (
    gd (kd σ9 l1 = 27) <|
    gd (kd σ9 (ld σ9 l1 4) = 27) <|
    gdc (cmpOk σ9 (ld σ9 (ld σ9 l1 4) 3) l1) <|
    if (ld σ9 (ld σ9 l1 4) 3) = l1 then (
      gd (kd σ9 l1 = 27) <|
      gd (kd σ9 (ld σ9 l1 4) = 27) <|
      nm (wr σ9 (ld σ9 l1 4) 3 l2) fun σ23 =>
      f_J8_rotateRight_85 l1 l2 σ23)
    else (
      gd (kd σ9 l1 = 27) <|
      gd (kd σ9 (ld σ9 l1 4) = 27) <|
      nm (wr σ9 (ld σ9 l1 4) 2 l2) fun σ19 =>
      f_J8_rotateRight_85 l1 l2 σ19))
noncomputable def f_J8_rotateRight (a0 a1 : Int) (σ : AS) : Option AS :=
  if a1 = 0 then (
    some σ)
  else (
    gd (kd σ a1 = 27) <|
    nm (ld σ a1 2) fun u30 =>
    gd (kd σ u30 = 27) <|
    gd (kd σ a1 = 27) <|
    nm (wr σ a1 2 (ld σ u30 3)) fun σ34 =>
    gd (kd σ34 u30 = 27) <|
    if (ld σ34 u30 3) = 0 then (
      f_J8_rotateRight_32 a0 a1 u30 σ34)
    else (
      gd (kd σ34 u30 = 27) <|
      gd (kd σ34 (ld σ34 u30 3) = 27) <|
      nm (wr σ34 (ld σ34 u30 3) 4 a1) fun σ40 =>
      f_J8_rotateRight_32 a0 a1 u30 σ40))
noncomputable def f_J8_fixAfterDeletion_143 (n : Nat) (k183 : Int → Int → AS → Option AS) (l0 l1 l2 : Int) (σ : AS) : Option AS :=
  c1 (f_J8_parentOf l1 σ) fun v1 σ2 =>
  c1 (f_J8_colorOf v1 σ2) fun v4 σ5 =>
  c0 (f_J8_setColor l2 v4 σ5) fun σ8 =>
  c1 (f_J8_parentOf l1 σ8) fun v10 σ11 =>
  c0 (f_J8_setColor v10 1 σ11) fun σ14 =>
  c1 (f_J8_rightOf l2 σ14) fun v16 σ17 =>
  c0 (f_J8_setColor v16 1 σ17) fun σ20 =>
  c1 (f_J8_parentOf l1 σ20) fun v22 σ23 =>
  gd (kd σ23 l0 = 26) <|
  c0 (f_J8_rotateLeft l0 v22 σ23) fun σ27 =>
  gd (kd σ27 l0 = 26) <|
  nm (ld σ27 l0 3) fun u30 =>
  k183 l0 u30 σ27
noncomputable def f_J8_fixAfterDeletion_106 (n : Nat) (k183 : Int → Int → AS → Option AS) (l0 l1 l2 : Int) (σ : AS) : Option AS :=
  c1 (f_J8_rightOf l2 σ) fun v32 σ33 =>
  c1 (f_J8_colorOf v32 σ33) fun v35 σ36 =>
  if v35 = 1 then (
    c1 (f_J8_leftOf l2 σ36) fun v39 σ40 =>
    c0 (f_J8_setColor v39 1 σ40) fun σ43 =>
    c0 (f_J8_setColor l2 0 σ43) fun σ46 =>
    gd (kd σ46 l0 = 26) <|
    c0 (f_J8_rotateRight l0 l2 σ46) fun σ50 =>
    c1 (f_J8_parentOf l1 σ50) fun v52 σ53 =>
    c1 (f_J8_rightOf v52 σ53) fun v55 σ56 =>
    f_J8_fixAfterDeletion_143 n k183 l0 l1 v55 σ56)
  else (
    f_J8_fixAfterDeletion_143 n k183 l0 l1 l2 σ36)
noncomputable def f_J8_fixAfterDeletion_183 (n : Nat) (k0 : Int → Int → AS → Option AS) (l0 l1 : Int) (σ : AS) : Option AS :=
  k0 l0 l1 σ
noncomputable def f_J8_fixAfterDeletion_71 (n : Nat) (k0 : Int → Int → AS → Option AS) (l0 l1 l2 : Int) (σ : AS) : Option AS :=
  c1 (f_J8_leftOf l2 σ) fun v58 σ59 =>
  c1 (f_J8_colorOf v58 σ59) fun v61 σ62 =>
  if v61 = 1 then (
    c1 (f_J8_rightOf l2 σ62) fun v65 σ66 =>
    c1 (f_J8_colorOf v65 σ66) fun v68 σ69 =>
    if v68 = 1 then (
      c0 (f_J8_setColor l2 0 σ69) fun σ73 =>
      c1 (f_J8_parentOf l1 σ73) fun v75 σ76 =>
      f_J8_fixAfterDeletion_183 n k0 l0 v75 σ76)
    else (
      f_J8_fixAfterDeletion_106 n (f_J8_fixAfterDeletion_183 n k0) l0 l1 l2 σ69))
  else (
    f_J8_fixAfterDeletion_106 n (f_J8_fixAfterDeletion_183 n k0) l0 l1 l2 σ62)
noncomputable def f_J8_fixAfterDeletion_302 (n : Nat) (k342 : Int → Int → AS → Option AS) (l0 l1 l2 : Int) (σ : AS) : Option AS :=
  c1 (f_J8_parentOf l1 σ) fun v78 σ79 =>
  c1 (f_J8_colorOf v78 σ79) fun v81 σ82 =>
  c0 (f_J8_setColor l2 v81 σ82) fun σ85 =>
  c1 (f_J8_parentOf l1 σ85) fun v87 σ88 =>
  c0 (f_J8_setColor v87 1 σ88) fun σ91 =>
  c1 (f_J8_leftOf l2 σ91) fun v93 σ94 =>
  c0 (f_J8_setColor v93 1 σ94) fun σ97 =>
  c1 (f_J8_parentOf l1 σ97) fun v99 σ100 =>
  gd (kd σ100 l0 = 26) <|
  c0 (f_J8_rotateRight l0 v99 σ100) fun σ104 =>
  gd (kd σ104 l0 = 26) <|
  nm (ld σ104 l0 3) fun u107 =>
  k342 l0 u107 σ104
noncomputable def f_J8_fixAfterDeletion_265 (n : Nat) (k342 : Int → Int → AS → Option AS) (l0 l1 l2 : Int) (σ : AS) : Option AS :=
  c1 (f_J8_leftOf l2 σ) fun v109 σ110 =>
  c1 (f_J8_colorOf v109 σ110) fun v112 σ113 =>
  if v112 = 1 then (
    c1 (f_J8_rightOf l2 σ113) fun v116 σ117 =>
    c0 (f_J8_setColor v116 1 σ117) fun σ120 =>
    c0 (f_J8_setColor l2 0 σ120) fun σ123 =>
    gd (kd σ123 l0 = 26) <|
    c0 (f_J8_rotateLeft l0 l2 σ123) fun σ127 =>
    c1 (f_J8_parentOf l1 σ127) fun v129 σ130 =>
    c1 (f_J8_leftOf v129 σ130) fun v132 σ133 =>
    f_J8_fixAfterDeletion_302 n k342 l0 l1 v132 σ133)
  else (
    f_J8_fixAfterDeletion_302 n k342 l0 l1 l2 σ113)
noncomputable def f_J8_fixAfterDeletion_342 (n : Nat) (k0 : Int → Int → AS → Option AS) (l0 l1 : Int) (σ : AS) : Option AS :=
  k0 l0 l1 σ
noncomputable def f_J8_fixAfterDeletion_230 (n : Nat) (k0 : Int → Int → AS → Option AS) (l0 l1 l2 : Int) (σ : AS) : Option AS :=
  c1 (f_J8_rightOf l2 σ) fun v135 σ136 =>
  c1 (f_J8_colorOf v135 σ136) fun v138 σ139 =>
  if v138 = 1 then (
    c1 (f_J8_leftOf l2 σ139) fun v142 σ143 =>
    c1 (f_J8_colorOf v142 σ143) fun v145 σ146 =>
    if v145 = 1 then (
      c0 (f_J8_setColor l2 0 σ146) fun σ150 =>
      c1 (f_J8_parentOf l1 σ150) fun v152 σ153 =>
      f_J8_fixAfterDeletion_342 n k0 l0 v152 σ153)
    else (
      f_J8_fixAfterDeletion_265 n (f_J8_fixAfterDeletion_342 n k0) l0 l1 l2 σ146))
  else (
    f_J8_fixAfterDeletion_265 n (f_J8_fixAfterDeletion_342 n k0) l0 l1 l2 σ139)
noncomputable def f_J8_fixAfterDeletion_345 (n : Nat) (l1 : Int) (σ : AS) : Option AS :=
  c0 (f_J8_setColor l1 1 σ) fun σ156 =>
  some σ156
noncomputable def f_J8_fixAfterDeletion_0 (n : Nat) : Nat → Int → Int → AS → Option AS
  | 0, _, _, _ => none
  | q + 1, l0, l1, σ =>
    gd (kd σ l0 = 26) <|
    gdc (cmpOk σ l1 (ld σ l0 3)) <|
    if l1 = (ld σ l0 3) then (
      f_J8_fixAfterDeletion_345 n l1 σ)
    else (
      c1 (f_J8_colorOf l1 σ) fun v240 σ241 =>
      if v240 = 1 then (
        c1 (f_J8_parentOf l1 σ241) fun v244 σ245 =>
        c1 (f_J8_leftOf v244 σ245) fun v247 σ248 =>
        gdc (cmpOk σ248 l1 v247) <|
        if l1 = v247 then (
          c1 (f_J8_parentOf l1 σ248) fun v284 σ285 =>
          c1 (f_J8_rightOf v284 σ285) fun v287 σ288 =>
          c1 (f_J8_colorOf v287 σ288) fun v290 σ291 =>
          if v290 = 0 then (
            c0 (f_J8_setColor v287 1 σ291) fun σ295 =>
            c1 (f_J8_parentOf l1 σ295) fun v297 σ298 =>
            c0 (f_J8_setColor v297 0 σ298) fun σ301 =>
            c1 (f_J8_parentOf l1 σ301) fun v303 σ304 =>
            gd (kd σ304 l0 = 26) <|
            c0 (f_J8_rotateLeft l0 v303 σ304) fun σ308 =>
            c1 (f_J8_parentOf l1 σ308) fun v310 σ311 =>
            c1 (f_J8_rightOf v310 σ311) fun v313 σ314 =>
            f_J8_fixAfterDeletion_71 n (f_J8_fixAfterDeletion_0 n q) l0 l1 v313 σ314)
          else (
            f_J8_fixAfterDeletion_71 n (f_J8_fixAfterDeletion_0 n q) l0 l1 v287 σ291))
        else (
          c1 (f_J8_parentOf l1 σ248) fun v252 σ253 =>
          c1 (f_J8_leftOf v252 σ253) fun v255 σ256 =>
          c1 (f_J8_colorOf v255 σ256) fun v258 σ259 =>
          if v258 = 0 then (
            c0 (f_J8_setColor v255 1 σ259) fun σ263 =>
            c1 (f_J8_parentOf l1 σ263) fun v265 σ266 =>
            c0 (f_J8_setColor v265 0 σ266) fun σ269 =>
            c1 (f_J8_parentOf l1 σ269) fun v271 σ272 =>
            gd (kd σ272 l0 = 26) <|
            c0 (f_J8_rotateRight l0 v271 σ272) fun σ276 =>
            c1 (f_J8_parentOf l1 σ276) fun v278 σ279 =>
            c1 (f_J8_leftOf v278 σ279) fun v281 σ282 =>
            f_J8_fixAfterDeletion_230 n (f_J8_fixAfterDeletion_0 n q) l0 l1 v281 σ282)
          else (
            f_J8_fixAfterDeletion_230 n (f_J8_fixAfterDeletion_0 n q) l0 l1 v255 σ259)))
      else (
        f_J8_fixAfterDeletion_345 n l1 σ241))
noncomputable def f_J8_fixAfterDeletion (n : Nat) (a0 a1 : Int) (σ : AS) : Option AS :=
  f_J8_fixAfterDeletion_0 n n a0 a1 σ
noncomputable def f_J8_deleteEntry_133 (n : Nat) (l0 l1 l2 : Int) (σ : AS) : Option AS :=
  gd (kd σ l1 = 27) <|
  nm (wr σ l1 4 0) fun σ2 =>
  gd (kd σ2 l1 = 27) <|
  nm (wr σ2 l1 3 0) fun σ5 =>
  gd (kd σ5 l1 = 27) <|
  nm (wr σ5 l1 2 0) fun σ8 =>
  gd (kd σ8 l1 = 27) <|
  if (ld σ8 l1 5) = 1 then (
    gd (kd σ8 l0 = 26) <|
    c0 (f_J8_fixAfterDeletion n l0 l2 σ8) fun σ14 =>
    some σ14)
  else (
    some σ8)
noncomputable def f_J8_deleteEntry_192 (n : Nat) (l1 : Int) (σ : AS) : Option AS :=
  gd (kd σ l1 = 27) <|
  if (ld σ l1 4) = 0 then (
    some σ)
  else (
    gd (kd σ l1 = 27) <|
    gd (kd σ (ld σ l1 4) = 27) <|
    gdc (cmpOk σ l1 (ld σ (ld σ l1 4) 2)) <|
    if l1 = (ld σ (ld σ l1 4) 2) then (
      gd (kd σ l1 = 27) <|
      gd (kd σ (ld σ l1 4) = 27) <|
      nm (wr σ (ld σ l1 4) 2 0) fun σ38 =>
      gd (kd σ38 l1 = 27) <|
      nm (wr σ38 l1 4 0) fun σ41 =>
      some σ41)
    else (
      gd (kd σ l1 = 27) <|
      gd (kd σ (ld σ l1 4) = 27) <|
      gdc (cmpOk σ l1 (ld σ (ld σ l1 4) 3)) <|
      if l1 = (ld σ (ld σ l1 4) 3) then (
        gd (kd σ l1 = 27) <|
        gd (kd σ (ld σ l1 4) = 27) <|
        nm (wr σ (ld σ l1 4) 3 0) fun σ31 =>
        gd (kd σ31 l1 = 27) <|
        nm (wr σ31 l1 4 0) fun σ34 =>
        some σ34)
      else (
        gd (kd σ l1 = 27) <|
        nm (wr σ l1 4 0) fun σ27 =>
        some σ27)))
noncomputable def f_J8_deleteEntry_75 (n : Nat) (l0 l1 s0 : Int) (σ : AS) : Option AS :=
  if s0 = 0 then (
    gd (kd σ l1 = 27) <|
    if (ld σ l1 4) = 0 then (
      gd (kd σ l0 = 26) <|
      nm (wr σ l0 3 0) fun σ53 =>
      some σ53)
    else (
      gd (kd σ l1 = 27) <|
      if (ld σ l1 5) = 1 then (
        gd (kd σ l0 = 26) <|
        c0 (f_J8_fixAfterDeletion n l0 l1 σ) fun σ50 =>
        f_J8_deleteEntry_192 n l1 σ50)
      else (
        f_J8_deleteEntry_192 n l1 σ)))
  else (
    gd (kd σ l1 = 27) <|
    gd (kd σ s0 = 27) <|
    nm (wr σ s0 4 (ld σ l1 4)) fun σ57 =>
    gd (kd σ57 l1 = 27) <|
    if (ld σ57 l1 4) = 0 then (
      gd (kd σ57 l0 = 26) <|
      nm (wr σ57 l0 3 s0) fun σ74 =>
      f_J8_deleteEntry_133 n l0 l1 s0 σ74)
    else (
      gd (kd σ57 l1 = 27) <|
      gd (kd σ57 (ld σ57 l1 4) = 27) <|
      gdc (cmpOk σ57 l1 (ld σ57 (ld σ57 l1 4) 2)) <|
      if l1 = (ld σ57 (ld σ57 l1 4) 2) then (
        gd (kd σ57 l1 = 27) <|
        gd (kd σ57 (ld σ57 l1 4) = 27) <|
        nm (wr σ57 (ld σ57 l1 4) 2 s0) fun σ71 =>
        f_J8_deleteEntry_133 n l0 l1 s0 σ71)
      else (
        gd (kd σ57 l1 = 27) <|
        gd (kd σ57 (ld σ57 l1 4) = 27) <|
        nm (wr σ57 (ld σ57 l1 4) 3 s0) fun σ67 =>
        f_J8_deleteEntry_133 n l0 l1 s0 σ67)))
noncomputable def f_J8_deleteEntry_57 (n : Nat) (l0 l1 : Int) (σ : AS) : Option AS :=
  gd (kd σ l1 = 27) <|
  if (ld σ l1 2) = 0 then (
    gd (kd σ l1 = 27) <|
    f_J8_deleteEntry_75 n l0 l1 (ld σ l1 3) σ)
  else (
    gd (kd σ l1 = 27) <|
    f_J8_deleteEntry_75 n l0 l1 (ld σ l1 2) σ)
noncomputable def f_J8_deleteEntry (n : Nat) (a0 a1 : Int) (σ : AS) : Option AS :=
  gd (kd σ a0 = 26) <|
  gI ((ld σ a0 5) + 1) <|
  gd (kd σ a0 = 26) <|
  nm (wr σ a0 5 ((ld σ a0 5) + 1)) fun σ83 =>
  gd (kd σ83 a0 = 26) <|
  gI ((ld σ83 a0 4) - 1) <|
  gd (kd σ83 a0 = 26) <|
  nm (wr σ83 a0 4 ((ld σ83 a0 4) - 1)) fun σ88 =>
  gd (kd σ88 a1 = 27) <|
  if (ld σ88 a1 2) = 0 then (
    f_J8_deleteEntry_57 n a0 a1 σ88)
  else (
    gd (kd σ88 a1 = 27) <|
    if (ld σ88 a1 3) = 0 then (
      f_J8_deleteEntry_57 n a0 a1 σ88)
    else (
      c1 (f_J8_successor n a1 σ88) fun v94 σ95 =>
      gd (kd σ95 v94 = 27) <|
      gd (kd σ95 a1 = 27) <|
      nm (wr σ95 a1 0 (ld σ95 v94 0)) fun σ99 =>
      gd (kd σ99 v94 = 27) <|
      gd (kd σ99 a1 = 27) <|
      nm (wr σ99 a1 1 (ld σ99 v94 1)) fun σ103 =>
      f_J8_deleteEntry_57 n a0 v94 σ103))
noncomputable def f_J8_remove (n : Nat) (a0 a1 : Int) (σ : AS) : Option (Int × AS) :=
  gd (kd σ a0 = 26) <|
  c1 (f_J8_getEntry n a0 a1 σ) fun v2 σ3 =>
  if v2 = 0 then (
    some (0, σ3))
  else (
    gd (kd σ3 v2 = 27) <|
    nm (ld σ3 v2 1) fun u7 =>
    gd (kd σ3 a0 = 26) <|
    c0 (f_J8_deleteEntry n a0 v2 σ3) fun σ11 =>
    some (u7, σ11))
noncomputable def f_J8_compare (a0 a1 a2 : Int) (σ : AS) : Option (Int × AS) :=
  gd (kd σ a0 = 26) <|
  if (ld σ a0 2) = 0 then (
    gd (a1 = 0 ∨ kd σ a1 = 25 ∨ kd σ a1 = 1025) <|
    gd (kd σ a1 = 25 ∨ kd σ a1 = 1025) <|
    c1 (f_J17_compareTo a1 a2 σ) fun v6 σ7 =>
    some (v6, σ7))
  else (
    gd (kd σ a0 = 26) <|
    none)
noncomputable def f_J25_init (a0 a1 a2 a3 : Int) (σ : AS) : Option AS :=
  gd (a0 ≠ 0) <|
  gd (kd σ a0 = 27) <|
  nm (wr σ a0 5 1) fun σ3 =>
  gd (kd σ3 a0 = 27) <|
  nm (wr σ3 a0 0 a1) fun σ6 =>
  gd (kd σ6 a0 = 27) <|
  nm (wr σ6 a0 1 a2) fun σ9 =>
  gd (kd σ9 a0 = 27) <|
  nm (wr σ9 a0 4 a3) fun σ12 =>
  some σ12
noncomputable def f_J8_addEntryToEmptyMap (a0 a1 a2 : Int) (σ : AS) : Option AS :=
  gd (kd σ a0 = 26) <|
  c1 (f_J8_compare a0 a1 a1 σ) fun v2 σ3 =>
  nm (nx σ3) fun r5 =>
  nm (al σ3 27 0 6) fun σ7 =>
  gd (r5 ≠ 0) <|
  c0 (f_J25_init r5 a1 a2 0 σ7) fun σ11 =>
  gd (kd σ11 a0 = 26) <|
  nm (wr σ11 a0 3 r5) fun σ14 =>
  gd (kd σ14 a0 = 26) <|
  nm (wr σ14 a0 4 1) fun σ17 =>
  gd (kd σ17 a0 = 26) <|
  gI ((ld σ17 a0 5) + 1) <|
  gd (kd σ17 a0 = 26) <|
  nm (wr σ17 a0 5 ((ld σ17 a0 5) + 1)) fun σ22 =>
  some σ22
noncomputable def f_J8_fixAfterInsertion_118 (n : Nat) (k148 : Int → Int → AS → Option AS) (l0 l1 : Int) (σ : AS) : Option AS :=
  c1 (f_J8_parentOf l1 σ) fun v1 σ2 =>
  c0 (f_J8_setColor v1 1 σ2) fun σ5 =>
  c1 (f_J8_parentOf l1 σ5) fun v7 σ8 =>
  c1 (f_J8_parentOf v7 σ8) fun v10 σ11 =>
  c0 (f_J8_setColor v10 0 σ11) fun σ14 =>
  c1 (f_J8_parentOf l1 σ14) fun v16 σ17 =>
  c1 (f_J8_parentOf v16 σ17) fun v19 σ20 =>
  gd (kd σ20 l0 = 26) <|
  c0 (f_J8_rotateRight l0 v19 σ20) fun σ24 =>
  k148 l0 l1 σ24
noncomputable def f_J8_fixAfterInsertion_148 (n : Nat) (k5 : Int → Int → AS → Option AS) (l0 l1 : Int) (σ : AS) : Option AS :=
  k5 l0 l1 σ
noncomputable def f_J8_fixAfterInsertion_225 (n : Nat) (k255 : Int → Int → AS → Option AS) (l0 l1 : Int) (σ : AS) : Option AS :=
  c1 (f_J8_parentOf l1 σ) fun v26 σ27 =>
  c0 (f_J8_setColor v26 1 σ27) fun σ30 =>
  c1 (f_J8_parentOf l1 σ30) fun v32 σ33 =>
  c1 (f_J8_parentOf v32 σ33) fun v35 σ36 =>
  c0 (f_J8_setColor v35 0 σ36) fun σ39 =>
  c1 (f_J8_parentOf l1 σ39) fun v41 σ42 =>
  c1 (f_J8_parentOf v41 σ42) fun v44 σ45 =>
  gd (kd σ45 l0 = 26) <|
  c0 (f_J8_rotateLeft l0 v44 σ45) fun σ49 =>
  k255 l0 l1 σ49
noncomputable def f_J8_fixAfterInsertion_255 (n : Nat) (k5 : Int → Int → AS → Option AS) (l0 l1 : Int) (σ : AS) : Option AS :=
  k5 l0 l1 σ
noncomputable def f_J8_fixAfterInsertion_5 (n : Nat) : Nat → Int → Int → AS → Option AS
  | 0, _, _, _ => none
  | q + 1, l0, l1, σ =>
    if l1 = 0 then (
      gd (kd σ l0 = 26) <|
      gd (kd σ (ld σ l0 3) = 27) <|
      nm (wr σ (ld σ l0 3) 5 1) fun σ191 =>
      some σ191)
    else (
      gd (kd σ l0 = 26) <|
      gdc (cmpOk σ l1 (ld σ l0 3)) <|
      if l1 = (ld σ l0 3) then (
        gd (kd σ l0 = 26) <|
        gd (kd σ (ld σ l0 3) = 27) <|
        nm (wr σ (ld σ l0 3) 5 1) fun σ198 =>
        some σ198)
      else (
        gd (kd σ l1 = 27) <|
        gd (kd σ (ld σ l1 4) = 27) <|
        if (ld σ (ld σ l1 4) 5) = 0 then (
          c1 (f_J8_parentOf l1 σ) fun v207 σ208 =>
          c1 (f_J8_parentOf l1 σ208) fun v210 σ211 =>
          c1 (f_J8_parentOf v210 σ211) fun v213 σ214 =>
          c1 (f_J8_leftOf v213 σ214) fun v216 σ217 =>
          gdc (cmpOk σ217 v207 v216) <|
          if v207 = v216 then (
            c1 (f_J8_parentOf l1 σ217) fun v273 σ274 =>
            c1 (f_J8_parentOf v273 σ274) fun v276 σ277 =>
            c1 (f_J8_rightOf v276 σ277) fun v279 σ280 =>
            c1 (f_J8_colorOf v279 σ280) fun v282 σ283 =>
            if v282 = 0 then (
              c1 (f_J8_parentOf l1 σ283) fun v301 σ302 =>
              c0 (f_J8_setColor v301 1 σ302) fun σ305 =>
              c0 (f_J8_setColor v279 1 σ305) fun σ308 =>
              c1 (f_J8_parentOf l1 σ308) fun v310 σ311 =>
              c1 (f_J8_parentOf v310 σ311) fun v313 σ314 =>
              c0 (f_J8_setColor v313 0 σ314) fun σ317 =>
              c1 (f_J8_parentOf l1 σ317) fun v319 σ320 =>
              c1 (f_J8_parentOf v319 σ320) fun v322 σ323 =>
              f_J8_fixAfterInsertion_148 n (f_J8_fixAfterInsertion_5 n q) l0 v322 σ323)
            else (
              c1 (f_J8_parentOf l1 σ283) fun v286 σ287 =>
              c1 (f_J8_rightOf v286 σ287) fun v289 σ290 =>
              gdc (cmpOk σ290 l1 v289) <|
              if l1 = v289 then (
                c1 (f_J8_parentOf l1 σ290) fun v294 σ295 =>
                gd (kd σ295 l0 = 26) <|
                c0 (f_J8_rotateLeft l0 v294 σ295) fun σ299 =>
                f_J8_fixAfterInsertion_118 n (f_J8_fixAfterInsertion_148 n (f_J8_fixAfterInsertion_5 n q)) l0 v294 σ299)
              else (
                f_J8_fixAfterInsertion_118 n (f_J8_fixAfterInsertion_148 n (f_J8_fixAfterInsertion_5 n q)) l0 l1 σ290)))
          else (
            c1 (f_J8_parentOf l1 σ217) fun v221 σ222 =>
            c1 (f_J8_parentOf v221 σ222) fun v224 σ225 =>
            c1 (f_J8_leftOf v224 σ225) fun v227 σ228 =>
            c1 (f_J8_colorOf v227 σ228) fun v230 σ231 =>
            if v230 = 0 then (
              c1 (f_J8_parentOf l1 σ231) fun v249 σ250 =>
              c0 (f_J8_setColor v249 1 σ250) fun σ253 =>
              c0 (f_J8_setColor v227 1 σ253) fun σ256 =>
              c1 (f_J8_parentOf l1 σ256) fun v258 σ259 =>
              c1 (f_J8_parentOf v258 σ259) fun v261 σ262 =>
              c0 (f_J8_setColor v261 0 σ262) fun σ265 =>
              c1 (f_J8_parentOf l1 σ265) fun v267 σ268 =>
              c1 (f_J8_parentOf v267 σ268) fun v270 σ271 =>
              f_J8_fixAfterInsertion_255 n (f_J8_fixAfterInsertion_5 n q) l0 v270 σ271)
            else (
              c1 (f_J8_parentOf l1 σ231) fun v234 σ235 =>
              c1 (f_J8_leftOf v234 σ235) fun v237 σ238 =>
              gdc (cmpOk σ238 l1 v237) <|
              if l1 = v237 then (
                c1 (f_J8_parentOf l1 σ238) fun v242 σ243 =>
                gd (kd σ243 l0 = 26) <|
                c0 (f_J8_rotateRight l0 v242 σ243) fun σ247 =>
                f_J8_fixAfterInsertion_225 n (f_J8_fixAfterInsertion_255 n (f_J8_fixAfterInsertion_5 n q)) l0 v242 σ247)
              else (
                f_J8_fixAfterInsertion_225 n (f_J8_fixAfterInsertion_255 n (f_J8_fixAfterInsertion_5 n q)) l0 l1 σ238))))
        else (
          gd (kd σ l0 = 26) <|
          gd (kd σ (ld σ l0 3) = 27) <|
          nm (wr σ (ld σ l0 3) 5 1) fun σ205 =>
          some σ205)))
noncomputable def f_J8_fixAfterInsertion (n : Nat) (a0 a1 : Int) (σ : AS) : Option AS :=
  gd (kd σ a1 = 27) <|
  nm (wr σ a1 5 0) fun σ326 =>
  f_J8_fixAfterInsertion_5 n n a0 a1 σ326
noncomputable def f_J8_addEntry_32 (n : Nat) (l0 l5 : Int) (σ : AS) : Option AS :=
  gd (kd σ l0 = 26) <|
  c0 (f_J8_fixAfterInsertion n l0 l5 σ) fun σ3 =>
  gd (kd σ3 l0 = 26) <|
  gI ((ld σ3 l0 4) + 1) <|
  gd (kd σ3 l0 = 26) <|
  nm (wr σ3 l0 4 ((ld σ3 l0 4) + 1)) fun σ8 =>
  gd (kd σ8 l0 = 26) <|
  gI ((ld σ8 l0 5) + 1) <|
  gd (kd σ8 l0 = 26) <|
  nm (wr σ8 l0 5 ((ld σ8 l0 5) + 1)) fun σ13 =>
  some σ13
noncomputable def f_J8_addEntry (n : Nat) (a0 a1 a2 a3 a4 : Int) (σ : AS) : Option AS :=
  nm (nx σ) fun r15 =>
  nm (al σ 27 0 6) fun σ17 =>
  gd (r15 ≠ 0) <|
  c0 (f_J25_init r15 a1 a2 a3 σ17) fun σ21 =>
  if a4 = 0 then (
    gd (kd σ21 a3 = 27) <|
    nm (wr σ21 a3 3 r15) fun σ25 =>
    f_J8_addEntry_32 n a0 r15 σ25)
  else (
    gd (kd σ21 a3 = 27) <|
    nm (wr σ21 a3 2 r15) fun σ28 =>
    f_J8_addEntry_32 n a0 r15 σ28)
noncomputable def f_J8_put_2_216 (n : Nat) (s0 s1 s2 s3 s4 : Int) (σ : AS) : Option (Int × AS) :=
  gd (kd σ s0 = 26) <|
  c0 (f_J8_addEntry n s0 s1 s2 s3 s4 σ) fun σ3 =>
  some (0, σ3)
noncomputable def f_J8_put_2_196 (n : Nat) (k123 : Int → Int → Int → Int → Int → Int → AS → Option (Int × AS)) (l0 l1 l2 l3 l4 l5 l6 l8 : Int) (σ : AS) : Option (Int × AS) :=
  if l4 = 0 then (
    if 0 ≤ l5 then (
      f_J8_put_2_216 n l0 l1 l2 l6 0 σ)
    else (
      f_J8_put_2_216 n l0 l1 l2 l6 1 σ))
  else (
    k123 l0 l1 l2 l3 l4 l8 σ)
noncomputable def f_J8_put_2_123 (n : Nat) : Nat → Int → Int → Int → Int → Int → Int → AS → Option (Int × AS)
  | 0, _, _, _, _, _, _, _ => none
  | q + 1, l0, l1, l2, l3, l4, l8, σ =>
    gd (kd σ l4 = 27) <|
    gd (kd σ l8 = 25 ∨ kd σ l8 = 1025) <|
    c1 (f_J17_compareTo l8 (ld σ l4 0) σ) fun v33 σ34 =>
    if 0 ≤ v33 then (
      if v33 ≤ 0 then (
        gd (kd σ34 l4 = 27) <|
        nm (ld σ34 l4 1) fun u39 =>
        if l3 = 0 then (
          if u39 = 0 then (
            gd (kd σ34 l4 = 27) <|
            nm (wr σ34 l4 1 l2) fun σ47 =>
            some (u39, σ47))
          else (
            some (u39, σ34)))
        else (
          gd (kd σ34 l4 = 27) <|
          nm (wr σ34 l4 1 l2) fun σ43 =>
          some (u39, σ43)))
      else (
        gd (kd σ34 l4 = 27) <|
        nm (ld σ34 l4 3) fun u50 =>
        f_J8_put_2_196 n (f_J8_put_2_123 n q) l0 l1 l2 l3 u50 v33 l4 l8 σ34))
    else (
      gd (kd σ34 l4 = 27) <|
      nm (ld σ34 l4 2) fun u53 =>
      f_J8_put_2_196 n (f_J8_put_2_123 n q) l0 l1 l2 l3 u53 v33 l4 l8 σ34)
noncomputable def f_J8_put_2 (n : Nat) (a0 a1 a2 a3 : Int) (σ : AS) : Option (Int × AS) :=
  gd (kd σ a0 = 26) <|
  nm (ld σ a0 3) fun u56 =>
  if u56 = 0 then (
    gd (kd σ a0 = 26) <|
    c0 (f_J8_addEntryToEmptyMap a0 a1 a2 σ) fun σ70 =>
    some (0, σ70))
  else (
    gd (kd σ a0 = 26) <|
    nm (ld σ a0 2) fun u60 =>
    if u60 = 0 then (
      c1 (f_J18_requireNonNull a1 σ) fun v63 σ64 =>
      gd (a1 = 0 ∨ kd σ64 a1 = 25 ∨ kd σ64 a1 = 1025) <|
      f_J8_put_2_123 n n a0 a1 a2 a3 u56 a1 σ64)
    else (
      gd (kd σ u56 = 27) <|
      none))
noncomputable def f_J8_put (n : Nat) (a0 a1 a2 : Int) (σ : AS) : Option (Int × AS) :=
  gd (kd σ a0 = 26) <|
  c1 (f_J8_put_2 n a0 a1 a2 1 σ) fun v2 σ3 =>
  some (v2, σ3)
noncomputable def f_X2_change_52 (n : Nat) (l4 s0 s1 s2 : Int) (σ : AS) : Option (Int × AS) :=
  if l4 = 0 then (
    gI (s2 - 0) <|
    gI (s1 + (s2 - 0)) <|
    gd (kd σ s0 = 2) <|
    nm (wr σ s0 4 (s1 + (s2 - 0))) fun σ10 =>
    some (l4, σ10))
  else (
    gI (s2 - 1) <|
    gI (s1 + (s2 - 1)) <|
    gd (kd σ s0 = 2) <|
    nm (wr σ s0 4 (s1 + (s2 - 1))) fun σ5 =>
    some (l4, σ5))
noncomputable def f_X2_change_36 (n : Nat) (l0 l3 s0 : Int) (σ : AS) : Option (Int × AS) :=
  gd (kd σ l0 = 2) <|
  if l3 = 0 then (
    f_X2_change_52 n s0 l0 (ld σ l0 4) 0 σ)
  else (
    f_X2_change_52 n s0 l0 (ld σ l0 4) 1 σ)
noncomputable def f_X2_change (n : Nat) (a0 a1 a2 a3 : Int) (σ : AS) : Option (Int × AS) :=
  if a3 = 0 then (
    if kd σ a1 = 4 then (
      c1 (f_J17_valueOf a2 σ) fun v34 σ35 =>
      gd (kd σ35 (ld σ a1 0) = 26) <|
      c1 (f_J8_remove n (ld σ a1 0) v34 σ35) fun v38 σ39 =>
      gd (v38 = 0 ∨ kd σ39 v38 = 25 ∨ kd σ39 v38 = 1025) <|
      f_X2_change_36 n a0 a3 v38 σ39)
    else (
      gd (kd σ a1 = 5) <|
      c1 (f_J17_valueOf a2 σ) fun v43 σ44 =>
      gd (kd σ44 (ld σ a1 0) = 26) <|
      c1 (f_J8_remove n (ld σ a1 0) v43 σ44) fun v47 σ48 =>
      gd (v47 = 0 ∨ kd σ48 v47 = 25 ∨ kd σ48 v47 = 1025) <|
      f_X2_change_36 n a0 a3 v47 σ48))
  else (
    if kd σ a1 = 4 then (
      c1 (f_J17_valueOf a2 σ) fun v16 σ17 =>
      gd (kd σ17 (ld σ a1 0) = 26) <|
      c1 (f_J8_put n (ld σ a1 0) v16 a3 σ17) fun v20 σ21 =>
      gd (v20 = 0 ∨ kd σ21 v20 = 25 ∨ kd σ21 v20 = 1025) <|
      f_X2_change_36 n a0 a3 v20 σ21)
    else (
      gd (kd σ a1 = 5) <|
      c1 (f_J17_valueOf a2 σ) fun v25 σ26 =>
      gd (kd σ26 (ld σ a1 0) = 26) <|
      c1 (f_J8_put n (ld σ a1 0) v25 a3 σ26) fun v29 σ30 =>
      gd (v29 = 0 ∨ kd σ30 v29 = 25 ∨ kd σ30 v29 = 1025) <|
      f_X2_change_36 n a0 a3 v29 σ30))
noncomputable def f_X16_init (a0 a1 a2 a3 : Int) (σ : AS) : Option AS :=
  gd (a0 ≠ 0) <|
  c0 (f_J9_init a0 σ) fun σ3 =>
  gd (kd σ3 a0 = 10) <|
  nm (wr σ3 a0 0 a1) fun σ6 =>
  gd (kd σ6 a0 = 10) <|
  nm (wr σ6 a0 1 a2) fun σ9 =>
  gd (kd σ9 a0 = 10) <|
  nm (wr σ9 a0 2 a3) fun σ12 =>
  some σ12
noncomputable def f_X1_put_43 (n : Nat) (k48 : Int → Int → Int → Int → Int → AS → Option ((Nat ⊕ Int) × AS)) (l0 l3 l4 l5 : Int) (σ : AS) : Option ((Nat ⊕ Int) × AS) :=
  k48 l0 l3 l4 l5 1 σ
noncomputable def f_X1_put_48 (n : Nat) (l0 l3 l4 l5 s0 : Int) (σ : AS) : Option ((Nat ⊕ Int) × AS) :=
  cx (f_X1_room s0 σ) fun _ σ2 =>
    gd (kd σ2 l0 = 1) <|
    c1 (f_J17_valueOf l4 σ2) fun v6 σ7 =>
    gd (kd σ7 (ld σ2 l0 0) = 2) <|
    c1 (f_X2_change n (ld σ2 l0 0) l5 l3 v6 σ7) fun v10 σ11 =>
    gd (kd σ11 l0 = 1) <|
    nm (nx σ11) fun r14 =>
    nm (al σ11 10 0 3) fun σ16 =>
    gd (r14 ≠ 0) <|
    c0 (f_X16_init r14 l5 l3 v10 σ16) fun σ20 =>
    gd (kd σ20 (ld σ11 l0 1) = 23) <|
    c0 (f_J1_push n (ld σ11 l0 1) r14 σ20) fun σ24 =>
    if v10 = 0 then (
      some (.inr 0, σ24))
    else (
      some (.inr 1, σ24))
noncomputable def f_X1_put (n : Nat) (a0 a1 a2 a3 a4 : Int) (σ : AS) : Option ((Nat ⊕ Int) × AS) :=
  gd (kd σ a0 = 1) <|
  cx (f_X1_thing a0 a1 a2 σ) fun v28 σ29 =>
    c1 (f_X1_isNumber a3 σ29) fun v32 σ33 =>
    cx (f_X1_need v32 σ33) fun _ σ36 =>
      gd (kd σ36 a0 = 1) <|
      gd (kd σ36 (ld σ36 a0 0) = 2) <|
      if (ld σ36 (ld σ36 a0 0) 4) < 3000 then (
        f_X1_put_43 n (f_X1_put_48 n) a0 a3 a4 v28 σ36)
      else (
        if kd σ36 v28 = 4 then (
          c1 (f_J17_valueOf a3 σ36) fun v43 σ44 =>
          gd (kd σ44 (ld σ36 v28 0) = 26) <|
          c1 (f_J8_containsKey n (ld σ36 v28 0) v43 σ44) fun v47 σ48 =>
          if v47 = 0 then (
            f_X1_put_48 n a0 a3 a4 v28 0 σ48)
          else (
            f_X1_put_43 n (f_X1_put_48 n) a0 a3 a4 v28 σ48))
        else (
          gd (kd σ36 v28 = 5) <|
          c1 (f_J17_valueOf a3 σ36) fun v52 σ53 =>
          gd (kd σ53 (ld σ36 v28 0) = 26) <|
          c1 (f_J8_containsKey n (ld σ36 v28 0) v52 σ53) fun v56 σ57 =>
          if v56 = 0 then (
            f_X1_put_48 n a0 a3 a4 v28 0 σ57)
          else (
            f_X1_put_43 n (f_X1_put_48 n) a0 a3 a4 v28 σ57)))
noncomputable def f_X0_put (n : Nat) (a0 a1 a2 a3 a4 a5 : Int) (σ : AS) : Option (Int × AS) :=
  gd (kd σ a0 = 1) <|
  cy (f_X1_put n a0 a1 a2 a3 a4 σ) (fun E5 σ3 =>
    if E5 = 1 then (
      nm (nx σ3) fun r7 =>
      nm (al σ3 0 0 0) fun σ9 =>
      some (1, σ9)
    ) else (
      if E5 = 2 then (
        nm (nx σ3) fun r12 =>
        nm (al σ3 0 0 0) fun σ14 =>
        some (2, σ14)
      ) else (
        if E5 = 3 then (
          nm (nx σ3) fun r17 =>
          nm (al σ3 0 0 0) fun σ19 =>
          some (3, σ19)
        ) else (
          none)))) fun v2 σ3 =>
    if v2 = 0 then (
      gd (kd σ3 a5 = 101 ∧ (0 : Int) ≤ 0 ∧ 0 < ln σ3 a5) <|
      nm (wr σ3 a5 0 0) fun σ23 =>
      some (0, σ23))
    else (
      gd (kd σ3 a5 = 101 ∧ (0 : Int) ≤ 0 ∧ 0 < ln σ3 a5) <|
      nm (wr σ3 a5 0 1) fun σ26 =>
      some (0, σ26))
noncomputable def f_X7_faultOf_17 (l3 s0 : Int) (σ : AS) : Option (Int × AS) :=
  if s0 = 0 then (
    some (1, σ))
  else (
    c1 (f_X7_isSmall l3 σ) fun v2 σ3 =>
    if v2 = 0 then (
      some (2, σ3))
    else (
      some (0, σ3)))
noncomputable def f_X7_faultOf (a0 a1 a2 a3 : Int) (σ : AS) : Option (Int × AS) :=
  if a1 = 0 then (
    gd (kd σ a0 = 22) <|
    c1 (f_X7_isNode a0 a2 σ) fun v8 σ9 =>
    f_X7_faultOf_17 a3 v8 σ9)
  else (
    gd (kd σ a0 = 22) <|
    c1 (f_X7_isEdge a0 a2 σ) fun v12 σ13 =>
    f_X7_faultOf_17 a3 v12 σ13)
noncomputable def f_X7_put_71 (n : Nat) (l2 l3 l4 l5 s0 s1 s2 : Int) (σ : AS) : Option (Int × AS) :=
  gd (kd σ s0 = 22) <|
  c0 (f_X7_change n s0 s1 s2 l2 l3 l4 σ) fun σ3 =>
  gd (0 ≤ l5 ∧ l5 ≤ 1) <|
  some (l5, σ3)
noncomputable def f_X7_put_60 (n : Nat) (l0 l1 l2 l3 l4 l5 : Int) (σ : AS) : Option (Int × AS) :=
  if l1 = 0 then (
    f_X7_put_71 n l2 l3 l4 l5 l0 4 0 σ)
  else (
    f_X7_put_71 n l2 l3 l4 l5 l0 4 1 σ)
noncomputable def f_X7_put_36 (n : Nat) (l0 l1 l2 l3 l4 s0 : Int) (σ : AS) : Option (Int × AS) :=
  if s0 = 0 then (
    gd (kd σ l0 = 22) <|
    if (ld σ l0 6) = 3000 then (
      gd (kd σ l0 = 22) <|
      nm (wr σ l0 0 3) fun σ11 =>
      some (0, σ11))
    else (
      f_X7_put_60 n l0 l1 l2 l3 l4 s0 σ))
  else (
    f_X7_put_60 n l0 l1 l2 l3 l4 s0 σ)
noncomputable def f_X7_put (n : Nat) (a0 a1 a2 a3 a4 : Int) (σ : AS) : Option (Int × AS) :=
  gd (kd σ a0 = 22) <|
  c1 (f_X7_faultOf a0 a1 a2 a3 σ) fun v14 σ15 =>
  gd (kd σ15 a0 = 22) <|
  nm (wr σ15 a0 0 v14) fun σ18 =>
  gd (kd σ18 a0 = 22) <|
  if (ld σ18 a0 0) ≤ 0 then (
    gd (kd σ18 a0 = 22) <|
    c1 (f_X7_property n a0 a1 a2 a3 σ18) fun v23 σ24 =>
    if v23 = (-1) then (
      f_X7_put_36 n a0 a1 a2 a3 a4 0 σ24)
    else (
      f_X7_put_36 n a0 a1 a2 a3 a4 1 σ24))
  else (
    some (0, σ18))
noncomputable def f_X1_remove (n : Nat) (a0 a1 a2 a3 : Int) (σ : AS) : Option ((Nat ⊕ Int) × AS) :=
  gd (kd σ a0 = 1) <|
  cx (f_X1_thing a0 a1 a2 σ) fun v2 σ3 =>
    c1 (f_X1_isNumber a3 σ3) fun v6 σ7 =>
    cx (f_X1_need v6 σ7) fun _ σ10 =>
      if kd σ10 v2 = 4 then (
        c1 (f_J17_valueOf a3 σ10) fun v14 σ15 =>
        gd (kd σ15 (ld σ10 v2 0) = 26) <|
        c1 (f_J8_containsKey n (ld σ10 v2 0) v14 σ15) fun v18 σ19 =>
        if v18 = 0 then (
          some (.inr 0, σ19))
        else (
          gd (kd σ19 a0 = 1) <|
          nm (nx σ19) fun r23 =>
          nm (al σ19 10 0 3) fun σ25 =>
          gd (kd σ25 a0 = 1) <|
          gd (kd σ25 (ld σ25 a0 0) = 2) <|
          c1 (f_X2_change n (ld σ25 a0 0) v2 a3 0 σ25) fun v29 σ30 =>
          gd (r23 ≠ 0) <|
          c0 (f_X16_init r23 v2 a3 v29 σ30) fun σ34 =>
          gd (kd σ34 (ld σ19 a0 1) = 23) <|
          c0 (f_J1_push n (ld σ19 a0 1) r23 σ34) fun σ38 =>
          some (.inr 1, σ38)))
      else (
        gd (kd σ10 v2 = 5) <|
        c1 (f_J17_valueOf a3 σ10) fun v41 σ42 =>
        gd (kd σ42 (ld σ10 v2 0) = 26) <|
        c1 (f_J8_containsKey n (ld σ10 v2 0) v41 σ42) fun v45 σ46 =>
        if v45 = 0 then (
          some (.inr 0, σ46))
        else (
          gd (kd σ46 a0 = 1) <|
          nm (nx σ46) fun r50 =>
          nm (al σ46 10 0 3) fun σ52 =>
          gd (kd σ52 a0 = 1) <|
          gd (kd σ52 (ld σ52 a0 0) = 2) <|
          c1 (f_X2_change n (ld σ52 a0 0) v2 a3 0 σ52) fun v56 σ57 =>
          gd (r50 ≠ 0) <|
          c0 (f_X16_init r50 v2 a3 v56 σ57) fun σ61 =>
          gd (kd σ61 (ld σ46 a0 1) = 23) <|
          c0 (f_J1_push n (ld σ46 a0 1) r50 σ61) fun σ65 =>
          some (.inr 1, σ65)))
noncomputable def f_X0_remove (n : Nat) (a0 a1 a2 a3 a4 : Int) (σ : AS) : Option (Int × AS) :=
  gd (kd σ a0 = 1) <|
  cy (f_X1_remove n a0 a1 a2 a3 σ) (fun E5 σ3 =>
    if E5 = 1 then (
      nm (nx σ3) fun r7 =>
      nm (al σ3 0 0 0) fun σ9 =>
      some (1, σ9)
    ) else (
      if E5 = 2 then (
        nm (nx σ3) fun r12 =>
        nm (al σ3 0 0 0) fun σ14 =>
        some (2, σ14)
      ) else (
        none))) fun v2 σ3 =>
    if v2 = 0 then (
      gd (kd σ3 a4 = 101 ∧ (0 : Int) ≤ 0 ∧ 0 < ln σ3 a4) <|
      nm (wr σ3 a4 0 0) fun σ18 =>
      some (0, σ18))
    else (
      gd (kd σ3 a4 = 101 ∧ (0 : Int) ≤ 0 ∧ 0 < ln σ3 a4) <|
      nm (wr σ3 a4 0 1) fun σ21 =>
      some (0, σ21))
noncomputable def f_X7_remove_42 (n : Nat) (l2 l3 s0 s1 s2 : Int) (σ : AS) : Option (Int × AS) :=
  gd (kd σ s0 = 22) <|
  c0 (f_X7_change n s0 s1 s2 l2 l3 0 σ) fun σ3 =>
  some (1, σ3)
noncomputable def f_X7_remove (n : Nat) (a0 a1 a2 a3 : Int) (σ : AS) : Option (Int × AS) :=
  gd (kd σ a0 = 22) <|
  c1 (f_X7_faultOf a0 a1 a2 a3 σ) fun v6 σ7 =>
  gd (kd σ7 a0 = 22) <|
  nm (wr σ7 a0 0 v6) fun σ10 =>
  gd (kd σ10 a0 = 22) <|
  if 0 < (ld σ10 a0 0) then (
    some (0, σ10))
  else (
    gd (kd σ10 a0 = 22) <|
    c1 (f_X7_property n a0 a1 a2 a3 σ10) fun v15 σ16 =>
    if v15 = (-1) then (
      some (0, σ16))
    else (
      if a1 = 0 then (
        f_X7_remove_42 n a2 a3 a0 5 0 σ16)
      else (
        f_X7_remove_42 n a2 a3 a0 5 1 σ16)))
noncomputable def f_X1_has (n : Nat) (a0 a1 a2 a3 : Int) (σ : AS) : Option ((Nat ⊕ Int) × AS) :=
  gd (kd σ a0 = 1) <|
  cx (f_X1_thing a0 a1 a2 σ) fun v2 σ3 =>
    c1 (f_X1_isNumber a3 σ3) fun v6 σ7 =>
    cx (f_X1_need v6 σ7) fun _ σ10 =>
      if kd σ10 v2 = 4 then (
        c1 (f_J17_valueOf a3 σ10) fun v14 σ15 =>
        gd (kd σ15 (ld σ10 v2 0) = 26) <|
        c1 (f_J8_containsKey n (ld σ10 v2 0) v14 σ15) fun v18 σ19 =>
        gd (0 ≤ v18 ∧ v18 ≤ 1) <|
        some (.inr v18, σ19))
      else (
        gd (kd σ10 v2 = 5) <|
        c1 (f_J17_valueOf a3 σ10) fun v23 σ24 =>
        gd (kd σ24 (ld σ10 v2 0) = 26) <|
        c1 (f_J8_containsKey n (ld σ10 v2 0) v23 σ24) fun v27 σ28 =>
        gd (0 ≤ v27 ∧ v27 ≤ 1) <|
        some (.inr v27, σ28))
noncomputable def f_X0_has (n : Nat) (a0 a1 a2 a3 a4 : Int) (σ : AS) : Option (Int × AS) :=
  gd (kd σ a0 = 1) <|
  cy (f_X1_has n a0 a1 a2 a3 σ) (fun E5 σ3 =>
    if E5 = 1 then (
      nm (nx σ3) fun r7 =>
      nm (al σ3 0 0 0) fun σ9 =>
      some (1, σ9)
    ) else (
      if E5 = 2 then (
        nm (nx σ3) fun r12 =>
        nm (al σ3 0 0 0) fun σ14 =>
        some (2, σ14)
      ) else (
        none))) fun v2 σ3 =>
    if v2 = 0 then (
      gd (kd σ3 a4 = 101 ∧ (0 : Int) ≤ 0 ∧ 0 < ln σ3 a4) <|
      nm (wr σ3 a4 0 0) fun σ18 =>
      some (0, σ18))
    else (
      gd (kd σ3 a4 = 101 ∧ (0 : Int) ≤ 0 ∧ 0 < ln σ3 a4) <|
      nm (wr σ3 a4 0 1) fun σ21 =>
      some (0, σ21))
noncomputable def f_X7_has (n : Nat) (a0 a1 a2 a3 : Int) (σ : AS) : Option (Int × AS) :=
  gd (kd σ a0 = 22) <|
  c1 (f_X7_faultOf a0 a1 a2 a3 σ) fun v2 σ3 =>
  gd (kd σ3 a0 = 22) <|
  nm (wr σ3 a0 0 v2) fun σ6 =>
  gd (kd σ6 a0 = 22) <|
  if (ld σ6 a0 0) = 0 then (
    gd (kd σ6 a0 = 22) <|
    c1 (f_X7_property n a0 a1 a2 a3 σ6) fun v11 σ12 =>
    if v11 = (-1) then (
      some (0, σ12))
    else (
      some (1, σ12)))
  else (
    some (0, σ6))
noncomputable def f_J8_get (n : Nat) (a0 a1 : Int) (σ : AS) : Option (Int × AS) :=
  gd (kd σ a0 = 26) <|
  c1 (f_J8_getEntry n a0 a1 σ) fun v2 σ3 =>
  if v2 = 0 then (
    some (0, σ3))
  else (
    gd (kd σ3 v2 = 27) <|
    some ((ld σ3 v2 1), σ3))
noncomputable def f_J17_intValue (a0 : Int) (σ : AS) : Option (Int × AS) :=
  gd (kd σ a0 = 25 ∨ kd σ a0 = 1025) <|
  some ((ld σ a0 0), σ)
noncomputable def f_X1_get (n : Nat) (a0 a1 a2 a3 : Int) (σ : AS) : Option ((Nat ⊕ Int) × AS) :=
  gd (kd σ a0 = 1) <|
  cx (f_X1_thing a0 a1 a2 σ) fun v2 σ3 =>
    c1 (f_X1_isNumber a3 σ3) fun v6 σ7 =>
    cx (f_X1_need v6 σ7) fun _ σ10 =>
      if kd σ10 v2 = 4 then (
        c1 (f_J17_valueOf a3 σ10) fun v14 σ15 =>
        gd (kd σ15 (ld σ10 v2 0) = 26) <|
        c1 (f_J8_get n (ld σ10 v2 0) v14 σ15) fun v18 σ19 =>
        gd (v18 = 0 ∨ kd σ19 v18 = 25 ∨ kd σ19 v18 = 1025) <|
        if v18 = 0 then (
          some (.inr 0, σ19))
        else (
          gd (kd σ19 v18 = 25 ∨ kd σ19 v18 = 1025) <|
          c1 (f_J17_intValue v18 σ19) fun v24 σ25 =>
          some (.inr v24, σ25)))
      else (
        gd (kd σ10 v2 = 5) <|
        c1 (f_J17_valueOf a3 σ10) fun v28 σ29 =>
        gd (kd σ29 (ld σ10 v2 0) = 26) <|
        c1 (f_J8_get n (ld σ10 v2 0) v28 σ29) fun v32 σ33 =>
        gd (v32 = 0 ∨ kd σ33 v32 = 25 ∨ kd σ33 v32 = 1025) <|
        if v32 = 0 then (
          some (.inr 0, σ33))
        else (
          gd (kd σ33 v32 = 25 ∨ kd σ33 v32 = 1025) <|
          c1 (f_J17_intValue v32 σ33) fun v38 σ39 =>
          some (.inr v38, σ39)))
noncomputable def f_X0_get (n : Nat) (a0 a1 a2 a3 a4 : Int) (σ : AS) : Option (Int × AS) :=
  gd (kd σ a0 = 1) <|
  cy (f_X1_get n a0 a1 a2 a3 σ) (fun E5 σ3 =>
    if E5 = 1 then (
      nm (nx σ3) fun r7 =>
      nm (al σ3 0 0 0) fun σ9 =>
      some (1, σ9)
    ) else (
      if E5 = 2 then (
        nm (nx σ3) fun r12 =>
        nm (al σ3 0 0 0) fun σ14 =>
        some (2, σ14)
      ) else (
        none))) fun v2 σ3 =>
    gd (kd σ3 a4 = 101 ∧ (0 : Int) ≤ 0 ∧ 0 < ln σ3 a4) <|
    nm (wr σ3 a4 0 v2) fun σ17 =>
    some (0, σ17)
noncomputable def f_X7_get_29 (n : Nat) (l0 s0 : Int) (σ : AS) : Option (Int × AS) :=
  if s0 = (-1) then (
    some (0, σ))
  else (
    gd (kd σ l0 = 22) <|
    gI (4 * s0) <|
    gI ((4 * s0) + 3) <|
    gd (kd σ (ld σ l0 5) = 100 ∧ (0 : Int) ≤ ((4 * s0) + 3) ∧ ((4 * s0) + 3) < ln σ (ld σ l0 5)) <|
    some ((ld σ (ld σ l0 5) ((4 * s0) + 3)), σ))
noncomputable def f_X7_get (n : Nat) (a0 a1 a2 a3 : Int) (σ : AS) : Option (Int × AS) :=
  gd (kd σ a0 = 22) <|
  c1 (f_X7_faultOf a0 a1 a2 a3 σ) fun v7 σ8 =>
  gd (kd σ8 a0 = 22) <|
  nm (wr σ8 a0 0 v7) fun σ11 =>
  gd (kd σ11 a0 = 22) <|
  if (ld σ11 a0 0) = 0 then (
    gd (kd σ11 a0 = 22) <|
    c1 (f_X7_property n a0 a1 a2 a3 σ11) fun v16 σ17 =>
    f_X7_get_29 n a0 v16 σ17)
  else (
    f_X7_get_29 n a0 (-1) σ11)
noncomputable def f_X1_ofNode (a0 a1 a2 : Int) (σ : AS) : Option ((Nat ⊕ Int) × AS) :=
  gd (kd σ a0 = 1) <|
  cx (f_X1_nodeOf a0 a1 σ) fun v2 σ3 =>
    if a2 = 0 then (
      gd (kd σ3 v2 = 4) <|
      some (.inr (ld σ3 v2 1), σ3))
    else (
      if a2 = 1 then (
        gd (kd σ3 v2 = 4) <|
        gd (kd σ3 (ld σ3 v2 2) = 3) <|
        some (.inr (ld σ3 (ld σ3 v2 2) 1), σ3))
      else (
        if a2 = 2 then (
          gd (kd σ3 v2 = 4) <|
          gd (kd σ3 (ld σ3 v2 3) = 3) <|
          some (.inr (ld σ3 (ld σ3 v2 3) 1), σ3))
        else (
          if a2 = 3 then (
            gd (kd σ3 v2 = 4) <|
            gd (kd σ3 (ld σ3 v2 0) = 26) <|
            c1 (f_J8_size (ld σ3 v2 0) σ3) fun v17 σ18 =>
            some (.inr v17, σ18))
          else (
            some (.inl 2, al σ3 0 0 6)))))
noncomputable def f_X0_ofNode (a0 a1 a2 a3 : Int) (σ : AS) : Option (Int × AS) :=
  gd (kd σ a0 = 1) <|
  cy (f_X1_ofNode a0 a1 a2 σ) (fun E5 σ3 =>
    if E5 = 1 then (
      nm (nx σ3) fun r7 =>
      nm (al σ3 0 0 0) fun σ9 =>
      some (1, σ9)
    ) else (
      if E5 = 2 then (
        nm (nx σ3) fun r12 =>
        nm (al σ3 0 0 0) fun σ14 =>
        some (2, σ14)
      ) else (
        none))) fun v2 σ3 =>
    gd (kd σ3 a3 = 101 ∧ (0 : Int) ≤ 0 ∧ 0 < ln σ3 a3) <|
    nm (wr σ3 a3 0 v2) fun σ17 =>
    some (0, σ17)
noncomputable def f_X7_propertiesOf_55 (n : Nat) (k56 : Int → Int → Int → Int → Int → Int → AS → Option (Int × AS)) (l0 l1 l2 l4 s0 : Int) (σ : AS) : Option (Int × AS) :=
  k56 l0 l1 l2 l4 s0 0 σ
noncomputable def f_X7_propertiesOf_56 (n : Nat) (k5 : Int → Int → Int → Int → Int → AS → Option (Int × AS)) (l0 l1 l2 l4 s0 s1 : Int) (σ : AS) : Option (Int × AS) :=
  gI (s0 + s1) <|
  nm (s0 + s1) fun u2 =>
  gI (l4 + 1) <|
  nm (l4 + 1) fun u5 =>
  k5 l0 l1 l2 u2 u5 σ
noncomputable def f_X7_propertiesOf_33 (n : Nat) (k5 : Int → Int → Int → Int → Int → AS → Option (Int × AS)) (l0 l1 l2 l4 s0 s1 s2 : Int) (σ : AS) : Option (Int × AS) :=
  if s1 = s2 then (
    gd (kd σ l0 = 22) <|
    gI (4 * l4) <|
    gI ((4 * l4) + 1) <|
    gd (kd σ (ld σ l0 5) = 100 ∧ (0 : Int) ≤ ((4 * l4) + 1) ∧ ((4 * l4) + 1) < ln σ (ld σ l0 5)) <|
    if (ld σ (ld σ l0 5) ((4 * l4) + 1)) = l2 then (
      f_X7_propertiesOf_56 n k5 l0 l1 l2 l4 s0 1 σ)
    else (
      f_X7_propertiesOf_55 n (f_X7_propertiesOf_56 n k5) l0 l1 l2 l4 s0 σ))
  else (
    f_X7_propertiesOf_55 n (f_X7_propertiesOf_56 n k5) l0 l1 l2 l4 s0 σ)
noncomputable def f_X7_propertiesOf_5 (n : Nat) : Nat → Int → Int → Int → Int → Int → AS → Option (Int × AS)
  | 0, _, _, _, _, _, _ => none
  | q + 1, l0, l1, l2, l3, l4, σ =>
    gd (kd σ l0 = 22) <|
    if (ld σ l0 6) ≤ l4 then (
      some (l3, σ))
    else (
      gd (kd σ l0 = 22) <|
      gI (4 * l4) <|
      gd (kd σ (ld σ l0 5) = 100 ∧ (0 : Int) ≤ (4 * l4) ∧ (4 * l4) < ln σ (ld σ l0 5)) <|
      if l1 = 0 then (
        f_X7_propertiesOf_33 n (f_X7_propertiesOf_5 n q) l0 l1 l2 l4 l3 (ld σ (ld σ l0 5) (4 * l4)) 0 σ)
      else (
        f_X7_propertiesOf_33 n (f_X7_propertiesOf_5 n q) l0 l1 l2 l4 l3 (ld σ (ld σ l0 5) (4 * l4)) 1 σ))
noncomputable def f_X7_propertiesOf (n : Nat) (a0 a1 a2 : Int) (σ : AS) : Option (Int × AS) :=
  f_X7_propertiesOf_5 n n a0 a1 a2 0 0 σ
noncomputable def f_X7_ofNode_22 (n : Nat) (k27 : Int → Int → Int → Int → Int → AS → Option (Int × AS)) (l0 l1 l2 s0 : Int) (σ : AS) : Option (Int × AS) :=
  k27 l0 l1 l2 s0 2 σ
noncomputable def f_X7_ofNode_78 (n : Nat) (s0 s1 s2 : Int) (σ : AS) : Option (Int × AS) :=
  gd (kd σ s0 = 22) <|
  c1 (f_X7_degree n s0 s1 s2 σ) fun v2 σ3 =>
  some (v2, σ3)
noncomputable def f_X7_ofNode_27 (n : Nat) (l0 l1 l2 s0 s1 : Int) (σ : AS) : Option (Int × AS) :=
  gd (kd σ s0 = 22) <|
  nm (wr σ s0 0 s1) fun σ6 =>
  gd (kd σ6 l0 = 22) <|
  if (ld σ6 l0 0) ≤ 0 then (
    if l2 = 0 then (
      gd (kd σ6 l0 = 22) <|
      gd (kd σ6 (ld σ6 l0 1) = 100 ∧ (0 : Int) ≤ l1 ∧ l1 < ln σ6 (ld σ6 l0 1)) <|
      some ((ld σ6 (ld σ6 l0 1) l1), σ6))
    else (
      if l2 = 3 then (
        gd (kd σ6 l0 = 22) <|
        c1 (f_X7_propertiesOf n l0 0 l1 σ6) fun v14 σ15 =>
        some (v14, σ15))
      else (
        if l2 = 2 then (
          f_X7_ofNode_78 n l0 l1 1 σ6)
        else (
          f_X7_ofNode_78 n l0 l1 0 σ6))))
  else (
    some (0, σ6))
noncomputable def f_X7_ofNode (n : Nat) (a0 a1 a2 : Int) (σ : AS) : Option (Int × AS) :=
  gd (kd σ a0 = 22) <|
  c1 (f_X7_isNode a0 a1 σ) fun v20 σ21 =>
  if v20 = 0 then (
    f_X7_ofNode_27 n a0 a1 a2 a0 1 σ21)
  else (
    if a2 < 0 then (
      f_X7_ofNode_22 n (f_X7_ofNode_27 n) a0 a1 a2 a0 σ21)
    else (
      if a2 ≤ 3 then (
        f_X7_ofNode_27 n a0 a1 a2 a0 0 σ21)
      else (
        f_X7_ofNode_22 n (f_X7_ofNode_27 n) a0 a1 a2 a0 σ21)))
noncomputable def f_X1_ofEdge (a0 a1 a2 : Int) (σ : AS) : Option ((Nat ⊕ Int) × AS) :=
  gd (kd σ a0 = 1) <|
  cx (f_X1_edgeOf a0 a1 σ) fun v2 σ3 =>
    if a2 = 0 then (
      gd (kd σ3 v2 = 5) <|
      some (.inr (ld σ3 v2 1), σ3))
    else (
      if a2 = 1 then (
        gd (kd σ3 v2 = 5) <|
        some (.inr (ld σ3 v2 2), σ3))
      else (
        if a2 = 2 then (
          gd (kd σ3 v2 = 5) <|
          some (.inr (ld σ3 v2 3), σ3))
        else (
          if a2 = 3 then (
            gd (kd σ3 v2 = 5) <|
            gd (kd σ3 (ld σ3 v2 0) = 26) <|
            c1 (f_J8_size (ld σ3 v2 0) σ3) fun v15 σ16 =>
            some (.inr v15, σ16))
          else (
            some (.inl 2, al σ3 0 0 6)))))
noncomputable def f_X0_ofEdge (a0 a1 a2 a3 : Int) (σ : AS) : Option (Int × AS) :=
  gd (kd σ a0 = 1) <|
  cy (f_X1_ofEdge a0 a1 a2 σ) (fun E5 σ3 =>
    if E5 = 1 then (
      nm (nx σ3) fun r7 =>
      nm (al σ3 0 0 0) fun σ9 =>
      some (1, σ9)
    ) else (
      if E5 = 2 then (
        nm (nx σ3) fun r12 =>
        nm (al σ3 0 0 0) fun σ14 =>
        some (2, σ14)
      ) else (
        none))) fun v2 σ3 =>
    gd (kd σ3 a3 = 101 ∧ (0 : Int) ≤ 0 ∧ 0 < ln σ3 a3) <|
    nm (wr σ3 a3 0 v2) fun σ17 =>
    some (0, σ17)
noncomputable def f_X7_ofEdge_22 (n : Nat) (k27 : Int → Int → Int → Int → Int → AS → Option (Int × AS)) (l0 l1 l2 s0 : Int) (σ : AS) : Option (Int × AS) :=
  k27 l0 l1 l2 s0 2 σ
noncomputable def f_X7_ofEdge_27 (n : Nat) (l0 l1 l2 s0 s1 : Int) (σ : AS) : Option (Int × AS) :=
  gd (kd σ s0 = 22) <|
  nm (wr σ s0 0 s1) fun σ2 =>
  gd (kd σ2 l0 = 22) <|
  if (ld σ2 l0 0) ≤ 0 then (
    if l2 = 0 then (
      gd (kd σ2 l0 = 22) <|
      gd (kd σ2 (ld σ2 l0 2) = 100 ∧ (0 : Int) ≤ l1 ∧ l1 < ln σ2 (ld σ2 l0 2)) <|
      some ((ld σ2 (ld σ2 l0 2) l1), σ2))
    else (
      if l2 = 1 then (
        gd (kd σ2 l0 = 22) <|
        gd (kd σ2 (ld σ2 l0 3) = 100 ∧ (0 : Int) ≤ l1 ∧ l1 < ln σ2 (ld σ2 l0 3)) <|
        some ((ld σ2 (ld σ2 l0 3) l1), σ2))
      else (
        if l2 = 2 then (
          gd (kd σ2 l0 = 22) <|
          gd (kd σ2 (ld σ2 l0 4) = 100 ∧ (0 : Int) ≤ l1 ∧ l1 < ln σ2 (ld σ2 l0 4)) <|
          some ((ld σ2 (ld σ2 l0 4) l1), σ2))
        else (
          gd (kd σ2 l0 = 22) <|
          c1 (f_X7_propertiesOf n l0 1 l1 σ2) fun v10 σ11 =>
          some (v10, σ11)))))
  else (
    some (0, σ2))
noncomputable def f_X7_ofEdge (n : Nat) (a0 a1 a2 : Int) (σ : AS) : Option (Int × AS) :=
  gd (kd σ a0 = 22) <|
  c1 (f_X7_isEdge a0 a1 σ) fun v20 σ21 =>
  if v20 = 0 then (
    f_X7_ofEdge_27 n a0 a1 a2 a0 1 σ21)
  else (
    if a2 < 0 then (
      f_X7_ofEdge_22 n (f_X7_ofEdge_27 n) a0 a1 a2 a0 σ21)
    else (
      if a2 ≤ 3 then (
        f_X7_ofEdge_27 n a0 a1 a2 a0 0 σ21)
      else (
        f_X7_ofEdge_22 n (f_X7_ofEdge_27 n) a0 a1 a2 a0 σ21)))
noncomputable def f_X1_edgeAt_43 (k44 : Int → Int → Int → AS → Option ((Nat ⊕ Int) × AS)) (l3 l5 : Int) (σ : AS) : Option ((Nat ⊕ Int) × AS) :=
  k44 l3 l5 0 σ
noncomputable def f_X1_edgeAt_44 (l3 l5 s0 : Int) (σ : AS) : Option ((Nat ⊕ Int) × AS) :=
  cx (f_X1_inside s0 σ) fun _ σ2 =>
    gd (kd σ2 l5 = 3) <|
    gd (kd σ2 (ld σ2 l5 0) = 100 ∧ (0 : Int) ≤ l3 ∧ l3 < ln σ2 (ld σ2 l5 0)) <|
    some (.inr (ld σ2 (ld σ2 l5 0) l3), σ2)
noncomputable def f_X1_edgeAt_24 (l3 s0 : Int) (σ : AS) : Option ((Nat ⊕ Int) × AS) :=
  if l3 < 0 then (
    f_X1_edgeAt_43 (f_X1_edgeAt_44) l3 s0 σ)
  else (
    gd (kd σ s0 = 3) <|
    if (ld σ s0 1) ≤ l3 then (
      f_X1_edgeAt_43 (f_X1_edgeAt_44) l3 s0 σ)
    else (
      f_X1_edgeAt_44 l3 s0 1 σ))
noncomputable def f_X1_edgeAt (a0 a1 a2 a3 : Int) (σ : AS) : Option ((Nat ⊕ Int) × AS) :=
  gd (kd σ a0 = 1) <|
  cx (f_X1_nodeOf a0 a1 σ) fun v11 σ12 =>
    if a2 = 0 then (
      gd (kd σ12 v11 = 4) <|
      f_X1_edgeAt_24 a3 (ld σ12 v11 2) σ12)
    else (
      gd (kd σ12 v11 = 4) <|
      f_X1_edgeAt_24 a3 (ld σ12 v11 3) σ12)
noncomputable def f_X0_edgeAt (a0 a1 a2 a3 a4 : Int) (σ : AS) : Option (Int × AS) :=
  gd (kd σ a0 = 1) <|
  cy (f_X1_edgeAt a0 a1 a2 a3 σ) (fun E5 σ3 =>
    if E5 = 1 then (
      nm (nx σ3) fun r7 =>
      nm (al σ3 0 0 0) fun σ9 =>
      some (1, σ9)
    ) else (
      none)) fun v2 σ3 =>
    gd (kd σ3 a4 = 101 ∧ (0 : Int) ≤ 0 ∧ 0 < ln σ3 a4) <|
    nm (wr σ3 a4 0 v2) fun σ12 =>
    some (0, σ12)
noncomputable def f_X7_edgeAt_17 (n : Nat) (k18 : Int → Int → Int → Int → Int → Int → AS → Option (Int × AS)) (l0 l1 l2 l3 s0 : Int) (σ : AS) : Option (Int × AS) :=
  k18 l0 l1 l2 l3 s0 1 σ
noncomputable def f_X7_edgeAt_74 (n : Nat) (k89 : Int → Int → Int → Int → Int → AS → Option (Int × AS)) (l0 l1 l2 l4 l5 s0 : Int) (σ : AS) : Option (Int × AS) :=
  if s0 = l1 then (
    if l4 = 0 then (
      some (l5, σ))
    else (
      gI (l4 + (-1)) <|
      nm (l4 + (-1)) fun u4 =>
      k89 l0 l1 l2 u4 l5 σ))
  else (
    k89 l0 l1 l2 l4 l5 σ)
noncomputable def f_X7_edgeAt_89 (n : Nat) (k27 : Int → Int → Int → Int → Int → AS → Option (Int × AS)) (l0 l1 l2 l4 l5 : Int) (σ : AS) : Option (Int × AS) :=
  gI (l5 + 1) <|
  nm (l5 + 1) fun u7 =>
  k27 l0 l1 l2 l4 u7 σ
noncomputable def f_X7_edgeAt_27 (n : Nat) : Nat → Int → Int → Int → Int → Int → AS → Option (Int × AS)
  | 0, _, _, _, _, _, _ => none
  | q + 1, l0, l1, l2, l4, l5, σ =>
    if 1000 ≤ l5 then (
      gd (kd σ l0 = 22) <|
      nm (wr σ l0 0 1) fun σ28 =>
      some (0, σ28))
    else (
      gd (kd σ l0 = 22) <|
      if (ld σ l0 0) = 0 then (
        gd (kd σ l0 = 22) <|
        gd (kd σ (ld σ l0 2) = 100 ∧ (0 : Int) ≤ l5 ∧ l5 < ln σ (ld σ l0 2)) <|
        if (ld σ (ld σ l0 2) l5) = (-1) then (
          f_X7_edgeAt_89 n (f_X7_edgeAt_27 n q) l0 l1 l2 l4 l5 σ)
        else (
          if l2 = 0 then (
            gd (kd σ l0 = 22) <|
            gd (kd σ (ld σ l0 3) = 100 ∧ (0 : Int) ≤ l5 ∧ l5 < ln σ (ld σ l0 3)) <|
            f_X7_edgeAt_74 n (f_X7_edgeAt_89 n (f_X7_edgeAt_27 n q)) l0 l1 l2 l4 l5 (ld σ (ld σ l0 3) l5) σ)
          else (
            gd (kd σ l0 = 22) <|
            gd (kd σ (ld σ l0 4) = 100 ∧ (0 : Int) ≤ l5 ∧ l5 < ln σ (ld σ l0 4)) <|
            f_X7_edgeAt_74 n (f_X7_edgeAt_89 n (f_X7_edgeAt_27 n q)) l0 l1 l2 l4 l5 (ld σ (ld σ l0 4) l5) σ)))
      else (
        gd (kd σ l0 = 22) <|
        nm (wr σ l0 0 1) fun σ33 =>
        some (0, σ33)))
noncomputable def f_X7_edgeAt_18 (n : Nat) (l0 l1 l2 l3 s0 s1 : Int) (σ : AS) : Option (Int × AS) :=
  gd (kd σ s0 = 22) <|
  nm (wr σ s0 0 s1) fun σ44 =>
  f_X7_edgeAt_27 n n l0 l1 l2 l3 0 σ44
noncomputable def f_X7_edgeAt (n : Nat) (a0 a1 a2 a3 : Int) (σ : AS) : Option (Int × AS) :=
  gd (kd σ a0 = 22) <|
  c1 (f_X7_isNode a0 a1 σ) fun v47 σ48 =>
  if v47 = 0 then (
    f_X7_edgeAt_17 n (f_X7_edgeAt_18 n) a0 a1 a2 a3 a0 σ48)
  else (
    if a3 < 0 then (
      f_X7_edgeAt_17 n (f_X7_edgeAt_18 n) a0 a1 a2 a3 a0 σ48)
    else (
      f_X7_edgeAt_18 n a0 a1 a2 a3 a0 0 σ48))
noncomputable def f_J1_sub (a0 a1 a2 : Int) (σ : AS) : Option (Int × AS) :=
  gI (a0 - a1) <|
  nm (a0 - a1) fun v2 =>
  if 0 ≤ v2 then (
    some (v2, σ))
  else (
    gI (v2 + a2) <|
    nm (v2 + a2) fun u6 =>
    some (u6, σ))
noncomputable def f_J1_size (a0 : Int) (σ : AS) : Option (Int × AS) :=
  gd (kd σ a0 = 23) <|
  gd (kd σ a0 = 23) <|
  gd (kd σ a0 = 23) <|
  gd (kd σ (ld σ a0 0) = 105 ∨ kd σ (ld σ a0 0) = 1105) <|
  c1 (f_J1_sub (ld σ a0 2) (ld σ a0 1) (ln σ (ld σ a0 0)) σ) fun v5 σ6 =>
  some (v5, σ6)
noncomputable def f_J1_circularClear_12 (n : Nat) : Nat → Int → Int → Int → Int → AS → Option AS
  | 0, _, _, _, _, _ => none
  | q + 1, l0, l1, l2, l3, σ =>
    if l3 ≤ l1 then (
      if l3 = l2 then (
        some σ)
      else (
        f_J1_circularClear_12 n q l0 0 l2 l2 σ))
    else (
      gd (kd σ l0 = 105 ∧ (0 : Int) ≤ l1 ∧ l1 < ln σ l0) <|
      nm (wr σ l0 l1 0) fun σ12 =>
      gI (l1 + 1) <|
      nm (l1 + 1) fun u15 =>
      f_J1_circularClear_12 n q l0 u15 l2 l3 σ12)
noncomputable def f_J1_circularClear_11 (n : Nat) (l0 l1 l2 s0 : Int) (σ : AS) : Option AS :=
  f_J1_circularClear_12 n n l0 l1 l2 s0 σ
noncomputable def f_J1_circularClear (n : Nat) (a0 a1 a2 : Int) (σ : AS) : Option AS :=
  if a2 < a1 then (
    gd (kd σ a0 = 105 ∨ kd σ a0 = 1105) <|
    f_J1_circularClear_11 n a0 a1 a2 (ln σ a0) σ)
  else (
    f_J1_circularClear_11 n a0 a1 a2 a2 σ)
noncomputable def f_J1_clear (n : Nat) (a0 : Int) (σ : AS) : Option AS :=
  gd (kd σ a0 = 23) <|
  gd (kd σ a0 = 23) <|
  gd (kd σ a0 = 23) <|
  c0 (f_J1_circularClear n (ld σ a0 0) (ld σ a0 1) (ld σ a0 2) σ) fun σ5 =>
  gd (kd σ5 a0 = 23) <|
  nm (wr σ5 a0 2 0) fun σ8 =>
  gd (kd σ8 a0 = 23) <|
  nm (wr σ8 a0 1 0) fun σ11 =>
  some σ11
noncomputable def f_X1_sync (n : Nat) (a0 : Int) (σ : AS) : Option (Int × AS) :=
  gd (kd σ a0 = 1) <|
  gd (kd σ (ld σ a0 1) = 23) <|
  c1 (f_J1_size (ld σ a0 1) σ) fun v3 σ4 =>
  gd (kd σ4 a0 = 1) <|
  gd (kd σ4 (ld σ4 a0 1) = 23) <|
  c0 (f_J1_clear n (ld σ4 a0 1) σ4) fun σ9 =>
  some (v3, σ9)
noncomputable def f_X7_sync (a0 : Int) (σ : AS) : Option (Int × AS) :=
  gd (kd σ a0 = 22) <|
  nm (wr σ a0 0 0) fun σ2 =>
  gd (kd σ2 a0 = 22) <|
  gd (kd σ2 a0 = 22) <|
  gI ((ld σ2 a0 8) - (ld σ2 a0 9)) <|
  nm ((ld σ2 a0 8) - (ld σ2 a0 9)) fun u7 =>
  gd (kd σ2 a0 = 22) <|
  gd (kd σ2 a0 = 22) <|
  nm (wr σ2 a0 9 (ld σ2 a0 8)) fun σ11 =>
  some (u7, σ11)
noncomputable def f_J1_elementAt (a0 a1 : Int) (σ : AS) : Option (Int × AS) :=
  gd ((kd σ a0 = 105 ∨ kd σ a0 = 1105) ∧ (0 : Int) ≤ a1 ∧ a1 < ln σ a0) <|
  some ((ld σ a0 a1), σ)
noncomputable def f_J1_inc (a0 a1 : Int) (σ : AS) : Option (Int × AS) :=
  gI (a0 + 1) <|
  nm (a0 + 1) fun u2 =>
  if u2 < a1 then (
    some (u2, σ))
  else (
    some (0, σ))
noncomputable def f_J1_pollFirst (a0 : Int) (σ : AS) : Option (Int × AS) :=
  gd (kd σ a0 = 23) <|
  nm (ld σ a0 0) fun v2 =>
  gd (kd σ a0 = 23) <|
  nm (ld σ a0 1) fun v5 =>
  c1 (f_J1_elementAt v2 v5 σ) fun v7 σ8 =>
  if v7 = 0 then (
    some (v7, σ8))
  else (
    gd (kd σ8 v2 = 105 ∧ (0 : Int) ≤ v5 ∧ v5 < ln σ8 v2) <|
    nm (wr σ8 v2 v5 0) fun σ12 =>
    gd (kd σ12 v2 = 105 ∨ kd σ12 v2 = 1105) <|
    c1 (f_J1_inc v5 (ln σ12 v2) σ12) fun v15 σ16 =>
    gd (kd σ16 a0 = 23) <|
    nm (wr σ16 a0 1 v15) fun σ19 =>
    some (v7, σ19))
noncomputable def f_J1_removeFirst (a0 : Int) (σ : AS) : Option (Int × AS) :=
  gd (kd σ a0 = 23) <|
  c1 (f_J1_pollFirst a0 σ) fun v2 σ3 =>
  if v2 = 0 then (
    none)
  else (
    some (v2, σ3))
noncomputable def f_J1_pop (a0 : Int) (σ : AS) : Option (Int × AS) :=
  gd (kd σ a0 = 23) <|
  c1 (f_J1_removeFirst a0 σ) fun v2 σ3 =>
  some (v2, σ3)
noncomputable def f_X11_undo (a0 a1 : Int) (σ : AS) : Option AS :=
  gd (kd σ a0 = 6) <|
  gd (kd σ a1 = 2) <|
  c0 (f_X2_leave a1 (ld σ a0 0) σ) fun σ4 =>
  some σ4
noncomputable def f_X13_undo (n : Nat) (a0 a1 : Int) (σ : AS) : Option AS :=
  gd (kd σ a0 = 7) <|
  gd (kd σ a1 = 2) <|
  c0 (f_X2_cut n a1 (ld σ a0 0) σ) fun σ4 =>
  some σ4
noncomputable def f_X14_undo (a0 a1 : Int) (σ : AS) : Option AS :=
  gd (kd σ a0 = 8) <|
  gd (kd σ a0 = 8) <|
  gd (kd σ a1 = 2) <|
  c0 (f_X2_enter a1 (ld σ a0 0) (ld σ a0 1) σ) fun σ5 =>
  some σ5
noncomputable def f_X15_undo (n : Nat) (a0 a1 : Int) (σ : AS) : Option AS :=
  gd (kd σ a0 = 9) <|
  gd (kd σ a0 = 9) <|
  gd (kd σ a1 = 2) <|
  c0 (f_X2_enter_2 n a1 (ld σ a0 0) (ld σ a0 1) σ) fun σ5 =>
  some σ5
noncomputable def f_X16_undo (n : Nat) (a0 a1 : Int) (σ : AS) : Option AS :=
  gd (kd σ a0 = 10) <|
  gd (kd σ a0 = 10) <|
  gd (kd σ a0 = 10) <|
  gd (kd σ a1 = 2) <|
  c1 (f_X2_change n a1 (ld σ a0 0) (ld σ a0 1) (ld σ a0 2) σ) fun v5 σ6 =>
  some σ6
noncomputable def f_X1_crash_19 (n : Nat) (k20 : Int → Int → Int → AS → Option ((Nat ⊕ Int) × AS)) (l0 l1 : Int) (σ : AS) : Option ((Nat ⊕ Int) × AS) :=
  k20 l0 l1 0 σ
noncomputable def f_X1_crash_25 (n : Nat) : Nat → Int → Int → Int → AS → Option ((Nat ⊕ Int) × AS)
  | 0, _, _, _, _ => none
  | q + 1, l0, l1, l2, σ =>
    gd (kd σ l0 = 1) <|
    gd (kd σ (ld σ l0 1) = 23) <|
    c1 (f_J1_size (ld σ l0 1) σ) fun v64 σ65 =>
    if v64 ≤ l1 then (
      gd (kd σ65 l0 = 1) <|
      gd (kd σ65 (ld σ65 l0 1) = 23) <|
      c0 (f_J1_clear n (ld σ65 l0 1) σ65) fun σ71 =>
      some (.inr l2, σ71))
    else (
      gd (kd σ65 l0 = 1) <|
      gd (kd σ65 (ld σ65 l0 1) = 23) <|
      c1 (f_J1_pop (ld σ65 l0 1) σ65) fun v75 σ76 =>
      if kd σ76 v75 = 6 then (
        gd (v75 = 0 ∨ kd σ76 v75 = 6) <|
        gd (kd σ76 l0 = 1) <|
        c0 (f_X11_undo v75 (ld σ76 l0 0) σ76) fun σ82 =>
        gI (l2 + 1) <|
        nm (l2 + 1) fun u85 =>
        f_X1_crash_25 n q l0 l1 u85 σ82)
      else (
        if kd σ76 v75 = 7 then (
          gd (v75 = 0 ∨ kd σ76 v75 = 7) <|
          gd (kd σ76 l0 = 1) <|
          c0 (f_X13_undo n v75 (ld σ76 l0 0) σ76) fun σ91 =>
          gI (l2 + 1) <|
          nm (l2 + 1) fun u94 =>
          f_X1_crash_25 n q l0 l1 u94 σ91)
        else (
          if kd σ76 v75 = 8 then (
            gd (v75 = 0 ∨ kd σ76 v75 = 8) <|
            gd (kd σ76 l0 = 1) <|
            c0 (f_X14_undo v75 (ld σ76 l0 0) σ76) fun σ100 =>
            gI (l2 + 1) <|
            nm (l2 + 1) fun u103 =>
            f_X1_crash_25 n q l0 l1 u103 σ100)
          else (
            if kd σ76 v75 = 9 then (
              gd (v75 = 0 ∨ kd σ76 v75 = 9) <|
              gd (kd σ76 l0 = 1) <|
              c0 (f_X15_undo n v75 (ld σ76 l0 0) σ76) fun σ109 =>
              gI (l2 + 1) <|
              nm (l2 + 1) fun u112 =>
              f_X1_crash_25 n q l0 l1 u112 σ109)
            else (
              gd (kd σ76 v75 = 10) <|
              gd (v75 = 0 ∨ kd σ76 v75 = 10) <|
              gd (kd σ76 l0 = 1) <|
              c0 (f_X16_undo n v75 (ld σ76 l0 0) σ76) fun σ118 =>
              gI (l2 + 1) <|
              nm (l2 + 1) fun u121 =>
              f_X1_crash_25 n q l0 l1 u121 σ118)))))
noncomputable def f_X1_crash_20 (n : Nat) (l0 l1 s0 : Int) (σ : AS) : Option ((Nat ⊕ Int) × AS) :=
  cx (f_X1_need s0 σ) fun _ σ124 =>
    f_X1_crash_25 n n l0 l1 0 σ124
noncomputable def f_X1_crash (n : Nat) (a0 a1 : Int) (σ : AS) : Option ((Nat ⊕ Int) × AS) :=
  if a1 < 0 then (
    f_X1_crash_19 n (f_X1_crash_20 n) a0 a1 σ)
  else (
    gd (kd σ a0 = 1) <|
    gd (kd σ (ld σ a0 1) = 23) <|
    c1 (f_J1_size (ld σ a0 1) σ) fun v130 σ131 =>
    if v130 < a1 then (
      f_X1_crash_19 n (f_X1_crash_20 n) a0 a1 σ131)
    else (
      f_X1_crash_20 n a0 a1 1 σ131))
noncomputable def f_X0_crash (n : Nat) (a0 a1 a2 : Int) (σ : AS) : Option (Int × AS) :=
  gd (kd σ a0 = 1) <|
  cy (f_X1_crash n a0 a1 σ) (fun E5 σ3 =>
    if E5 = 2 then (
      nm (nx σ3) fun r7 =>
      nm (al σ3 0 0 0) fun σ9 =>
      some (1, σ9)
    ) else (
      none)) fun v2 σ3 =>
    gd (kd σ3 a2 = 101 ∧ (0 : Int) ≤ 0 ∧ 0 < ln σ3 a2) <|
    nm (wr σ3 a2 0 v2) fun σ12 =>
    some (0, σ12)
noncomputable def f_X7_crash_18 (n : Nat) (k23 : Int → Int → Int → Int → AS → Option (Int × AS)) (l0 l1 s0 : Int) (σ : AS) : Option (Int × AS) :=
  k23 l0 l1 s0 1 σ
noncomputable def f_X7_crash_71 (n : Nat) : Nat → Int → Int → Int → AS → Option (Int × AS)
  | 0, _, _, _, _ => none
  | q + 1, l0, l2, l3, σ =>
    gd (kd σ l0 = 22) <|
    if (ld σ l0 8) ≤ l3 then (
      some (l2, σ))
    else (
      gd (kd σ l0 = 22) <|
      gI (5 * l3) <|
      gd (kd σ (ld σ l0 7) = 100 ∧ (0 : Int) ≤ (5 * l3) ∧ (5 * l3) < ln σ (ld σ l0 7)) <|
      gd (kd σ l0 = 22) <|
      gI (5 * l3) <|
      gI ((5 * l3) + 1) <|
      gd (kd σ (ld σ l0 7) = 100 ∧ (0 : Int) ≤ ((5 * l3) + 1) ∧ ((5 * l3) + 1) < ln σ (ld σ l0 7)) <|
      gd (kd σ l0 = 22) <|
      gI (5 * l3) <|
      gI ((5 * l3) + 2) <|
      gd (kd σ (ld σ l0 7) = 100 ∧ (0 : Int) ≤ ((5 * l3) + 2) ∧ ((5 * l3) + 2) < ln σ (ld σ l0 7)) <|
      gd (kd σ l0 = 22) <|
      gI (5 * l3) <|
      gI ((5 * l3) + 3) <|
      gd (kd σ (ld σ l0 7) = 100 ∧ (0 : Int) ≤ ((5 * l3) + 3) ∧ ((5 * l3) + 3) < ln σ (ld σ l0 7)) <|
      gd (kd σ l0 = 22) <|
      gI (5 * l3) <|
      gI ((5 * l3) + 4) <|
      gd (kd σ (ld σ l0 7) = 100 ∧ (0 : Int) ≤ ((5 * l3) + 4) ∧ ((5 * l3) + 4) < ln σ (ld σ l0 7)) <|
      gd (kd σ l0 = 22) <|
      c0 (f_X7_act n l0 (ld σ (ld σ l0 7) (5 * l3)) (ld σ (ld σ l0 7) ((5 * l3) + 1)) (ld σ (ld σ l0 7) ((5 * l3) + 2)) (ld σ (ld σ l0 7) ((5 * l3) + 3)) (ld σ (ld σ l0 7) ((5 * l3) + 4)) σ) fun σ52 =>
      gI (l3 + 1) <|
      nm (l3 + 1) fun u55 =>
      f_X7_crash_71 n q l0 l2 u55 σ52)
noncomputable def f_X7_crash_23 (n : Nat) (l0 l1 s0 s1 : Int) (σ : AS) : Option (Int × AS) :=
  gd (kd σ s0 = 22) <|
  nm (wr σ s0 0 s1) fun σ58 =>
  gd (kd σ58 l0 = 22) <|
  if (ld σ58 l0 0) ≤ 0 then (
    gd (kd σ58 l0 = 22) <|
    gd (kd σ58 l0 = 22) <|
    gI ((ld σ58 l0 8) - (ld σ58 l0 9)) <|
    gI (((ld σ58 l0 8) - (ld σ58 l0 9)) - l1) <|
    nm (((ld σ58 l0 8) - (ld σ58 l0 9)) - l1) fun u66 =>
    gd (kd σ58 l0 = 22) <|
    gI ((ld σ58 l0 9) + l1) <|
    gd (kd σ58 l0 = 22) <|
    nm (wr σ58 l0 8 ((ld σ58 l0 9) + l1)) fun σ71 =>
    gd (kd σ71 l0 = 22) <|
    gd (kd σ71 l0 = 22) <|
    nm (wr σ71 l0 9 (ld σ71 l0 8)) fun σ75 =>
    gd (kd σ75 l0 = 22) <|
    c0 (f_X7_empty n l0 σ75) fun σ79 =>
    f_X7_crash_71 n n l0 u66 0 σ79)
  else (
    some (0, σ58))
noncomputable def f_X7_crash (n : Nat) (a0 a1 : Int) (σ : AS) : Option (Int × AS) :=
  if a1 < 0 then (
    f_X7_crash_18 n (f_X7_crash_23 n) a0 a1 a0 σ)
  else (
    gd (kd σ a0 = 22) <|
    gd (kd σ a0 = 22) <|
    gI ((ld σ a0 8) - (ld σ a0 9)) <|
    if a1 ≤ ((ld σ a0 8) - (ld σ a0 9)) then (
      f_X7_crash_23 n a0 a1 a0 0 σ)
    else (
      f_X7_crash_18 n (f_X7_crash_23 n) a0 a1 a0 σ))
noncomputable def f_X1_walk_18 (n : Nat) (k26 : Int → Int → Int → Int → AS → Option ((Nat ⊕ Int) × AS)) (k27 : Int → Int → Int → Int → Int → AS → Option ((Nat ⊕ Int) × AS)) (l0 l1 l2 l3 : Int) (σ : AS) : Option ((Nat ⊕ Int) × AS) :=
  if l3 < 0 then (
    k26 l0 l1 l2 l3 σ)
  else (
    k27 l0 l1 l2 l3 1 σ)
noncomputable def f_X1_walk_26 (n : Nat) (k27 : Int → Int → Int → Int → Int → AS → Option ((Nat ⊕ Int) × AS)) (l0 l1 l2 l3 : Int) (σ : AS) : Option ((Nat ⊕ Int) × AS) :=
  k27 l0 l1 l2 l3 0 σ
noncomputable def f_X1_walk_220 (n : Nat) (k234 : Int → Int → Int → Int → Int → Int → Int → Int → AS → Option ((Nat ⊕ Int) × AS)) (l0 l2 l3 l4 l5 l6 l7 l8 l9 : Int) (σ : AS) : Option ((Nat ⊕ Int) × AS) :=
  gd (kd σ l0 = 1) <|
  gd (kd σ l9 = 5) <|
  gI (l5 + 2) <|
  gd (kd σ (ld σ l0 14) = 100 ∧ (0 : Int) ≤ (ld σ l9 3) ∧ (ld σ l9 3) < ln σ (ld σ l0 14)) <|
  nm (wr σ (ld σ l0 14) (ld σ l9 3) (l5 + 2)) fun σ6 =>
  k234 l0 l2 l3 l4 l5 l6 l7 l8 σ6
noncomputable def f_X1_walk_234 (n : Nat) (k165 : Int → Int → Int → Int → Int → Int → Int → Int → AS → Option ((Nat ⊕ Int) × AS)) (l0 l2 l3 l4 l5 l6 l7 l8 : Int) (σ : AS) : Option ((Nat ⊕ Int) × AS) :=
  gI (l8 + 1) <|
  nm (l8 + 1) fun u9 =>
  k165 l0 l2 l3 l4 l5 l6 l7 u9 σ
noncomputable def f_X1_walk_165 (n : Nat) (k240 : Int → Int → Int → Int → Int → Int → AS → Option ((Nat ⊕ Int) × AS)) : Nat → Int → Int → Int → Int → Int → Int → Int → Int → AS → Option ((Nat ⊕ Int) × AS)
  | 0, _, _, _, _, _, _, _, _, _ => none
  | q + 1, l0, l2, l3, l4, l5, l6, l7, l8, σ =>
    gd (kd σ l7 = 3) <|
    if (ld σ l7 1) ≤ l8 then (
      k240 l0 l2 l3 l4 l5 l6 σ)
    else (
      gd (kd σ l0 = 1) <|
      gd (kd σ (ld σ l0 0) = 2) <|
      gd (kd σ l7 = 3) <|
      gd (kd σ (ld σ l7 0) = 100 ∧ (0 : Int) ≤ l8 ∧ l8 < ln σ (ld σ l7 0)) <|
      gd (kd σ (ld σ (ld σ l0 0) 1) = 107 ∧ (0 : Int) ≤ (ld σ (ld σ l7 0) l8) ∧ (ld σ (ld σ l7 0) l8) < ln σ (ld σ (ld σ l0 0) 1)) <|
      nm (ld σ (ld σ (ld σ l0 0) 1) (ld σ (ld σ l7 0) l8)) fun u34 =>
      gd (kd σ l0 = 1) <|
      gd (kd σ u34 = 5) <|
      gd (kd σ (ld σ l0 14) = 100 ∧ (0 : Int) ≤ (ld σ u34 3) ∧ (ld σ u34 3) < ln σ (ld σ l0 14)) <|
      if (ld σ (ld σ l0 14) (ld σ u34 3)) = 0 then (
        if l2 = (-1) then (
          f_X1_walk_220 n (f_X1_walk_234 n (f_X1_walk_165 n k240 q)) l0 l2 l3 l4 l5 l6 l7 l8 u34 σ)
        else (
          gd (kd σ u34 = 5) <|
          if (ld σ u34 1) = l2 then (
            f_X1_walk_220 n (f_X1_walk_234 n (f_X1_walk_165 n k240 q)) l0 l2 l3 l4 l5 l6 l7 l8 u34 σ)
          else (
            f_X1_walk_234 n (f_X1_walk_165 n k240 q) l0 l2 l3 l4 l5 l6 l7 l8 σ)))
      else (
        f_X1_walk_234 n (f_X1_walk_165 n k240 q) l0 l2 l3 l4 l5 l6 l7 l8 σ))
noncomputable def f_X1_walk_240 (n : Nat) (k90 : Int → Int → Int → Int → Int → Int → AS → Option ((Nat ⊕ Int) × AS)) (l0 l2 l3 l4 l5 l6 : Int) (σ : AS) : Option ((Nat ⊕ Int) × AS) :=
  gI (l6 + 1) <|
  nm (l6 + 1) fun u44 =>
  k90 l0 l2 l3 l4 l5 u44 σ
noncomputable def f_X1_walk_90 (n : Nat) (k73 : Int → Int → Int → Int → Int → AS → Option ((Nat ⊕ Int) × AS)) : Nat → Int → Int → Int → Int → Int → Int → AS → Option ((Nat ⊕ Int) × AS)
  | 0, _, _, _, _, _, _, _ => none
  | q + 1, l0, l2, l3, l4, l5, l6, σ =>
    if 400 ≤ l6 then (
      gI (l5 + 1) <|
      nm (l5 + 1) fun u78 =>
      k73 l0 l2 l3 l4 u78 σ)
    else (
      gd (kd σ l0 = 1) <|
      gd (kd σ (ld σ l0 14) = 100 ∧ (0 : Int) ≤ l6 ∧ l6 < ln σ (ld σ l0 14)) <|
      gI (l5 + 1) <|
      if (ld σ (ld σ l0 14) l6) = (l5 + 1) then (
        gd (kd σ l0 = 1) <|
        gd (kd σ l0 = 1) <|
        gd (kd σ (ld σ l0 11) = 100 ∧ (0 : Int) ≤ (ld σ l0 13) ∧ (ld σ l0 13) < ln σ (ld σ l0 11)) <|
        nm (wr σ (ld σ l0 11) (ld σ l0 13) l6) fun σ87 =>
        gd (kd σ87 l0 = 1) <|
        gd (kd σ87 l0 = 1) <|
        nm (ld σ87 l0 13) fun v91 =>
        gI (v91 + 1) <|
        gd (kd σ87 l0 = 1) <|
        nm (wr σ87 l0 13 (v91 + 1)) fun σ95 =>
        gd (kd σ95 (ld σ87 l0 12) = 100 ∧ (0 : Int) ≤ v91 ∧ v91 < ln σ95 (ld σ87 l0 12)) <|
        nm (wr σ95 (ld σ87 l0 12) v91 l5) fun σ98 =>
        gd (kd σ98 l0 = 1) <|
        gd (kd σ98 (ld σ98 l0 0) = 2) <|
        gd (kd σ98 (ld σ98 (ld σ98 l0 0) 0) = 106 ∧ (0 : Int) ≤ l6 ∧ l6 < ln σ98 (ld σ98 (ld σ98 l0 0) 0)) <|
        gd (kd σ98 (ld σ98 (ld σ98 (ld σ98 l0 0) 0) l6) = 4) <|
        nm (ld σ98 (ld σ98 (ld σ98 (ld σ98 l0 0) 0) l6) 2) fun u104 =>
        f_X1_walk_165 n (f_X1_walk_240 n (f_X1_walk_90 n k73 q)) n l0 l2 l3 1 l5 l6 u104 0 σ98)
      else (
        f_X1_walk_240 n (f_X1_walk_90 n k73 q) l0 l2 l3 l4 l5 l6 σ))
noncomputable def f_X1_walk_73 (n : Nat) : Nat → Int → Int → Int → Int → Int → AS → Option ((Nat ⊕ Int) × AS)
  | 0, _, _, _, _, _, _ => none
  | q + 1, l0, l2, l3, l4, l5, σ =>
    if l3 < l5 then (
      gd (kd σ l0 = 1) <|
      some (.inr (ld σ l0 13), σ))
    else (
      if l4 = 0 then (
        gd (kd σ l0 = 1) <|
        some (.inr (ld σ l0 13), σ))
      else (
        f_X1_walk_90 n (f_X1_walk_73 n q) n l0 l2 l3 0 l5 0 σ))
noncomputable def f_X1_walk_38 (n : Nat) : Nat → Int → Int → Int → Int → Int → AS → Option ((Nat ⊕ Int) × AS)
  | 0, _, _, _, _, _, _ => none
  | q + 1, l0, l1, l2, l3, l4, σ =>
    if 400 ≤ l4 then (
      gd (kd σ l0 = 1) <|
      gd (kd σ (ld σ l0 14) = 100 ∧ (0 : Int) ≤ l1 ∧ l1 < ln σ (ld σ l0 14)) <|
      nm (wr σ (ld σ l0 14) l1 1) fun σ129 =>
      f_X1_walk_73 n n l0 l2 l3 1 0 σ129)
    else (
      gd (kd σ l0 = 1) <|
      gd (kd σ (ld σ l0 14) = 100 ∧ (0 : Int) ≤ l4 ∧ l4 < ln σ (ld σ l0 14)) <|
      nm (wr σ (ld σ l0 14) l4 0) fun σ133 =>
      gI (l4 + 1) <|
      nm (l4 + 1) fun u136 =>
      f_X1_walk_38 n q l0 l1 l2 l3 u136 σ133)
noncomputable def f_X1_walk_27 (n : Nat) (l0 l1 l2 l3 s0 : Int) (σ : AS) : Option ((Nat ⊕ Int) × AS) :=
  cx (f_X1_need s0 σ) fun _ σ139 =>
    gd (kd σ139 l0 = 1) <|
    nm (wr σ139 l0 13 0) fun σ143 =>
    f_X1_walk_38 n n l0 l1 l2 l3 0 σ143
noncomputable def f_X1_walk (n : Nat) (a0 a1 a2 a3 : Int) (σ : AS) : Option ((Nat ⊕ Int) × AS) :=
  gd (kd σ a0 = 1) <|
  cx (f_X1_nodeOf a0 a1 σ) fun v146 σ147 =>
    if a2 = (-1) then (
      f_X1_walk_18 n (f_X1_walk_26 n (f_X1_walk_27 n)) (f_X1_walk_27 n) a0 a1 a2 a3 σ147)
    else (
      c1 (f_X1_isNumber a2 σ147) fun v151 σ152 =>
      if v151 = 0 then (
        f_X1_walk_26 n (f_X1_walk_27 n) a0 a1 a2 a3 σ152)
      else (
        f_X1_walk_18 n (f_X1_walk_26 n (f_X1_walk_27 n)) (f_X1_walk_27 n) a0 a1 a2 a3 σ152))
noncomputable def f_X0_walk (n : Nat) (a0 a1 a2 a3 a4 : Int) (σ : AS) : Option (Int × AS) :=
  gd (kd σ a0 = 1) <|
  cy (f_X1_walk n a0 a1 a2 a3 σ) (fun E5 σ3 =>
    if E5 = 1 then (
      nm (nx σ3) fun r7 =>
      nm (al σ3 0 0 0) fun σ9 =>
      some (1, σ9)
    ) else (
      if E5 = 2 then (
        nm (nx σ3) fun r12 =>
        nm (al σ3 0 0 0) fun σ14 =>
        some (2, σ14)
      ) else (
        none))) fun v2 σ3 =>
    gd (kd σ3 a4 = 101 ∧ (0 : Int) ≤ 0 ∧ 0 < ln σ3 a4) <|
    nm (wr σ3 a4 0 v2) fun σ17 =>
    some (0, σ17)
noncomputable def f_X7_walk_25 (n : Nat) (k34 : Int → Int → Int → Int → Int → Int → AS → Option (Int × AS)) (k29 : Int → Int → Int → Int → Int → AS → Option (Int × AS)) (l0 l1 l2 l3 s0 : Int) (σ : AS) : Option (Int × AS) :=
  if 0 ≤ l3 then (
    k34 l0 l1 l2 l3 s0 0 σ)
  else (
    k29 l0 l1 l2 l3 s0 σ)
noncomputable def f_X7_walk_29 (n : Nat) (k34 : Int → Int → Int → Int → Int → Int → AS → Option (Int × AS)) (l0 l1 l2 l3 s0 : Int) (σ : AS) : Option (Int × AS) :=
  k34 l0 l1 l2 l3 s0 2 σ
noncomputable def f_X7_walk_74 (n : Nat) (k49 : Int → Int → Int → Int → Int → AS → Option (Int × AS)) (l0 l1 l2 l3 l4 s0 s1 s2 : Int) (σ : AS) : Option (Int × AS) :=
  gd (kd σ s0 = 100 ∧ (0 : Int) ≤ s1 ∧ s1 < ln σ s0) <|
  nm (wr σ s0 s1 s2) fun σ3 =>
  gI (l4 + 1) <|
  nm (l4 + 1) fun u6 =>
  k49 l0 l1 l2 l3 u6 σ3
noncomputable def f_X7_walk_130 (n : Nat) (k179 : Int → Int → Int → Int → Int → AS → Option (Int × AS)) (l0 l2 l3 l4 l5 : Int) (σ : AS) : Option (Int × AS) :=
  gd (kd σ l0 = 22) <|
  gd (kd σ l0 = 22) <|
  gd (kd σ (ld σ l0 3) = 100 ∧ (0 : Int) ≤ l5 ∧ l5 < ln σ (ld σ l0 3)) <|
  gd (kd σ (ld σ l0 10) = 100 ∧ (0 : Int) ≤ (ld σ (ld σ l0 3) l5) ∧ (ld σ (ld σ l0 3) l5) < ln σ (ld σ l0 10)) <|
  if (ld σ (ld σ l0 10) (ld σ (ld σ l0 3) l5)) = l4 then (
    gd (kd σ l0 = 22) <|
    gd (kd σ l0 = 22) <|
    gd (kd σ (ld σ l0 4) = 100 ∧ (0 : Int) ≤ l5 ∧ l5 < ln σ (ld σ l0 4)) <|
    gd (kd σ (ld σ l0 10) = 100 ∧ (0 : Int) ≤ (ld σ (ld σ l0 4) l5) ∧ (ld σ (ld σ l0 4) l5) < ln σ (ld σ l0 10)) <|
    if (ld σ (ld σ l0 10) (ld σ (ld σ l0 4) l5)) = (-1) then (
      gd (kd σ l0 = 22) <|
      gd (kd σ l0 = 22) <|
      gd (kd σ (ld σ l0 4) = 100 ∧ (0 : Int) ≤ l5 ∧ l5 < ln σ (ld σ l0 4)) <|
      gI (l4 + 1) <|
      gd (kd σ (ld σ l0 10) = 100 ∧ (0 : Int) ≤ (ld σ (ld σ l0 4) l5) ∧ (ld σ (ld σ l0 4) l5) < ln σ (ld σ l0 10)) <|
      nm (wr σ (ld σ l0 10) (ld σ (ld σ l0 4) l5) (l4 + 1)) fun σ23 =>
      k179 l0 l2 l3 l4 l5 σ23)
    else (
      k179 l0 l2 l3 l4 l5 σ))
  else (
    k179 l0 l2 l3 l4 l5 σ)
noncomputable def f_X7_walk_179 (n : Nat) (k95 : Int → Int → Int → Int → Int → AS → Option (Int × AS)) (l0 l2 l3 l4 l5 : Int) (σ : AS) : Option (Int × AS) :=
  gI (l5 + 1) <|
  nm (l5 + 1) fun u26 =>
  k95 l0 l2 l3 l4 u26 σ
noncomputable def f_X7_walk_95 (n : Nat) (k84 : Int → Int → Int → Int → AS → Option (Int × AS)) : Nat → Int → Int → Int → Int → Int → AS → Option (Int × AS)
  | 0, _, _, _, _, _, _ => none
  | q + 1, l0, l2, l3, l4, l5, σ =>
    if 1000 ≤ l5 then (
      gI (l4 + 1) <|
      nm (l4 + 1) fun u41 =>
      k84 l0 l2 l3 u41 σ)
    else (
      gd (kd σ l0 = 22) <|
      gd (kd σ (ld σ l0 2) = 100 ∧ (0 : Int) ≤ l5 ∧ l5 < ln σ (ld σ l0 2)) <|
      if (ld σ (ld σ l0 2) l5) = (-1) then (
        f_X7_walk_179 n (f_X7_walk_95 n k84 q) l0 l2 l3 l4 l5 σ)
      else (
        if l2 = (-1) then (
          f_X7_walk_130 n (f_X7_walk_179 n (f_X7_walk_95 n k84 q)) l0 l2 l3 l4 l5 σ)
        else (
          gd (kd σ l0 = 22) <|
          gd (kd σ (ld σ l0 2) = 100 ∧ (0 : Int) ≤ l5 ∧ l5 < ln σ (ld σ l0 2)) <|
          if (ld σ (ld σ l0 2) l5) = l2 then (
            f_X7_walk_130 n (f_X7_walk_179 n (f_X7_walk_95 n k84 q)) l0 l2 l3 l4 l5 σ)
          else (
            f_X7_walk_179 n (f_X7_walk_95 n k84 q) l0 l2 l3 l4 l5 σ))))
noncomputable def f_X7_walk_279 (n : Nat) (k216 : Int → Int → Int → Int → AS → Option (Int × AS)) (l0 l3 l4 l5 : Int) (σ : AS) : Option (Int × AS) :=
  gI (l5 + 1) <|
  nm (l5 + 1) fun u51 =>
  k216 l0 l3 l4 u51 σ
noncomputable def f_X7_walk_216 (n : Nat) (k199 : Int → Int → Int → AS → Option (Int × AS)) : Nat → Int → Int → Int → Int → AS → Option (Int × AS)
  | 0, _, _, _, _, _ => none
  | q + 1, l0, l3, l4, l5, σ =>
    if 400 ≤ l5 then (
      gI (l4 + 1) <|
      nm (l4 + 1) fun u80 =>
      k199 l0 l3 u80 σ)
    else (
      gd (kd σ l0 = 22) <|
      gd (kd σ (ld σ l0 1) = 100 ∧ (0 : Int) ≤ l5 ∧ l5 < ln σ (ld σ l0 1)) <|
      if (ld σ (ld σ l0 1) l5) = (-1) then (
        f_X7_walk_279 n (f_X7_walk_216 n k199 q) l0 l3 l4 l5 σ)
      else (
        gd (kd σ l0 = 22) <|
        gd (kd σ (ld σ l0 10) = 100 ∧ (0 : Int) ≤ l5 ∧ l5 < ln σ (ld σ l0 10)) <|
        if (ld σ (ld σ l0 10) l5) = l4 then (
          gd (kd σ l0 = 22) <|
          gd (kd σ l0 = 22) <|
          gd (kd σ (ld σ l0 11) = 100 ∧ (0 : Int) ≤ (ld σ l0 13) ∧ (ld σ l0 13) < ln σ (ld σ l0 11)) <|
          nm (wr σ (ld σ l0 11) (ld σ l0 13) l5) fun σ91 =>
          gd (kd σ91 l0 = 22) <|
          gd (kd σ91 l0 = 22) <|
          gd (kd σ91 (ld σ91 l0 12) = 100 ∧ (0 : Int) ≤ (ld σ91 l0 13) ∧ (ld σ91 l0 13) < ln σ91 (ld σ91 l0 12)) <|
          nm (wr σ91 (ld σ91 l0 12) (ld σ91 l0 13) l4) fun σ96 =>
          gd (kd σ96 l0 = 22) <|
          gI ((ld σ96 l0 13) + 1) <|
          gd (kd σ96 l0 = 22) <|
          nm (wr σ96 l0 13 ((ld σ96 l0 13) + 1)) fun σ101 =>
          f_X7_walk_279 n (f_X7_walk_216 n k199 q) l0 l3 l4 l5 σ101)
        else (
          f_X7_walk_279 n (f_X7_walk_216 n k199 q) l0 l3 l4 l5 σ)))
noncomputable def f_X7_walk_199 (n : Nat) : Nat → Int → Int → Int → AS → Option (Int × AS)
  | 0, _, _, _, _ => none
  | q + 1, l0, l3, l4, σ =>
    if 400 ≤ l4 then (
      gd (kd σ l0 = 22) <|
      some ((ld σ l0 13), σ))
    else (
      if l3 < l4 then (
        gd (kd σ l0 = 22) <|
        some ((ld σ l0 13), σ))
      else (
        f_X7_walk_216 n (f_X7_walk_199 n q) n l0 l3 l4 0 σ))
noncomputable def f_X7_walk_84 (n : Nat) : Nat → Int → Int → Int → Int → AS → Option (Int × AS)
  | 0, _, _, _, _, _ => none
  | q + 1, l0, l2, l3, l4, σ =>
    if 400 ≤ l4 then (
      gd (kd σ l0 = 22) <|
      nm (wr σ l0 13 0) fun σ117 =>
      f_X7_walk_199 n n l0 l3 0 σ117)
    else (
      f_X7_walk_95 n (f_X7_walk_84 n q) n l0 l2 l3 l4 0 σ)
noncomputable def f_X7_walk_49 (n : Nat) : Nat → Int → Int → Int → Int → Int → AS → Option (Int × AS)
  | 0, _, _, _, _, _, _ => none
  | q + 1, l0, l1, l2, l3, l4, σ =>
    if 400 ≤ l4 then (
      f_X7_walk_84 n n l0 l2 l3 0 σ)
    else (
      gd (kd σ l0 = 22) <|
      if l4 = l1 then (
        f_X7_walk_74 n (f_X7_walk_49 n q) l0 l1 l2 l3 l4 (ld σ l0 10) l4 0 σ)
      else (
        f_X7_walk_74 n (f_X7_walk_49 n q) l0 l1 l2 l3 l4 (ld σ l0 10) l4 (-1) σ))
noncomputable def f_X7_walk_34 (n : Nat) (l0 l1 l2 l3 s0 s1 : Int) (σ : AS) : Option (Int × AS) :=
  gd (kd σ s0 = 22) <|
  nm (wr σ s0 0 s1) fun σ126 =>
  gd (kd σ126 l0 = 22) <|
  if (ld σ126 l0 0) ≤ 0 then (
    f_X7_walk_49 n n l0 l1 l2 l3 0 σ126)
  else (
    some (0, σ126))
noncomputable def f_X7_walk (n : Nat) (a0 a1 a2 a3 : Int) (σ : AS) : Option (Int × AS) :=
  gd (kd σ a0 = 22) <|
  c1 (f_X7_isNode a0 a1 σ) fun v131 σ132 =>
  if v131 = 0 then (
    f_X7_walk_34 n a0 a1 a2 a3 a0 1 σ132)
  else (
    if a2 = (-1) then (
      f_X7_walk_25 n (f_X7_walk_34 n) (f_X7_walk_29 n (f_X7_walk_34 n)) a0 a1 a2 a3 a0 σ132)
    else (
      c1 (f_X7_isSmall a2 σ132) fun v136 σ137 =>
      if v136 = 0 then (
        f_X7_walk_29 n (f_X7_walk_34 n) a0 a1 a2 a3 a0 σ137)
      else (
        f_X7_walk_25 n (f_X7_walk_34 n) (f_X7_walk_29 n (f_X7_walk_34 n)) a0 a1 a2 a3 a0 σ137)))
noncomputable def f_X1_walked_16 (k17 : Int → Int → Int → Int → AS → Option ((Nat ⊕ Int) × AS)) (l0 l1 l2 : Int) (σ : AS) : Option ((Nat ⊕ Int) × AS) :=
  k17 l0 l1 l2 0 σ
noncomputable def f_X1_walked_17 (l0 l1 l2 s0 : Int) (σ : AS) : Option ((Nat ⊕ Int) × AS) :=
  cx (f_X1_inside s0 σ) fun _ σ2 =>
    if l2 = 0 then (
      gd (kd σ2 l0 = 1) <|
      gd (kd σ2 (ld σ2 l0 11) = 100 ∧ (0 : Int) ≤ l1 ∧ l1 < ln σ2 (ld σ2 l0 11)) <|
      some (.inr (ld σ2 (ld σ2 l0 11) l1), σ2))
    else (
      gd (kd σ2 l0 = 1) <|
      gd (kd σ2 (ld σ2 l0 12) = 100 ∧ (0 : Int) ≤ l1 ∧ l1 < ln σ2 (ld σ2 l0 12)) <|
      some (.inr (ld σ2 (ld σ2 l0 12) l1), σ2))
noncomputable def f_X1_walked (a0 a1 a2 : Int) (σ : AS) : Option ((Nat ⊕ Int) × AS) :=
  if a1 < 0 then (
    f_X1_walked_16 (f_X1_walked_17) a0 a1 a2 σ)
  else (
    gd (kd σ a0 = 1) <|
    if (ld σ a0 13) ≤ a1 then (
      f_X1_walked_16 (f_X1_walked_17) a0 a1 a2 σ)
    else (
      f_X1_walked_17 a0 a1 a2 1 σ))
noncomputable def f_X0_walked (a0 a1 a2 a3 : Int) (σ : AS) : Option (Int × AS) :=
  gd (kd σ a0 = 1) <|
  cy (f_X1_walked a0 a1 a2 σ) (fun E5 σ3 =>
    if E5 = 1 then (
      nm (nx σ3) fun r7 =>
      nm (al σ3 0 0 0) fun σ9 =>
      some (1, σ9)
    ) else (
      none)) fun v2 σ3 =>
    gd (kd σ3 a3 = 101 ∧ (0 : Int) ≤ 0 ∧ 0 < ln σ3 a3) <|
    nm (wr σ3 a3 0 v2) fun σ12 =>
    some (0, σ12)
noncomputable def f_X7_walked_13 (k18 : Int → Int → Int → Int → Int → AS → Option (Int × AS)) (l0 l1 l2 s0 : Int) (σ : AS) : Option (Int × AS) :=
  k18 l0 l1 l2 s0 1 σ
noncomputable def f_X7_walked_18 (l0 l1 l2 s0 s1 : Int) (σ : AS) : Option (Int × AS) :=
  gd (kd σ s0 = 22) <|
  nm (wr σ s0 0 s1) fun σ2 =>
  gd (kd σ2 l0 = 22) <|
  if (ld σ2 l0 0) ≤ 0 then (
    if l2 = 0 then (
      gd (kd σ2 l0 = 22) <|
      gd (kd σ2 (ld σ2 l0 11) = 100 ∧ (0 : Int) ≤ l1 ∧ l1 < ln σ2 (ld σ2 l0 11)) <|
      some ((ld σ2 (ld σ2 l0 11) l1), σ2))
    else (
      gd (kd σ2 l0 = 22) <|
      gd (kd σ2 (ld σ2 l0 12) = 100 ∧ (0 : Int) ≤ l1 ∧ l1 < ln σ2 (ld σ2 l0 12)) <|
      some ((ld σ2 (ld σ2 l0 12) l1), σ2)))
  else (
    some (0, σ2))
noncomputable def f_X7_walked (a0 a1 a2 : Int) (σ : AS) : Option (Int × AS) :=
  if a1 < 0 then (
    f_X7_walked_13 (f_X7_walked_18) a0 a1 a2 a0 σ)
  else (
    gd (kd σ a0 = 22) <|
    if a1 < (ld σ a0 13) then (
      f_X7_walked_18 a0 a1 a2 a0 0 σ)
    else (
      f_X7_walked_13 (f_X7_walked_18) a0 a1 a2 a0 σ))
noncomputable def f_J26_wordIndex (a0 : Int) (σ : AS) : Option (Int × AS) :=
  some ((ishrW a0 6), σ)
noncomputable def f_J26_initWords (a0 a1 : Int) (σ : AS) : Option AS :=
  gI (a1 - 1) <|
  c1 (f_J26_wordIndex (a1 - 1) σ) fun v2 σ3 =>
  gI (v2 + 1) <|
  gd ((0 : Int) ≤ (v2 + 1) ∧ (v2 + 1) ≤ 67108864) <|
  nm (nx σ3) fun r7 =>
  nm (al σ3 101 (v2 + 1) (v2 + 1)) fun σ9 =>
  gd (kd σ9 a0 = 28) <|
  nm (wr σ9 a0 0 r7) fun σ12 =>
  some σ12
noncomputable def f_J26_init (a0 : Int) (σ : AS) : Option AS :=
  gd (a0 ≠ 0) <|
  gd (kd σ a0 = 28) <|
  nm (wr σ a0 1 0) fun σ3 =>
  gd (kd σ3 a0 = 28) <|
  nm (wr σ3 a0 2 0) fun σ6 =>
  gd (kd σ6 a0 = 28) <|
  c0 (f_J26_initWords a0 64 σ6) fun σ10 =>
  gd (kd σ10 a0 = 28) <|
  nm (wr σ10 a0 2 0) fun σ13 =>
  some σ13
noncomputable def f_J27_init (a0 : Int) (σ : AS) : Option AS :=
  gd (a0 ≠ 0) <|
  c0 (f_J0_init a0 σ) fun σ3 =>
  some σ3
noncomputable def f_J28_init_2 (a0 a1 a2 : Int) (σ : AS) : Option AS :=
  gd (a0 ≠ 0) <|
  c0 (f_J27_init a0 σ) fun σ3 =>
  if 1 ≤ a1 then (
    gd ((0 : Int) ≤ a1 ∧ a1 ≤ 67108864) <|
    nm (nx σ3) fun r7 =>
    nm (al σ3 105 a1 a1) fun σ9 =>
    gd (kd σ9 a0 = 29) <|
    nm (wr σ9 a0 0 r7) fun σ12 =>
    gd (kd σ12 a0 = 29) <|
    nm (wr σ12 a0 2 a2) fun σ15 =>
    some σ15)
  else (
    none)
noncomputable def f_J28_init (a0 : Int) (σ : AS) : Option AS :=
  gd (a0 ≠ 0) <|
  c0 (f_J28_init_2 a0 11 0 σ) fun σ3 =>
  some σ3
noncomputable def f_X17_init (a0 a1 a2 : Int) (σ : AS) : Option AS :=
  gd (a0 ≠ 0) <|
  c0 (f_J9_init a0 σ) fun σ3 =>
  gd (kd σ3 a0 = 11) <|
  nm (wr σ3 a0 0 a1) fun σ6 =>
  gd (kd σ6 a0 = 11) <|
  nm (wr σ6 a0 1 a2) fun σ9 =>
  some σ9
noncomputable def f_J12_max (a0 a1 : Int) (σ : AS) : Option (Int × AS) :=
  if a0 < a1 then (
    some (a1, σ))
  else (
    some (a0, σ))
noncomputable def f_J21_newLength (a0 a1 a2 : Int) (σ : AS) : Option (Int × AS) :=
  c1 (f_J12_max a1 a2 σ) fun v1 σ2 =>
  gI (a0 + v1) <|
  nm (a0 + v1) fun u5 =>
  if u5 ≤ 0 then (
    none)
  else (
    if 2147483639 < u5 then (
      none)
    else (
      some (u5, σ2)))
noncomputable def f_J28_grow_25 (l0 s0 s1 s2 : Int) (σ : AS) : Option AS :=
  c1 (f_J21_newLength s0 s1 s2 σ) fun v1 σ2 =>
  gd (kd σ2 l0 = 29) <|
  c1 (f_J11_copyOf (ld σ2 l0 0) v1 σ2) fun v5 σ6 =>
  gd (kd σ6 l0 = 29) <|
  nm (wr σ6 l0 0 v5) fun σ9 =>
  some σ9
noncomputable def f_J28_grow (a0 a1 : Int) (σ : AS) : Option AS :=
  gd (kd σ a0 = 29) <|
  gd (kd σ (ld σ a0 0) = 105 ∨ kd σ (ld σ a0 0) = 1105) <|
  nm (ln σ (ld σ a0 0)) fun u13 =>
  gI (a1 - u13) <|
  if 64 ≤ u13 then (
    f_J28_grow_25 a0 u13 (a1 - u13) (ishrW u13 1) σ)
  else (
    gI (u13 + 2) <|
    f_J28_grow_25 a0 u13 (a1 - u13) (u13 + 2) σ)
noncomputable def f_J19_compare (a0 a1 : Int) (σ : AS) : Option (Int × AS) :=
  if 0 ≤ (lcmpW a0 a1) then (
    if (lcmpW a0 a1) = 0 then (
      some (0, σ))
    else (
      some (1, σ)))
  else (
    some ((-1), σ))
noncomputable def f_X17_compareTo_2 (a0 a1 : Int) (σ : AS) : Option (Int × AS) :=
  gd (kd σ a0 = 11) <|
  gd (kd σ a1 = 11) <|
  if (lcmpW (ld σ a0 0) (ld σ a1 0)) = 0 then (
    gd (kd σ a0 = 11) <|
    gd (kd σ a1 = 11) <|
    c1 (f_J17_compare (ld σ a0 1) (ld σ a1 1) σ) fun v6 σ7 =>
    some (v6, σ7))
  else (
    gd (kd σ a0 = 11) <|
    gd (kd σ a1 = 11) <|
    c1 (f_J19_compare (ld σ a0 0) (ld σ a1 0) σ) fun v11 σ12 =>
    some (v11, σ12))
noncomputable def f_X17_compareTo (a0 a1 : Int) (σ : AS) : Option (Int × AS) :=
  gd (a1 = 0 ∨ kd σ a1 = 11) <|
  gd (kd σ a0 = 11) <|
  c1 (f_X17_compareTo_2 a0 a1 σ) fun v3 σ4 =>
  some (v3, σ4)
noncomputable def f_J28_siftUpComparable_5 (n : Nat) : Nat → Int → Int → Int → AS → Option AS
  | 0, _, _, _, _ => none
  | q + 1, l0, l2, l3, σ =>
    if l0 ≤ 0 then (
      gd (kd σ l2 = 105 ∧ (0 : Int) ≤ l0 ∧ l0 < ln σ l2) <|
      gdc (elOk σ (.object "java/lang/Object") l3) <|
      nm (wr σ l2 l0 l3) fun σ28 =>
      some σ28)
    else (
      gI (l0 - 1) <|
      nm (iushrW (l0 - 1) 1) fun u31 =>
      gd ((kd σ l2 = 105 ∨ kd σ l2 = 1105) ∧ (0 : Int) ≤ u31 ∧ u31 < ln σ l2) <|
      nm (ld σ l2 u31) fun u34 =>
      gd (kd σ l3 = 11) <|
      c1 (f_X17_compareTo l3 u34 σ) fun v37 σ38 =>
      if v37 < 0 then (
        gd (kd σ38 l2 = 105 ∧ (0 : Int) ≤ l0 ∧ l0 < ln σ38 l2) <|
        gdc (elOk σ38 (.object "java/lang/Object") u34) <|
        nm (wr σ38 l2 l0 u34) fun σ43 =>
        f_J28_siftUpComparable_5 n q u31 l2 l3 σ43)
      else (
        gd (kd σ38 l2 = 105 ∧ (0 : Int) ≤ l0 ∧ l0 < ln σ38 l2) <|
        gdc (elOk σ38 (.object "java/lang/Object") l3) <|
        nm (wr σ38 l2 l0 l3) fun σ47 =>
        some σ47))
noncomputable def f_J28_siftUpComparable (n : Nat) (a0 a1 a2 : Int) (σ : AS) : Option AS :=
  gd (a1 = 0 ∨ kd σ a1 = 11) <|
  f_J28_siftUpComparable_5 n n a0 a2 a1 σ
noncomputable def f_J28_siftUp (n : Nat) (a0 a1 a2 : Int) (σ : AS) : Option AS :=
  gd (kd σ a0 = 29) <|
  if (ld σ a0 2) = 0 then (
    gd (kd σ a0 = 29) <|
    c0 (f_J28_siftUpComparable n a1 a2 (ld σ a0 0) σ) fun σ5 =>
    some σ5)
  else (
    gd (kd σ a0 = 29) <|
    gd (kd σ a0 = 29) <|
    none)
noncomputable def f_J28_offer_43 (n : Nat) (l0 l1 l2 : Int) (σ : AS) : Option (Int × AS) :=
  gd (kd σ l0 = 29) <|
  c0 (f_J28_siftUp n l0 l2 l1 σ) fun σ3 =>
  gI (l2 + 1) <|
  gd (kd σ3 l0 = 29) <|
  nm (wr σ3 l0 1 (l2 + 1)) fun σ7 =>
  some (1, σ7)
noncomputable def f_J28_offer (n : Nat) (a0 a1 : Int) (σ : AS) : Option (Int × AS) :=
  if a1 = 0 then (
    none)
  else (
    gd (kd σ a0 = 29) <|
    gI ((ld σ a0 3) + 1) <|
    gd (kd σ a0 = 29) <|
    nm (wr σ a0 3 ((ld σ a0 3) + 1)) fun σ13 =>
    gd (kd σ13 a0 = 29) <|
    nm (ld σ13 a0 1) fun u16 =>
    gd (kd σ13 a0 = 29) <|
    gd (kd σ13 (ld σ13 a0 0) = 105 ∨ kd σ13 (ld σ13 a0 0) = 1105) <|
    if u16 < (ln σ13 (ld σ13 a0 0)) then (
      f_J28_offer_43 n a0 a1 u16 σ13)
    else (
      gI (u16 + 1) <|
      gd (kd σ13 a0 = 29) <|
      c0 (f_J28_grow a0 (u16 + 1) σ13) fun σ24 =>
      f_J28_offer_43 n a0 a1 u16 σ24))
noncomputable def f_J28_add (n : Nat) (a0 a1 : Int) (σ : AS) : Option (Int × AS) :=
  gd (kd σ a0 = 29) <|
  c1 (f_J28_offer n a0 a1 σ) fun v2 σ3 =>
  gd (0 ≤ v2 ∧ v2 ≤ 1) <|
  some (v2, σ3)
noncomputable def f_J28_size (a0 : Int) (σ : AS) : Option (Int × AS) :=
  gd (kd σ a0 = 29) <|
  some ((ld σ a0 1), σ)
noncomputable def f_J0_isEmpty (a0 : Int) (σ : AS) : Option (Int × AS) :=
  gd (kd σ a0 = 29) <|
  c1 (f_J28_size a0 σ) fun v2 σ3 =>
  if v2 = 0 then (
    some (1, σ3))
  else (
    some (0, σ3))
noncomputable def f_J28_siftDownComparable_68 (n : Nat) (k11 : Int → Int → Int → Int → Int → AS → Option AS) (l0 l2 l3 l4 l5 l6 l7 : Int) (σ : AS) : Option AS :=
  gd (kd σ l4 = 11) <|
  c1 (f_X17_compareTo l4 l7 σ) fun v2 σ3 =>
  if 0 < v2 then (
    gd (kd σ3 l2 = 105 ∧ (0 : Int) ≤ l0 ∧ l0 < ln σ3 l2) <|
    gdc (elOk σ3 (.object "java/lang/Object") l7) <|
    nm (wr σ3 l2 l0 l7) fun σ8 =>
    k11 l6 l2 l3 l4 l5 σ8)
  else (
    gd (kd σ3 l2 = 105 ∧ (0 : Int) ≤ l0 ∧ l0 < ln σ3 l2) <|
    gdc (elOk σ3 (.object "java/lang/Object") l4) <|
    nm (wr σ3 l2 l0 l4) fun σ12 =>
    some σ12)
noncomputable def f_J28_siftDownComparable_11 (n : Nat) : Nat → Int → Int → Int → Int → Int → AS → Option AS
  | 0, _, _, _, _, _, _ => none
  | q + 1, l0, l2, l3, l4, l5, σ =>
    if l5 ≤ l0 then (
      gd (kd σ l2 = 105 ∧ (0 : Int) ≤ l0 ∧ l0 < ln σ l2) <|
      gdc (elOk σ (.object "java/lang/Object") l4) <|
      nm (wr σ l2 l0 l4) fun σ42 =>
      some σ42)
    else (
      gI ((ishlW l0 1) + 1) <|
      nm ((ishlW l0 1) + 1) fun u45 =>
      gd ((kd σ l2 = 105 ∨ kd σ l2 = 1105) ∧ (0 : Int) ≤ u45 ∧ u45 < ln σ l2) <|
      nm (ld σ l2 u45) fun u48 =>
      gI (u45 + 1) <|
      nm (u45 + 1) fun u51 =>
      if l3 ≤ u51 then (
        f_J28_siftDownComparable_68 n (f_J28_siftDownComparable_11 n q) l0 l2 l3 l4 l5 u45 u48 σ)
      else (
        gd (u48 = 0 ∨ kd σ u48 = 11) <|
        gd ((kd σ l2 = 105 ∨ kd σ l2 = 1105) ∧ (0 : Int) ≤ u51 ∧ u51 < ln σ l2) <|
        gd (kd σ u48 = 11) <|
        c1 (f_X17_compareTo u48 (ld σ l2 u51) σ) fun v57 σ58 =>
        if v57 ≤ 0 then (
          f_J28_siftDownComparable_68 n (f_J28_siftDownComparable_11 n q) l0 l2 l3 l4 l5 u45 u48 σ58)
        else (
          gd ((kd σ58 l2 = 105 ∨ kd σ58 l2 = 1105) ∧ (0 : Int) ≤ u51 ∧ u51 < ln σ58 l2) <|
          nm (ld σ58 l2 u51) fun u62 =>
          f_J28_siftDownComparable_68 n (f_J28_siftDownComparable_11 n q) l0 l2 l3 l4 l5 u51 u62 σ58)))
noncomputable def f_J28_siftDownComparable (n : Nat) (a0 a1 a2 a3 : Int) (σ : AS) : Option AS :=
  gd (a1 = 0 ∨ kd σ a1 = 11) <|
  nm (iushrW a3 1) fun u65 =>
  f_J28_siftDownComparable_11 n n a0 a2 a3 a1 u65 σ
noncomputable def f_J28_poll (n : Nat) (a0 : Int) (σ : AS) : Option (Int × AS) :=
  gd (kd σ a0 = 29) <|
  nm (ld σ a0 0) fun v2 =>
  gd ((kd σ v2 = 105 ∨ kd σ v2 = 1105) ∧ (0 : Int) ≤ 0 ∧ 0 < ln σ v2) <|
  nm (ld σ v2 0) fun v5 =>
  if v5 = 0 then (
    some (v5, σ))
  else (
    gd (kd σ a0 = 29) <|
    gI ((ld σ a0 3) + 1) <|
    gd (kd σ a0 = 29) <|
    nm (wr σ a0 3 ((ld σ a0 3) + 1)) fun σ11 =>
    gd (kd σ11 a0 = 29) <|
    gI ((ld σ11 a0 1) - 1) <|
    nm ((ld σ11 a0 1) - 1) fun v15 =>
    gd (kd σ11 a0 = 29) <|
    nm (wr σ11 a0 1 v15) fun σ18 =>
    gd ((kd σ18 v2 = 105 ∨ kd σ18 v2 = 1105) ∧ (0 : Int) ≤ v15 ∧ v15 < ln σ18 v2) <|
    nm (ld σ18 v2 v15) fun u21 =>
    gd (kd σ18 v2 = 105 ∧ (0 : Int) ≤ v15 ∧ v15 < ln σ18 v2) <|
    nm (wr σ18 v2 v15 0) fun σ24 =>
    if v15 ≤ 0 then (
      some (v5, σ24))
    else (
      gd (kd σ24 a0 = 29) <|
      nm (ld σ24 a0 2) fun v28 =>
      if v28 = 0 then (
        c0 (f_J28_siftDownComparable n 0 u21 v2 v15 σ24) fun σ32 =>
        some (v5, σ32))
      else (
        none)))
noncomputable def f_X17_node (a0 : Int) (σ : AS) : Option (Int × AS) :=
  gd (kd σ a0 = 11) <|
  some ((ld σ a0 1), σ)
noncomputable def f_X17_cost (a0 : Int) (σ : AS) : Option (Int × AS) :=
  gd (kd σ a0 = 11) <|
  some ((ld σ a0 0), σ)
noncomputable def f_J26_checkInvariants_70 (l0 : Int) (σ : AS) : Option AS :=
  if (1 : Int) = 0 then (
    gd (kd σ l0 = 28) <|
    gd (kd σ l0 = 28) <|
    gd (kd σ (ld σ l0 0) = 101) <|
    if (ld σ l0 1) = (ln σ (ld σ l0 0)) then (
      some σ)
    else (
      gd (kd σ l0 = 28) <|
      gd (kd σ l0 = 28) <|
      gd (kd σ (ld σ l0 0) = 101 ∧ (0 : Int) ≤ (ld σ l0 1) ∧ (ld σ l0 1) < ln σ (ld σ l0 0)) <|
      if (lcmpW (ld σ (ld σ l0 0) (ld σ l0 1)) 0) = 0 then (
        some σ)
      else (
        none)))
  else (
    some σ)
noncomputable def f_J26_checkInvariants_37 (l0 : Int) (σ : AS) : Option AS :=
  if (1 : Int) = 0 then (
    gd (kd σ l0 = 28) <|
    if (ld σ l0 1) < 0 then (
      none)
    else (
      gd (kd σ l0 = 28) <|
      gd (kd σ l0 = 28) <|
      gd (kd σ (ld σ l0 0) = 101) <|
      if (ld σ l0 1) ≤ (ln σ (ld σ l0 0)) then (
        f_J26_checkInvariants_70 l0 σ)
      else (
        none)))
  else (
    f_J26_checkInvariants_70 l0 σ)
noncomputable def f_J26_checkInvariants (a0 : Int) (σ : AS) : Option AS :=
  if (1 : Int) = 0 then (
    gd (kd σ a0 = 28) <|
    if (ld σ a0 1) = 0 then (
      f_J26_checkInvariants_37 a0 σ)
    else (
      gd (kd σ a0 = 28) <|
      gd (kd σ a0 = 28) <|
      gI ((ld σ a0 1) - 1) <|
      gd (kd σ (ld σ a0 0) = 101 ∧ (0 : Int) ≤ ((ld σ a0 1) - 1) ∧ ((ld σ a0 1) - 1) < ln σ (ld σ a0 0)) <|
      if (lcmpW (ld σ (ld σ a0 0) ((ld σ a0 1) - 1)) 0) = 0 then (
        none)
      else (
        f_J26_checkInvariants_37 a0 σ)))
  else (
    f_J26_checkInvariants_37 a0 σ)
noncomputable def f_J26_get (a0 a1 : Int) (σ : AS) : Option (Int × AS) :=
  if 0 ≤ a1 then (
    gd (kd σ a0 = 28) <|
    c0 (f_J26_checkInvariants a0 σ) fun σ4 =>
    c1 (f_J26_wordIndex a1 σ4) fun v6 σ7 =>
    gd (kd σ7 a0 = 28) <|
    if (ld σ7 a0 1) ≤ v6 then (
      some (0, σ7))
    else (
      gd (kd σ7 a0 = 28) <|
      gd (kd σ7 (ld σ7 a0 0) = 101 ∧ (0 : Int) ≤ v6 ∧ v6 < ln σ7 (ld σ7 a0 0)) <|
      if (lcmpW (landW (ld σ7 (ld σ7 a0 0) v6) (lshlW 1 a1)) 0) = 0 then (
        some (0, σ7))
      else (
        some (1, σ7))))
  else (
    none)
noncomputable def f_J11_copyOf_4 (a0 a1 : Int) (σ : AS) : Option (Int × AS) :=
  gd (kd σ a0 = 101) <|
  if a1 = (ln σ a0) then (
    gd (kd σ a0 = 101 ∧ 0 ≤ ln σ a0) <|
    nm (nx σ) fun r16 =>
    nm (cln σ a0) fun σ18 =>
    gd (kd σ18 r16 = 101) <|
    some (r16, σ18))
  else (
    gd ((0 : Int) ≤ a1 ∧ a1 ≤ 67108864) <|
    nm (nx σ) fun r4 =>
    nm (al σ 101 a1 a1) fun σ6 =>
    gd (kd σ6 a0 = 101) <|
    c1 (f_J12_min (ln σ6 a0) a1 σ6) fun v9 σ10 =>
    gd ((kd σ10 a0 = 101 ∨ kd σ10 a0 = 1101) ∧ kd σ10 r4 = 101 ∧ (0 : Int) ≤ 0 ∧ (0 : Int) ≤ 0 ∧ (0 : Int) ≤ v9 ∧ 0 + v9 ≤ ln σ10 a0 ∧ 0 + v9 ≤ ln σ10 r4) <|
    nm (cpy σ10 a0 0 r4 0 v9) fun σ13 =>
    some (r4, σ13))
noncomputable def f_J26_ensureCapacity (a0 a1 : Int) (σ : AS) : Option AS :=
  gd (kd σ a0 = 28) <|
  gd (kd σ (ld σ a0 0) = 101) <|
  if a1 ≤ (ln σ (ld σ a0 0)) then (
    some σ)
  else (
    gd (kd σ a0 = 28) <|
    gd (kd σ (ld σ a0 0) = 101) <|
    gI (2 * (ln σ (ld σ a0 0))) <|
    c1 (f_J12_max (2 * (ln σ (ld σ a0 0))) a1 σ) fun v7 σ8 =>
    gd (kd σ8 a0 = 28) <|
    c1 (f_J11_copyOf_4 (ld σ8 a0 0) v7 σ8) fun v11 σ12 =>
    gd (kd σ12 a0 = 28) <|
    nm (wr σ12 a0 0 v11) fun σ15 =>
    gd (kd σ15 a0 = 28) <|
    nm (wr σ15 a0 2 0) fun σ18 =>
    some σ18)
noncomputable def f_J26_expandTo (a0 a1 : Int) (σ : AS) : Option AS :=
  gI (a1 + 1) <|
  nm (a1 + 1) fun u2 =>
  gd (kd σ a0 = 28) <|
  if u2 ≤ (ld σ a0 1) then (
    some σ)
  else (
    gd (kd σ a0 = 28) <|
    c0 (f_J26_ensureCapacity a0 u2 σ) fun σ8 =>
    gd (kd σ8 a0 = 28) <|
    nm (wr σ8 a0 1 u2) fun σ11 =>
    some σ11)
noncomputable def f_J26_set (a0 a1 : Int) (σ : AS) : Option AS :=
  if 0 ≤ a1 then (
    c1 (f_J26_wordIndex a1 σ) fun v2 σ3 =>
    gd (kd σ3 a0 = 28) <|
    c0 (f_J26_expandTo a0 v2 σ3) fun σ7 =>
    gd (kd σ7 a0 = 28) <|
    gd (kd σ7 (ld σ7 a0 0) = 101 ∧ (0 : Int) ≤ v2 ∧ v2 < ln σ7 (ld σ7 a0 0)) <|
    gd (kd σ7 (ld σ7 a0 0) = 101 ∧ (0 : Int) ≤ v2 ∧ v2 < ln σ7 (ld σ7 a0 0)) <|
    nm (wr σ7 (ld σ7 a0 0) v2 (lorW (ld σ7 (ld σ7 a0 0) v2) (lshlW 1 a1))) fun σ12 =>
    gd (kd σ12 a0 = 28) <|
    c0 (f_J26_checkInvariants a0 σ12) fun σ16 =>
    some σ16)
  else (
    none)
noncomputable def f_X8_value (n : Nat) (a0 a1 : Int) (σ : AS) : Option (Int × AS) :=
  if kd σ a0 = 4 then (
    c1 (f_J17_valueOf a1 σ) fun v2 σ3 =>
    gd (kd σ3 (ld σ a0 0) = 26) <|
    c1 (f_J8_get n (ld σ a0 0) v2 σ3) fun v6 σ7 =>
    gd (v6 = 0 ∨ kd σ7 v6 = 25 ∨ kd σ7 v6 = 1025) <|
    if v6 = 0 then (
      some ((-9223372036854775808), σ7))
    else (
      gd (kd σ7 v6 = 25 ∨ kd σ7 v6 = 1025) <|
      c1 (f_J17_intValue v6 σ7) fun v12 σ13 =>
      some (v12, σ13)))
  else (
    gd (kd σ a0 = 5) <|
    c1 (f_J17_valueOf a1 σ) fun v16 σ17 =>
    gd (kd σ17 (ld σ a0 0) = 26) <|
    c1 (f_J8_get n (ld σ a0 0) v16 σ17) fun v20 σ21 =>
    gd (v20 = 0 ∨ kd σ21 v20 = 25 ∨ kd σ21 v20 = 1025) <|
    if v20 = 0 then (
      some ((-9223372036854775808), σ21))
    else (
      gd (kd σ21 v20 = 25 ∨ kd σ21 v20 = 1025) <|
      c1 (f_J17_intValue v20 σ21) fun v26 σ27 =>
      some (v26, σ27)))
noncomputable def f_X1_cost_214 (n : Nat) (k132 : Int → Int → Int → Int → Int → Int → Int → Int → AS → Option ((Nat ⊕ Int) × AS)) (l0 l2 l3 l4 l5 l6 l7 l8 : Int) (σ : AS) : Option ((Nat ⊕ Int) × AS) :=
  gI (l8 + 1) <|
  nm (l8 + 1) fun u2 =>
  k132 l0 l2 l3 l4 l5 l6 l7 u2 σ
noncomputable def f_X1_cost_132 (n : Nat) (k52 : Int → Int → Int → Int → Int → AS → Option ((Nat ⊕ Int) × AS)) : Nat → Int → Int → Int → Int → Int → Int → Int → Int → AS → Option ((Nat ⊕ Int) × AS)
  | 0, _, _, _, _, _, _, _, _, _ => none
  | q + 1, l0, l2, l3, l4, l5, l6, l7, l8, σ =>
    gd (kd σ l7 = 3) <|
    if (ld σ l7 1) ≤ l8 then (
      k52 l0 l2 l3 l4 l5 σ)
    else (
      gd (kd σ l0 = 1) <|
      gd (kd σ (ld σ l0 0) = 2) <|
      gd (kd σ l7 = 3) <|
      gd (kd σ (ld σ l7 0) = 100 ∧ (0 : Int) ≤ l8 ∧ l8 < ln σ (ld σ l7 0)) <|
      gd (kd σ (ld σ (ld σ l0 0) 1) = 107 ∧ (0 : Int) ≤ (ld σ (ld σ l7 0) l8) ∧ (ld σ (ld σ l7 0) l8) < ln σ (ld σ (ld σ l0 0) 1)) <|
      nm (ld σ (ld σ (ld σ l0 0) 1) (ld σ (ld σ l7 0) l8)) fun u49 =>
      gd (kd σ u49 = 5) <|
      c1 (f_X8_value n u49 l3 σ) fun v52 σ53 =>
      if (lcmpW v52 0) < 0 then (
        f_X1_cost_214 n (f_X1_cost_132 n k52 q) l0 l2 l3 l4 l5 l6 l7 l8 σ53)
      else (
        gd (kd σ53 u49 = 5) <|
        gd (kd σ53 l4 = 28) <|
        c1 (f_J26_get l4 (ld σ53 u49 3) σ53) fun v58 σ59 =>
        if v58 = 0 then (
          nm (nx σ59) fun r62 =>
          nm (al σ59 11 0 2) fun σ64 =>
          gd (kd σ64 l6 = 11) <|
          c1 (f_X17_cost l6 σ64) fun v67 σ68 =>
          gL (v67 + v52) <|
          gd (kd σ68 u49 = 5) <|
          gd (r62 ≠ 0) <|
          c0 (f_X17_init r62 (v67 + v52) (ld σ68 u49 3) σ68) fun σ74 =>
          gd (kd σ74 l5 = 29) <|
          c1 (f_J28_add n l5 r62 σ74) fun v77 σ78 =>
          f_X1_cost_214 n (f_X1_cost_132 n k52 q) l0 l2 l3 l4 l5 l6 l7 l8 σ78)
        else (
          f_X1_cost_214 n (f_X1_cost_132 n k52 q) l0 l2 l3 l4 l5 l6 l7 l8 σ59)))
noncomputable def f_X1_cost_52 (n : Nat) : Nat → Int → Int → Int → Int → Int → AS → Option ((Nat ⊕ Int) × AS)
  | 0, _, _, _, _, _, _ => none
  | q + 1, l0, l2, l3, l4, l5, σ =>
    gd (kd σ l5 = 29) <|
    c1 (f_J0_isEmpty l5 σ) fun v127 σ128 =>
    if v127 = 0 then (
      gd (kd σ128 l5 = 29) <|
      c1 (f_J28_poll n l5 σ128) fun v132 σ133 =>
      gd (v132 = 0 ∨ kd σ133 v132 = 11) <|
      gd (kd σ133 v132 = 11) <|
      c1 (f_X17_node v132 σ133) fun v137 σ138 =>
      if v137 = l2 then (
        gd (kd σ138 v132 = 11) <|
        c1 (f_X17_cost v132 σ138) fun v169 σ170 =>
        some (.inr v169, σ170))
      else (
        gd (kd σ138 v132 = 11) <|
        c1 (f_X17_node v132 σ138) fun v142 σ143 =>
        gd (kd σ143 l4 = 28) <|
        c1 (f_J26_get l4 v142 σ143) fun v146 σ147 =>
        if v146 = 0 then (
          gd (kd σ147 v132 = 11) <|
          c1 (f_X17_node v132 σ147) fun v151 σ152 =>
          gd (kd σ152 l4 = 28) <|
          c0 (f_J26_set l4 v151 σ152) fun σ156 =>
          gd (kd σ156 l0 = 1) <|
          gd (kd σ156 (ld σ156 l0 0) = 2) <|
          gd (kd σ156 v132 = 11) <|
          c1 (f_X17_node v132 σ156) fun v161 σ162 =>
          gd (kd σ162 (ld σ156 (ld σ156 l0 0) 0) = 106 ∧ (0 : Int) ≤ v161 ∧ v161 < ln σ162 (ld σ156 (ld σ156 l0 0) 0)) <|
          gd (kd σ162 (ld σ162 (ld σ156 (ld σ156 l0 0) 0) v161) = 4) <|
          nm (ld σ162 (ld σ162 (ld σ156 (ld σ156 l0 0) 0) v161) 2) fun u166 =>
          f_X1_cost_132 n (f_X1_cost_52 n q) n l0 l2 l3 l4 l5 v132 u166 0 σ162)
        else (
          f_X1_cost_52 n q l0 l2 l3 l4 l5 σ147)))
    else (
      some (.inr (-1), σ128))
noncomputable def f_X1_cost (n : Nat) (a0 a1 a2 a3 : Int) (σ : AS) : Option ((Nat ⊕ Int) × AS) :=
  gd (kd σ a0 = 1) <|
  cx (f_X1_nodeOf a0 a1 σ) fun v173 σ174 =>
    gd (kd σ174 a0 = 1) <|
    cx (f_X1_nodeOf a0 a2 σ174) fun v178 σ179 =>
      c1 (f_X1_isNumber a3 σ179) fun v182 σ183 =>
      cx (f_X1_need v182 σ183) fun _ σ186 =>
        nm (nx σ186) fun r189 =>
        nm (al σ186 28 0 3) fun σ191 =>
        gd (r189 ≠ 0) <|
        c0 (f_J26_init r189 σ191) fun σ195 =>
        nm (nx σ195) fun r197 =>
        nm (al σ195 29 0 4) fun σ199 =>
        gd (r197 ≠ 0) <|
        c0 (f_J28_init r197 σ199) fun σ203 =>
        nm (nx σ203) fun r205 =>
        nm (al σ203 11 0 2) fun σ207 =>
        gd (r205 ≠ 0) <|
        c0 (f_X17_init r205 0 a1 σ207) fun σ211 =>
        gd (kd σ211 r197 = 29) <|
        c1 (f_J28_add n r197 r205 σ211) fun v214 σ215 =>
        f_X1_cost_52 n n a0 a2 a3 r189 r197 σ215
noncomputable def f_X0_cost (n : Nat) (a0 a1 a2 a3 a4 : Int) (σ : AS) : Option (Int × AS) :=
  gd (kd σ a0 = 1) <|
  cy (f_X1_cost n a0 a1 a2 a3 σ) (fun E5 σ3 =>
    if E5 = 1 then (
      nm (nx σ3) fun r7 =>
      nm (al σ3 0 0 0) fun σ9 =>
      some (1, σ9)
    ) else (
      if E5 = 2 then (
        nm (nx σ3) fun r12 =>
        nm (al σ3 0 0 0) fun σ14 =>
        some (2, σ14)
      ) else (
        none))) fun v2 σ3 =>
    gd (kd σ3 a4 = 101 ∧ (0 : Int) ≤ 0 ∧ 0 < ln σ3 a4) <|
    nm (wr σ3 a4 0 v2) fun σ17 =>
    some (0, σ17)
noncomputable def f_X7_cost_17 (n : Nat) (k33 : Int → Int → Int → Int → Int → Int → AS → Option (Int × AS)) (l0 l1 l2 l3 s0 : Int) (σ : AS) : Option (Int × AS) :=
  k33 l0 l1 l2 l3 s0 1 σ
noncomputable def f_X7_cost_75 (n : Nat) (k48 : Int → Int → Int → Int → Int → AS → Option (Int × AS)) (l0 l1 l2 l3 l4 s0 s1 s2 : Int) (σ : AS) : Option (Int × AS) :=
  gd (kd σ s0 = 101 ∧ (0 : Int) ≤ s1 ∧ s1 < ln σ s0) <|
  nm (wr σ s0 s1 s2) fun σ2 =>
  gI (l4 + 1) <|
  nm (l4 + 1) fun u5 =>
  k48 l0 l1 l2 l3 u5 σ2
noncomputable def f_X7_cost_245 (n : Nat) (k262 : Int → Int → Int → Int → Int → AS → Option (Int × AS)) (l0 l2 l3 l5 l6 l7 : Int) (σ : AS) : Option (Int × AS) :=
  gd (kd σ l0 = 22) <|
  gd (kd σ l0 = 22) <|
  gd (kd σ (ld σ l0 4) = 100 ∧ (0 : Int) ≤ l6 ∧ l6 < ln σ (ld σ l0 4)) <|
  gd (kd σ (ld σ l0 14) = 101 ∧ (0 : Int) ≤ (ld σ (ld σ l0 4) l6) ∧ (ld σ (ld σ l0 4) l6) < ln σ (ld σ l0 14)) <|
  nm (wr σ (ld σ l0 14) (ld σ (ld σ l0 4) l6) l7) fun σ11 =>
  k262 l0 l2 l3 1 l5 σ11
noncomputable def f_X7_cost_262 (n : Nat) (k96 : Int → Int → Int → Int → Int → AS → Option (Int × AS)) (l0 l2 l3 l4 l5 : Int) (σ : AS) : Option (Int × AS) :=
  gI (l5 + 1) <|
  nm (l5 + 1) fun u14 =>
  k96 l0 l2 l3 l4 u14 σ
noncomputable def f_X7_cost_96 (n : Nat) (k85 : Int → Int → Int → Int → AS → Option (Int × AS)) : Nat → Int → Int → Int → Int → Int → AS → Option (Int × AS)
  | 0, _, _, _, _, _, _ => none
  | q + 1, l0, l2, l3, l4, l5, σ =>
    gd (kd σ l0 = 22) <|
    if (ld σ l0 6) ≤ l5 then (
      k85 l0 l2 l3 l4 σ)
    else (
      gd (kd σ l0 = 22) <|
      gI (4 * l5) <|
      gI ((4 * l5) + 1) <|
      gd (kd σ (ld σ l0 5) = 100 ∧ (0 : Int) ≤ ((4 * l5) + 1) ∧ ((4 * l5) + 1) < ln σ (ld σ l0 5)) <|
      nm (ld σ (ld σ l0 5) ((4 * l5) + 1)) fun u70 =>
      gd (kd σ l0 = 22) <|
      gI (4 * l5) <|
      gd (kd σ (ld σ l0 5) = 100 ∧ (0 : Int) ≤ (4 * l5) ∧ (4 * l5) < ln σ (ld σ l0 5)) <|
      if (ld σ (ld σ l0 5) (4 * l5)) = 0 then (
        f_X7_cost_262 n (f_X7_cost_96 n k85 q) l0 l2 l3 l4 l5 σ)
      else (
        gd (kd σ l0 = 22) <|
        gI (4 * l5) <|
        gI ((4 * l5) + 2) <|
        gd (kd σ (ld σ l0 5) = 100 ∧ (0 : Int) ≤ ((4 * l5) + 2) ∧ ((4 * l5) + 2) < ln σ (ld σ l0 5)) <|
        if (ld σ (ld σ l0 5) ((4 * l5) + 2)) = l3 then (
          gd (kd σ l0 = 22) <|
          gI (4 * l5) <|
          gI ((4 * l5) + 3) <|
          gd (kd σ (ld σ l0 5) = 100 ∧ (0 : Int) ≤ ((4 * l5) + 3) ∧ ((4 * l5) + 3) < ln σ (ld σ l0 5)) <|
          if (ld σ (ld σ l0 5) ((4 * l5) + 3)) < 0 then (
            f_X7_cost_262 n (f_X7_cost_96 n k85 q) l0 l2 l3 l4 l5 σ)
          else (
            gd (kd σ l0 = 22) <|
            gd (kd σ l0 = 22) <|
            gd (kd σ (ld σ l0 3) = 100 ∧ (0 : Int) ≤ u70 ∧ u70 < ln σ (ld σ l0 3)) <|
            gd (kd σ (ld σ l0 14) = 101 ∧ (0 : Int) ≤ (ld σ (ld σ l0 3) u70) ∧ (ld σ (ld σ l0 3) u70) < ln σ (ld σ l0 14)) <|
            if (lcmpW (ld σ (ld σ l0 14) (ld σ (ld σ l0 3) u70)) (-1)) = 0 then (
              f_X7_cost_262 n (f_X7_cost_96 n k85 q) l0 l2 l3 l4 l5 σ)
            else (
              gd (kd σ l0 = 22) <|
              gd (kd σ l0 = 22) <|
              gd (kd σ (ld σ l0 3) = 100 ∧ (0 : Int) ≤ u70 ∧ u70 < ln σ (ld σ l0 3)) <|
              gd (kd σ (ld σ l0 14) = 101 ∧ (0 : Int) ≤ (ld σ (ld σ l0 3) u70) ∧ (ld σ (ld σ l0 3) u70) < ln σ (ld σ l0 14)) <|
              gd (kd σ l0 = 22) <|
              gI (4 * l5) <|
              gI ((4 * l5) + 3) <|
              gd (kd σ (ld σ l0 5) = 100 ∧ (0 : Int) ≤ ((4 * l5) + 3) ∧ ((4 * l5) + 3) < ln σ (ld σ l0 5)) <|
              gL ((ld σ (ld σ l0 14) (ld σ (ld σ l0 3) u70)) + (ld σ (ld σ l0 5) ((4 * l5) + 3))) <|
              nm ((ld σ (ld σ l0 14) (ld σ (ld σ l0 3) u70)) + (ld σ (ld σ l0 5) ((4 * l5) + 3))) fun u100 =>
              gd (kd σ l0 = 22) <|
              gd (kd σ l0 = 22) <|
              gd (kd σ (ld σ l0 4) = 100 ∧ (0 : Int) ≤ u70 ∧ u70 < ln σ (ld σ l0 4)) <|
              gd (kd σ (ld σ l0 14) = 101 ∧ (0 : Int) ≤ (ld σ (ld σ l0 4) u70) ∧ (ld σ (ld σ l0 4) u70) < ln σ (ld σ l0 14)) <|
              if (lcmpW (ld σ (ld σ l0 14) (ld σ (ld σ l0 4) u70)) (-1)) = 0 then (
                f_X7_cost_245 n (f_X7_cost_262 n (f_X7_cost_96 n k85 q)) l0 l2 l3 l5 u70 u100 σ)
              else (
                gd (kd σ l0 = 22) <|
                gd (kd σ l0 = 22) <|
                gd (kd σ (ld σ l0 4) = 100 ∧ (0 : Int) ≤ u70 ∧ u70 < ln σ (ld σ l0 4)) <|
                gd (kd σ (ld σ l0 14) = 101 ∧ (0 : Int) ≤ (ld σ (ld σ l0 4) u70) ∧ (ld σ (ld σ l0 4) u70) < ln σ (ld σ l0 14)) <|
                if 0 ≤ (lcmpW u100 (ld σ (ld σ l0 14) (ld σ (ld σ l0 4) u70))) then (
                  f_X7_cost_262 n (f_X7_cost_96 n k85 q) l0 l2 l3 l4 l5 σ)
                else (
                  f_X7_cost_245 n (f_X7_cost_262 n (f_X7_cost_96 n k85 q)) l0 l2 l3 l5 u70 u100 σ)))))
        else (
          f_X7_cost_262 n (f_X7_cost_96 n k85 q) l0 l2 l3 l4 l5 σ)))
noncomputable def f_X7_cost_85 (n : Nat) : Nat → Int → Int → Int → Int → AS → Option (Int × AS)
  | 0, _, _, _, _, _ => none
  | q + 1, l0, l2, l3, l4, σ =>
    if l4 = 0 then (
      gd (kd σ l0 = 22) <|
      gd (kd σ (ld σ l0 14) = 101 ∧ (0 : Int) ≤ l2 ∧ l2 < ln σ (ld σ l0 14)) <|
      some ((ld σ (ld σ l0 14) l2), σ))
    else (
      f_X7_cost_96 n (f_X7_cost_85 n q) n l0 l2 l3 0 0 σ)
noncomputable def f_X7_cost_48 (n : Nat) : Nat → Int → Int → Int → Int → Int → AS → Option (Int × AS)
  | 0, _, _, _, _, _, _ => none
  | q + 1, l0, l1, l2, l3, l4, σ =>
    if 400 ≤ l4 then (
      f_X7_cost_85 n n l0 l2 l3 1 σ)
    else (
      gd (kd σ l0 = 22) <|
      if l4 = l1 then (
        f_X7_cost_75 n (f_X7_cost_48 n q) l0 l1 l2 l3 l4 (ld σ l0 14) l4 0 σ)
      else (
        f_X7_cost_75 n (f_X7_cost_48 n q) l0 l1 l2 l3 l4 (ld σ l0 14) l4 (-1) σ))
noncomputable def f_X7_cost_33 (n : Nat) (l0 l1 l2 l3 s0 s1 : Int) (σ : AS) : Option (Int × AS) :=
  gd (kd σ s0 = 22) <|
  nm (wr σ s0 0 s1) fun σ125 =>
  gd (kd σ125 l0 = 22) <|
  if (ld σ125 l0 0) ≤ 0 then (
    f_X7_cost_48 n n l0 l1 l2 l3 0 σ125)
  else (
    some (0, σ125))
noncomputable def f_X7_cost (n : Nat) (a0 a1 a2 a3 : Int) (σ : AS) : Option (Int × AS) :=
  gd (kd σ a0 = 22) <|
  c1 (f_X7_isNode a0 a1 σ) fun v130 σ131 =>
  if v130 = 0 then (
    f_X7_cost_17 n (f_X7_cost_33 n) a0 a1 a2 a3 a0 σ131)
  else (
    gd (kd σ131 a0 = 22) <|
    c1 (f_X7_isNode a0 a2 σ131) fun v135 σ136 =>
    if v135 = 0 then (
      f_X7_cost_17 n (f_X7_cost_33 n) a0 a1 a2 a3 a0 σ136)
    else (
      c1 (f_X7_isSmall a3 σ136) fun v139 σ140 =>
      if v139 = 0 then (
        f_X7_cost_33 n a0 a1 a2 a3 a0 2 σ140)
      else (
        f_X7_cost_33 n a0 a1 a2 a3 a0 0 σ140)))
noncomputable def f_X1_word_3 (n : Nat) : Nat → Int → Int → Int → AS → Option AS
  | 0, _, _, _, _ => none
  | q + 1, l0, l1, l2, σ =>
    if l2 < 0 then (
      some σ)
    else (
      gd (kd σ l0 = 1) <|
      gd (kd σ l0 = 1) <|
      nm (ld σ l0 3) fun v20 =>
      gI (v20 + 1) <|
      gd (kd σ l0 = 1) <|
      nm (wr σ l0 3 (v20 + 1)) fun σ24 =>
      gd (kd σ24 (ld σ l0 2) = 102 ∧ (0 : Int) ≤ v20 ∧ v20 < ln σ24 (ld σ l0 2)) <|
      gd (-128 ≤ (i2bW (ishrW l1 l2)) ∧ (i2bW (ishrW l1 l2)) ≤ 127) <|
      nm (wr σ24 (ld σ l0 2) v20 (i2bW (ishrW l1 l2))) fun σ28 =>
      gI (l2 + (-8)) <|
      nm (l2 + (-8)) fun u31 =>
      f_X1_word_3 n q l0 l1 u31 σ28)
noncomputable def f_X1_word (n : Nat) (a0 a1 : Int) (σ : AS) : Option AS :=
  f_X1_word_3 n n a0 a1 24 σ
noncomputable def f_X1_feed_18 (n : Nat) (l0 l1 l2 l3 l4 l5 s0 : Int) (σ : AS) : Option ((Nat ⊕ Int) × AS) :=
  cx (f_X1_room s0 σ) fun _ σ2 =>
    gd (kd σ2 l0 = 1) <|
    c0 (f_X1_word n l0 l1 σ2) fun σ7 =>
    gd (kd σ7 l0 = 1) <|
    c0 (f_X1_word n l0 l2 σ7) fun σ11 =>
    gd (kd σ11 l0 = 1) <|
    c0 (f_X1_word n l0 l3 σ11) fun σ15 =>
    gd (kd σ15 l0 = 1) <|
    c0 (f_X1_word n l0 l4 σ15) fun σ19 =>
    gd (kd σ19 l0 = 1) <|
    c0 (f_X1_word n l0 l5 σ19) fun σ23 =>
    gd (kd σ23 l0 = 1) <|
    some (.inr (ld σ23 l0 3), σ23)
noncomputable def f_X1_feed (n : Nat) (a0 a1 a2 a3 a4 a5 : Int) (σ : AS) : Option ((Nat ⊕ Int) × AS) :=
  gd (kd σ a0 = 1) <|
  gI ((ld σ a0 3) + 20) <|
  if 2000 < ((ld σ a0 3) + 20) then (
    f_X1_feed_18 n a0 a1 a2 a3 a4 a5 0 σ)
  else (
    f_X1_feed_18 n a0 a1 a2 a3 a4 a5 1 σ)
noncomputable def f_X0_feed (n : Nat) (a0 a1 a2 a3 a4 a5 a6 : Int) (σ : AS) : Option (Int × AS) :=
  gd (kd σ a0 = 1) <|
  cy (f_X1_feed n a0 a1 a2 a3 a4 a5 σ) (fun E5 σ3 =>
    if E5 = 3 then (
      nm (nx σ3) fun r7 =>
      nm (al σ3 0 0 0) fun σ9 =>
      some (1, σ9)
    ) else (
      none)) fun v2 σ3 =>
    gd (kd σ3 a6 = 101 ∧ (0 : Int) ≤ 0 ∧ 0 < ln σ3 a6) <|
    nm (wr σ3 a6 0 v2) fun σ12 =>
    some (0, σ12)
noncomputable def f_X7_feed_87 (n : Nat) (k34 : Int → Int → Int → Int → Int → Int → Int → AS → Option (Int × AS)) (l0 l1 l2 l3 l4 l5 l6 s0 : Int) (σ : AS) : Option (Int × AS) :=
  gd (kd σ l0 = 22) <|
  gd (kd σ l0 = 22) <|
  gI (8 * (iremW l6 4)) <|
  gI (24 - (8 * (iremW l6 4))) <|
  gd (kd σ (ld σ l0 15) = 102 ∧ (0 : Int) ≤ (ld σ l0 16) ∧ (ld σ l0 16) < ln σ (ld σ l0 15)) <|
  gd (-128 ≤ (i2bW (ishrW s0 (24 - (8 * (iremW l6 4))))) ∧ (i2bW (ishrW s0 (24 - (8 * (iremW l6 4))))) ≤ 127) <|
  nm (wr σ (ld σ l0 15) (ld σ l0 16) (i2bW (ishrW s0 (24 - (8 * (iremW l6 4)))))) fun σ7 =>
  gd (kd σ7 l0 = 22) <|
  gI ((ld σ7 l0 16) + 1) <|
  gd (kd σ7 l0 = 22) <|
  nm (wr σ7 l0 16 ((ld σ7 l0 16) + 1)) fun σ12 =>
  gI (l6 + 1) <|
  nm (l6 + 1) fun u15 =>
  k34 l0 l1 l2 l3 l4 l5 u15 σ12
noncomputable def f_X7_feed_34 (n : Nat) : Nat → Int → Int → Int → Int → Int → Int → Int → AS → Option (Int × AS)
  | 0, _, _, _, _, _, _, _, _ => none
  | q + 1, l0, l1, l2, l3, l4, l5, l6, σ =>
    if 20 ≤ l6 then (
      gd (kd σ l0 = 22) <|
      some ((ld σ l0 16), σ))
    else (
      if 4 ≤ l6 then (
        if 8 ≤ l6 then (
          if 12 ≤ l6 then (
            if 16 ≤ l6 then (
              f_X7_feed_87 n (f_X7_feed_34 n q) l0 l1 l2 l3 l4 l5 l6 l5 σ)
            else (
              f_X7_feed_87 n (f_X7_feed_34 n q) l0 l1 l2 l3 l4 l5 l6 l4 σ))
          else (
            f_X7_feed_87 n (f_X7_feed_34 n q) l0 l1 l2 l3 l4 l5 l6 l3 σ))
        else (
          f_X7_feed_87 n (f_X7_feed_34 n q) l0 l1 l2 l3 l4 l5 l6 l2 σ))
      else (
        f_X7_feed_87 n (f_X7_feed_34 n q) l0 l1 l2 l3 l4 l5 l6 l1 σ))
noncomputable def f_X7_feed_19 (n : Nat) (l0 l1 l2 l3 l4 l5 s0 s1 : Int) (σ : AS) : Option (Int × AS) :=
  gd (kd σ s0 = 22) <|
  nm (wr σ s0 0 s1) fun σ30 =>
  gd (kd σ30 l0 = 22) <|
  if (ld σ30 l0 0) ≤ 0 then (
    f_X7_feed_34 n n l0 l1 l2 l3 l4 l5 0 σ30)
  else (
    some (0, σ30))
noncomputable def f_X7_feed (n : Nat) (a0 a1 a2 a3 a4 a5 : Int) (σ : AS) : Option (Int × AS) :=
  gd (kd σ a0 = 22) <|
  gI ((ld σ a0 16) + 20) <|
  if ((ld σ a0 16) + 20) ≤ 2000 then (
    f_X7_feed_19 n a0 a1 a2 a3 a4 a5 a0 0 σ)
  else (
    f_X7_feed_19 n a0 a1 a2 a3 a4 a5 a0 1 σ)
noncomputable def f_X1_end_16 (k17 : Int → Int → Int → AS → Option ((Nat ⊕ Unit) × AS)) (l0 l1 : Int) (σ : AS) : Option ((Nat ⊕ Unit) × AS) :=
  k17 l0 l1 0 σ
noncomputable def f_X1_end_17 (l0 l1 s0 : Int) (σ : AS) : Option ((Nat ⊕ Unit) × AS) :=
  cx (f_X1_need s0 σ) fun _ σ2 =>
    gd (kd σ2 l0 = 1) <|
    nm (wr σ2 l0 3 l1) fun σ6 =>
    some (.inr (), σ6)
noncomputable def f_X1_end (a0 a1 : Int) (σ : AS) : Option ((Nat ⊕ Unit) × AS) :=
  if a1 < 0 then (
    f_X1_end_16 (f_X1_end_17) a0 a1 σ)
  else (
    gd (kd σ a0 = 1) <|
    if (ld σ a0 3) < a1 then (
      f_X1_end_16 (f_X1_end_17) a0 a1 σ)
    else (
      f_X1_end_17 a0 a1 1 σ))
noncomputable def f_X0_end (a0 a1 : Int) (σ : AS) : Option (Int × AS) :=
  gd (kd σ a0 = 1) <|
  cy (f_X1_end a0 a1 σ) (fun E5 σ3 =>
    if E5 = 2 then (
      nm (nx σ3) fun r7 =>
      nm (al σ3 0 0 0) fun σ9 =>
      some (1, σ9)
    ) else (
      none)) fun _ σ3 =>
    some (0, σ3)
noncomputable def f_X7_end_13 (k18 : Int → Int → Int → Int → AS → Option AS) (l0 l1 s0 : Int) (σ : AS) : Option AS :=
  k18 l0 l1 s0 1 σ
noncomputable def f_X7_end_18 (l0 l1 s0 s1 : Int) (σ : AS) : Option AS :=
  gd (kd σ s0 = 22) <|
  nm (wr σ s0 0 s1) fun σ2 =>
  gd (kd σ2 l0 = 22) <|
  if (ld σ2 l0 0) = 0 then (
    gd (kd σ2 l0 = 22) <|
    nm (wr σ2 l0 16 l1) fun σ11 =>
    some σ11)
  else (
    gd (kd σ2 l0 = 22) <|
    gd (kd σ2 l0 = 22) <|
    nm (wr σ2 l0 16 (ld σ2 l0 16)) fun σ8 =>
    some σ8)
noncomputable def f_X7_end (a0 a1 : Int) (σ : AS) : Option AS :=
  if a1 < 0 then (
    f_X7_end_13 (f_X7_end_18) a0 a1 a0 σ)
  else (
    gd (kd σ a0 = 22) <|
    if a1 ≤ (ld σ a0 16) then (
      f_X7_end_18 a0 a1 a0 0 σ)
    else (
      f_X7_end_13 (f_X7_end_18) a0 a1 a0 σ))
noncomputable def f_J31_init (a0 : Int) (σ : AS) : Option AS :=
  gd (a0 ≠ 0) <|
  c0 (f_J0_init a0 σ) fun σ3 =>
  gd (kd σ3 a0 = 31) <|
  nm (wr σ3 a0 0 0) fun σ6 =>
  some σ6
noncomputable def f_J32_init (a0 : Int) (σ : AS) : Option AS :=
  gd (a0 ≠ 0) <|
  c0 (f_J31_init a0 σ) fun σ3 =>
  gd (kd σ3 a0 = 31) <|
  nm (wr σ3 a0 1 122) fun σ6 =>
  some σ6
noncomputable def f_J33_init (a0 : Int) (σ : AS) : Option AS :=
  gd (a0 ≠ 0) <|
  c0 (f_J7_init a0 σ) fun σ3 =>
  gd (kd σ3 a0 = 32) <|
  nm (wr σ3 a0 5 1061158912) fun σ6 =>
  some σ6
noncomputable def f_J34_init (a0 : Int) (σ : AS) : Option AS :=
  gd (a0 ≠ 0) <|
  c0 (f_J33_init a0 σ) fun σ3 =>
  gd (kd σ3 a0 = 32) <|
  nm (wr σ3 a0 11 0) fun σ6 =>
  gd (kd σ6 a0 = 32) <|
  nm (wr σ6 a0 10 0) fun σ9 =>
  some σ9
noncomputable def f_X18_init (a0 : Int) (σ : AS) : Option AS :=
  gd (a0 ≠ 0) <|
  nm (nx σ) fun r2 =>
  nm (al σ 31 0 3) fun σ4 =>
  gd (r2 ≠ 0) <|
  c0 (f_J32_init r2 σ4) fun σ8 =>
  gd (kd σ8 a0 = 12) <|
  nm (wr σ8 a0 0 r2) fun σ11 =>
  nm (nx σ11) fun r13 =>
  nm (al σ11 31 0 3) fun σ15 =>
  gd (r13 ≠ 0) <|
  c0 (f_J32_init r13 σ15) fun σ19 =>
  gd (kd σ19 a0 = 12) <|
  nm (wr σ19 a0 1 r13) fun σ22 =>
  nm (nx σ22) fun r24 =>
  nm (al σ22 32 0 12) fun σ26 =>
  gd (r24 ≠ 0) <|
  c0 (f_J34_init r24 σ26) fun σ30 =>
  gd (kd σ30 a0 = 12) <|
  nm (wr σ30 a0 2 r24) fun σ33 =>
  nm (nx σ33) fun r35 =>
  nm (al σ33 103 8 8) fun σ37 =>
  gd (kd σ37 a0 = 12) <|
  nm (wr σ37 a0 3 r35) fun σ40 =>
  nm (nx σ40) fun r42 =>
  nm (al σ40 31 0 3) fun σ44 =>
  gd (r42 ≠ 0) <|
  c0 (f_J32_init r42 σ44) fun σ48 =>
  gd (kd σ48 a0 = 12) <|
  nm (wr σ48 a0 4 r42) fun σ51 =>
  nm (nx σ51) fun r53 =>
  nm (al σ51 31 0 3) fun σ55 =>
  gd (r53 ≠ 0) <|
  c0 (f_J32_init r53 σ55) fun σ59 =>
  gd (kd σ59 a0 = 12) <|
  nm (wr σ59 a0 5 r53) fun σ62 =>
  nm (nx σ62) fun r64 =>
  nm (al σ62 31 0 3) fun σ66 =>
  gd (r64 ≠ 0) <|
  c0 (f_J32_init r64 σ66) fun σ70 =>
  gd (kd σ70 a0 = 12) <|
  nm (wr σ70 a0 6 r64) fun σ73 =>
  gd (kd σ73 a0 = 12) <|
  nm (wr σ73 a0 8 2147483647) fun σ76 =>
  some σ76
noncomputable def f_X4_at (a0 a1 : Int) (σ : AS) : Option (Int × AS) :=
  gd (kd σ a0 = 19) <|
  if (ld σ a0 1) ≤ a1 then (
    some (0, σ))
  else (
    gd (kd σ a0 = 19) <|
    gd ((kd σ (ld σ a0 0) = 102 ∨ kd σ (ld σ a0 0) = 1102) ∧ (0 : Int) ≤ a1 ∧ a1 < ln σ (ld σ a0 0)) <|
    some ((ld σ (ld σ a0 0) a1), σ))
noncomputable def f_X4_isSmall (a0 : Int) (σ : AS) : Option (Int × AS) :=
  if a0 < 97 then (
    some (0, σ))
  else (
    if 122 < a0 then (
      some (0, σ))
    else (
      some (1, σ)))
noncomputable def f_X4_isDigit (a0 : Int) (σ : AS) : Option (Int × AS) :=
  if a0 < 48 then (
    some (0, σ))
  else (
    if 57 < a0 then (
      some (0, σ))
    else (
      some (1, σ)))
noncomputable def f_J23_newBytesLength (a0 : Int) (σ : AS) : Option (Int × AS) :=
  if 0 ≤ a0 then (
    if a0 < 1073741823 then (
      some ((ishlW a0 1), σ))
    else (
      none))
  else (
    none)
noncomputable def f_J23_newBytesFor (a0 : Int) (σ : AS) : Option (Int × AS) :=
  c1 (f_J23_newBytesLength a0 σ) fun v1 σ2 =>
  gd ((0 : Int) ≤ v1 ∧ v1 ≤ 67108864) <|
  nm (nx σ2) fun r5 =>
  nm (al σ2 102 v1 v1) fun σ7 =>
  some (r5, σ7)
noncomputable def f_J29_init (a0 a1 : Int) (σ : AS) : Option AS :=
  gd (a0 ≠ 0) <|
  if (1 : Int) = 0 then (
    c1 (f_J23_newBytesFor a1 σ) fun v3 σ4 =>
    gd (kd σ4 a0 = 30) <|
    nm (wr σ4 a0 0 v3) fun σ7 =>
    gd (kd σ7 a0 = 30) <|
    nm (wr σ7 a0 1 1) fun σ10 =>
    some σ10)
  else (
    gd ((0 : Int) ≤ a1 ∧ a1 ≤ 67108864) <|
    nm (nx σ) fun r13 =>
    nm (al σ 102 a1 a1) fun σ15 =>
    gd (kd σ15 a0 = 30) <|
    nm (wr σ15 a0 0 r13) fun σ18 =>
    gd (kd σ18 a0 = 30) <|
    nm (wr σ18 a0 1 0) fun σ21 =>
    some σ21)
noncomputable def f_J30_init (a0 : Int) (σ : AS) : Option AS :=
  gd (a0 ≠ 0) <|
  c0 (f_J29_init a0 16 σ) fun σ3 =>
  some σ3
noncomputable def f_J29_newCapacity (a0 a1 : Int) (σ : AS) : Option (Int × AS) :=
  gd (kd σ a0 = 30) <|
  gd (kd σ (ld σ a0 0) = 102 ∨ kd σ (ld σ a0 0) = 1102) <|
  nm (ln σ (ld σ a0 0)) fun u3 =>
  gd (kd σ a0 = 30) <|
  nm (ishlW a1 (ld σ a0 1)) fun u6 =>
  gI (u6 - u3) <|
  nm (u6 - u3) fun u9 =>
  gd (kd σ a0 = 30) <|
  gI (u3 + (ishlW 2 (ld σ a0 1))) <|
  c1 (f_J21_newLength u3 u9 (u3 + (ishlW 2 (ld σ a0 1))) σ) fun v13 σ14 =>
  if v13 = 2147483647 then (
    none)
  else (
    gd (kd σ14 a0 = 30) <|
    some ((ishrW v13 (ld σ14 a0 1)), σ14))
noncomputable def f_J11_copyOf_3 (a0 a1 : Int) (σ : AS) : Option (Int × AS) :=
  gd (kd σ a0 = 102 ∨ kd σ a0 = 1102) <|
  if a1 = (ln σ a0) then (
    gd (kd σ a0 = 102 ∧ 0 ≤ ln σ a0) <|
    nm (nx σ) fun r16 =>
    nm (cln σ a0) fun σ18 =>
    gd (kd σ18 r16 = 102) <|
    some (r16, σ18))
  else (
    gd ((0 : Int) ≤ a1 ∧ a1 ≤ 67108864) <|
    nm (nx σ) fun r4 =>
    nm (al σ 102 a1 a1) fun σ6 =>
    gd (kd σ6 a0 = 102 ∨ kd σ6 a0 = 1102) <|
    c1 (f_J12_min (ln σ6 a0) a1 σ6) fun v9 σ10 =>
    gd ((kd σ10 a0 = 102 ∨ kd σ10 a0 = 1102) ∧ kd σ10 r4 = 102 ∧ (0 : Int) ≤ 0 ∧ (0 : Int) ≤ 0 ∧ (0 : Int) ≤ v9 ∧ 0 + v9 ≤ ln σ10 a0 ∧ 0 + v9 ≤ ln σ10 r4) <|
    nm (cpy σ10 a0 0 r4 0 v9) fun σ13 =>
    some (r4, σ13))
noncomputable def f_J29_ensureCapacityInternal (a0 a1 : Int) (σ : AS) : Option AS :=
  gd (kd σ a0 = 30) <|
  gd (kd σ (ld σ a0 0) = 102 ∨ kd σ (ld σ a0 0) = 1102) <|
  gd (kd σ a0 = 30) <|
  nm (ishrW (ln σ (ld σ a0 0)) (ld σ a0 1)) fun u4 =>
  gI (a1 - u4) <|
  if (a1 - u4) ≤ 0 then (
    some σ)
  else (
    gd (kd σ a0 = 30) <|
    gd (kd σ a0 = 30) <|
    c1 (f_J29_newCapacity a0 a1 σ) fun v10 σ11 =>
    gd (kd σ11 a0 = 30) <|
    c1 (f_J11_copyOf_3 (ld σ a0 0) (ishlW v10 (ld σ11 a0 1)) σ11) fun v14 σ15 =>
    gd (kd σ15 a0 = 30) <|
    nm (wr σ15 a0 0 v14) fun σ18 =>
    some σ18)
noncomputable def f_J29_isLatin1 (a0 : Int) (σ : AS) : Option (Int × AS) :=
  if (1 : Int) = 0 then (
    some (0, σ))
  else (
    gd (kd σ a0 = 30) <|
    if (ld σ a0 1) = 0 then (
      some (1, σ))
    else (
      some (0, σ)))
noncomputable def f_J20_canEncode (a0 : Int) (σ : AS) : Option (Int × AS) :=
  if 255 < a0 then (
    some (0, σ))
  else (
    some (1, σ))
noncomputable def f_J23_length (a0 : Int) (σ : AS) : Option (Int × AS) :=
  gd (kd σ a0 = 102 ∨ kd σ a0 = 1102) <|
  some ((ishrW (ln σ a0) 1), σ)
noncomputable def f_J24_checkFromIndexSize (a0 a1 a2 a3 : Int) (σ : AS) : Option (Int × AS) :=
  if (iorW (iorW a2 a0) a1) < 0 then (
    none)
  else (
    gI (a2 - a0) <|
    if a1 ≤ (a2 - a0) then (
      some (a0, σ))
    else (
      none))
noncomputable def f_J15_checkBoundsOffCount (a0 a1 a2 : Int) (σ : AS) : Option (Int × AS) :=
  c1 (f_J24_checkFromIndexSize a0 a1 a2 131 σ) fun v1 σ2 =>
  some (v1, σ2)
noncomputable def f_J23_checkBoundsOffCount (a0 a1 a2 : Int) (σ : AS) : Option AS :=
  c1 (f_J23_length a2 σ) fun v1 σ2 =>
  c1 (f_J15_checkBoundsOffCount a0 a1 v1 σ2) fun v4 σ5 =>
  some σ5
noncomputable def f_J23_putChar_28 (l0 l1 l2 : Int) (σ : AS) : Option AS :=
  nm (ishlW l1 1) fun u1 =>
  gI (u1 + 1) <|
  nm (u1 + 1) fun u4 =>
  gd (kd σ l0 = 102 ∧ (0 : Int) ≤ u1 ∧ u1 < ln σ l0) <|
  gd (-128 ≤ (i2bW (ishrW l2 0)) ∧ (i2bW (ishrW l2 0)) ≤ 127) <|
  nm (wr σ l0 u1 (i2bW (ishrW l2 0))) fun σ8 =>
  gd (kd σ8 l0 = 102 ∧ (0 : Int) ≤ u4 ∧ u4 < ln σ8 l0) <|
  gd (-128 ≤ (i2bW (ishrW l2 8)) ∧ (i2bW (ishrW l2 8)) ≤ 127) <|
  nm (wr σ8 l0 u4 (i2bW (ishrW l2 8))) fun σ12 =>
  some σ12
noncomputable def f_J23_putChar (a0 a1 a2 : Int) (σ : AS) : Option AS :=
  if (1 : Int) = 0 then (
    if a1 < 0 then (
      none)
    else (
      c1 (f_J23_length a0 σ) fun v16 σ17 =>
      if a1 < v16 then (
        f_J23_putChar_28 a0 a1 a2 σ17)
      else (
        none)))
  else (
    f_J23_putChar_28 a0 a1 a2 σ)
noncomputable def f_J23_inflate_10 (n : Nat) : Nat → Int → Int → Int → Int → Int → Int → AS → Option AS
  | 0, _, _, _, _, _, _, _ => none
  | q + 1, l0, l1, l2, l3, l4, l5, σ =>
    if l4 ≤ l5 then (
      some σ)
    else (
      gI (l3 + 1) <|
      nm (l3 + 1) fun u17 =>
      gI (l1 + 1) <|
      nm (l1 + 1) fun u20 =>
      gd ((kd σ l0 = 102 ∨ kd σ l0 = 1102) ∧ (0 : Int) ≤ l1 ∧ l1 < ln σ l0) <|
      c0 (f_J23_putChar l2 l3 (iandW (ld σ l0 l1) 255) σ) fun σ24 =>
      gI (l5 + 1) <|
      nm (l5 + 1) fun u27 =>
      f_J23_inflate_10 n q l0 u20 l2 u17 l4 u27 σ24)
noncomputable def f_J23_inflate (n : Nat) (a0 a1 a2 a3 a4 : Int) (σ : AS) : Option AS :=
  c0 (f_J23_checkBoundsOffCount a3 a4 a2 σ) fun σ30 =>
  f_J23_inflate_10 n n a0 a1 a2 a3 a4 0 σ30
noncomputable def f_J20_inflate (n : Nat) (a0 a1 a2 a3 a4 : Int) (σ : AS) : Option AS :=
  c0 (f_J23_inflate n a0 a1 a2 a3 a4 σ) fun σ2 =>
  some σ2
noncomputable def f_J29_inflate (n : Nat) (a0 : Int) (σ : AS) : Option AS :=
  gd (kd σ a0 = 30) <|
  c1 (f_J29_isLatin1 a0 σ) fun v2 σ3 =>
  if v2 = 0 then (
    some σ3)
  else (
    gd (kd σ3 a0 = 30) <|
    gd (kd σ3 (ld σ3 a0 0) = 102 ∨ kd σ3 (ld σ3 a0 0) = 1102) <|
    c1 (f_J23_newBytesFor (ln σ3 (ld σ3 a0 0)) σ3) fun v8 σ9 =>
    gd (kd σ9 a0 = 30) <|
    gd (kd σ9 a0 = 30) <|
    c0 (f_J20_inflate n (ld σ9 a0 0) 0 v8 0 (ld σ9 a0 3) σ9) fun σ14 =>
    gd (kd σ14 a0 = 30) <|
    nm (wr σ14 a0 0 v8) fun σ17 =>
    gd (kd σ17 a0 = 30) <|
    nm (wr σ17 a0 1 1) fun σ20 =>
    some σ20)
noncomputable def f_J24_checkIndex (a0 a1 a2 : Int) (σ : AS) : Option (Int × AS) :=
  if a0 < 0 then (
    none)
  else (
    if a0 < a1 then (
      some (a0, σ))
    else (
      none))
noncomputable def f_J15_checkIndex (a0 a1 : Int) (σ : AS) : Option AS :=
  c1 (f_J24_checkIndex a0 a1 131 σ) fun v1 σ2 =>
  some σ2
noncomputable def f_J23_checkIndex (a0 a1 : Int) (σ : AS) : Option AS :=
  c1 (f_J23_length a1 σ) fun v1 σ2 =>
  c0 (f_J15_checkIndex a0 v1 σ2) fun σ5 =>
  some σ5
noncomputable def f_J23_putCharSB (a0 a1 a2 : Int) (σ : AS) : Option AS :=
  c0 (f_J23_checkIndex a1 a0 σ) fun σ2 =>
  c0 (f_J23_putChar a0 a1 a2 σ2) fun σ5 =>
  some σ5
noncomputable def f_J29_append_3_56 (n : Nat) (l0 l1 : Int) (σ : AS) : Option (Int × AS) :=
  gd (kd σ l0 = 30) <|
  gd (kd σ l0 = 30) <|
  nm (ld σ l0 3) fun v3 =>
  gI (v3 + 1) <|
  gd (kd σ l0 = 30) <|
  nm (wr σ l0 3 (v3 + 1)) fun σ7 =>
  c0 (f_J23_putCharSB (ld σ l0 0) v3 l1 σ7) fun σ10 =>
  some (l0, σ10)
noncomputable def f_J29_append_3_45 (n : Nat) (l0 l1 : Int) (σ : AS) : Option (Int × AS) :=
  gd (kd σ l0 = 30) <|
  c1 (f_J29_isLatin1 l0 σ) fun v13 σ14 =>
  if v13 = 0 then (
    f_J29_append_3_56 n l0 l1 σ14)
  else (
    gd (kd σ14 l0 = 30) <|
    c0 (f_J29_inflate n l0 σ14) fun σ19 =>
    f_J29_append_3_56 n l0 l1 σ19)
noncomputable def f_J29_append_3 (n : Nat) (a0 a1 : Int) (σ : AS) : Option (Int × AS) :=
  gd (kd σ a0 = 30) <|
  gI ((ld σ a0 3) + 1) <|
  gd (kd σ a0 = 30) <|
  c0 (f_J29_ensureCapacityInternal a0 ((ld σ a0 3) + 1) σ) fun σ25 =>
  gd (kd σ25 a0 = 30) <|
  c1 (f_J29_isLatin1 a0 σ25) fun v28 σ29 =>
  if v28 = 0 then (
    f_J29_append_3_45 n a0 a1 σ29)
  else (
    c1 (f_J20_canEncode a1 σ29) fun v32 σ33 =>
    if v32 = 0 then (
      f_J29_append_3_45 n a0 a1 σ33)
    else (
      gd (kd σ33 a0 = 30) <|
      gd (kd σ33 a0 = 30) <|
      nm (ld σ33 a0 3) fun v38 =>
      gI (v38 + 1) <|
      gd (kd σ33 a0 = 30) <|
      nm (wr σ33 a0 3 (v38 + 1)) fun σ42 =>
      gd (kd σ42 (ld σ33 a0 0) = 102 ∧ (0 : Int) ≤ v38 ∧ v38 < ln σ42 (ld σ33 a0 0)) <|
      gd (-128 ≤ (i2bW a1) ∧ (i2bW a1) ≤ 127) <|
      nm (wr σ42 (ld σ33 a0 0) v38 (i2bW a1)) fun σ46 =>
      some (a0, σ46)))
noncomputable def f_J30_append_3 (n : Nat) (a0 a1 : Int) (σ : AS) : Option (Int × AS) :=
  gd (kd σ a0 = 30) <|
  c1 (f_J29_append_3 n a0 a1 σ) fun v2 σ3 =>
  some (a0, σ3)
noncomputable def f_J29_getValue (a0 : Int) (σ : AS) : Option (Int × AS) :=
  gd (kd σ a0 = 30) <|
  some ((ld σ a0 0), σ)
noncomputable def f_J29_length (a0 : Int) (σ : AS) : Option (Int × AS) :=
  gd (kd σ a0 = 30) <|
  some ((ld σ a0 3), σ)
noncomputable def f_J30_length (a0 : Int) (σ : AS) : Option (Int × AS) :=
  gd (kd σ a0 = 30) <|
  c1 (f_J29_length a0 σ) fun v2 σ3 =>
  some (v2, σ3)
noncomputable def f_J11_checkLength (a0 a1 : Int) (σ : AS) : Option AS :=
  if a0 ≤ a1 then (
    some σ)
  else (
    none)
noncomputable def f_J11_copyOfRangeByte (a0 a1 a2 : Int) (σ : AS) : Option (Int × AS) :=
  c0 (f_J11_checkLength a1 a2 σ) fun σ2 =>
  gI (a2 - a1) <|
  nm (a2 - a1) fun u5 =>
  gd ((0 : Int) ≤ u5 ∧ u5 ≤ 67108864) <|
  nm (nx σ2) fun r8 =>
  nm (al σ2 102 u5 u5) fun σ10 =>
  gd (kd σ10 a0 = 102 ∨ kd σ10 a0 = 1102) <|
  gI ((ln σ10 a0) - a1) <|
  c1 (f_J12_min ((ln σ10 a0) - a1) u5 σ10) fun v14 σ15 =>
  gd ((kd σ15 a0 = 102 ∨ kd σ15 a0 = 1102) ∧ kd σ15 r8 = 102 ∧ (0 : Int) ≤ a1 ∧ (0 : Int) ≤ 0 ∧ (0 : Int) ≤ v14 ∧ a1 + v14 ≤ ln σ15 a0 ∧ 0 + v14 ≤ ln σ15 r8) <|
  nm (cpy σ15 a0 a1 r8 0 v14) fun σ18 =>
  some (r8, σ18)
noncomputable def f_J11_copyOfRange_10 (l0 l1 l2 : Int) (σ : AS) : Option (Int × AS) :=
  c1 (f_J11_copyOfRangeByte l0 l1 l2 σ) fun v1 σ2 =>
  some (v1, σ2)
noncomputable def f_J11_copyOfRange (a0 a1 a2 : Int) (σ : AS) : Option (Int × AS) :=
  if a1 = 0 then (
    gd (kd σ a0 = 102 ∨ kd σ a0 = 1102) <|
    if a2 = (ln σ a0) then (
      gd (kd σ a0 = 102 ∧ 0 ≤ ln σ a0) <|
      nm (nx σ) fun r8 =>
      nm (cln σ a0) fun σ10 =>
      gd (kd σ10 r8 = 102) <|
      some (r8, σ10))
    else (
      f_J11_copyOfRange_10 a0 a1 a2 σ))
  else (
    f_J11_copyOfRange_10 a0 a1 a2 σ)
noncomputable def f_J15_init_2_79 (l0 l3 l4 : Int) (σ : AS) : Option AS :=
  gd (kd σ l0 = 24) <|
  nm (wr σ l0 1 1) fun σ2 =>
  c1 (f_J11_copyOfRange l3 0 (ishlW l4 1) σ2) fun v4 σ5 =>
  gd (kd σ5 l0 = 24) <|
  nm (wr σ5 l0 0 v4) fun σ8 =>
  some σ8
noncomputable def f_J15_init_2 (a0 a1 a2 : Int) (σ : AS) : Option AS :=
  gd (a0 ≠ 0) <|
  gd (kd σ a1 = 30) <|
  c1 (f_J29_getValue a1 σ) fun v12 σ13 =>
  gd (kd σ13 a1 = 30) <|
  c1 (f_J30_length a1 σ13) fun v16 σ17 =>
  gd (kd σ17 a1 = 30) <|
  c1 (f_J29_isLatin1 a1 σ17) fun v20 σ21 =>
  if v20 = 0 then (
    if (1 : Int) = 0 then (
      f_J15_init_2_79 a0 v12 v16 σ21)
    else (
      gd (kd σ21 a1 = 30) <|
      if (ld σ21 a1 2) = 0 then (
        f_J15_init_2_79 a0 v12 v16 σ21)
      else (
        none)))
  else (
    gd (kd σ21 a0 = 24) <|
    nm (wr σ21 a0 1 0) fun σ28 =>
    c1 (f_J11_copyOfRange v12 0 v16 σ28) fun v30 σ31 =>
    gd (kd σ31 a0 = 24) <|
    nm (wr σ31 a0 0 v30) fun σ34 =>
    some σ34)
noncomputable def f_J15_init (a0 a1 : Int) (σ : AS) : Option AS :=
  gd (a0 ≠ 0) <|
  c0 (f_J15_init_2 a0 a1 0 σ) fun σ3 =>
  some σ3
noncomputable def f_J30_toString (a0 : Int) (σ : AS) : Option (Int × AS) :=
  nm (nx σ) fun r1 =>
  nm (al σ 24 0 4) fun σ3 =>
  gd (r1 ≠ 0) <|
  c0 (f_J15_init r1 a0 σ3) fun σ7 =>
  some (r1, σ7)
noncomputable def f_X4_piece_13 (n : Nat) : Nat → Int → Int → Int → AS → Option (Int × AS)
  | 0, _, _, _, _ => none
  | q + 1, l0, l1, l2, σ =>
    gd (kd σ l0 = 19) <|
    if (ld σ l0 3) ≤ l2 then (
      gd (kd σ l1 = 30) <|
      c1 (f_J30_toString l1 σ) fun v19 σ20 =>
      some (v19, σ20))
    else (
      gd (kd σ l0 = 19) <|
      gd ((kd σ (ld σ l0 0) = 102 ∨ kd σ (ld σ l0 0) = 1102) ∧ (0 : Int) ≤ l2 ∧ l2 < ln σ (ld σ l0 0)) <|
      gd (kd σ l1 = 30) <|
      c1 (f_J30_append_3 n l1 (i2cW (ld σ (ld σ l0 0) l2)) σ) fun v25 σ26 =>
      gI (l2 + 1) <|
      nm (l2 + 1) fun u29 =>
      f_X4_piece_13 n q l0 l1 u29 σ26)
noncomputable def f_X4_piece (n : Nat) (a0 : Int) (σ : AS) : Option (Int × AS) :=
  nm (nx σ) fun r31 =>
  nm (al σ 30 0 4) fun σ33 =>
  gd (r31 ≠ 0) <|
  c0 (f_J30_init r31 σ33) fun σ37 =>
  gd (kd σ37 a0 = 19) <|
  nm (ld σ37 a0 2) fun u40 =>
  f_X4_piece_13 n n a0 r31 u40 σ37
noncomputable def f_J20_equals_9 (n : Nat) : Nat → Int → Int → Int → AS → Option (Int × AS)
  | 0, _, _, _, _ => none
  | q + 1, l0, l1, l2, σ =>
    gd (kd σ l0 = 102 ∨ kd σ l0 = 1102) <|
    if (ln σ l0) ≤ l2 then (
      some (1, σ))
    else (
      gd ((kd σ l0 = 102 ∨ kd σ l0 = 1102) ∧ (0 : Int) ≤ l2 ∧ l2 < ln σ l0) <|
      gd ((kd σ l1 = 102 ∨ kd σ l1 = 1102) ∧ (0 : Int) ≤ l2 ∧ l2 < ln σ l1) <|
      if (ld σ l0 l2) = (ld σ l1 l2) then (
        gI (l2 + 1) <|
        nm (l2 + 1) fun u15 =>
        f_J20_equals_9 n q l0 l1 u15 σ)
      else (
        some (0, σ)))
noncomputable def f_J20_equals (n : Nat) (a0 a1 : Int) (σ : AS) : Option (Int × AS) :=
  gd (kd σ a0 = 102 ∨ kd σ a0 = 1102) <|
  gd (kd σ a1 = 102 ∨ kd σ a1 = 1102) <|
  if (ln σ a0) = (ln σ a1) then (
    f_J20_equals_9 n n a0 a1 0 σ)
  else (
    some (0, σ))
noncomputable def f_J15_equals_36 (n : Nat) (l0 l2 : Int) (σ : AS) : Option (Int × AS) :=
  gd (kd σ l0 = 24 ∨ kd σ l0 = 1024) <|
  gd (kd σ l2 = 24 ∨ kd σ l2 = 1024) <|
  c1 (f_J20_equals n (ld σ l0 0) (ld σ l2 0) σ) fun v3 σ4 =>
  if v3 = 0 then (
    some (0, σ4))
  else (
    some (1, σ4))
noncomputable def f_J15_equals (n : Nat) (a0 a1 : Int) (σ : AS) : Option (Int × AS) :=
  gdc (cmpOk σ a0 a1) <|
  if a0 = a1 then (
    some (1, σ))
  else (
    gd (kd σ a1 = 24 ∨ kd σ a1 = 1024) <|
    if (1 : Int) = 0 then (
      some (0, σ))
    else (
      gd (a1 = 0 ∨ kd σ a1 = 24 ∨ kd σ a1 = 1024) <|
      if (1 : Int) = 0 then (
        f_J15_equals_36 n a0 a1 σ)
      else (
        gd (kd σ a0 = 24 ∨ kd σ a0 = 1024) <|
        gd (kd σ a1 = 24 ∨ kd σ a1 = 1024) <|
        if (ld σ a0 1) = (ld σ a1 1) then (
          f_J15_equals_36 n a0 a1 σ)
        else (
          some (0, σ)))))
noncomputable def f_X4_isWord_54 (n : Nat) (k59 : Int → Int → AS → Option (Int × AS)) (l0 : Int) (σ : AS) : Option (Int × AS) :=
  k59 l0 1 σ
noncomputable def f_X4_isWord_59 (n : Nat) (l0 s0 : Int) (σ : AS) : Option (Int × AS) :=
  if s0 = 0 then (
    gd (kd σ l0 = 24 ∨ kd σ l0 = 1024) <|
    c1 (f_J15_equals n l0 89 σ) fun v3 σ4 =>
    if v3 = 0 then (
      gd (kd σ4 l0 = 24 ∨ kd σ4 l0 = 1024) <|
      c1 (f_J15_equals n l0 91 σ4) fun v8 σ9 =>
      if v8 = 0 then (
        gd (kd σ9 l0 = 24 ∨ kd σ9 l0 = 1024) <|
        c1 (f_J15_equals n l0 93 σ9) fun v13 σ14 =>
        if v13 = 0 then (
          gd (kd σ14 l0 = 24 ∨ kd σ14 l0 = 1024) <|
          c1 (f_J15_equals n l0 95 σ14) fun v18 σ19 =>
          if v18 = 0 then (
            gd (kd σ19 l0 = 24 ∨ kd σ19 l0 = 1024) <|
            c1 (f_J15_equals n l0 97 σ19) fun v23 σ24 =>
            if v23 = 0 then (
              some (0, σ24))
            else (
              some (1, σ24)))
          else (
            some (1, σ19)))
        else (
          some (1, σ14)))
      else (
        some (1, σ9)))
    else (
      some (1, σ4)))
  else (
    some (1, σ))
noncomputable def f_X4_isWord (n : Nat) (a0 : Int) (σ : AS) : Option (Int × AS) :=
  gd (kd σ a0 = 24 ∨ kd σ a0 = 1024) <|
  c1 (f_J15_equals n a0 77 σ) fun v28 σ29 =>
  if v28 = 0 then (
    gd (kd σ29 a0 = 24 ∨ kd σ29 a0 = 1024) <|
    c1 (f_J15_equals n a0 79 σ29) fun v33 σ34 =>
    if v33 = 0 then (
      gd (kd σ34 a0 = 24 ∨ kd σ34 a0 = 1024) <|
      c1 (f_J15_equals n a0 81 σ34) fun v38 σ39 =>
      if v38 = 0 then (
        gd (kd σ39 a0 = 24 ∨ kd σ39 a0 = 1024) <|
        c1 (f_J15_equals n a0 83 σ39) fun v43 σ44 =>
        if v43 = 0 then (
          gd (kd σ44 a0 = 24 ∨ kd σ44 a0 = 1024) <|
          c1 (f_J15_equals n a0 85 σ44) fun v48 σ49 =>
          if v48 = 0 then (
            gd (kd σ49 a0 = 24 ∨ kd σ49 a0 = 1024) <|
            c1 (f_J15_equals n a0 87 σ49) fun v53 σ54 =>
            if v53 = 0 then (
              f_X4_isWord_59 n a0 0 σ54)
            else (
              f_X4_isWord_54 n (f_X4_isWord_59 n) a0 σ54))
          else (
            f_X4_isWord_54 n (f_X4_isWord_59 n) a0 σ49))
        else (
          f_X4_isWord_54 n (f_X4_isWord_59 n) a0 σ44))
      else (
        f_X4_isWord_54 n (f_X4_isWord_59 n) a0 σ39))
    else (
      f_X4_isWord_54 n (f_X4_isWord_59 n) a0 σ34))
  else (
    f_X4_isWord_54 n (f_X4_isWord_59 n) a0 σ29)
noncomputable def f_J12_min_2 (a0 a1 : Int) (σ : AS) : Option (Int × AS) :=
  if 0 < (lcmpW a0 a1) then (
    some (a1, σ))
  else (
    some (a0, σ))
noncomputable def f_X4_readNumber_83 (n : Nat) (l0 s0 s1 : Int) (σ : AS) : Option (Int × AS) :=
  gd (kd σ s0 = 19) <|
  nm (wr σ s0 6 s1) fun σ2 =>
  gd (kd σ2 l0 = 19) <|
  if (lcmpW (ld σ2 l0 6) (-2147483648)) < 0 then (
    some (123, σ2))
  else (
    gd (kd σ2 l0 = 19) <|
    if (lcmpW (ld σ2 l0 6) 2147483647) ≤ 0 then (
      some (126, σ2))
    else (
      some (123, σ2)))
noncomputable def f_X4_readNumber_23 (n : Nat) : Nat → Int → Int → Int → AS → Option (Int × AS)
  | 0, _, _, _, _ => none
  | q + 1, l0, l1, l2, σ =>
    gd (kd σ l0 = 19) <|
    if (ld σ l0 3) ≤ l2 then (
      if l1 = 0 then (
        gd (kd σ l0 = 19) <|
        f_X4_readNumber_83 n l0 l0 (ld σ l0 6) σ)
      else (
        gd (kd σ l0 = 19) <|
        gL (-(ld σ l0 6)) <|
        f_X4_readNumber_83 n l0 l0 (-(ld σ l0 6)) σ))
    else (
      gd (kd σ l0 = 19) <|
      gL (10 * (ld σ l0 6)) <|
      gd (kd σ l0 = 19) <|
      c1 (f_X4_at l0 l2 σ) fun v40 σ41 =>
      gL ((10 * (ld σ l0 6)) + v40) <|
      gL (((10 * (ld σ l0 6)) + v40) - 48) <|
      c1 (f_J12_min_2 4000000000 (((10 * (ld σ l0 6)) + v40) - 48) σ41) fun v45 σ46 =>
      gd (kd σ46 l0 = 19) <|
      nm (wr σ46 l0 6 v45) fun σ49 =>
      gI (l2 + 1) <|
      nm (l2 + 1) fun u52 =>
      f_X4_readNumber_23 n q l0 l1 u52 σ49)
noncomputable def f_X4_readNumber_22 (n : Nat) (l0 l1 s0 : Int) (σ : AS) : Option (Int × AS) :=
  f_X4_readNumber_23 n n l0 l1 s0 σ
noncomputable def f_X4_readNumber (n : Nat) (a0 a1 : Int) (σ : AS) : Option (Int × AS) :=
  gd (kd σ a0 = 19) <|
  nm (wr σ a0 6 0) fun σ55 =>
  if a1 = 0 then (
    gd (kd σ55 a0 = 19) <|
    f_X4_readNumber_22 n a0 a1 (ld σ55 a0 2) σ55)
  else (
    gd (kd σ55 a0 = 19) <|
    gI ((ld σ55 a0 2) + 1) <|
    f_X4_readNumber_22 n a0 a1 ((ld σ55 a0 2) + 1) σ55)
noncomputable def f_J15_isLatin1 (a0 : Int) (σ : AS) : Option (Int × AS) :=
  if (1 : Int) = 0 then (
    some (0, σ))
  else (
    gd (kd σ a0 = 24 ∨ kd σ a0 = 1024) <|
    if (ld σ a0 1) = 0 then (
      some (1, σ))
    else (
      some (0, σ)))
noncomputable def f_J15_coder (a0 : Int) (σ : AS) : Option (Int × AS) :=
  if (1 : Int) = 0 then (
    some (1, σ))
  else (
    gd (kd σ a0 = 24 ∨ kd σ a0 = 1024) <|
    gd (-128 ≤ (ld σ a0 1) ∧ (ld σ a0 1) ≤ 127) <|
    some ((ld σ a0 1), σ))
noncomputable def f_J15_length (a0 : Int) (σ : AS) : Option (Int × AS) :=
  gd (kd σ a0 = 24 ∨ kd σ a0 = 1024) <|
  gd (kd σ (ld σ a0 0) = 102 ∨ kd σ (ld σ a0 0) = 1102) <|
  gd (kd σ a0 = 24 ∨ kd σ a0 = 1024) <|
  c1 (f_J15_coder a0 σ) fun v4 σ5 =>
  some ((ishrW (ln σ (ld σ a0 0)) v4), σ5)
noncomputable def f_J20_canEncode_2 (a0 : Int) (σ : AS) : Option (Int × AS) :=
  if a0 < 0 then (
    some (0, σ))
  else (
    if 255 < a0 then (
      some (0, σ))
    else (
      some (1, σ)))
noncomputable def f_J20_indexOfChar_7 (n : Nat) : Nat → Int → Int → Int → Int → AS → Option (Int × AS)
  | 0, _, _, _, _, _ => none
  | q + 1, l0, l3, l4, l5, σ =>
    if l3 ≤ l5 then (
      some ((-1), σ))
    else (
      gd ((kd σ l0 = 102 ∨ kd σ l0 = 1102) ∧ (0 : Int) ≤ l5 ∧ l5 < ln σ l0) <|
      if (ld σ l0 l5) = l4 then (
        some (l5, σ))
      else (
        gI (l5 + 1) <|
        nm (l5 + 1) fun u11 =>
        f_J20_indexOfChar_7 n q l0 l3 l4 u11 σ))
noncomputable def f_J20_indexOfChar (n : Nat) (a0 a1 a2 a3 : Int) (σ : AS) : Option (Int × AS) :=
  nm (i2bW a1) fun u13 =>
  f_J20_indexOfChar_7 n n a0 a3 u13 a2 σ
noncomputable def f_J20_indexOf (n : Nat) (a0 a1 a2 a3 : Int) (σ : AS) : Option (Int × AS) :=
  c1 (f_J20_canEncode_2 a1 σ) fun v1 σ2 =>
  if v1 = 0 then (
    some ((-1), σ2))
  else (
    c1 (f_J12_max a2 0 σ2) fun v5 σ6 =>
    gd (kd σ6 a0 = 102 ∨ kd σ6 a0 = 1102) <|
    c1 (f_J12_min a3 (ln σ6 a0) σ6) fun v9 σ10 =>
    if v5 < v9 then (
      c1 (f_J20_indexOfChar n a0 a1 v5 v9 σ10) fun v13 σ14 =>
      some (v13, σ14))
    else (
      some ((-1), σ10)))
noncomputable def f_J15_indexOf_2 (n : Nat) (a0 a1 a2 : Int) (σ : AS) : Option (Int × AS) :=
  gd (kd σ a0 = 24 ∨ kd σ a0 = 1024) <|
  c1 (f_J15_isLatin1 a0 σ) fun v2 σ3 =>
  if v2 = 0 then (
    gd (kd σ3 a0 = 24 ∨ kd σ3 a0 = 1024) <|
    gd (kd σ3 a0 = 24 ∨ kd σ3 a0 = 1024) <|
    c1 (f_J15_length a0 σ3) fun v8 σ9 =>
    none)
  else (
    gd (kd σ3 a0 = 24 ∨ kd σ3 a0 = 1024) <|
    gd (kd σ3 a0 = 24 ∨ kd σ3 a0 = 1024) <|
    c1 (f_J15_length a0 σ3) fun v13 σ14 =>
    c1 (f_J20_indexOf n (ld σ3 a0 0) a1 a2 v13 σ14) fun v16 σ17 =>
    some (v16, σ17))
noncomputable def f_J15_indexOf (n : Nat) (a0 a1 : Int) (σ : AS) : Option (Int × AS) :=
  gd (kd σ a0 = 24 ∨ kd σ a0 = 1024) <|
  c1 (f_J15_indexOf_2 n a0 a1 0 σ) fun v2 σ3 =>
  some (v2, σ3)
noncomputable def f_X4_sign_70 (n : Nat) (k71 : Int → Int → Int → AS → Option AS) (l0 l1 : Int) (σ : AS) : Option AS :=
  k71 l0 l1 0 σ
noncomputable def f_X4_sign_54 (n : Nat) (k71 : Int → Int → Int → AS → Option AS) (k66 : Int → Int → AS → Option AS) (l0 l1 l2 : Int) (σ : AS) : Option AS :=
  if l1 = 33 then (
    if l2 = 61 then (
      k66 l0 l1 σ)
    else (
      f_X4_sign_70 n k71 l0 l1 σ))
  else (
    f_X4_sign_70 n k71 l0 l1 σ)
noncomputable def f_X4_sign_42 (n : Nat) (k71 : Int → Int → Int → AS → Option AS) (k66 : Int → Int → AS → Option AS) (l0 l1 l2 : Int) (σ : AS) : Option AS :=
  if l1 = 62 then (
    if l2 = 61 then (
      k66 l0 l1 σ)
    else (
      f_X4_sign_54 n k71 k66 l0 l1 l2 σ))
  else (
    f_X4_sign_54 n k71 k66 l0 l1 l2 σ)
noncomputable def f_X4_sign_24 (n : Nat) (k71 : Int → Int → Int → AS → Option AS) (k66 : Int → Int → AS → Option AS) (l0 l1 l2 : Int) (σ : AS) : Option AS :=
  if l1 = 60 then (
    if l2 = 45 then (
      k66 l0 l1 σ)
    else (
      if l2 = 61 then (
        k66 l0 l1 σ)
      else (
        f_X4_sign_42 n k71 k66 l0 l1 l2 σ)))
  else (
    f_X4_sign_42 n k71 k66 l0 l1 l2 σ)
noncomputable def f_X4_sign_12 (n : Nat) (k71 : Int → Int → Int → AS → Option AS) (k66 : Int → Int → AS → Option AS) (l0 l1 l2 : Int) (σ : AS) : Option AS :=
  if l1 = 45 then (
    if l2 = 62 then (
      k66 l0 l1 σ)
    else (
      f_X4_sign_24 n k71 k66 l0 l1 l2 σ))
  else (
    f_X4_sign_24 n k71 k66 l0 l1 l2 σ)
noncomputable def f_X4_sign_66 (n : Nat) (k71 : Int → Int → Int → AS → Option AS) (l0 l1 : Int) (σ : AS) : Option AS :=
  k71 l0 l1 1 σ
noncomputable def f_X4_sign_86 (n : Nat) (l0 l1 l3 s0 s1 s2 : Int) (σ : AS) : Option AS :=
  gI (s1 + s2) <|
  gd (kd σ s0 = 19) <|
  nm (wr σ s0 3 (s1 + s2)) fun σ12 =>
  gd (kd σ12 l0 = 19) <|
  c1 (f_X4_piece n l0 σ12) fun v15 σ16 =>
  gd (kd σ16 l0 = 19) <|
  nm (wr σ16 l0 5 v15) fun σ19 =>
  if l3 = 0 then (
    gd (kd σ19 99 = 24 ∨ kd σ19 99 = 1024) <|
    c1 (f_J15_indexOf n 99 l1 σ19) fun v26 σ27 =>
    if v26 < 0 then (
      gd (kd σ27 l0 = 19) <|
      nm (wr σ27 l0 4 123) fun σ31 =>
      some σ31)
    else (
      gd (kd σ27 l0 = 19) <|
      nm (wr σ27 l0 4 128) fun σ34 =>
      some σ34))
  else (
    gd (kd σ19 l0 = 19) <|
    nm (wr σ19 l0 4 128) fun σ23 =>
    some σ23)
noncomputable def f_X4_sign_71 (n : Nat) (l0 l1 s0 : Int) (σ : AS) : Option AS :=
  gd (kd σ l0 = 19) <|
  if s0 = 0 then (
    f_X4_sign_86 n l0 l1 s0 l0 (ld σ l0 2) 1 σ)
  else (
    f_X4_sign_86 n l0 l1 s0 l0 (ld σ l0 2) 2 σ)
noncomputable def f_X4_sign (n : Nat) (a0 a1 a2 : Int) (σ : AS) : Option AS :=
  if a1 = 46 then (
    if a2 = 46 then (
      f_X4_sign_66 n (f_X4_sign_71 n) a0 a1 σ)
    else (
      f_X4_sign_12 n (f_X4_sign_71 n) (f_X4_sign_66 n (f_X4_sign_71 n)) a0 a1 a2 σ))
  else (
    f_X4_sign_12 n (f_X4_sign_71 n) (f_X4_sign_66 n (f_X4_sign_71 n)) a0 a1 a2 σ)
noncomputable def f_X4_next_71 (n : Nat) (k8 : Int → AS → Option AS) (l0 : Int) (σ : AS) : Option AS :=
  gd (kd σ l0 = 19) <|
  gI ((ld σ l0 2) + 1) <|
  gd (kd σ l0 = 19) <|
  nm (wr σ l0 2 ((ld σ l0 2) + 1)) fun σ4 =>
  k8 l0 σ4
noncomputable def f_X4_next_174 (n : Nat) (k146 : Int → AS → Option AS) (l0 : Int) (σ : AS) : Option AS :=
  gd (kd σ l0 = 19) <|
  gI ((ld σ l0 3) + 1) <|
  gd (kd σ l0 = 19) <|
  nm (wr σ l0 3 ((ld σ l0 3) + 1)) fun σ9 =>
  k146 l0 σ9
noncomputable def f_X4_next_146 (n : Nat) : Nat → Int → AS → Option AS
  | 0, _, _ => none
  | q + 1, l0, σ =>
    gd (kd σ l0 = 19) <|
    gd (kd σ l0 = 19) <|
    c1 (f_X4_at l0 (ld σ l0 3) σ) fun v49 σ50 =>
    c1 (f_X4_isSmall v49 σ50) fun v52 σ53 =>
    if v52 = 0 then (
      gd (kd σ53 l0 = 19) <|
      gd (kd σ53 l0 = 19) <|
      c1 (f_X4_at l0 (ld σ53 l0 3) σ53) fun v58 σ59 =>
      c1 (f_X4_isDigit v58 σ59) fun v61 σ62 =>
      if v61 = 0 then (
        gd (kd σ62 l0 = 19) <|
        c1 (f_X4_piece n l0 σ62) fun v66 σ67 =>
        gd (kd σ67 l0 = 19) <|
        nm (wr σ67 l0 5 v66) fun σ70 =>
        gd (kd σ70 l0 = 19) <|
        c1 (f_X4_isWord n (ld σ70 l0 5) σ70) fun v73 σ74 =>
        if v73 = 0 then (
          gd (kd σ74 l0 = 19) <|
          nm (wr σ74 l0 4 125) fun σ78 =>
          some σ78)
        else (
          gd (kd σ74 l0 = 19) <|
          nm (wr σ74 l0 4 127) fun σ81 =>
          some σ81))
      else (
        f_X4_next_174 n (f_X4_next_146 n q) l0 σ62))
    else (
      f_X4_next_174 n (f_X4_next_146 n q) l0 σ53)
noncomputable def f_X4_next_291 (n : Nat) (s0 s1 s2 : Int) (σ : AS) : Option AS :=
  gd (kd σ s1 = 19) <|
  c1 (f_X4_readNumber n s1 s2 σ) fun v84 σ85 =>
  gd (kd σ85 s0 = 19) <|
  nm (wr σ85 s0 4 v84) fun σ88 =>
  some σ88
noncomputable def f_X4_next_251 (n : Nat) : Nat → Int → Int → AS → Option AS
  | 0, _, _, _ => none
  | q + 1, l0, l1, σ =>
    gd (kd σ l0 = 19) <|
    gd (kd σ l0 = 19) <|
    c1 (f_X4_at l0 (ld σ l0 3) σ) fun v107 σ108 =>
    c1 (f_X4_isDigit v107 σ108) fun v110 σ111 =>
    if v110 = 0 then (
      if l1 = 45 then (
        f_X4_next_291 n l0 l0 1 σ111)
      else (
        f_X4_next_291 n l0 l0 0 σ111))
    else (
      gd (kd σ111 l0 = 19) <|
      gI ((ld σ111 l0 3) + 1) <|
      gd (kd σ111 l0 = 19) <|
      nm (wr σ111 l0 3 ((ld σ111 l0 3) + 1)) fun σ118 =>
      f_X4_next_251 n q l0 l1 σ118)
noncomputable def f_X4_next_241 (n : Nat) (l0 l1 : Int) (σ : AS) : Option AS :=
  gd (kd σ l0 = 19) <|
  gI ((ld σ l0 3) + 1) <|
  gd (kd σ l0 = 19) <|
  nm (wr σ l0 3 ((ld σ l0 3) + 1)) fun σ123 =>
  f_X4_next_251 n n l0 l1 σ123
noncomputable def f_X4_next_300 (n : Nat) (l0 l1 l2 : Int) (σ : AS) : Option AS :=
  gd (kd σ l0 = 19) <|
  c0 (f_X4_sign n l0 l1 l2 σ) fun σ127 =>
  some σ127
noncomputable def f_X4_next_84 (n : Nat) (l0 : Int) (σ : AS) : Option AS :=
  gd (kd σ l0 = 19) <|
  gd (kd σ l0 = 19) <|
  nm (wr σ l0 3 (ld σ l0 2)) fun σ131 =>
  gd (kd σ131 l0 = 19) <|
  nm (wr σ131 l0 5 75) fun σ134 =>
  gd (kd σ134 l0 = 19) <|
  gd (kd σ134 l0 = 19) <|
  c1 (f_X4_at l0 (ld σ134 l0 2) σ134) fun v138 σ139 =>
  gd (kd σ139 l0 = 19) <|
  gI ((ld σ139 l0 2) + 1) <|
  gd (kd σ139 l0 = 19) <|
  c1 (f_X4_at l0 ((ld σ139 l0 2) + 1) σ139) fun v144 σ145 =>
  gd (kd σ145 l0 = 19) <|
  gd (kd σ145 l0 = 19) <|
  if (ld σ145 l0 2) < (ld σ145 l0 1) then (
    c1 (f_X4_isSmall v138 σ145) fun v150 σ151 =>
    if v150 = 0 then (
      c1 (f_X4_isDigit v138 σ151) fun v154 σ155 =>
      if v154 = 0 then (
        if v138 = 45 then (
          c1 (f_X4_isDigit v144 σ155) fun v159 σ160 =>
          if v159 = 0 then (
            f_X4_next_300 n l0 v138 v144 σ160)
          else (
            f_X4_next_241 n l0 v138 σ160))
        else (
          f_X4_next_300 n l0 v138 v144 σ155))
      else (
        f_X4_next_241 n l0 v138 σ155))
    else (
      f_X4_next_146 n n l0 σ151))
  else (
    gd (kd σ145 l0 = 19) <|
    nm (wr σ145 l0 4 124) fun σ164 =>
    some σ164)
noncomputable def f_X4_next_8 (n : Nat) : Nat → Int → AS → Option AS
  | 0, _, _ => none
  | q + 1, l0, σ =>
    gd (kd σ l0 = 19) <|
    gd (kd σ l0 = 19) <|
    if (ld σ l0 1) ≤ (ld σ l0 2) then (
      f_X4_next_84 n l0 σ)
    else (
      gd (kd σ l0 = 19) <|
      gd (kd σ l0 = 19) <|
      c1 (f_X4_at l0 (ld σ l0 2) σ) fun v198 σ199 =>
      if v198 = 32 then (
        f_X4_next_71 n (f_X4_next_8 n q) l0 σ199)
      else (
        gd (kd σ199 l0 = 19) <|
        gd (kd σ199 l0 = 19) <|
        c1 (f_X4_at l0 (ld σ199 l0 2) σ199) fun v204 σ205 =>
        if v204 = 9 then (
          f_X4_next_71 n (f_X4_next_8 n q) l0 σ205)
        else (
          gd (kd σ205 l0 = 19) <|
          gd (kd σ205 l0 = 19) <|
          c1 (f_X4_at l0 (ld σ205 l0 2) σ205) fun v210 σ211 =>
          if v210 = 10 then (
            f_X4_next_71 n (f_X4_next_8 n q) l0 σ211)
          else (
            gd (kd σ211 l0 = 19) <|
            gd (kd σ211 l0 = 19) <|
            c1 (f_X4_at l0 (ld σ211 l0 2) σ211) fun v216 σ217 =>
            if v216 = 13 then (
              f_X4_next_71 n (f_X4_next_8 n q) l0 σ217)
            else (
              f_X4_next_84 n l0 σ217)))))
noncomputable def f_X4_next (n : Nat) (a0 : Int) (σ : AS) : Option AS :=
  gd (kd σ a0 = 19) <|
  gd (kd σ a0 = 19) <|
  nm (wr σ a0 2 (ld σ a0 3)) fun σ222 =>
  f_X4_next_8 n n a0 σ222
noncomputable def f_X4_begin (n : Nat) (a0 a1 a2 : Int) (σ : AS) : Option AS :=
  gd (kd σ a0 = 19) <|
  nm (wr σ a0 0 a1) fun σ2 =>
  gd (kd σ2 a0 = 19) <|
  nm (wr σ2 a0 1 a2) fun σ5 =>
  gd (kd σ5 a0 = 19) <|
  nm (wr σ5 a0 3 0) fun σ8 =>
  gd (kd σ8 a0 = 19) <|
  c0 (f_X4_next n a0 σ8) fun σ12 =>
  some σ12
noncomputable def f_J32_size (a0 : Int) (σ : AS) : Option (Int × AS) :=
  gd (kd σ a0 = 31) <|
  some ((ld σ a0 2), σ)
noncomputable def f_X4_is_20 (n : Nat) (l0 l1 : Int) (σ : AS) : Option (Int × AS) :=
  gd (kd σ l0 = 19) <|
  gd (kd σ (ld σ l0 5) = 24 ∨ kd σ (ld σ l0 5) = 1024) <|
  c1 (f_J15_equals n (ld σ l0 5) l1 σ) fun v3 σ4 =>
  if v3 = 0 then (
    some (0, σ4))
  else (
    some (1, σ4))
noncomputable def f_X4_is (n : Nat) (a0 a1 : Int) (σ : AS) : Option (Int × AS) :=
  gd (kd σ a0 = 19) <|
  gdc (cmpOk σ (ld σ a0 4) 128) <|
  if (ld σ a0 4) = 128 then (
    f_X4_is_20 n a0 a1 σ)
  else (
    gd (kd σ a0 = 19) <|
    gdc (cmpOk σ (ld σ a0 4) 127) <|
    if (ld σ a0 4) = 127 then (
      f_X4_is_20 n a0 a1 σ)
    else (
      some (0, σ)))
noncomputable def f_X3_fail (a0 a1 : Int) (σ : AS) : Option AS :=
  gd (kd σ a0 = 18) <|
  if (ld σ a0 3) = 0 then (
    gd (kd σ a0 = 18) <|
    nm (wr σ a0 3 a1) fun σ4 =>
    gd (kd σ4 a0 = 18) <|
    gd (kd σ4 (ld σ4 a0 0) = 19) <|
    gd (kd σ4 a0 = 18) <|
    nm (wr σ4 a0 4 (ld σ4 (ld σ4 a0 0) 2)) fun σ9 =>
    some σ9)
  else (
    some σ)
noncomputable def f_X3_wrong_19 (s0 s1 : Int) (σ : AS) : Option AS :=
  gd (kd σ s0 = 18) <|
  c0 (f_X3_fail s0 s1 σ) fun σ3 =>
  some σ3
noncomputable def f_X3_wrong (a0 : Int) (σ : AS) : Option AS :=
  gd (kd σ a0 = 18) <|
  gd (kd σ (ld σ a0 0) = 19) <|
  gdc (cmpOk σ (ld σ (ld σ a0 0) 4) 123) <|
  if (ld σ (ld σ a0 0) 4) = 123 then (
    f_X3_wrong_19 a0 1 σ)
  else (
    f_X3_wrong_19 a0 2 σ)
noncomputable def f_X3_need_28 (n : Nat) (l0 : Int) (σ : AS) : Option AS :=
  gd (kd σ l0 = 18) <|
  c0 (f_X3_wrong l0 σ) fun σ3 =>
  some σ3
noncomputable def f_X3_need (n : Nat) (a0 a1 : Int) (σ : AS) : Option AS :=
  gd (kd σ a0 = 18) <|
  if (ld σ a0 3) = 0 then (
    gd (kd σ a0 = 18) <|
    gd (kd σ (ld σ a0 0) = 19) <|
    c1 (f_X4_is n (ld σ a0 0) a1 σ) fun v9 σ10 =>
    if v9 = 0 then (
      f_X3_need_28 n a0 σ10)
    else (
      gd (kd σ10 a0 = 18) <|
      gd (kd σ10 (ld σ10 a0 0) = 19) <|
      c0 (f_X4_next n (ld σ10 a0 0) σ10) fun σ16 =>
      some σ16))
  else (
    f_X3_need_28 n a0 σ)
noncomputable def f_J33_size (a0 : Int) (σ : AS) : Option (Int × AS) :=
  gd (kd σ a0 = 32) <|
  some ((ld σ a0 2), σ)
