/-! shallow functions (written by wip/tools/gen.py) -/
set_option maxRecDepth 1000000
noncomputable def f_J21_signedHashCode_8 (n : Nat) : Nat → Int → Int → Int → Int → AS → Option (Int × AS)
  | 0, _, _, _, _, _ => none
  | q + 1, l0, l1, l4, l5, σ =>
    if l4 ≤ l5 then (
      some (l0, σ))
    else (
      gd ((kd σ l1 = 102 ∨ kd σ l1 = 1102) ∧ (0 : Int) ≤ l5 ∧ l5 < ln σ l1) <|
      nm (iaddW (imulW 31 l0) (iandW (ld σ l1 l5) 255)) fun u10 =>
      gI (l5 + 1) <|
      nm (l5 + 1) fun u13 =>
      f_J21_signedHashCode_8 n q u10 l1 l4 u13 σ)
noncomputable def f_J21_signedHashCode (n : Nat) (a0 a1 a2 a3 : Int) (σ : AS) : Option (Int × AS) :=
  nm (iaddW a2 a3) fun u15 =>
  f_J21_signedHashCode_8 n n a0 a1 u15 a2 σ
noncomputable def f_J21_vectorizedHashCode (n : Nat) (a0 a1 a2 a3 a4 : Int) (σ : AS) : Option (Int × AS) :=
  if a4 = 4 then (
    gd (kd σ a0 = 102) <|
    c1 (f_J21_signedHashCode n a3 a0 a1 a2 σ) fun v3 σ4 =>
    some (v3, σ4))
  else (
    if a4 = 5 then (
      none)
    else (
      if a4 = 6 then (
        none)
      else (
        if a4 = 7 then (
          none)
        else (
          if a4 = 8 then (
            none)
          else (
            if a4 = 9 then (
              none)
            else (
              if a4 = 10 then (
                none)
              else (
                none)))))))
noncomputable def f_J20_hashCode (n : Nat) (a0 : Int) (σ : AS) : Option (Int × AS) :=
  gd (kd σ a0 = 102 ∨ kd σ a0 = 1102) <|
  nm (ln σ a0) fun v2 =>
  if v2 = 0 then (
    some (0, σ))
  else (
    if v2 = 1 then (
      gd ((kd σ a0 = 102 ∨ kd σ a0 = 1102) ∧ (0 : Int) ≤ 0 ∧ 0 < ln σ a0) <|
      some ((iandW (ld σ a0 0) 255), σ))
    else (
      gd (kd σ a0 = 102 ∨ kd σ a0 = 1102) <|
      c1 (f_J21_vectorizedHashCode n a0 0 (ln σ a0) 0 4 σ) fun v8 σ9 =>
      some (v8, σ9)))
noncomputable def f_J15_hashCode (n : Nat) (a0 : Int) (σ : AS) : Option (Int × AS) :=
  gd (kd σ a0 = 24 ∨ kd σ a0 = 1024) <|
  nm (ld σ a0 2) fun u2 =>
  if u2 = 0 then (
    gd (kd σ a0 = 24 ∨ kd σ a0 = 1024) <|
    if (ld σ a0 3) = 0 then (
      gd (kd σ a0 = 24 ∨ kd σ a0 = 1024) <|
      c1 (f_J15_isLatin1 a0 σ) fun v8 σ9 =>
      if v8 = 0 then (
        gd (kd σ9 a0 = 24 ∨ kd σ9 a0 = 1024) <|
        none)
      else (
        gd (kd σ9 a0 = 24 ∨ kd σ9 a0 = 1024) <|
        c1 (f_J20_hashCode n (ld σ9 a0 0) σ9) fun v14 σ15 =>
        if v14 = 0 then (
          gd (kd σ15 a0 = 24) <|
          nm (wr σ15 a0 3 1) fun σ22 =>
          some (v14, σ22))
        else (
          gd (kd σ15 a0 = 24) <|
          nm (wr σ15 a0 2 v14) fun σ19 =>
          some (v14, σ19))))
    else (
      some (u2, σ)))
  else (
    some (u2, σ))
noncomputable def f_J33_hash (n : Nat) (a0 : Int) (σ : AS) : Option (Int × AS) :=
  if a0 = 0 then (
    some (0, σ))
  else (
    gd (kd σ a0 = 24 ∨ kd σ a0 = 1024) <|
    c1 (f_J15_hashCode n a0 σ) fun v3 σ4 =>
    some ((ixorW v3 (iushrW v3 16)), σ4))
noncomputable def f_J33_getNode_137 (n : Nat) (k99 : Int → Int → Int → AS → Option (Int × AS)) (l1 l4 l6 : Int) (σ : AS) : Option (Int × AS) :=
  gd (kd σ l4 = 33) <|
  nm (ld σ l4 3) fun v2 =>
  if v2 = 0 then (
    some (0, σ))
  else (
    k99 l1 v2 l6 σ)
noncomputable def f_J33_getNode_99 (n : Nat) : Nat → Int → Int → Int → AS → Option (Int × AS)
  | 0, _, _, _, _ => none
  | q + 1, l1, l4, l6, σ =>
    gd (kd σ l4 = 33) <|
    if (ld σ l4 0) = l6 then (
      gd (kd σ l4 = 33) <|
      nm (ld σ l4 1) fun v21 =>
      gdc (cmpOk σ v21 l1) <|
      if v21 = l1 then (
        some (l4, σ))
      else (
        if l1 = 0 then (
          f_J33_getNode_137 n (f_J33_getNode_99 n q) l1 l4 l6 σ)
        else (
          gd (kd σ l1 = 24 ∨ kd σ l1 = 1024) <|
          c1 (f_J15_equals n l1 v21 σ) fun v27 σ28 =>
          if v27 = 0 then (
            f_J33_getNode_137 n (f_J33_getNode_99 n q) l1 l4 l6 σ28)
          else (
            some (l4, σ28)))))
    else (
      f_J33_getNode_137 n (f_J33_getNode_99 n q) l1 l4 l6 σ)
noncomputable def f_J33_getNode_71 (n : Nat) (l1 l3 l6 : Int) (σ : AS) : Option (Int × AS) :=
  gd (kd σ l3 = 33) <|
  nm (ld σ l3 3) fun v32 =>
  if v32 = 0 then (
    some (0, σ))
  else (
    gd (kd σ l3 = 33) <|
    if (0 : Int) = 0 then (
      f_J33_getNode_99 n n l1 v32 l6 σ)
    else (
      none))
noncomputable def f_J33_getNode (n : Nat) (a0 a1 : Int) (σ : AS) : Option (Int × AS) :=
  gd (kd σ a0 = 32) <|
  nm (ld σ a0 0) fun v38 =>
  if v38 = 0 then (
    some (0, σ))
  else (
    gd (kd σ v38 = 108) <|
    nm (ln σ v38) fun v42 =>
    if v42 ≤ 0 then (
      some (0, σ))
    else (
      c1 (f_J33_hash n a1 σ) fun v45 σ46 =>
      gd (kd σ46 v38 = 108 ∧ (0 : Int) ≤ (iandW (isubW v42 1) v45) ∧ (iandW (isubW v42 1) v45) < ln σ46 v38) <|
      nm (ld σ46 v38 (iandW (isubW v42 1) v45)) fun v49 =>
      if v49 = 0 then (
        some (0, σ46))
      else (
        gd (kd σ46 v49 = 33) <|
        if (ld σ46 v49 0) = v45 then (
          gd (kd σ46 v49 = 33) <|
          nm (ld σ46 v49 1) fun v55 =>
          gdc (cmpOk σ46 v55 a1) <|
          if v55 = a1 then (
            some (v49, σ46))
          else (
            if a1 = 0 then (
              f_J33_getNode_71 n a1 v49 v45 σ46)
            else (
              gd (kd σ46 a1 = 24 ∨ kd σ46 a1 = 1024) <|
              c1 (f_J15_equals n a1 v55 σ46) fun v61 σ62 =>
              if v61 = 0 then (
                f_J33_getNode_71 n a1 v49 v45 σ62)
              else (
                some (v49, σ62)))))
        else (
          f_J33_getNode_71 n a1 v49 v45 σ46))))
noncomputable def f_J34_get (n : Nat) (a0 a1 : Int) (σ : AS) : Option (Int × AS) :=
  gd (kd σ a0 = 32) <|
  c1 (f_J33_getNode n a0 a1 σ) fun v2 σ3 =>
  if v2 = 0 then (
    some (0, σ3))
  else (
    gd (kd σ3 a0 = 32) <|
    if (ld σ3 a0 10) = 0 then (
      gd (kd σ3 v2 = 33) <|
      some ((ld σ3 v2 2), σ3))
    else (
      none))
noncomputable def f_J33_resize_271 (n : Nat) (k301 : Int → Int → Int → Int → Int → Int → Int → Int → Int → Int → AS → Option (Int × AS)) (l1 l2 l4 l6 l7 l8 l9 l11 l12 l13 : Int) (σ : AS) : Option (Int × AS) :=
  k301 l1 l2 l4 l6 l7 l9 l8 l11 l12 l13 σ
noncomputable def f_J33_resize_297 (n : Nat) (k301 : Int → Int → Int → Int → Int → Int → Int → Int → Int → Int → AS → Option (Int × AS)) (l1 l2 l4 l6 l7 l8 l9 l10 l11 l13 : Int) (σ : AS) : Option (Int × AS) :=
  k301 l1 l2 l4 l6 l7 l9 l10 l11 l8 l13 σ
noncomputable def f_J33_resize_327 (n : Nat) (k347 : Int → Int → Int → Int → Int → AS → Option (Int × AS)) (l1 l2 l4 l6 l7 l11 l12 : Int) (σ : AS) : Option (Int × AS) :=
  if l12 = 0 then (
    k347 l1 l2 l4 l6 l7 σ)
  else (
    gd (kd σ l12 = 33) <|
    nm (wr σ l12 3 0) fun σ3 =>
    gI (l7 + l2) <|
    gd (kd σ3 l6 = 108 ∧ (0 : Int) ≤ (l7 + l2) ∧ (l7 + l2) < ln σ3 l6) <|
    gd (l11 = 0 ∨ kd σ3 l11 = 33) <|
    nm (wr σ3 l6 (l7 + l2) l11) fun σ8 =>
    k347 l1 l2 l4 l6 l7 σ8)
noncomputable def f_J33_resize_301 (n : Nat) (k235 : Int → Int → Int → Int → Int → Int → Int → Int → Int → Int → AS → Option (Int × AS)) (k347 : Int → Int → Int → Int → Int → AS → Option (Int × AS)) (l1 l2 l4 l6 l7 l9 l10 l11 l12 l13 : Int) (σ : AS) : Option (Int × AS) :=
  if l13 = 0 then (
    if l10 = 0 then (
      f_J33_resize_327 n k347 l1 l2 l4 l6 l7 l11 l12 σ)
    else (
      gd (kd σ l10 = 33) <|
      nm (wr σ l10 3 0) fun σ13 =>
      gd (kd σ13 l6 = 108 ∧ (0 : Int) ≤ l7 ∧ l7 < ln σ13 l6) <|
      gd (l9 = 0 ∨ kd σ13 l9 = 33) <|
      nm (wr σ13 l6 l7 l9) fun σ17 =>
      f_J33_resize_327 n k347 l1 l2 l4 l6 l7 l11 l12 σ17))
  else (
    k235 l1 l2 l4 l6 l7 l13 l9 l10 l11 l12 σ)
noncomputable def f_J33_resize_235 (n : Nat) (k347 : Int → Int → Int → Int → Int → AS → Option (Int × AS)) : Nat → Int → Int → Int → Int → Int → Int → Int → Int → Int → Int → AS → Option (Int × AS)
  | 0, _, _, _, _, _, _, _, _, _, _, _ => none
  | q + 1, l1, l2, l4, l6, l7, l8, l9, l10, l11, l12, σ =>
    gd (kd σ l8 = 33) <|
    nm (ld σ l8 3) fun u33 =>
    gd (kd σ l8 = 33) <|
    if (iandW (ld σ l8 0) l2) = 0 then (
      if l10 = 0 then (
        f_J33_resize_271 n (f_J33_resize_301 n (f_J33_resize_235 n k347 q) k347) l1 l2 l4 l6 l7 l8 l8 l11 l12 u33 σ)
      else (
        gd (kd σ l10 = 33) <|
        nm (wr σ l10 3 l8) fun σ43 =>
        f_J33_resize_271 n (f_J33_resize_301 n (f_J33_resize_235 n k347 q) k347) l1 l2 l4 l6 l7 l8 l9 l11 l12 u33 σ43))
    else (
      if l12 = 0 then (
        f_J33_resize_297 n (f_J33_resize_301 n (f_J33_resize_235 n k347 q) k347) l1 l2 l4 l6 l7 l8 l9 l10 l8 u33 σ)
      else (
        gd (kd σ l12 = 33) <|
        nm (wr σ l12 3 l8) fun σ39 =>
        f_J33_resize_297 n (f_J33_resize_301 n (f_J33_resize_235 n k347 q) k347) l1 l2 l4 l6 l7 l8 l9 l10 l11 u33 σ39))
noncomputable def f_J33_resize_347 (n : Nat) (k151 : Int → Int → Int → Int → Int → AS → Option (Int × AS)) (l1 l2 l4 l6 l7 : Int) (σ : AS) : Option (Int × AS) :=
  gI (l7 + 1) <|
  nm (l7 + 1) fun u46 =>
  k151 l1 l2 l4 l6 u46 σ
noncomputable def f_J33_resize_151 (n : Nat) : Nat → Int → Int → Int → Int → Int → AS → Option (Int × AS)
  | 0, _, _, _, _, _, _ => none
  | q + 1, l1, l2, l4, l6, l7, σ =>
    if l2 ≤ l7 then (
      some (l6, σ))
    else (
      gd (kd σ l1 = 108 ∧ (0 : Int) ≤ l7 ∧ l7 < ln σ l1) <|
      nm (ld σ l1 l7) fun v68 =>
      if v68 = 0 then (
        f_J33_resize_347 n (f_J33_resize_151 n q) l1 l2 l4 l6 l7 σ)
      else (
        gd (kd σ l1 = 108 ∧ (0 : Int) ≤ l7 ∧ l7 < ln σ l1) <|
        nm (wr σ l1 l7 0) fun σ72 =>
        gd (kd σ72 v68 = 33) <|
        if (ld σ72 v68 3) = 0 then (
          gd (kd σ72 v68 = 33) <|
          gI (l4 - 1) <|
          gd (kd σ72 l6 = 108 ∧ (0 : Int) ≤ (iandW (ld σ72 v68 0) (l4 - 1)) ∧ (iandW (ld σ72 v68 0) (l4 - 1)) < ln σ72 l6) <|
          gd (v68 = 0 ∨ kd σ72 v68 = 33) <|
          nm (wr σ72 l6 (iandW (ld σ72 v68 0) (l4 - 1)) v68) fun σ82 =>
          f_J33_resize_347 n (f_J33_resize_151 n q) l1 l2 l4 l6 l7 σ82)
        else (
          gd (kd σ72 v68 = 33) <|
          if (0 : Int) = 0 then (
            f_J33_resize_235 n (f_J33_resize_347 n (f_J33_resize_151 n q)) n l1 l2 l4 l6 l7 v68 0 0 0 0 σ72)
          else (
            none))))
noncomputable def f_J33_resize_85 (n : Nat) (l0 l1 l2 l4 l5 : Int) (σ : AS) : Option (Int × AS) :=
  if l5 = 0 then (
    none)
  else (
    gd (kd σ l0 = 32) <|
    nm (wr σ l0 4 l5) fun σ86 =>
    gd ((0 : Int) ≤ l4 ∧ l4 ≤ 67108864) <|
    nm (nx σ86) fun r89 =>
    nm (al σ86 108 l4 l4) fun σ91 =>
    gd (kd σ91 l0 = 32) <|
    nm (wr σ91 l0 0 r89) fun σ94 =>
    if l1 = 0 then (
      some (r89, σ94))
    else (
      f_J33_resize_151 n n l1 l2 l4 r89 0 σ94))
noncomputable def f_J33_resize_15 (n : Nat) (l0 l1 s0 : Int) (σ : AS) : Option (Int × AS) :=
  gd (kd σ l0 = 32) <|
  nm (ld σ l0 4) fun u98 =>
  if s0 ≤ 0 then (
    if u98 ≤ 0 then (
      f_J33_resize_85 n l0 l1 s0 16 12 σ)
    else (
      f_J33_resize_85 n l0 l1 s0 u98 0 σ))
  else (
    if s0 < 1073741824 then (
      nm (ishlW s0 1) fun v103 =>
      if 1073741824 ≤ v103 then (
        f_J33_resize_85 n l0 l1 s0 v103 0 σ)
      else (
        if s0 < 16 then (
          f_J33_resize_85 n l0 l1 s0 v103 0 σ)
        else (
          nm (ishlW u98 1) fun u107 =>
          f_J33_resize_85 n l0 l1 s0 v103 u107 σ)))
    else (
      gd (kd σ l0 = 32) <|
      nm (wr σ l0 4 2147483647) fun σ110 =>
      some (l1, σ110)))
noncomputable def f_J33_resize (n : Nat) (a0 : Int) (σ : AS) : Option (Int × AS) :=
  gd (kd σ a0 = 32) <|
  nm (ld σ a0 0) fun u113 =>
  if u113 = 0 then (
    f_J33_resize_15 n a0 u113 0 σ)
  else (
    gd (kd σ u113 = 108) <|
    f_J33_resize_15 n a0 u113 (ln σ u113) σ)
noncomputable def f_J37_init (a0 a1 a2 a3 a4 : Int) (σ : AS) : Option AS :=
  gd (a0 ≠ 0) <|
  gd (kd σ a0 = 33) <|
  nm (wr σ a0 0 a1) fun σ3 =>
  gd (kd σ3 a0 = 33) <|
  nm (wr σ3 a0 1 a2) fun σ6 =>
  gd (kd σ6 a0 = 33) <|
  nm (wr σ6 a0 2 a3) fun σ9 =>
  gd (kd σ9 a0 = 33) <|
  nm (wr σ9 a0 3 a4) fun σ12 =>
  some σ12
noncomputable def f_J38_init (a0 a1 a2 a3 a4 : Int) (σ : AS) : Option AS :=
  gd (a0 ≠ 0) <|
  c0 (f_J37_init a0 a1 a2 a3 a4 σ) fun σ3 =>
  some σ3
noncomputable def f_J34_linkNodeAtEnd (a0 a1 : Int) (σ : AS) : Option AS :=
  gd (kd σ a0 = 32) <|
  if (ld σ a0 11) = 1 then (
    gd (kd σ a0 = 32) <|
    nm (ld σ a0 8) fun u20 =>
    gd (kd σ a0 = 32) <|
    nm (wr σ a0 8 a1) fun σ23 =>
    if u20 = 0 then (
      gd (kd σ23 a0 = 32) <|
      nm (wr σ23 a0 9 a1) fun σ33 =>
      some σ33)
    else (
      gd (kd σ23 a1 = 33) <|
      nm (wr σ23 a1 5 u20) fun σ27 =>
      gd (kd σ27 u20 = 33) <|
      nm (wr σ27 u20 4 a1) fun σ30 =>
      some σ30))
  else (
    gd (kd σ a0 = 32) <|
    nm (ld σ a0 9) fun u4 =>
    gd (kd σ a0 = 32) <|
    nm (wr σ a0 9 a1) fun σ7 =>
    if u4 = 0 then (
      gd (kd σ7 a0 = 32) <|
      nm (wr σ7 a0 8 a1) fun σ17 =>
      some σ17)
    else (
      gd (kd σ7 a1 = 33) <|
      nm (wr σ7 a1 4 u4) fun σ11 =>
      gd (kd σ11 u4 = 33) <|
      nm (wr σ11 u4 5 a1) fun σ14 =>
      some σ14))
noncomputable def f_J34_newNode (a0 a1 a2 a3 a4 : Int) (σ : AS) : Option (Int × AS) :=
  nm (nx σ) fun r1 =>
  nm (al σ 33 0 6) fun σ3 =>
  gd (r1 ≠ 0) <|
  c0 (f_J38_init r1 a1 a2 a3 a4 σ3) fun σ7 =>
  gd (kd σ7 a0 = 32) <|
  c0 (f_J34_linkNodeAtEnd a0 r1 σ7) fun σ11 =>
  some (r1, σ11)
noncomputable def f_J34_removeEldestEntry (a0 a1 : Int) (σ : AS) : Option (Int × AS) :=
  some (0, σ)
noncomputable def f_J34_afterNodeInsertion (a0 a1 : Int) (σ : AS) : Option AS :=
  if a1 = 0 then (
    some σ)
  else (
    gd (kd σ a0 = 32) <|
    nm (ld σ a0 8) fun v3 =>
    if v3 = 0 then (
      some σ)
    else (
      gd (kd σ a0 = 32) <|
      c1 (f_J34_removeEldestEntry a0 v3 σ) fun v7 σ8 =>
      if v7 = 0 then (
        some σ8)
      else (
        gd (kd σ8 v3 = 33) <|
        nm (ld σ8 v3 1) fun u12 =>
        none)))
noncomputable def f_J33_putVal_19 (n : Nat) (k29 : Int → Int → Int → Int → Int → Int → Int → Int → AS → Option (Int × AS)) (l0 l1 l2 l3 l4 l5 : Int) (σ : AS) : Option (Int × AS) :=
  gd (kd σ l0 = 32) <|
  c1 (f_J33_resize n l0 σ) fun v2 σ3 =>
  gd (kd σ3 v2 = 108) <|
  nm (ln σ3 v2) fun u6 =>
  k29 l0 l1 l2 l3 l4 l5 v2 u6 σ3
noncomputable def f_J33_putVal_97 (n : Nat) (k222 : Int → Int → Int → Int → Int → AS → Option (Int × AS)) (l0 l3 l4 l5 l7 : Int) (σ : AS) : Option (Int × AS) :=
  k222 l0 l3 l4 l5 l7 σ
noncomputable def f_J33_putVal_212 (n : Nat) (k134 : Int → Int → Int → Int → Int → Int → Int → Int → Int → AS → Option (Int × AS)) (l0 l1 l2 l3 l4 l5 l6 l10 l12 : Int) (σ : AS) : Option (Int × AS) :=
  gI (l12 + 1) <|
  nm (l12 + 1) fun u9 =>
  k134 l0 l1 l2 l3 l4 l5 l6 l10 u9 σ
noncomputable def f_J33_putVal_134 (n : Nat) (k222 : Int → Int → Int → Int → Int → AS → Option (Int × AS)) : Nat → Int → Int → Int → Int → Int → Int → Int → Int → Int → AS → Option (Int × AS)
  | 0, _, _, _, _, _, _, _, _, _, _ => none
  | q + 1, l0, l1, l2, l3, l4, l5, l6, l7, l12, σ =>
    gd (kd σ l7 = 33) <|
    nm (ld σ l7 3) fun v37 =>
    if v37 = 0 then (
      gd (kd σ l0 = 32) <|
      c1 (f_J34_newNode l0 l1 l2 l3 0 σ) fun v54 σ55 =>
      gd (kd σ55 l7 = 33) <|
      nm (wr σ55 l7 3 v54) fun σ58 =>
      if l12 < 7 then (
        k222 l0 l3 l4 l5 v37 σ58)
      else (
        none))
    else (
      gd (kd σ v37 = 33) <|
      if (ld σ v37 0) = l1 then (
        gd (kd σ v37 = 33) <|
        nm (ld σ v37 1) fun v43 =>
        gdc (cmpOk σ v43 l2) <|
        if v43 = l2 then (
          k222 l0 l3 l4 l5 v37 σ)
        else (
          if l2 = 0 then (
            f_J33_putVal_212 n (f_J33_putVal_134 n k222 q) l0 l1 l2 l3 l4 l5 l6 v37 l12 σ)
          else (
            gd (kd σ l2 = 24 ∨ kd σ l2 = 1024) <|
            c1 (f_J15_equals n l2 v43 σ) fun v49 σ50 =>
            if v49 = 0 then (
              f_J33_putVal_212 n (f_J33_putVal_134 n k222 q) l0 l1 l2 l3 l4 l5 l6 v37 l12 σ50)
            else (
              k222 l0 l3 l4 l5 v37 σ50))))
      else (
        f_J33_putVal_212 n (f_J33_putVal_134 n k222 q) l0 l1 l2 l3 l4 l5 l6 v37 l12 σ))
noncomputable def f_J33_putVal_104 (n : Nat) (k222 : Int → Int → Int → Int → Int → AS → Option (Int × AS)) (l0 l1 l2 l3 l4 l5 l6 l7 : Int) (σ : AS) : Option (Int × AS) :=
  gd (kd σ l7 = 33) <|
  if (0 : Int) = 0 then (
    f_J33_putVal_134 n k222 n l0 l1 l2 l3 l4 l5 l6 l7 0 σ)
  else (
    none)
noncomputable def f_J33_putVal_222 (n : Nat) (k259 : Int → Int → AS → Option (Int × AS)) (l0 l3 l4 l5 l10 : Int) (σ : AS) : Option (Int × AS) :=
  if l10 = 0 then (
    k259 l0 l5 σ)
  else (
    gd (kd σ l10 = 33) <|
    nm (ld σ l10 2) fun u65 =>
    if l4 = 0 then (
      gd (kd σ l10 = 33) <|
      nm (wr σ l10 2 l3) fun σ69 =>
      none)
    else (
      if u65 = 0 then (
        gd (kd σ l10 = 33) <|
        nm (wr σ l10 2 l3) fun σ73 =>
        none)
      else (
        none)))
noncomputable def f_J33_putVal_292 (n : Nat) (l0 l5 : Int) (σ : AS) : Option (Int × AS) :=
  gd (kd σ l0 = 32) <|
  c0 (f_J34_afterNodeInsertion l0 l5 σ) fun σ77 =>
  some (0, σ77)
noncomputable def f_J33_putVal_259 (n : Nat) (l0 l5 : Int) (σ : AS) : Option (Int × AS) :=
  gd (kd σ l0 = 32) <|
  gd (kd σ l0 = 32) <|
  nm (wr σ l0 3 (iaddW (ld σ l0 3) 1)) fun σ81 =>
  gd (kd σ81 l0 = 32) <|
  nm (iaddW (ld σ81 l0 2) 1) fun v84 =>
  gd (kd σ81 l0 = 32) <|
  nm (wr σ81 l0 2 v84) fun σ87 =>
  gd (kd σ87 l0 = 32) <|
  if v84 ≤ (ld σ87 l0 4) then (
    f_J33_putVal_292 n l0 l5 σ87)
  else (
    gd (kd σ87 l0 = 32) <|
    c1 (f_J33_resize n l0 σ87) fun v92 σ93 =>
    f_J33_putVal_292 n l0 l5 σ93)
noncomputable def f_J33_putVal_29 (n : Nat) (l0 l1 l2 l3 l4 l5 l6 l8 : Int) (σ : AS) : Option (Int × AS) :=
  nm (iandW (isubW l8 1) l1) fun v95 =>
  gd (kd σ l6 = 108 ∧ (0 : Int) ≤ v95 ∧ v95 < ln σ l6) <|
  nm (ld σ l6 v95) fun v98 =>
  if v98 = 0 then (
    gd (kd σ l0 = 32) <|
    c1 (f_J34_newNode l0 l1 l2 l3 0 σ) fun v115 σ116 =>
    gd (kd σ116 l6 = 108 ∧ (0 : Int) ≤ v95 ∧ v95 < ln σ116 l6) <|
    gd (v115 = 0 ∨ kd σ116 v115 = 33) <|
    nm (wr σ116 l6 v95 v115) fun σ120 =>
    f_J33_putVal_259 n l0 l5 σ120)
  else (
    gd (kd σ v98 = 33) <|
    if (ld σ v98 0) = l1 then (
      gd (kd σ v98 = 33) <|
      nm (ld σ v98 1) fun v104 =>
      gdc (cmpOk σ v104 l2) <|
      if v104 = l2 then (
        f_J33_putVal_97 n (f_J33_putVal_222 n (f_J33_putVal_259 n)) l0 l3 l4 l5 v98 σ)
      else (
        if l2 = 0 then (
          f_J33_putVal_104 n (f_J33_putVal_222 n (f_J33_putVal_259 n)) l0 l1 l2 l3 l4 l5 l6 v98 σ)
        else (
          gd (kd σ l2 = 24 ∨ kd σ l2 = 1024) <|
          c1 (f_J15_equals n l2 v104 σ) fun v110 σ111 =>
          if v110 = 0 then (
            f_J33_putVal_104 n (f_J33_putVal_222 n (f_J33_putVal_259 n)) l0 l1 l2 l3 l4 l5 l6 v98 σ111)
          else (
            f_J33_putVal_97 n (f_J33_putVal_222 n (f_J33_putVal_259 n)) l0 l3 l4 l5 v98 σ111))))
    else (
      f_J33_putVal_104 n (f_J33_putVal_222 n (f_J33_putVal_259 n)) l0 l1 l2 l3 l4 l5 l6 v98 σ))
noncomputable def f_J33_putVal (n : Nat) (a0 a1 a2 a3 a4 a5 : Int) (σ : AS) : Option (Int × AS) :=
  gd (kd σ a0 = 32) <|
  nm (ld σ a0 0) fun v123 =>
  if v123 = 0 then (
    f_J33_putVal_19 n (f_J33_putVal_29 n) a0 a1 a2 a3 a4 a5 σ)
  else (
    gd (kd σ v123 = 108) <|
    nm (ln σ v123) fun v127 =>
    if v127 = 0 then (
      f_J33_putVal_19 n (f_J33_putVal_29 n) a0 a1 a2 a3 a4 a5 σ)
    else (
      f_J33_putVal_29 n a0 a1 a2 a3 a4 a5 v123 v127 σ))
noncomputable def f_J33_put (n : Nat) (a0 a1 a2 : Int) (σ : AS) : Option (Int × AS) :=
  c1 (f_J33_hash n a1 σ) fun v1 σ2 =>
  gd (kd σ2 a0 = 32) <|
  c1 (f_J33_putVal n a0 v1 a1 a2 0 1 σ2) fun v5 σ6 =>
  some (v5, σ6)
noncomputable def f_X3_name_20 (n : Nat) (l0 : Int) (σ : AS) : Option (Int × AS) :=
  gd (kd σ l0 = 18) <|
  c0 (f_X3_wrong l0 σ) fun σ3 =>
  some (0, σ3)
noncomputable def f_X3_name_138 (n : Nat) (l0 s0 : Int) (σ : AS) : Option (Int × AS) :=
  gd (kd σ l0 = 18) <|
  gd (kd σ (ld σ l0 0) = 19) <|
  c0 (f_X4_next n (ld σ l0 0) σ) fun σ8 =>
  some (s0, σ8)
noncomputable def f_X3_name_115 (n : Nat) (l0 l1 : Int) (σ : AS) : Option (Int × AS) :=
  if l1 = 0 then (
    gd (kd σ l0 = 18) <|
    gd (kd σ (ld σ l0 1) = 12) <|
    gd (kd σ (ld σ (ld σ l0 1) 2) = 32) <|
    c1 (f_J33_size (ld σ (ld σ l0 1) 2) σ) fun v18 σ19 =>
    gI (v18 - 1) <|
    f_X3_name_138 n l0 (v18 - 1) σ19)
  else (
    gd (kd σ l1 = 25 ∨ kd σ l1 = 1025) <|
    c1 (f_J17_intValue l1 σ) fun v12 σ13 =>
    f_X3_name_138 n l0 v12 σ13)
noncomputable def f_X3_name_71 (n : Nat) (l0 l1 : Int) (σ : AS) : Option (Int × AS) :=
  gd (kd σ l0 = 18) <|
  if (ld σ l0 3) = 0 then (
    if l1 = 0 then (
      gd (kd σ l0 = 18) <|
      gd (kd σ (ld σ l0 1) = 12) <|
      gd (kd σ l0 = 18) <|
      gd (kd σ (ld σ l0 0) = 19) <|
      gd (kd σ l0 = 18) <|
      gd (kd σ (ld σ l0 1) = 12) <|
      gd (kd σ (ld σ (ld σ l0 1) 2) = 32) <|
      c1 (f_J33_size (ld σ (ld σ l0 1) 2) σ) fun v32 σ33 =>
      c1 (f_J17_valueOf v32 σ33) fun v35 σ36 =>
      gd (kd σ36 (ld σ (ld σ l0 1) 2) = 32) <|
      c1 (f_J33_put n (ld σ (ld σ l0 1) 2) (ld σ (ld σ l0 0) 5) v35 σ36) fun v39 σ40 =>
      f_X3_name_115 n l0 l1 σ40)
    else (
      f_X3_name_115 n l0 l1 σ))
  else (
    some (0, σ))
noncomputable def f_X3_name (n : Nat) (a0 : Int) (σ : AS) : Option (Int × AS) :=
  gd (kd σ a0 = 18) <|
  if (ld σ a0 3) = 0 then (
    gd (kd σ a0 = 18) <|
    gd (kd σ (ld σ a0 0) = 19) <|
    gdc (cmpOk σ (ld σ (ld σ a0 0) 4) 125) <|
    if (ld σ (ld σ a0 0) 4) = 125 then (
      gd (kd σ a0 = 18) <|
      gd (kd σ (ld σ a0 1) = 12) <|
      gd (kd σ a0 = 18) <|
      gd (kd σ (ld σ a0 0) = 19) <|
      gd (kd σ (ld σ (ld σ a0 1) 2) = 32) <|
      c1 (f_J34_get n (ld σ (ld σ a0 1) 2) (ld σ (ld σ a0 0) 5) σ) fun v53 σ54 =>
      gd (v53 = 0 ∨ kd σ54 v53 = 25 ∨ kd σ54 v53 = 1025) <|
      if v53 = 0 then (
        gd (kd σ54 a0 = 18) <|
        gd (kd σ54 (ld σ54 a0 1) = 12) <|
        gd (kd σ54 (ld σ54 (ld σ54 a0 1) 2) = 32) <|
        c1 (f_J33_size (ld σ54 (ld σ54 a0 1) 2) σ54) fun v61 σ62 =>
        if v61 = 8 then (
          gd (kd σ62 a0 = 18) <|
          c0 (f_X3_fail a0 3 σ62) fun σ67 =>
          f_X3_name_71 n a0 v53 σ67)
        else (
          f_X3_name_71 n a0 v53 σ62))
      else (
        f_X3_name_71 n a0 v53 σ54))
    else (
      f_X3_name_20 n a0 σ))
  else (
    f_X3_name_20 n a0 σ)
noncomputable def f_X3_means (a0 a1 a2 : Int) (σ : AS) : Option AS :=
  gd (kd σ a0 = 18) <|
  if (ld σ a0 5) = 0 then (
    gd (kd σ a0 = 18) <|
    nm (wr σ a0 5 a1) fun σ4 =>
    gd (kd σ4 a0 = 18) <|
    nm (wr σ4 a0 6 a2) fun σ7 =>
    some σ7)
  else (
    some σ)
noncomputable def f_X3_takes_22 (n : Nat) (k23 : Int → Int → AS → Option (Int × AS)) (l0 : Int) (σ : AS) : Option (Int × AS) :=
  k23 l0 0 σ
noncomputable def f_X3_takes_23 (n : Nat) (l0 s0 : Int) (σ : AS) : Option (Int × AS) :=
  if s0 = 0 then (
    gd (0 ≤ s0 ∧ s0 ≤ 1) <|
    some (s0, σ))
  else (
    gd (kd σ l0 = 18) <|
    gd (kd σ (ld σ l0 0) = 19) <|
    c0 (f_X4_next n (ld σ l0 0) σ) fun σ6 =>
    gd (0 ≤ s0 ∧ s0 ≤ 1) <|
    some (s0, σ6))
noncomputable def f_X3_takes (n : Nat) (a0 a1 : Int) (σ : AS) : Option (Int × AS) :=
  gd (kd σ a0 = 18) <|
  if (ld σ a0 3) = 0 then (
    gd (kd σ a0 = 18) <|
    gd (kd σ (ld σ a0 0) = 19) <|
    c1 (f_X4_is n (ld σ a0 0) a1 σ) fun v13 σ14 =>
    if v13 = 0 then (
      f_X3_takes_22 n (f_X3_takes_23 n) a0 σ14)
    else (
      f_X3_takes_23 n a0 1 σ14))
  else (
    f_X3_takes_22 n (f_X3_takes_23 n) a0 σ)
noncomputable def f_X3_number_20 (n : Nat) (l0 : Int) (σ : AS) : Option (Int × AS) :=
  gd (kd σ l0 = 18) <|
  c0 (f_X3_wrong l0 σ) fun σ3 =>
  some (0, σ3)
noncomputable def f_X3_number_50 (n : Nat) (k55 : Int → AS → Option (Int × AS)) (l0 : Int) (σ : AS) : Option (Int × AS) :=
  gd (kd σ l0 = 18) <|
  c0 (f_X3_fail l0 3 σ) fun σ7 =>
  k55 l0 σ7
noncomputable def f_X3_number_55 (n : Nat) (l0 : Int) (σ : AS) : Option (Int × AS) :=
  gd (kd σ l0 = 18) <|
  gd (kd σ (ld σ l0 0) = 19) <|
  nm (l2iW (ld σ (ld σ l0 0) 6)) fun u11 =>
  gd (kd σ l0 = 18) <|
  if (ld σ l0 3) = 0 then (
    gd (kd σ l0 = 18) <|
    gd (kd σ (ld σ l0 0) = 19) <|
    c0 (f_X4_next n (ld σ l0 0) σ) fun σ18 =>
    some (u11, σ18))
  else (
    some (u11, σ))
noncomputable def f_X3_number (n : Nat) (a0 a1 a2 : Int) (σ : AS) : Option (Int × AS) :=
  gd (kd σ a0 = 18) <|
  if (ld σ a0 3) = 0 then (
    gd (kd σ a0 = 18) <|
    gd (kd σ (ld σ a0 0) = 19) <|
    gdc (cmpOk σ (ld σ (ld σ a0 0) 4) 126) <|
    if (ld σ (ld σ a0 0) 4) = 126 then (
      gd (kd σ a0 = 18) <|
      gd (kd σ (ld σ a0 0) = 19) <|
      if (lcmpW (ld σ (ld σ a0 0) 6) a1) < 0 then (
        f_X3_number_50 n (f_X3_number_55 n) a0 σ)
      else (
        gd (kd σ a0 = 18) <|
        gd (kd σ (ld σ a0 0) = 19) <|
        if (lcmpW (ld σ (ld σ a0 0) 6) a2) ≤ 0 then (
          f_X3_number_55 n a0 σ)
        else (
          f_X3_number_50 n (f_X3_number_55 n) a0 σ)))
    else (
      f_X3_number_20 n a0 σ))
  else (
    f_X3_number_20 n a0 σ)
noncomputable def f_X19_init (a0 a1 a2 : Int) (σ : AS) : Option AS :=
  gd (a0 ≠ 0) <|
  c0 (f_J9_init a0 σ) fun σ3 =>
  gd (kd σ3 a0 = 13) <|
  nm (wr σ3 a0 0 a1) fun σ6 =>
  gd (kd σ6 a0 = 13) <|
  nm (wr σ6 a0 1 a2) fun σ9 =>
  some σ9
noncomputable def f_J32_grow_2_20 (l0 l1 l2 : Int) (σ : AS) : Option (Int × AS) :=
  gI (l1 - l2) <|
  c1 (f_J21_newLength l2 (l1 - l2) (ishrW l2 1) σ) fun v2 σ3 =>
  gd (kd σ3 l0 = 31) <|
  c1 (f_J11_copyOf (ld σ3 l0 1) v2 σ3) fun v6 σ7 =>
  gd (kd σ7 l0 = 31) <|
  nm (wr σ7 l0 1 v6) fun σ10 =>
  some (v6, σ10)
noncomputable def f_J32_grow_2 (a0 a1 : Int) (σ : AS) : Option (Int × AS) :=
  gd (kd σ a0 = 31) <|
  gd (kd σ (ld σ a0 1) = 105 ∨ kd σ (ld σ a0 1) = 1105) <|
  nm (ln σ (ld σ a0 1)) fun u14 =>
  if 0 < u14 then (
    f_J32_grow_2_20 a0 a1 u14 σ)
  else (
    gd (kd σ a0 = 31) <|
    gdc (cmpOk σ (ld σ a0 1) 122) <|
    if (ld σ a0 1) = 122 then (
      c1 (f_J12_max 10 a1 σ) fun v20 σ21 =>
      gd ((0 : Int) ≤ v20 ∧ v20 ≤ 67108864) <|
      nm (nx σ21) fun r24 =>
      nm (al σ21 105 v20 v20) fun σ26 =>
      gd (kd σ26 a0 = 31) <|
      nm (wr σ26 a0 1 r24) fun σ29 =>
      some (r24, σ29))
    else (
      f_J32_grow_2_20 a0 a1 u14 σ))
noncomputable def f_J32_grow (a0 : Int) (σ : AS) : Option (Int × AS) :=
  gd (kd σ a0 = 31) <|
  gI ((ld σ a0 2) + 1) <|
  gd (kd σ a0 = 31) <|
  c1 (f_J32_grow_2 a0 ((ld σ a0 2) + 1) σ) fun v4 σ5 =>
  some (v4, σ5)
noncomputable def f_J32_add_2_11 (l0 l1 l2 l3 : Int) (σ : AS) : Option AS :=
  gd (kd σ l2 = 105 ∧ (0 : Int) ≤ l3 ∧ l3 < ln σ l2) <|
  gdc (elOk σ (.object "java/lang/Object") l1) <|
  nm (wr σ l2 l3 l1) fun σ3 =>
  gI (l3 + 1) <|
  gd (kd σ3 l0 = 31) <|
  nm (wr σ3 l0 2 (l3 + 1)) fun σ7 =>
  some σ7
noncomputable def f_J32_add_2 (a0 a1 a2 a3 : Int) (σ : AS) : Option AS :=
  gd (kd σ a2 = 105 ∨ kd σ a2 = 1105) <|
  if a3 = (ln σ a2) then (
    gd (kd σ a0 = 31) <|
    c1 (f_J32_grow a0 σ) fun v12 σ13 =>
    f_J32_add_2_11 a0 a1 v12 a3 σ13)
  else (
    f_J32_add_2_11 a0 a1 a2 a3 σ)
noncomputable def f_J32_add (a0 a1 : Int) (σ : AS) : Option (Int × AS) :=
  gd (kd σ a0 = 31) <|
  gI ((ld σ a0 0) + 1) <|
  gd (kd σ a0 = 31) <|
  nm (wr σ a0 0 ((ld σ a0 0) + 1)) fun σ4 =>
  gd (kd σ4 a0 = 31) <|
  gd (kd σ4 a0 = 31) <|
  gd (kd σ4 a0 = 31) <|
  c0 (f_J32_add_2 a0 a1 (ld σ4 a0 1) (ld σ4 a0 2) σ4) fun σ10 =>
  some (1, σ10)
noncomputable def f_X3_node_137 (n : Nat) (l0 l1 l2 s0 : Int) (σ : AS) : Option AS :=
  gd (kd σ l0 = 18) <|
  c0 (f_X3_need n l0 21 σ) fun σ3 =>
  gd (kd σ3 l0 = 18) <|
  gd (kd σ3 (ld σ3 l0 1) = 12) <|
  nm (nx σ3) fun r7 =>
  nm (al σ3 13 0 2) fun σ9 =>
  gd (r7 ≠ 0) <|
  c0 (f_X19_init r7 l2 s0 σ9) fun σ13 =>
  gd (kd σ13 (ld σ3 (ld σ3 l0 1) 0) = 31) <|
  c1 (f_J32_add (ld σ3 (ld σ3 l0 1) 0) r7 σ13) fun v16 σ17 =>
  gd (kd σ17 l0 = 18) <|
  gd (kd σ17 (ld σ17 l0 1) = 12) <|
  gd (kd σ17 (ld σ17 (ld σ17 l0 1) 1) = 31) <|
  c1 (f_J32_add (ld σ17 (ld σ17 l0 1) 1) l1 σ17) fun v22 σ23 =>
  some σ23
noncomputable def f_X3_node_116 (n : Nat) (l0 l1 l2 : Int) (σ : AS) : Option AS :=
  gd (kd σ l0 = 18) <|
  c1 (f_X3_takes n l0 19 σ) fun v26 σ27 =>
  if v26 = 0 then (
    f_X3_node_137 n l0 l1 l2 (-1) σ27)
  else (
    gd (kd σ27 l0 = 18) <|
    c1 (f_X3_number n l0 0 31 σ27) fun v31 σ32 =>
    f_X3_node_137 n l0 l1 l2 v31 σ32)
noncomputable def f_X3_node_32 (n : Nat) (l0 l1 : Int) (σ : AS) : Option AS :=
  gd (kd σ l0 = 18) <|
  c0 (f_X3_need n l0 17 σ) fun σ36 =>
  gd (kd σ36 l0 = 18) <|
  if (ld σ36 l0 3) = 0 then (
    gd (kd σ36 l0 = 18) <|
    gd (kd σ36 (ld σ36 l0 0) = 19) <|
    gdc (cmpOk σ36 (ld σ36 (ld σ36 l0 0) 4) 125) <|
    if (ld σ36 (ld σ36 l0 0) 4) = 125 then (
      gd (kd σ36 l0 = 18) <|
      gd (kd σ36 (ld σ36 l0 0) = 19) <|
      nm (ld σ36 (ld σ36 l0 0) 2) fun u46 =>
      gd (kd σ36 l0 = 18) <|
      gd (kd σ36 (ld σ36 l0 1) = 12) <|
      gd (kd σ36 (ld σ36 (ld σ36 l0 1) 2) = 32) <|
      c1 (f_J33_size (ld σ36 (ld σ36 l0 1) 2) σ36) fun v51 σ52 =>
      gd (kd σ52 l0 = 18) <|
      c1 (f_X3_name n l0 σ52) fun v55 σ56 =>
      gd (kd σ56 l0 = 18) <|
      if (ld σ56 l0 3) = 0 then (
        if v51 ≤ v55 then (
          f_X3_node_116 n l0 l1 v55 σ56)
        else (
          gd (kd σ56 l0 = 18) <|
          gd (kd σ56 (ld σ56 l0 1) = 12) <|
          gd (kd σ56 (ld σ56 (ld σ56 l0 1) 3) = 103 ∧ (0 : Int) ≤ v55 ∧ v55 < ln σ56 (ld σ56 (ld σ56 l0 1) 3)) <|
          if (ld σ56 (ld σ56 (ld σ56 l0 1) 3) v55) = 0 then (
            f_X3_node_116 n l0 l1 v55 σ56)
          else (
            gd (kd σ56 l0 = 18) <|
            c0 (f_X3_means l0 4 u46 σ56) fun σ67 =>
            f_X3_node_116 n l0 l1 v55 σ67)))
      else (
        f_X3_node_116 n l0 l1 v55 σ56))
    else (
      f_X3_node_116 n l0 l1 (-1) σ36))
  else (
    f_X3_node_116 n l0 l1 (-1) σ36)
noncomputable def f_X3_node (n : Nat) (a0 a1 : Int) (σ : AS) : Option AS :=
  gd (kd σ a0 = 18) <|
  gd (kd σ (ld σ a0 1) = 12) <|
  gd (kd σ (ld σ (ld σ a0 1) 0) = 31) <|
  c1 (f_J32_size (ld σ (ld σ a0 1) 0) σ) fun v72 σ73 =>
  if v72 = 12 then (
    gd (kd σ73 a0 = 18) <|
    gd (kd σ73 (ld σ73 a0 0) = 19) <|
    c1 (f_X4_is n (ld σ73 a0 0) 17 σ73) fun v78 σ79 =>
    if v78 = 0 then (
      f_X3_node_32 n a0 a1 σ79)
    else (
      gd (kd σ79 a0 = 18) <|
      c0 (f_X3_fail a0 3 σ79) fun σ84 =>
      f_X3_node_32 n a0 a1 σ84))
  else (
    f_X3_node_32 n a0 a1 σ73)
noncomputable def f_X20_init (a0 a1 a2 a3 a4 a5 : Int) (σ : AS) : Option AS :=
  gd (a0 ≠ 0) <|
  c0 (f_J9_init a0 σ) fun σ3 =>
  gd (kd σ3 a0 = 14) <|
  nm (wr σ3 a0 0 a1) fun σ6 =>
  gd (kd σ6 a0 = 14) <|
  nm (wr σ6 a0 1 a2) fun σ9 =>
  gd (kd σ9 a0 = 14) <|
  nm (wr σ9 a0 2 a3) fun σ12 =>
  gd (kd σ12 a0 = 14) <|
  nm (wr σ12 a0 3 a4) fun σ15 =>
  gd (kd σ15 a0 = 14) <|
  nm (wr σ15 a0 4 a5) fun σ18 =>
  some σ18
noncomputable def f_X3_edge_89 (n : Nat) (k112 : Int → Int → Int → AS → Option (Int × AS)) (l0 l1 l2 l4 : Int) (σ : AS) : Option (Int × AS) :=
  gd (kd σ l0 = 18) <|
  if (ld σ l0 3) = 0 then (
    if l2 = l4 then (
      gd (kd σ l0 = 18) <|
      gd (kd σ (ld σ l0 1) = 12) <|
      gd (kd σ (ld σ (ld σ l0 1) 3) = 103 ∧ (0 : Int) ≤ l2 ∧ l2 < ln σ (ld σ (ld σ l0 1) 3)) <|
      nm (wr σ (ld σ (ld σ l0 1) 3) l2 1) fun σ7 =>
      k112 l0 l1 l2 σ7)
    else (
      k112 l0 l1 l2 σ))
  else (
    k112 l0 l1 l2 σ)
noncomputable def f_X3_edge_205 (n : Nat) (k206 : Int → Int → Int → Int → Int → Int → Int → AS → Option (Int × AS)) (l0 l1 l2 l3 l4 l5 : Int) (σ : AS) : Option (Int × AS) :=
  k206 l0 l1 l2 l3 l4 l5 0 σ
noncomputable def f_X3_edge_243 (n : Nat) (l4 l5 s0 s1 s2 s3 s4 : Int) (σ : AS) : Option (Int × AS) :=
  gd (s1 ≠ 0) <|
  c0 (f_X20_init s1 s2 s3 s4 l4 l5 σ) fun σ11 =>
  some (s0, σ11)
noncomputable def f_X3_edge_219 (n : Nat) (l1 l2 l3 l4 l5 l6 : Int) (σ : AS) : Option (Int × AS) :=
  nm (nx σ) fun r13 =>
  nm (al σ 14 0 5) fun σ15 =>
  if l1 = 0 then (
    if l6 = 0 then (
      f_X3_edge_243 n l4 l5 r13 r13 l2 l3 0 σ15)
    else (
      f_X3_edge_243 n l4 l5 r13 r13 l2 l3 1 σ15))
  else (
    f_X3_edge_243 n l4 l5 r13 r13 l2 l3 (-1) σ15)
noncomputable def f_X3_edge_206 (n : Nat) (l0 l1 l2 l3 l4 l5 s0 : Int) (σ : AS) : Option (Int × AS) :=
  if s0 = 0 then (
    gd (kd σ l0 = 18) <|
    c0 (f_X3_need n l0 23 σ) fun σ22 =>
    f_X3_edge_219 n l1 l2 l3 l4 l5 s0 σ22)
  else (
    f_X3_edge_219 n l1 l2 l3 l4 l5 s0 σ)
noncomputable def f_X3_edge_182 (n : Nat) (l0 l1 l2 l3 l4 l5 : Int) (σ : AS) : Option (Int × AS) :=
  gd (kd σ l0 = 18) <|
  c0 (f_X3_need n l0 33 σ) fun σ26 =>
  if l1 = 0 then (
    gd (kd σ26 l0 = 18) <|
    c1 (f_X3_takes n l0 35 σ26) fun v30 σ31 =>
    if v30 = 0 then (
      f_X3_edge_205 n (f_X3_edge_206 n) l0 l1 l2 l3 l4 l5 σ31)
    else (
      f_X3_edge_206 n l0 l1 l2 l3 l4 l5 1 σ31))
  else (
    f_X3_edge_205 n (f_X3_edge_206 n) l0 l1 l2 l3 l4 l5 σ26)
noncomputable def f_X3_edge_133 (n : Nat) (l0 l1 l2 s0 : Int) (σ : AS) : Option (Int × AS) :=
  if l2 = (-1) then (
    gd (kd σ l0 = 18) <|
    c1 (f_X3_takes n l0 29 σ) fun v36 σ37 =>
    if v36 = 0 then (
      f_X3_edge_182 n l0 l1 l2 s0 1 1 σ37)
    else (
      gd (kd σ37 l0 = 18) <|
      c1 (f_X3_number n l0 1 4 σ37) fun v41 σ42 =>
      gd (kd σ42 l0 = 18) <|
      c0 (f_X3_need n l0 31 σ42) fun σ46 =>
      gd (kd σ46 l0 = 18) <|
      c1 (f_X3_number n l0 v41 4 σ46) fun v49 σ50 =>
      f_X3_edge_182 n l0 l1 l2 s0 v41 v49 σ50))
  else (
    f_X3_edge_182 n l0 l1 l2 s0 1 1 σ)
noncomputable def f_X3_edge_112 (n : Nat) (l0 l1 l2 : Int) (σ : AS) : Option (Int × AS) :=
  gd (kd σ l0 = 18) <|
  c1 (f_X3_takes n l0 19 σ) fun v53 σ54 =>
  if v53 = 0 then (
    f_X3_edge_133 n l0 l1 l2 (-1) σ54)
  else (
    gd (kd σ54 l0 = 18) <|
    c1 (f_X3_number n l0 0 31 σ54) fun v58 σ59 =>
    f_X3_edge_133 n l0 l1 l2 v58 σ59)
noncomputable def f_X3_edge_17 (n : Nat) (l0 l1 : Int) (σ : AS) : Option (Int × AS) :=
  gd (kd σ l0 = 18) <|
  c0 (f_X3_need n l0 27 σ) fun σ63 =>
  gd (kd σ63 l0 = 18) <|
  if (ld σ63 l0 3) = 0 then (
    gd (kd σ63 l0 = 18) <|
    gd (kd σ63 (ld σ63 l0 0) = 19) <|
    gdc (cmpOk σ63 (ld σ63 (ld σ63 l0 0) 4) 125) <|
    if (ld σ63 (ld σ63 l0 0) 4) = 125 then (
      gd (kd σ63 l0 = 18) <|
      gd (kd σ63 (ld σ63 l0 0) = 19) <|
      nm (ld σ63 (ld σ63 l0 0) 2) fun u73 =>
      gd (kd σ63 l0 = 18) <|
      gd (kd σ63 (ld σ63 l0 1) = 12) <|
      gd (kd σ63 (ld σ63 (ld σ63 l0 1) 2) = 32) <|
      c1 (f_J33_size (ld σ63 (ld σ63 l0 1) 2) σ63) fun v78 σ79 =>
      gd (kd σ79 l0 = 18) <|
      c1 (f_X3_name n l0 σ79) fun v82 σ83 =>
      gd (kd σ83 l0 = 18) <|
      if (ld σ83 l0 3) = 0 then (
        if v78 ≤ v82 then (
          f_X3_edge_89 n (f_X3_edge_112 n) l0 l1 v82 v78 σ83)
        else (
          gd (kd σ83 l0 = 18) <|
          c0 (f_X3_means l0 4 u73 σ83) fun σ90 =>
          f_X3_edge_89 n (f_X3_edge_112 n) l0 l1 v82 v78 σ90))
      else (
        f_X3_edge_89 n (f_X3_edge_112 n) l0 l1 v82 v78 σ83))
    else (
      f_X3_edge_112 n l0 l1 (-1) σ63))
  else (
    f_X3_edge_112 n l0 l1 (-1) σ63)
noncomputable def f_X3_edge (n : Nat) (a0 : Int) (σ : AS) : Option (Int × AS) :=
  gd (kd σ a0 = 18) <|
  c1 (f_X3_takes n a0 25 σ) fun v93 σ94 =>
  if v93 = 0 then (
    gd (kd σ94 a0 = 18) <|
    c0 (f_X3_need n a0 23 σ94) fun σ99 =>
    f_X3_edge_17 n a0 v93 σ99)
  else (
    f_X3_edge_17 n a0 v93 σ94)
noncomputable def f_X3_pattern_95 (n : Nat) (k12 : Int → AS → Option AS) (l0 : Int) (σ : AS) : Option AS :=
  k12 l0 σ
noncomputable def f_X3_pattern_82 (n : Nat) (k12 : Int → AS → Option AS) (l0 s0 : Int) (σ : AS) : Option AS :=
  gd (kd σ l0 = 18) <|
  if (ld σ l0 3) = 0 then (
    gd (kd σ l0 = 18) <|
    c0 (f_X3_node n l0 s0 σ) fun σ5 =>
    f_X3_pattern_95 n k12 l0 σ5)
  else (
    f_X3_pattern_95 n k12 l0 σ)
noncomputable def f_X3_pattern_57 (n : Nat) (k12 : Int → AS → Option AS) (l0 : Int) (σ : AS) : Option AS :=
  gd (kd σ l0 = 18) <|
  gI ((ld σ l0 2) + 1) <|
  gd (kd σ l0 = 18) <|
  nm (wr σ l0 2 ((ld σ l0 2) + 1)) fun σ10 =>
  gd (kd σ10 l0 = 18) <|
  if (ld σ10 l0 3) = 0 then (
    gd (kd σ10 l0 = 18) <|
    c1 (f_X3_edge n l0 σ10) fun v15 σ16 =>
    f_X3_pattern_82 n k12 l0 v15 σ16)
  else (
    f_X3_pattern_82 n k12 l0 0 σ10)
noncomputable def f_X3_pattern_43 (n : Nat) (k12 : Int → AS → Option AS) (l0 : Int) (σ : AS) : Option AS :=
  gd (kd σ l0 = 18) <|
  if (ld σ l0 2) = 8 then (
    gd (kd σ l0 = 18) <|
    c0 (f_X3_fail l0 3 σ) fun σ22 =>
    f_X3_pattern_57 n k12 l0 σ22)
  else (
    f_X3_pattern_57 n k12 l0 σ)
noncomputable def f_X3_pattern_12 (n : Nat) : Nat → Int → AS → Option AS
  | 0, _, _ => none
  | q + 1, l0, σ =>
    gd (kd σ l0 = 18) <|
    if (ld σ l0 3) = 0 then (
      gd (kd σ l0 = 18) <|
      gd (kd σ (ld σ l0 0) = 19) <|
      c1 (f_X4_is n (ld σ l0 0) 23 σ) fun v42 σ43 =>
      if v42 = 0 then (
        gd (kd σ43 l0 = 18) <|
        gd (kd σ43 (ld σ43 l0 0) = 19) <|
        c1 (f_X4_is n (ld σ43 l0 0) 25 σ43) fun v48 σ49 =>
        if v48 = 0 then (
          some σ49)
        else (
          f_X3_pattern_43 n (f_X3_pattern_12 n q) l0 σ49))
      else (
        f_X3_pattern_43 n (f_X3_pattern_12 n q) l0 σ43))
    else (
      some σ)
noncomputable def f_X3_pattern (n : Nat) (a0 : Int) (σ : AS) : Option AS :=
  gd (kd σ a0 = 18) <|
  if (ld σ a0 3) = 0 then (
    gd (kd σ a0 = 18) <|
    c0 (f_X3_node n a0 0 σ) fun σ56 =>
    f_X3_pattern_12 n n a0 σ56)
  else (
    f_X3_pattern_12 n n a0 σ)
noncomputable def f_X22_init (a0 a1 a2 a3 : Int) (σ : AS) : Option AS :=
  gd (a0 ≠ 0) <|
  c0 (f_J9_init a0 σ) fun σ3 =>
  gd (kd σ3 a0 = 16) <|
  nm (wr σ3 a0 0 a1) fun σ6 =>
  gd (kd σ6 a0 = 16) <|
  nm (wr σ6 a0 1 a2) fun σ9 =>
  gd (kd σ9 a0 = 16) <|
  nm (wr σ9 a0 2 a3) fun σ12 =>
  some σ12
noncomputable def f_X3_value_59 (n : Nat) (k69 : Int → Int → AS → Option (Int × AS)) (l0 l4 : Int) (σ : AS) : Option (Int × AS) :=
  gd (kd σ l0 = 18) <|
  c1 (f_X3_number n l0 0 31 σ) fun v2 σ3 =>
  k69 l4 v2 σ3
noncomputable def f_X3_value_69 (n : Nat) (l4 l5 : Int) (σ : AS) : Option (Int × AS) :=
  nm (nx σ) fun r5 =>
  nm (al σ 16 0 3) fun σ7 =>
  gd (r5 ≠ 0) <|
  c0 (f_X22_init r5 l4 l5 0 σ7) fun σ11 =>
  some (r5, σ11)
noncomputable def f_X3_value_46 (n : Nat) (l0 l2 l4 l5 : Int) (σ : AS) : Option (Int × AS) :=
  if l2 = 0 then (
    gd (kd σ l0 = 18) <|
    c1 (f_X3_takes n l0 45 σ) fun v15 σ16 =>
    if v15 = 0 then (
      f_X3_value_69 n l4 l5 σ16)
    else (
      f_X3_value_59 n (f_X3_value_69 n) l0 l4 σ16))
  else (
    f_X3_value_59 n (f_X3_value_69 n) l0 l4 σ)
noncomputable def f_X3_value_33 (n : Nat) (l0 l2 l4 : Int) (σ : AS) : Option (Int × AS) :=
  if l2 = 0 then (
    f_X3_value_46 n l0 l2 l4 (-1) σ)
  else (
    gd (kd σ l0 = 18) <|
    c0 (f_X3_need n l0 45 σ) fun σ22 =>
    f_X3_value_46 n l0 l2 l4 (-1) σ22)
noncomputable def f_X3_value (n : Nat) (a0 a1 a2 : Int) (σ : AS) : Option (Int × AS) :=
  gd (kd σ a0 = 18) <|
  gd (kd σ (ld σ a0 0) = 19) <|
  nm (ld σ (ld σ a0 0) 2) fun u26 =>
  gd (kd σ a0 = 18) <|
  c1 (f_X3_name n a0 σ) fun v29 σ30 =>
  gd (kd σ30 a0 = 18) <|
  if (ld σ30 a0 3) = 0 then (
    if v29 < a1 then (
      f_X3_value_33 n a0 a2 v29 σ30)
    else (
      gd (kd σ30 a0 = 18) <|
      c0 (f_X3_means a0 5 u26 σ30) fun σ37 =>
      f_X3_value_33 n a0 a2 v29 σ37))
  else (
    f_X3_value_33 n a0 a2 v29 σ30)
noncomputable def f_X21_init (a0 a1 a2 a3 : Int) (σ : AS) : Option AS :=
  gd (a0 ≠ 0) <|
  c0 (f_J9_init a0 σ) fun σ3 =>
  gd (kd σ3 a0 = 15) <|
  nm (wr σ3 a0 0 a1) fun σ6 =>
  gd (kd σ6 a0 = 15) <|
  nm (wr σ6 a0 1 a2) fun σ9 =>
  gd (kd σ9 a0 = 15) <|
  nm (wr σ9 a0 2 a3) fun σ12 =>
  some σ12
noncomputable def f_X3_term_40 (n : Nat) (l0 l1 : Int) (σ : AS) : Option (Int × AS) :=
  gd (kd σ l0 = 18) <|
  c1 (f_X3_value n l0 l1 0 σ) fun v2 σ3 =>
  some (v2, σ3)
noncomputable def f_X3_term (n : Nat) (a0 a1 : Int) (σ : AS) : Option (Int × AS) :=
  gd (kd σ a0 = 18) <|
  if (ld σ a0 3) = 0 then (
    gd (kd σ a0 = 18) <|
    gd (kd σ (ld σ a0 0) = 19) <|
    gdc (cmpOk σ (ld σ (ld σ a0 0) 4) 126) <|
    if (ld σ (ld σ a0 0) 4) = 126 then (
      nm (nx σ) fun r11 =>
      nm (al σ 16 0 3) fun σ13 =>
      gd (kd σ13 a0 = 18) <|
      c1 (f_X3_number n a0 (-2147483648) 2147483647 σ13) fun v16 σ17 =>
      gd (r11 ≠ 0) <|
      c0 (f_X22_init r11 (-1) (-1) v16 σ17) fun σ21 =>
      some (r11, σ21))
    else (
      f_X3_term_40 n a0 a1 σ))
  else (
    f_X3_term_40 n a0 a1 σ)
noncomputable def f_X3_isComparison (n : Nat) (a0 : Int) (σ : AS) : Option (Int × AS) :=
  gd (kd σ a0 = 18) <|
  gd (kd σ (ld σ a0 0) = 19) <|
  c1 (f_X4_is n (ld σ a0 0) 47 σ) fun v3 σ4 =>
  if v3 = 0 then (
    gd (kd σ4 a0 = 18) <|
    gd (kd σ4 (ld σ4 a0 0) = 19) <|
    c1 (f_X4_is n (ld σ4 a0 0) 49 σ4) fun v9 σ10 =>
    if v9 = 0 then (
      gd (kd σ10 a0 = 18) <|
      gd (kd σ10 (ld σ10 a0 0) = 19) <|
      c1 (f_X4_is n (ld σ10 a0 0) 51 σ10) fun v15 σ16 =>
      if v15 = 0 then (
        gd (kd σ16 a0 = 18) <|
        gd (kd σ16 (ld σ16 a0 0) = 19) <|
        c1 (f_X4_is n (ld σ16 a0 0) 53 σ16) fun v21 σ22 =>
        if v21 = 0 then (
          gd (kd σ22 a0 = 18) <|
          gd (kd σ22 (ld σ22 a0 0) = 19) <|
          c1 (f_X4_is n (ld σ22 a0 0) 55 σ22) fun v27 σ28 =>
          if v27 = 0 then (
            gd (kd σ28 a0 = 18) <|
            gd (kd σ28 (ld σ28 a0 0) = 19) <|
            c1 (f_X4_is n (ld σ28 a0 0) 57 σ28) fun v33 σ34 =>
            if v33 = 0 then (
              some (0, σ34))
            else (
              some (1, σ34)))
          else (
            some (1, σ28)))
        else (
          some (1, σ22)))
      else (
        some (1, σ16)))
    else (
      some (1, σ10)))
  else (
    some (1, σ4))
noncomputable def f_X3_conditions_56 (n : Nat) (k61 : Int → Int → Int → AS → Option AS) (l0 l1 : Int) (σ : AS) : Option AS :=
  k61 l0 l1 1 σ
noncomputable def f_X3_conditions_117 (n : Nat) (k234 : Int → Int → AS → Option AS) (l0 l1 : Int) (σ : AS) : Option AS :=
  gd (kd σ l0 = 18) <|
  gd (kd σ (ld σ l0 0) = 19) <|
  nm (ld σ (ld σ l0 0) 5) fun u3 =>
  gd (kd σ l0 = 18) <|
  gd (kd σ (ld σ l0 0) = 19) <|
  c0 (f_X4_next n (ld σ l0 0) σ) fun σ8 =>
  gd (kd σ8 l0 = 18) <|
  gd (kd σ8 (ld σ8 l0 1) = 12) <|
  nm (nx σ8) fun r12 =>
  nm (al σ8 15 0 3) fun σ14 =>
  gd (kd σ14 l0 = 18) <|
  c1 (f_X3_value n l0 l1 1 σ14) fun v17 σ18 =>
  gd (r12 ≠ 0) <|
  c0 (f_X21_init r12 v17 u3 0 σ18) fun σ22 =>
  gd (kd σ22 (ld σ8 (ld σ8 l0 1) 4) = 31) <|
  c1 (f_J32_add (ld σ8 (ld σ8 l0 1) 4) r12 σ22) fun v25 σ26 =>
  k234 l0 l1 σ26
noncomputable def f_X3_conditions_203 (n : Nat) (k207 : Int → Int → Int → Int → AS → Option AS) (l0 l1 l4 l5 : Int) (σ : AS) : Option AS :=
  gd (kd σ l0 = 18) <|
  c0 (f_X3_wrong l0 σ) fun σ30 =>
  k207 l0 l1 l4 l5 σ30
noncomputable def f_X3_conditions_207 (n : Nat) (k234 : Int → Int → AS → Option AS) (l0 l1 l4 l5 : Int) (σ : AS) : Option AS :=
  gd (kd σ l0 = 18) <|
  gd (kd σ (ld σ l0 1) = 12) <|
  nm (nx σ) fun r34 =>
  nm (al σ 15 0 3) fun σ36 =>
  gd (kd σ36 l0 = 18) <|
  c1 (f_X3_term n l0 l1 σ36) fun v39 σ40 =>
  gd (r34 ≠ 0) <|
  c0 (f_X21_init r34 l4 l5 v39 σ40) fun σ44 =>
  gd (kd σ44 (ld σ (ld σ l0 1) 4) = 31) <|
  c1 (f_J32_add (ld σ (ld σ l0 1) 4) r34 σ44) fun v47 σ48 =>
  k234 l0 l1 σ48
noncomputable def f_X3_conditions_163 (n : Nat) (k234 : Int → Int → AS → Option AS) (l0 l1 : Int) (σ : AS) : Option AS :=
  gd (kd σ l0 = 18) <|
  c1 (f_X3_term n l0 l1 σ) fun v51 σ52 =>
  gd (kd σ52 l0 = 18) <|
  gd (kd σ52 (ld σ52 l0 0) = 19) <|
  nm (ld σ52 (ld σ52 l0 0) 5) fun u56 =>
  gd (kd σ52 l0 = 18) <|
  if (ld σ52 l0 3) = 0 then (
    gd (kd σ52 l0 = 18) <|
    c1 (f_X3_isComparison n l0 σ52) fun v61 σ62 =>
    if v61 = 0 then (
      f_X3_conditions_203 n (f_X3_conditions_207 n k234) l0 l1 v51 u56 σ62)
    else (
      gd (kd σ62 l0 = 18) <|
      gd (kd σ62 (ld σ62 l0 0) = 19) <|
      c0 (f_X4_next n (ld σ62 l0 0) σ62) fun σ68 =>
      f_X3_conditions_207 n k234 l0 l1 v51 u56 σ68))
  else (
    f_X3_conditions_203 n (f_X3_conditions_207 n k234) l0 l1 v51 u56 σ52)
noncomputable def f_X3_conditions_234 (n : Nat) (k2 : Int → Int → Int → AS → Option AS) (l0 l1 : Int) (σ : AS) : Option AS :=
  gd (kd σ l0 = 18) <|
  c1 (f_X3_takes n l0 59 σ) fun v71 σ72 =>
  k2 l0 l1 v71 σ72
noncomputable def f_X3_conditions_86 (n : Nat) (k2 : Int → Int → Int → AS → Option AS) (l0 l1 : Int) (σ : AS) : Option AS :=
  gd (kd σ l0 = 18) <|
  if (ld σ l0 3) = 0 then (
    gd (kd σ l0 = 18) <|
    gd (kd σ (ld σ l0 0) = 19) <|
    c1 (f_X4_is n (ld σ l0 0) 41 σ) fun v78 σ79 =>
    if v78 = 0 then (
      gd (kd σ79 l0 = 18) <|
      gd (kd σ79 (ld σ79 l0 0) = 19) <|
      c1 (f_X4_is n (ld σ79 l0 0) 43 σ79) fun v84 σ85 =>
      if v84 = 0 then (
        f_X3_conditions_163 n (f_X3_conditions_234 n k2) l0 l1 σ85)
      else (
        f_X3_conditions_117 n (f_X3_conditions_234 n k2) l0 l1 σ85))
    else (
      f_X3_conditions_117 n (f_X3_conditions_234 n k2) l0 l1 σ79))
  else (
    f_X3_conditions_163 n (f_X3_conditions_234 n k2) l0 l1 σ)
noncomputable def f_X3_conditions_61 (n : Nat) (k2 : Int → Int → Int → AS → Option AS) (l0 l1 s0 : Int) (σ : AS) : Option AS :=
  gd (kd σ l0 = 18) <|
  gd (kd σ (ld σ l0 1) = 12) <|
  gd (kd σ (ld σ (ld σ l0 1) 4) = 31) <|
  c1 (f_J32_size (ld σ (ld σ l0 1) 4) σ) fun v91 σ92 =>
  if v91 = 8 then (
    if s0 = 0 then (
      f_X3_conditions_86 n k2 l0 l1 σ92)
    else (
      gd (kd σ92 l0 = 18) <|
      c0 (f_X3_fail l0 3 σ92) fun σ98 =>
      f_X3_conditions_86 n k2 l0 l1 σ98))
  else (
    f_X3_conditions_86 n k2 l0 l1 σ92)
noncomputable def f_X3_conditions_2 (n : Nat) : Nat → Int → Int → Int → AS → Option AS
  | 0, _, _, _, _ => none
  | q + 1, l0, l1, l2, σ =>
    if l2 = 0 then (
      some σ)
    else (
      gd (kd σ l0 = 18) <|
      gd (kd σ (ld σ l0 0) = 19) <|
      gdc (cmpOk σ (ld σ (ld σ l0 0) 4) 126) <|
      if (ld σ (ld σ l0 0) 4) = 126 then (
        f_X3_conditions_56 n (f_X3_conditions_61 n (f_X3_conditions_2 n q)) l0 l1 σ)
      else (
        gd (kd σ l0 = 18) <|
        gd (kd σ (ld σ l0 0) = 19) <|
        gdc (cmpOk σ (ld σ (ld σ l0 0) 4) 125) <|
        if (ld σ (ld σ l0 0) 4) = 125 then (
          f_X3_conditions_56 n (f_X3_conditions_61 n (f_X3_conditions_2 n q)) l0 l1 σ)
        else (
          gd (kd σ l0 = 18) <|
          gd (kd σ (ld σ l0 0) = 19) <|
          c1 (f_X4_is n (ld σ l0 0) 41 σ) fun v132 σ133 =>
          if v132 = 0 then (
            gd (kd σ133 l0 = 18) <|
            gd (kd σ133 (ld σ133 l0 0) = 19) <|
            c1 (f_X4_is n (ld σ133 l0 0) 43 σ133) fun v138 σ139 =>
            if v138 = 0 then (
              f_X3_conditions_61 n (f_X3_conditions_2 n q) l0 l1 0 σ139)
            else (
              f_X3_conditions_56 n (f_X3_conditions_61 n (f_X3_conditions_2 n q)) l0 l1 σ139))
          else (
            f_X3_conditions_56 n (f_X3_conditions_61 n (f_X3_conditions_2 n q)) l0 l1 σ133))))
noncomputable def f_X3_conditions (n : Nat) (a0 a1 : Int) (σ : AS) : Option AS :=
  f_X3_conditions_2 n n a0 a1 1 σ
noncomputable def f_X3_beginsItem (n : Nat) (a0 : Int) (σ : AS) : Option (Int × AS) :=
  gd (kd σ a0 = 18) <|
  gd (kd σ (ld σ a0 0) = 19) <|
  gdc (cmpOk σ (ld σ (ld σ a0 0) 4) 125) <|
  if (ld σ (ld σ a0 0) 4) = 125 then (
    some (1, σ))
  else (
    gd (kd σ a0 = 18) <|
    gd (kd σ (ld σ a0 0) = 19) <|
    c1 (f_X4_is n (ld σ a0 0) 65 σ) fun v7 σ8 =>
    if v7 = 0 then (
      some (0, σ8))
    else (
      some (1, σ8)))
noncomputable def f_X3_item (n : Nat) (a0 a1 : Int) (σ : AS) : Option (Int × AS) :=
  gd (kd σ a0 = 18) <|
  c1 (f_X3_takes n a0 65 σ) fun v2 σ3 =>
  if v2 = 0 then (
    gd (kd σ3 a0 = 18) <|
    c1 (f_X3_value n a0 a1 0 σ3) fun v7 σ8 =>
    some (v7, σ8))
  else (
    nm (nx σ3) fun r10 =>
    nm (al σ3 16 0 3) fun σ12 =>
    gd (r10 ≠ 0) <|
    c0 (f_X22_init r10 (-2) (-1) 0 σ12) fun σ16 =>
    some (r10, σ16))
noncomputable def f_X3_items_56 (n : Nat) (k2 : Int → Int → Int → AS → Option AS) (l0 l1 s0 s1 : Int) (σ : AS) : Option AS :=
  gd (kd σ s0 = 31) <|
  c1 (f_J32_add s0 s1 σ) fun v2 σ3 =>
  gd (kd σ3 l0 = 18) <|
  c1 (f_X3_takes n l0 37 σ3) fun v6 σ7 =>
  k2 l0 l1 v6 σ7
noncomputable def f_X3_items_33 (n : Nat) (k2 : Int → Int → Int → AS → Option AS) (l0 l1 : Int) (σ : AS) : Option AS :=
  gd (kd σ l0 = 18) <|
  gd (kd σ (ld σ l0 1) = 12) <|
  gd (kd σ l0 = 18) <|
  if (ld σ l0 3) = 0 then (
    gd (kd σ l0 = 18) <|
    c1 (f_X3_item n l0 l1 σ) fun v14 σ15 =>
    f_X3_items_56 n k2 l0 l1 (ld σ (ld σ l0 1) 5) v14 σ15)
  else (
    f_X3_items_56 n k2 l0 l1 (ld σ (ld σ l0 1) 5) 0 σ)
noncomputable def f_X3_items_2 (n : Nat) : Nat → Int → Int → Int → AS → Option AS
  | 0, _, _, _, _ => none
  | q + 1, l0, l1, l2, σ =>
    if l2 = 0 then (
      some σ)
    else (
      gd (kd σ l0 = 18) <|
      gd (kd σ (ld σ l0 1) = 12) <|
      gd (kd σ (ld σ (ld σ l0 1) 5) = 31) <|
      c1 (f_J32_size (ld σ (ld σ l0 1) 5) σ) fun v38 σ39 =>
      if v38 = 8 then (
        gd (kd σ39 l0 = 18) <|
        c1 (f_X3_beginsItem n l0 σ39) fun v43 σ44 =>
        if v43 = 0 then (
          f_X3_items_33 n (f_X3_items_2 n q) l0 l1 σ44)
        else (
          gd (kd σ44 l0 = 18) <|
          c0 (f_X3_fail l0 3 σ44) fun σ49 =>
          f_X3_items_33 n (f_X3_items_2 n q) l0 l1 σ49))
      else (
        f_X3_items_33 n (f_X3_items_2 n q) l0 l1 σ39))
noncomputable def f_X3_items (n : Nat) (a0 a1 : Int) (σ : AS) : Option AS :=
  f_X3_items_2 n n a0 a1 1 σ
noncomputable def f_J18_checkIndex (a0 a1 : Int) (σ : AS) : Option (Int × AS) :=
  c1 (f_J24_checkIndex a0 a1 0 σ) fun v1 σ2 =>
  some (v1, σ2)
noncomputable def f_J32_elementData (a0 a1 : Int) (σ : AS) : Option (Int × AS) :=
  gd (kd σ a0 = 31) <|
  gd ((kd σ (ld σ a0 1) = 105 ∨ kd σ (ld σ a0 1) = 1105) ∧ (0 : Int) ≤ a1 ∧ a1 < ln σ (ld σ a0 1)) <|
  some ((ld σ (ld σ a0 1) a1), σ)
noncomputable def f_J32_get (a0 a1 : Int) (σ : AS) : Option (Int × AS) :=
  gd (kd σ a0 = 31) <|
  c1 (f_J18_checkIndex a1 (ld σ a0 2) σ) fun v2 σ3 =>
  gd (kd σ3 a0 = 31) <|
  c1 (f_J32_elementData a0 a1 σ3) fun v6 σ7 =>
  some (v6, σ7)
noncomputable def f_X22_isCount (a0 : Int) (σ : AS) : Option (Int × AS) :=
  gd (kd σ a0 = 16) <|
  if (ld σ a0 0) = (-2) then (
    some (1, σ))
  else (
    some (0, σ))
noncomputable def f_X18_counts_4 (n : Nat) : Nat → Int → Int → Int → AS → Option (Int × AS)
  | 0, _, _, _, _ => none
  | q + 1, l0, l1, l2, σ =>
    gd (kd σ l0 = 12) <|
    gd (kd σ (ld σ l0 5) = 31) <|
    c1 (f_J32_size (ld σ l0 5) σ) fun v25 σ26 =>
    if v25 ≤ l2 then (
      gd (0 ≤ l1 ∧ l1 ≤ 1) <|
      some (l1, σ26))
    else (
      gd (kd σ26 l0 = 12) <|
      gd (kd σ26 (ld σ26 l0 5) = 31) <|
      c1 (f_J32_get (ld σ26 l0 5) l2 σ26) fun v32 σ33 =>
      gd (v32 = 0 ∨ kd σ33 v32 = 16) <|
      gd (kd σ33 v32 = 16) <|
      c1 (f_X22_isCount v32 σ33) fun v37 σ38 =>
      nm (iorW l1 v37) fun u40 =>
      gI (l2 + 1) <|
      nm (l2 + 1) fun u43 =>
      f_X18_counts_4 n q l0 u40 u43 σ38)
noncomputable def f_X18_counts (n : Nat) (a0 : Int) (σ : AS) : Option (Int × AS) :=
  f_X18_counts_4 n n a0 0 0 σ
noncomputable def f_X23_init (a0 a1 a2 : Int) (σ : AS) : Option AS :=
  gd (a0 ≠ 0) <|
  c0 (f_J9_init a0 σ) fun σ3 =>
  gd (kd σ3 a0 = 17) <|
  nm (wr σ3 a0 0 a1) fun σ6 =>
  gd (kd σ6 a0 = 17) <|
  gd (0 ≤ a2 ∧ a2 ≤ 1) <|
  nm (wr σ6 a0 1 a2) fun σ10 =>
  some σ10
noncomputable def f_X3_orders_41 (n : Nat) (k42 : Int → Int → Int → Int → AS → Option AS) (l0 l1 l2 : Int) (σ : AS) : Option AS :=
  k42 l0 l1 l2 0 σ
noncomputable def f_X3_orders_127 (n : Nat) (k43 : Int → Int → Int → Int → AS → Option AS) (l0 l1 l3 s0 : Int) (σ : AS) : Option AS :=
  gd (kd σ l0 = 18) <|
  gd (kd σ (ld σ l0 1) = 12) <|
  nm (nx σ) fun r3 =>
  nm (al σ 17 0 2) fun σ5 =>
  gd (kd σ5 l0 = 18) <|
  c1 (f_X3_takes n l0 71 σ5) fun v8 σ9 =>
  gd (r3 ≠ 0) <|
  c0 (f_X23_init r3 s0 v8 σ9) fun σ13 =>
  gd (kd σ13 (ld σ (ld σ l0 1) 6) = 31) <|
  c1 (f_J32_add (ld σ (ld σ l0 1) 6) r3 σ13) fun v16 σ17 =>
  gd (kd σ17 l0 = 18) <|
  c1 (f_X3_takes n l0 37 σ17) fun v20 σ21 =>
  k43 l0 l1 v20 l3 σ21
noncomputable def f_X3_orders_111 (n : Nat) (k43 : Int → Int → Int → Int → AS → Option AS) (l0 l1 l3 : Int) (σ : AS) : Option AS :=
  gd (kd σ l0 = 18) <|
  if (ld σ l0 3) = 0 then (
    gd (kd σ l0 = 18) <|
    c1 (f_X3_item n l0 l1 σ) fun v26 σ27 =>
    f_X3_orders_127 n k43 l0 l1 l3 v26 σ27)
  else (
    f_X3_orders_127 n k43 l0 l1 l3 0 σ)
noncomputable def f_X3_orders_74 (n : Nat) (k43 : Int → Int → Int → Int → AS → Option AS) (l0 l1 l3 : Int) (σ : AS) : Option AS :=
  gd (kd σ l0 = 18) <|
  if (ld σ l0 3) = 0 then (
    gd (kd σ l0 = 18) <|
    gd (kd σ (ld σ l0 0) = 19) <|
    c1 (f_X4_is n (ld σ l0 0) 65 σ) fun v33 σ34 =>
    if v33 = 0 then (
      f_X3_orders_111 n k43 l0 l1 l3 σ34)
    else (
      if l3 = 0 then (
        gd (kd σ34 l0 = 18) <|
        gd (kd σ34 (ld σ34 l0 0) = 19) <|
        gd (kd σ34 l0 = 18) <|
        c0 (f_X3_means l0 6 (ld σ34 (ld σ34 l0 0) 2) σ34) fun σ42 =>
        f_X3_orders_111 n k43 l0 l1 l3 σ42)
      else (
        f_X3_orders_111 n k43 l0 l1 l3 σ34)))
  else (
    f_X3_orders_111 n k43 l0 l1 l3 σ)
noncomputable def f_X3_orders_43 (n : Nat) : Nat → Int → Int → Int → Int → AS → Option AS
  | 0, _, _, _, _, _ => none
  | q + 1, l0, l1, l2, l3, σ =>
    if l2 = 0 then (
      some σ)
    else (
      gd (kd σ l0 = 18) <|
      gd (kd σ (ld σ l0 1) = 12) <|
      gd (kd σ (ld σ (ld σ l0 1) 6) = 31) <|
      c1 (f_J32_size (ld σ (ld σ l0 1) 6) σ) fun v65 σ66 =>
      if v65 = 8 then (
        gd (kd σ66 l0 = 18) <|
        c1 (f_X3_beginsItem n l0 σ66) fun v70 σ71 =>
        if v70 = 0 then (
          f_X3_orders_74 n (f_X3_orders_43 n q) l0 l1 l3 σ71)
        else (
          gd (kd σ71 l0 = 18) <|
          c0 (f_X3_fail l0 3 σ71) fun σ76 =>
          f_X3_orders_74 n (f_X3_orders_43 n q) l0 l1 l3 σ76))
      else (
        f_X3_orders_74 n (f_X3_orders_43 n q) l0 l1 l3 σ66))
noncomputable def f_X3_orders_42 (n : Nat) (l0 l1 l2 s0 : Int) (σ : AS) : Option AS :=
  f_X3_orders_43 n n l0 l1 l2 s0 σ
noncomputable def f_X3_orders_19 (n : Nat) (l0 l1 s0 : Int) (σ : AS) : Option AS :=
  gd (kd σ l0 = 18) <|
  if (ld σ l0 3) = 0 then (
    gd (kd σ l0 = 18) <|
    gd (kd σ (ld σ l0 1) = 12) <|
    c1 (f_X18_counts n (ld σ l0 1) σ) fun v82 σ83 =>
    if v82 = 0 then (
      f_X3_orders_41 n (f_X3_orders_42 n) l0 l1 s0 σ83)
    else (
      f_X3_orders_42 n l0 l1 s0 1 σ83))
  else (
    f_X3_orders_41 n (f_X3_orders_42 n) l0 l1 s0 σ)
noncomputable def f_X3_orders (n : Nat) (a0 a1 : Int) (σ : AS) : Option AS :=
  gd (kd σ a0 = 18) <|
  c0 (f_X3_need n a0 69 σ) fun σ88 =>
  gd (kd σ88 a0 = 18) <|
  if (ld σ88 a0 3) = 0 then (
    f_X3_orders_19 n a0 a1 1 σ88)
  else (
    f_X3_orders_19 n a0 a1 0 σ88)
noncomputable def f_X3_read_196 (n : Nat) (l0 : Int) (σ : AS) : Option (Int × AS) :=
  gd (kd σ l0 = 18) <|
  if (ld σ l0 3) = 0 then (
    gd (kd σ l0 = 18) <|
    some ((ld σ l0 1), σ))
  else (
    some (0, σ))
noncomputable def f_X3_read_166 (n : Nat) (l0 : Int) (σ : AS) : Option (Int × AS) :=
  gd (kd σ l0 = 18) <|
  if (ld σ l0 3) = 0 then (
    gd (kd σ l0 = 18) <|
    if (ld σ l0 5) = 0 then (
      f_X3_read_196 n l0 σ)
    else (
      gd (kd σ l0 = 18) <|
      gd (kd σ l0 = 18) <|
      nm (wr σ l0 3 (ld σ l0 5)) fun σ10 =>
      gd (kd σ10 l0 = 18) <|
      gd (kd σ10 l0 = 18) <|
      nm (wr σ10 l0 4 (ld σ10 l0 6)) fun σ14 =>
      f_X3_read_196 n l0 σ14))
  else (
    f_X3_read_196 n l0 σ)
noncomputable def f_X3_read_142 (n : Nat) (l0 : Int) (σ : AS) : Option (Int × AS) :=
  gd (kd σ l0 = 18) <|
  if (ld σ l0 3) = 0 then (
    gd (kd σ l0 = 18) <|
    gd (kd σ (ld σ l0 0) = 19) <|
    gdc (cmpOk σ (ld σ (ld σ l0 0) 4) 124) <|
    if (ld σ (ld σ l0 0) 4) = 124 then (
      f_X3_read_166 n l0 σ)
    else (
      gd (kd σ l0 = 18) <|
      c0 (f_X3_wrong l0 σ) fun σ24 =>
      f_X3_read_166 n l0 σ24))
  else (
    f_X3_read_166 n l0 σ)
noncomputable def f_X3_read_118 (n : Nat) (l0 : Int) (σ : AS) : Option (Int × AS) :=
  gd (kd σ l0 = 18) <|
  c1 (f_X3_takes n l0 73 σ) fun v27 σ28 =>
  if v27 = 0 then (
    f_X3_read_142 n l0 σ28)
  else (
    gd (kd σ28 l0 = 18) <|
    gd (kd σ28 l0 = 18) <|
    c1 (f_X3_number n l0 0 2147483647 σ28) fun v33 σ34 =>
    gd (kd σ34 (ld σ28 l0 1) = 12) <|
    nm (wr σ34 (ld σ28 l0 1) 8 v33) fun σ37 =>
    f_X3_read_142 n l0 σ37)
noncomputable def f_X3_read_80 (n : Nat) (l0 l3 : Int) (σ : AS) : Option (Int × AS) :=
  gd (kd σ l0 = 18) <|
  c0 (f_X3_need n l0 61 σ) fun σ41 =>
  gd (kd σ41 l0 = 18) <|
  gd (kd σ41 l0 = 18) <|
  c1 (f_X3_takes n l0 63 σ41) fun v45 σ46 =>
  gd (kd σ46 (ld σ41 l0 1) = 12) <|
  gd (0 ≤ v45 ∧ v45 ≤ 1) <|
  nm (wr σ46 (ld σ41 l0 1) 7 v45) fun σ50 =>
  gd (kd σ50 l0 = 18) <|
  c0 (f_X3_items n l0 l3 σ50) fun σ54 =>
  gd (kd σ54 l0 = 18) <|
  c1 (f_X3_takes n l0 67 σ54) fun v57 σ58 =>
  if v57 = 0 then (
    f_X3_read_118 n l0 σ58)
  else (
    gd (kd σ58 l0 = 18) <|
    c0 (f_X3_orders n l0 l3 σ58) fun σ63 =>
    f_X3_read_118 n l0 σ63)
noncomputable def f_X3_read_39 (n : Nat) : Nat → Int → AS → Option (Int × AS)
  | 0, _, _ => none
  | q + 1, l0, σ =>
    gd (kd σ l0 = 18) <|
    c1 (f_X3_takes n l0 37 σ) fun v90 σ91 =>
    if v90 = 0 then (
      gd (kd σ91 l0 = 18) <|
      gd (kd σ91 (ld σ91 l0 1) = 12) <|
      gd (kd σ91 (ld σ91 (ld σ91 l0 1) 2) = 32) <|
      c1 (f_J33_size (ld σ91 (ld σ91 l0 1) 2) σ91) fun v97 σ98 =>
      gd (kd σ98 l0 = 18) <|
      c1 (f_X3_takes n l0 39 σ98) fun v101 σ102 =>
      if v101 = 0 then (
        f_X3_read_80 n l0 v97 σ102)
      else (
        gd (kd σ102 l0 = 18) <|
        c0 (f_X3_conditions n l0 v97 σ102) fun σ107 =>
        f_X3_read_80 n l0 v97 σ107))
    else (
      gd (kd σ91 l0 = 18) <|
      c0 (f_X3_pattern n l0 σ91) fun σ111 =>
      f_X3_read_39 n q l0 σ111)
noncomputable def f_X3_read (n : Nat) (a0 a1 a2 : Int) (σ : AS) : Option (Int × AS) :=
  nm (nx σ) fun r113 =>
  nm (al σ 12 0 9) fun σ115 =>
  gd (r113 ≠ 0) <|
  c0 (f_X18_init r113 σ115) fun σ119 =>
  gd (kd σ119 a0 = 18) <|
  nm (wr σ119 a0 1 r113) fun σ122 =>
  gd (kd σ122 a0 = 18) <|
  nm (wr σ122 a0 2 0) fun σ125 =>
  gd (kd σ125 a0 = 18) <|
  nm (wr σ125 a0 3 0) fun σ128 =>
  gd (kd σ128 a0 = 18) <|
  nm (wr σ128 a0 5 0) fun σ131 =>
  gd (kd σ131 a0 = 18) <|
  gd (kd σ131 (ld σ131 a0 0) = 19) <|
  c0 (f_X4_begin n (ld σ131 a0 0) a1 a2 σ131) fun σ136 =>
  gd (kd σ136 a0 = 18) <|
  c0 (f_X3_pattern n a0 σ136) fun σ140 =>
  f_X3_read_39 n n a0 σ140
noncomputable def f_X5_begin (a0 a1 : Int) (σ : AS) : Option AS :=
  gd (kd σ a0 = 20) <|
  nm (wr σ a0 5 a1) fun σ2 =>
  gd (kd σ2 a0 = 20) <|
  nm (wr σ2 a0 4 0) fun σ5 =>
  some σ5
noncomputable def f_X22_variable (a0 : Int) (σ : AS) : Option (Int × AS) :=
  gd (kd σ a0 = 16) <|
  some ((ld σ a0 0), σ)
noncomputable def f_X22_number (a0 : Int) (σ : AS) : Option (Int × AS) :=
  gd (kd σ a0 = 16) <|
  some ((ld σ a0 2), σ)
noncomputable def f_X22_key (a0 : Int) (σ : AS) : Option (Int × AS) :=
  gd (kd σ a0 = 16) <|
  some ((ld σ a0 1), σ)
noncomputable def f_X6_value_71 (n : Nat) (l1 s0 : Int) (σ : AS) : Option (Int × AS) :=
  gd (kd σ l1 = 16) <|
  c1 (f_X22_key l1 σ) fun v2 σ3 =>
  if kd σ3 s0 = 4 then (
    c1 (f_X8_value n s0 v2 σ3) fun v6 σ7 =>
    some (v6, σ7))
  else (
    gd (kd σ3 s0 = 5) <|
    c1 (f_X8_value n s0 v2 σ3) fun v10 σ11 =>
    some (v10, σ11))
noncomputable def f_X6_value (n : Nat) (a0 a1 : Int) (σ : AS) : Option (Int × AS) :=
  gd (kd σ a1 = 16) <|
  c1 (f_X22_variable a1 σ) fun v14 σ15 =>
  if v14 = (-1) then (
    gd (kd σ15 a1 = 16) <|
    c1 (f_X22_number a1 σ15) fun v46 σ47 =>
    some (v46, σ47))
  else (
    gd (kd σ15 a0 = 21) <|
    gd (kd σ15 a1 = 16) <|
    c1 (f_X22_variable a1 σ15) fun v20 σ21 =>
    gd (kd σ21 (ld σ15 a0 4) = 100 ∧ (0 : Int) ≤ v20 ∧ v20 < ln σ21 (ld σ15 a0 4)) <|
    nm (ld σ21 (ld σ15 a0 4) v20) fun u24 =>
    gd (kd σ21 a1 = 16) <|
    c1 (f_X22_key a1 σ21) fun v27 σ28 =>
    if v27 = (-1) then (
      some (u24, σ28))
    else (
      gd (kd σ28 a0 = 21) <|
      gd (kd σ28 (ld σ28 a0 2) = 12) <|
      gd (kd σ28 a1 = 16) <|
      c1 (f_X22_variable a1 σ28) fun v34 σ35 =>
      gd (kd σ35 (ld σ28 (ld σ28 a0 2) 3) = 103 ∧ (0 : Int) ≤ v34 ∧ v34 < ln σ35 (ld σ28 (ld σ28 a0 2) 3)) <|
      if (ld σ35 (ld σ28 (ld σ28 a0 2) 3) v34) = 0 then (
        gd (kd σ35 a0 = 21) <|
        gd (kd σ35 (ld σ35 a0 0) = 2) <|
        gd (kd σ35 (ld σ35 (ld σ35 a0 0) 0) = 106 ∧ (0 : Int) ≤ u24 ∧ u24 < ln σ35 (ld σ35 (ld σ35 a0 0) 0)) <|
        f_X6_value_71 n a1 (ld σ35 (ld σ35 (ld σ35 a0 0) 0) u24) σ35)
      else (
        gd (kd σ35 a0 = 21) <|
        gd (kd σ35 (ld σ35 a0 0) = 2) <|
        gd (kd σ35 (ld σ35 (ld σ35 a0 0) 1) = 107 ∧ (0 : Int) ≤ u24 ∧ u24 < ln σ35 (ld σ35 (ld σ35 a0 0) 1)) <|
        f_X6_value_71 n a1 (ld σ35 (ld σ35 (ld σ35 a0 0) 1) u24) σ35)))
noncomputable def f_X23_term (a0 : Int) (σ : AS) : Option (Int × AS) :=
  gd (kd σ a0 = 17) <|
  some ((ld σ a0 0), σ)
noncomputable def f_X6_found_106 (n : Nat) (k37 : Int → Int → Int → AS → Option AS) (l0 l1 l2 s0 s1 s2 : Int) (σ : AS) : Option AS :=
  gd (kd σ s0 = 101 ∧ (0 : Int) ≤ s1 ∧ s1 < ln σ s0) <|
  nm (wr σ s0 s1 s2) fun σ2 =>
  gI (l2 + 1) <|
  nm (l2 + 1) fun u5 =>
  k37 l0 l1 u5 σ2
noncomputable def f_X6_found_190 (n : Nat) (k115 : Int → Int → Int → AS → Option AS) (l0 l1 l2 s0 s1 s2 : Int) (σ : AS) : Option AS :=
  gd (kd σ s0 = 101 ∧ (0 : Int) ≤ s1 ∧ s1 < ln σ s0) <|
  nm (wr σ s0 s1 s2) fun σ8 =>
  gI (l2 + 1) <|
  nm (l2 + 1) fun u11 =>
  k115 l0 l1 u11 σ8
noncomputable def f_X6_found_115 (n : Nat) : Nat → Int → Int → Int → AS → Option AS
  | 0, _, _, _, _ => none
  | q + 1, l0, l1, l2, σ =>
    gd (kd σ l0 = 21) <|
    gd (kd σ (ld σ l0 2) = 12) <|
    gd (kd σ (ld σ (ld σ l0 2) 6) = 31) <|
    c1 (f_J32_size (ld σ (ld σ l0 2) 6) σ) fun v58 σ59 =>
    if v58 ≤ l2 then (
      some σ59)
    else (
      gd (kd σ59 l0 = 21) <|
      gd (kd σ59 (ld σ59 l0 1) = 20) <|
      gI (8 * l1) <|
      gI ((8 * l1) + l2) <|
      gd (kd σ59 l0 = 21) <|
      gd (kd σ59 (ld σ59 l0 2) = 12) <|
      gd (kd σ59 (ld σ59 (ld σ59 l0 2) 6) = 31) <|
      c1 (f_J32_get (ld σ59 (ld σ59 l0 2) 6) l2 σ59) fun v69 σ70 =>
      gd (v69 = 0 ∨ kd σ70 v69 = 17) <|
      gd (kd σ70 v69 = 17) <|
      c1 (f_X23_term v69 σ70) fun v74 σ75 =>
      gd (kd σ75 v74 = 16) <|
      c1 (f_X22_isCount v74 σ75) fun v78 σ79 =>
      if v78 = 0 then (
        gd (kd σ79 l0 = 21) <|
        gd (kd σ79 (ld σ79 l0 2) = 12) <|
        gd (kd σ79 (ld σ79 (ld σ79 l0 2) 6) = 31) <|
        c1 (f_J32_get (ld σ79 (ld σ79 l0 2) 6) l2 σ79) fun v85 σ86 =>
        gd (v85 = 0 ∨ kd σ86 v85 = 17) <|
        gd (kd σ86 v85 = 17) <|
        c1 (f_X23_term v85 σ86) fun v90 σ91 =>
        gd (kd σ91 l0 = 21) <|
        c1 (f_X6_value n l0 v90 σ91) fun v94 σ95 =>
        f_X6_found_190 n (f_X6_found_115 n q) l0 l1 l2 (ld σ59 (ld σ59 l0 1) 1) ((8 * l1) + l2) v94 σ95)
      else (
        f_X6_found_190 n (f_X6_found_115 n q) l0 l1 l2 (ld σ59 (ld σ59 l0 1) 1) ((8 * l1) + l2) 0 σ79))
noncomputable def f_X6_found_37 (n : Nat) : Nat → Int → Int → Int → AS → Option AS
  | 0, _, _, _, _ => none
  | q + 1, l0, l1, l2, σ =>
    gd (kd σ l0 = 21) <|
    gd (kd σ (ld σ l0 2) = 12) <|
    gd (kd σ (ld σ (ld σ l0 2) 5) = 31) <|
    c1 (f_J32_size (ld σ (ld σ l0 2) 5) σ) fun v134 σ135 =>
    if v134 ≤ l2 then (
      f_X6_found_115 n n l0 l1 0 σ135)
    else (
      gd (kd σ135 l0 = 21) <|
      gd (kd σ135 (ld σ135 l0 1) = 20) <|
      gI (8 * l1) <|
      gI ((8 * l1) + l2) <|
      gd (kd σ135 l0 = 21) <|
      gd (kd σ135 (ld σ135 l0 2) = 12) <|
      gd (kd σ135 (ld σ135 (ld σ135 l0 2) 5) = 31) <|
      c1 (f_J32_get (ld σ135 (ld σ135 l0 2) 5) l2 σ135) fun v145 σ146 =>
      gd (v145 = 0 ∨ kd σ146 v145 = 16) <|
      gd (kd σ146 v145 = 16) <|
      c1 (f_X22_isCount v145 σ146) fun v150 σ151 =>
      if v150 = 0 then (
        gd (kd σ151 l0 = 21) <|
        gd (kd σ151 (ld σ151 l0 2) = 12) <|
        gd (kd σ151 (ld σ151 (ld σ151 l0 2) 5) = 31) <|
        c1 (f_J32_get (ld σ151 (ld σ151 l0 2) 5) l2 σ151) fun v157 σ158 =>
        gd (v157 = 0 ∨ kd σ158 v157 = 16) <|
        gd (kd σ158 l0 = 21) <|
        c1 (f_X6_value n l0 v157 σ158) fun v162 σ163 =>
        f_X6_found_106 n (f_X6_found_37 n q) l0 l1 l2 (ld σ135 (ld σ135 l0 1) 0) ((8 * l1) + l2) v162 σ163)
      else (
        f_X6_found_106 n (f_X6_found_37 n q) l0 l1 l2 (ld σ135 (ld σ135 l0 1) 0) ((8 * l1) + l2) 0 σ151))
noncomputable def f_X6_found (n : Nat) (a0 : Int) (σ : AS) : Option AS :=
  gd (kd σ a0 = 21) <|
  nm (ld σ a0 1) fun v166 =>
  gd (kd σ v166 = 20) <|
  nm (ld σ v166 4) fun v169 =>
  gI (v169 + 1) <|
  gd (kd σ v166 = 20) <|
  nm (wr σ v166 4 (v169 + 1)) fun σ173 =>
  gd (kd σ173 a0 = 21) <|
  gd (kd σ173 (ld σ173 a0 1) = 20) <|
  gd (kd σ173 (ld σ173 (ld σ173 a0 1) 3) = 100 ∧ (0 : Int) ≤ v169 ∧ v169 < ln σ173 (ld σ173 (ld σ173 a0 1) 3)) <|
  nm (wr σ173 (ld σ173 (ld σ173 a0 1) 3) v169 v169) fun σ178 =>
  gd (kd σ178 a0 = 21) <|
  gd (kd σ178 (ld σ178 a0 1) = 20) <|
  gd (kd σ178 (ld σ178 (ld σ178 a0 1) 2) = 100 ∧ (0 : Int) ≤ v169 ∧ v169 < ln σ178 (ld σ178 (ld σ178 a0 1) 2)) <|
  nm (wr σ178 (ld σ178 (ld σ178 a0 1) 2) v169 1) fun σ183 =>
  f_X6_found_37 n n a0 v169 0 σ183
noncomputable def f_X20_low (a0 : Int) (σ : AS) : Option (Int × AS) :=
  gd (kd σ a0 = 14) <|
  some ((ld σ a0 3), σ)
noncomputable def f_X19_variable (a0 : Int) (σ : AS) : Option (Int × AS) :=
  gd (kd σ a0 = 13) <|
  some ((ld σ a0 0), σ)
noncomputable def f_X6_isFull (a0 : Int) (σ : AS) : Option (Int × AS) :=
  gd (kd σ a0 = 21) <|
  if (ld σ a0 7) ≤ 10000 then (
    some (0, σ))
  else (
    some (1, σ))
noncomputable def f_X19_label (a0 : Int) (σ : AS) : Option (Int × AS) :=
  gd (kd σ a0 = 13) <|
  some ((ld σ a0 1), σ)
noncomputable def f_X21_left (a0 : Int) (σ : AS) : Option (Int × AS) :=
  gd (kd σ a0 = 15) <|
  some ((ld σ a0 0), σ)
noncomputable def f_X6_isBound (a0 a1 : Int) (σ : AS) : Option (Int × AS) :=
  if a1 = 0 then (
    some (1, σ))
  else (
    gd (kd σ a1 = 16) <|
    c1 (f_X22_variable a1 σ) fun v3 σ4 =>
    if v3 = (-1) then (
      some (1, σ4))
    else (
      gd (kd σ4 a0 = 21) <|
      gd (kd σ4 a1 = 16) <|
      c1 (f_X22_variable a1 σ4) fun v9 σ10 =>
      gd (kd σ10 (ld σ4 a0 4) = 100 ∧ (0 : Int) ≤ v9 ∧ v9 < ln σ10 (ld σ4 a0 4)) <|
      if (ld σ10 (ld σ4 a0 4) v9) = (-1) then (
        some (0, σ10))
      else (
        some (1, σ10))))
noncomputable def f_X21_right (a0 : Int) (σ : AS) : Option (Int × AS) :=
  gd (kd σ a0 = 15) <|
  some ((ld σ a0 2), σ)
noncomputable def f_X21_sign (a0 : Int) (σ : AS) : Option (Int × AS) :=
  gd (kd σ a0 = 15) <|
  some ((ld σ a0 1), σ)
noncomputable def f_X6_holds_29 (n : Nat) (l1 s0 : Int) (σ : AS) : Option (Int × AS) :=
  gd (kd σ l1 = 15) <|
  c1 (f_X21_sign l1 σ) fun v2 σ3 =>
  gd (kd σ3 v2 = 24 ∨ kd σ3 v2 = 1024) <|
  c1 (f_J15_equals n v2 101 σ3) fun v6 σ7 =>
  if s0 = v6 then (
    some (1, σ7))
  else (
    some (0, σ7))
noncomputable def f_X6_holds_217 (n : Nat) (l2 l4 l7 : Int) (σ : AS) : Option (Int × AS) :=
  if l7 = 0 then (
    if (lcmpW l2 l4) = 0 then (
      some (1, σ))
    else (
      some (0, σ)))
  else (
    if l7 = 1 then (
      if (lcmpW l2 l4) = 0 then (
        some (0, σ))
      else (
        some (1, σ)))
    else (
      if l7 = 2 then (
        if 0 ≤ (lcmpW l2 l4) then (
          some (0, σ))
        else (
          some (1, σ)))
      else (
        if l7 = 3 then (
          if 0 < (lcmpW l2 l4) then (
            some (0, σ))
          else (
            some (1, σ)))
        else (
          if l7 = 4 then (
            if (lcmpW l2 l4) ≤ 0 then (
              some (0, σ))
            else (
              some (1, σ)))
          else (
            if (lcmpW l2 l4) < 0 then (
              some (0, σ))
            else (
              some (1, σ)))))))
noncomputable def f_X6_holds (n : Nat) (a0 a1 : Int) (σ : AS) : Option (Int × AS) :=
  gd (kd σ a1 = 15) <|
  c1 (f_X21_left a1 σ) fun v22 σ23 =>
  gd (kd σ23 a0 = 21) <|
  c1 (f_X6_value n a0 v22 σ23) fun v26 σ27 =>
  gd (kd σ27 a1 = 15) <|
  c1 (f_X21_right a1 σ27) fun v30 σ31 =>
  if v30 = 0 then (
    if (lcmpW v26 (-9223372036854775808)) = 0 then (
      f_X6_holds_29 n a1 1 σ31)
    else (
      f_X6_holds_29 n a1 0 σ31))
  else (
    gd (kd σ31 a1 = 15) <|
    c1 (f_X21_right a1 σ31) fun v35 σ36 =>
    gd (kd σ36 a0 = 21) <|
    c1 (f_X6_value n a0 v35 σ36) fun v39 σ40 =>
    if (lcmpW v26 (-9223372036854775808)) = 0 then (
      some (0, σ40))
    else (
      if (lcmpW v39 (-9223372036854775808)) = 0 then (
        some (0, σ40))
      else (
        gd (kd σ40 a1 = 15) <|
        c1 (f_X21_sign a1 σ40) fun v45 σ46 =>
        gd (kd σ46 v45 = 24 ∨ kd σ46 v45 = 1024) <|
        c1 (f_J15_hashCode n v45 σ46) fun v49 σ50 =>
        if v49 = 60 then (
          gd (kd σ50 v45 = 24 ∨ kd σ50 v45 = 1024) <|
          c1 (f_J15_equals n v45 107 σ50) fun v54 σ55 =>
          if v54 = 0 then (
            f_X6_holds_217 n v26 v39 (-1) σ55)
          else (
            f_X6_holds_217 n v26 v39 2 σ55))
        else (
          if v49 = 61 then (
            gd (kd σ50 v45 = 24 ∨ kd σ50 v45 = 1024) <|
            c1 (f_J15_equals n v45 103 σ50) fun v60 σ61 =>
            if v60 = 0 then (
              f_X6_holds_217 n v26 v39 (-1) σ61)
            else (
              f_X6_holds_217 n v26 v39 0 σ61))
          else (
            if v49 = 62 then (
              gd (kd σ50 v45 = 24 ∨ kd σ50 v45 = 1024) <|
              c1 (f_J15_equals n v45 111 σ50) fun v66 σ67 =>
              if v66 = 0 then (
                f_X6_holds_217 n v26 v39 (-1) σ67)
              else (
                f_X6_holds_217 n v26 v39 4 σ67))
            else (
              if v49 = 1084 then (
                gd (kd σ50 v45 = 24 ∨ kd σ50 v45 = 1024) <|
                c1 (f_J15_equals n v45 105 σ50) fun v72 σ73 =>
                if v72 = 0 then (
                  f_X6_holds_217 n v26 v39 (-1) σ73)
                else (
                  f_X6_holds_217 n v26 v39 1 σ73))
              else (
                if v49 = 1921 then (
                  gd (kd σ50 v45 = 24 ∨ kd σ50 v45 = 1024) <|
                  c1 (f_J15_equals n v45 109 σ50) fun v78 σ79 =>
                  if v78 = 0 then (
                    f_X6_holds_217 n v26 v39 (-1) σ79)
                  else (
                    f_X6_holds_217 n v26 v39 3 σ79))
                else (
                  f_X6_holds_217 n v26 v39 (-1) σ50))))))))
noncomputable def f_X6_allHold_63 (n : Nat) (k2 : Int → Int → AS → Option (Int × AS)) (l0 l1 : Int) (σ : AS) : Option (Int × AS) :=
  gI (l1 + 1) <|
  nm (l1 + 1) fun u2 =>
  k2 l0 u2 σ
noncomputable def f_X6_allHold_2 (n : Nat) : Nat → Int → Int → AS → Option (Int × AS)
  | 0, _, _, _ => none
  | q + 1, l0, l1, σ =>
    gd (kd σ l0 = 21) <|
    gd (kd σ (ld σ l0 2) = 12) <|
    gd (kd σ (ld σ (ld σ l0 2) 4) = 31) <|
    c1 (f_J32_size (ld σ (ld σ l0 2) 4) σ) fun v44 σ45 =>
    if v44 ≤ l1 then (
      some (1, σ45))
    else (
      gd (kd σ45 l0 = 21) <|
      gd (kd σ45 (ld σ45 l0 2) = 12) <|
      gd (kd σ45 (ld σ45 (ld σ45 l0 2) 4) = 31) <|
      c1 (f_J32_get (ld σ45 (ld σ45 l0 2) 4) l1 σ45) fun v51 σ52 =>
      gd (v51 = 0 ∨ kd σ52 v51 = 15) <|
      gd (kd σ52 v51 = 15) <|
      c1 (f_X21_left v51 σ52) fun v56 σ57 =>
      gd (kd σ57 l0 = 21) <|
      c1 (f_X6_isBound l0 v56 σ57) fun v60 σ61 =>
      if v60 = 0 then (
        f_X6_allHold_63 n (f_X6_allHold_2 n q) l0 l1 σ61)
      else (
        gd (kd σ61 v51 = 15) <|
        c1 (f_X21_right v51 σ61) fun v65 σ66 =>
        gd (kd σ66 l0 = 21) <|
        c1 (f_X6_isBound l0 v65 σ66) fun v69 σ70 =>
        if v69 = 0 then (
          f_X6_allHold_63 n (f_X6_allHold_2 n q) l0 l1 σ70)
        else (
          gd (kd σ70 l0 = 21) <|
          c1 (f_X6_holds n l0 v51 σ70) fun v74 σ75 =>
          if v74 = 0 then (
            some (0, σ75))
          else (
            f_X6_allHold_63 n (f_X6_allHold_2 n q) l0 l1 σ75))))
noncomputable def f_X6_allHold (n : Nat) (a0 : Int) (σ : AS) : Option (Int × AS) :=
  f_X6_allHold_2 n n a0 0 σ
noncomputable def f_X20_high (a0 : Int) (σ : AS) : Option (Int × AS) :=
  gd (kd σ a0 = 14) <|
  some ((ld σ a0 4), σ)
noncomputable def f_X20_way (a0 : Int) (σ : AS) : Option (Int × AS) :=
  gd (kd σ a0 = 14) <|
  some ((ld σ a0 2), σ)
noncomputable def f_X20_type (a0 : Int) (σ : AS) : Option (Int × AS) :=
  gd (kd σ a0 = 14) <|
  some ((ld σ a0 1), σ)
noncomputable def f_X20_variable (a0 : Int) (σ : AS) : Option (Int × AS) :=
  gd (kd σ a0 = 14) <|
  some ((ld σ a0 0), σ)
noncomputable def b_X6_arrive_49 (n : Nat) (rX6_node : Int → Int → AS → Option AS) (k54 : Int → Int → Int → Int → Int → Int → AS → Option AS) (l0 l1 l2 l3 l4 : Int) (σ : AS) : Option AS :=
  k54 l0 l1 l2 l3 l4 1 σ
noncomputable def b_X6_arrive_134 (n : Nat) (rX6_node : Int → Int → AS → Option AS) (k135 : Int → Int → Int → Int → Int → AS → Option AS) (l0 l1 l2 l4 : Int) (σ : AS) : Option AS :=
  k135 l0 l1 l2 l4 0 σ
noncomputable def b_X6_arrive_171 (n : Nat) (rX6_node : Int → Int → AS → Option AS) (k178 : Int → Int → Int → AS → Option AS) (l0 l1 l4 l6 : Int) (σ : AS) : Option AS :=
  gI (l1 + 1) <|
  gd (kd σ l0 = 21) <|
  c0 (rX6_node l0 (l1 + 1) σ) fun σ4 =>
  k178 l0 l4 l6 σ4
noncomputable def b_X6_arrive_178 (n : Nat) (rX6_node : Int → Int → AS → Option AS) (l0 l4 l6 : Int) (σ : AS) : Option AS :=
  if l6 = 0 then (
    some σ)
  else (
    gd (kd σ l0 = 21) <|
    gd (kd σ (ld σ l0 4) = 100 ∧ (0 : Int) ≤ l4 ∧ l4 < ln σ (ld σ l0 4)) <|
    nm (wr σ (ld σ l0 4) l4 (-1)) fun σ9 =>
    some σ9)
noncomputable def b_X6_arrive_150 (n : Nat) (rX6_node : Int → Int → AS → Option AS) (l0 l1 l2 l4 l6 : Int) (σ : AS) : Option AS :=
  gd (kd σ l0 = 21) <|
  gd (kd σ (ld σ l0 3) = 100 ∧ (0 : Int) ≤ l1 ∧ l1 < ln σ (ld σ l0 3)) <|
  nm (wr σ (ld σ l0 3) l1 l2) fun σ13 =>
  gd (kd σ13 l0 = 21) <|
  if (ld σ13 l0 6) = 0 then (
    gd (kd σ13 l0 = 21) <|
    c1 (f_X6_allHold n l0 σ13) fun v18 σ19 =>
    if v18 = 0 then (
      b_X6_arrive_178 n rX6_node l0 l4 l6 σ19)
    else (
      b_X6_arrive_171 n rX6_node (b_X6_arrive_178 n rX6_node) l0 l1 l4 l6 σ19))
  else (
    b_X6_arrive_171 n rX6_node (b_X6_arrive_178 n rX6_node) l0 l1 l4 l6 σ13)
noncomputable def b_X6_arrive_135 (n : Nat) (rX6_node : Int → Int → AS → Option AS) (l0 l1 l2 l4 s0 : Int) (σ : AS) : Option AS :=
  if s0 = 0 then (
    b_X6_arrive_150 n rX6_node l0 l1 l2 l4 s0 σ)
  else (
    gd (kd σ l0 = 21) <|
    gd (kd σ (ld σ l0 4) = 100 ∧ (0 : Int) ≤ l4 ∧ l4 < ln σ (ld σ l0 4)) <|
    nm (wr σ (ld σ l0 4) l4 l2) fun σ25 =>
    b_X6_arrive_150 n rX6_node l0 l1 l2 l4 s0 σ25)
noncomputable def b_X6_arrive_113 (n : Nat) (rX6_node : Int → Int → AS → Option AS) (l0 l1 l2 l4 : Int) (σ : AS) : Option AS :=
  if l4 = (-1) then (
    b_X6_arrive_134 n rX6_node (b_X6_arrive_135 n rX6_node) l0 l1 l2 l4 σ)
  else (
    gd (kd σ l0 = 21) <|
    gd (kd σ (ld σ l0 4) = 100 ∧ (0 : Int) ≤ l4 ∧ l4 < ln σ (ld σ l0 4)) <|
    if (ld σ (ld σ l0 4) l4) = (-1) then (
      b_X6_arrive_135 n rX6_node l0 l1 l2 l4 1 σ)
    else (
      b_X6_arrive_134 n rX6_node (b_X6_arrive_135 n rX6_node) l0 l1 l2 l4 σ))
noncomputable def b_X6_arrive_96 (n : Nat) (rX6_node : Int → Int → AS → Option AS) (l0 l1 l2 l4 : Int) (σ : AS) : Option AS :=
  gd (kd σ l0 = 21) <|
  if (ld σ l0 6) = 0 then (
    b_X6_arrive_113 n rX6_node l0 l1 l2 l4 σ)
  else (
    gd (kd σ l0 = 21) <|
    gI ((ld σ l0 7) + 1) <|
    gd (kd σ l0 = 21) <|
    nm (wr σ l0 7 ((ld σ l0 7) + 1)) fun σ36 =>
    b_X6_arrive_113 n rX6_node l0 l1 l2 l4 σ36)
noncomputable def b_X6_arrive_54 (n : Nat) (rX6_node : Int → Int → AS → Option AS) (l0 l1 l2 l3 l4 s0 : Int) (σ : AS) : Option AS :=
  gd (kd σ l0 = 21) <|
  c1 (f_X6_isFull l0 σ) fun v39 σ40 =>
  if v39 = 0 then (
    if s0 = 0 then (
      some σ40)
    else (
      gd (kd σ40 l3 = 13) <|
      c1 (f_X19_label l3 σ40) fun v45 σ46 =>
      if v45 = (-1) then (
        b_X6_arrive_96 n rX6_node l0 l1 l2 l4 σ46)
      else (
        gd (kd σ46 l0 = 21) <|
        gd (kd σ46 (ld σ46 l0 0) = 2) <|
        gd (kd σ46 (ld σ46 (ld σ46 l0 0) 0) = 106 ∧ (0 : Int) ≤ l2 ∧ l2 < ln σ46 (ld σ46 (ld σ46 l0 0) 0)) <|
        gd (kd σ46 (ld σ46 (ld σ46 (ld σ46 l0 0) 0) l2) = 4) <|
        gd (kd σ46 l3 = 13) <|
        c1 (f_X19_label l3 σ46) fun v54 σ55 =>
        if (ld σ46 (ld σ46 (ld σ46 (ld σ46 l0 0) 0) l2) 1) = v54 then (
          b_X6_arrive_96 n rX6_node l0 l1 l2 l4 σ55)
        else (
          some σ55))))
  else (
    some σ40)
noncomputable def b_X6_arrive (n : Nat) (rX6_node : Int → Int → AS → Option AS) (a0 a1 a2 : Int) (σ : AS) : Option AS :=
  gd (kd σ a0 = 21) <|
  gd (kd σ (ld σ a0 2) = 12) <|
  gd (kd σ (ld σ (ld σ a0 2) 0) = 31) <|
  c1 (f_J32_get (ld σ (ld σ a0 2) 0) a1 σ) fun v61 σ62 =>
  gd (v61 = 0 ∨ kd σ62 v61 = 13) <|
  gd (kd σ62 v61 = 13) <|
  c1 (f_X19_variable v61 σ62) fun v66 σ67 =>
  if v66 = (-1) then (
    b_X6_arrive_49 n rX6_node (b_X6_arrive_54 n rX6_node) a0 a1 a2 v61 v66 σ67)
  else (
    gd (kd σ67 a0 = 21) <|
    gd (kd σ67 (ld σ67 a0 4) = 100 ∧ (0 : Int) ≤ v66 ∧ v66 < ln σ67 (ld σ67 a0 4)) <|
    if (ld σ67 (ld σ67 a0 4) v66) = (-1) then (
      b_X6_arrive_49 n rX6_node (b_X6_arrive_54 n rX6_node) a0 a1 a2 v61 v66 σ67)
    else (
      gd (kd σ67 a0 = 21) <|
      gd (kd σ67 (ld σ67 a0 4) = 100 ∧ (0 : Int) ≤ v66 ∧ v66 < ln σ67 (ld σ67 a0 4)) <|
      if (ld σ67 (ld σ67 a0 4) v66) = a2 then (
        b_X6_arrive_49 n rX6_node (b_X6_arrive_54 n rX6_node) a0 a1 a2 v61 v66 σ67)
      else (
        b_X6_arrive_54 n rX6_node a0 a1 a2 v61 v66 0 σ67)))
noncomputable def b_X6_step_41 (n : Nat) (rX6_steps : Int → Int → Int → Int → Int → AS → Option AS) (k42 : Int → Int → Int → Int → Int → Int → Int → Int → AS → Option AS) (l0 l1 l3 l4 l5 l6 l7 : Int) (σ : AS) : Option AS :=
  k42 l0 l1 l3 l4 l5 l6 l7 0 σ
noncomputable def b_X6_step_170 (n : Nat) (rX6_steps : Int → Int → Int → Int → Int → AS → Option AS) (l0 l5 : Int) (σ : AS) : Option AS :=
  gd (kd σ l0 = 21) <|
  gd (kd σ (ld σ l0 5) = 103 ∧ (0 : Int) ≤ l5 ∧ l5 < ln σ (ld σ l0 5)) <|
  nm (wr σ (ld σ l0 5) l5 0) fun σ3 =>
  some σ3
noncomputable def b_X6_step_144 (n : Nat) (rX6_steps : Int → Int → Int → Int → Int → AS → Option AS) (l0 l3 l4 l5 s0 s1 s2 : Int) (σ : AS) : Option AS :=
  gI (l4 + 1) <|
  gd (kd σ s0 = 21) <|
  c0 (rX6_steps s0 s1 s2 l3 (l4 + 1) σ) fun σ8 =>
  gd (kd σ8 l3 = 14) <|
  c1 (f_X20_variable l3 σ8) fun v11 σ12 =>
  if v11 = (-1) then (
    b_X6_step_170 n rX6_steps l0 l5 σ12)
  else (
    gd (kd σ12 l0 = 21) <|
    gd (kd σ12 l3 = 14) <|
    c1 (f_X20_variable l3 σ12) fun v17 σ18 =>
    gd (kd σ18 (ld σ12 l0 4) = 100 ∧ (0 : Int) ≤ v17 ∧ v17 < ln σ18 (ld σ12 l0 4)) <|
    nm (wr σ18 (ld σ12 l0 4) v17 (-1)) fun σ21 =>
    b_X6_step_170 n rX6_steps l0 l5 σ21)
noncomputable def b_X6_step_124 (n : Nat) (rX6_steps : Int → Int → Int → Int → Int → AS → Option AS) (l0 l1 l3 l4 l5 l6 l7 : Int) (σ : AS) : Option AS :=
  if l6 = 0 then (
    gd (kd σ l7 = 5) <|
    b_X6_step_144 n rX6_steps l0 l3 l4 l5 l0 l1 (ld σ l7 2) σ)
  else (
    gd (kd σ l7 = 5) <|
    b_X6_step_144 n rX6_steps l0 l3 l4 l5 l0 l1 (ld σ l7 3) σ)
noncomputable def b_X6_step_97 (n : Nat) (rX6_steps : Int → Int → Int → Int → Int → AS → Option AS) (l0 l1 l3 l4 l5 l6 l7 : Int) (σ : AS) : Option AS :=
  gd (kd σ l0 = 21) <|
  gd (kd σ (ld σ l0 5) = 103 ∧ (0 : Int) ≤ l5 ∧ l5 < ln σ (ld σ l0 5)) <|
  nm (wr σ (ld σ l0 5) l5 1) fun σ28 =>
  gd (kd σ28 l3 = 14) <|
  c1 (f_X20_variable l3 σ28) fun v31 σ32 =>
  if v31 = (-1) then (
    b_X6_step_124 n rX6_steps l0 l1 l3 l4 l5 l6 l7 σ32)
  else (
    gd (kd σ32 l0 = 21) <|
    gd (kd σ32 l3 = 14) <|
    c1 (f_X20_variable l3 σ32) fun v37 σ38 =>
    gd (kd σ38 (ld σ32 l0 4) = 100 ∧ (0 : Int) ≤ v37 ∧ v37 < ln σ38 (ld σ32 l0 4)) <|
    nm (wr σ38 (ld σ32 l0 4) v37 l5) fun σ41 =>
    b_X6_step_124 n rX6_steps l0 l1 l3 l4 l5 l6 l7 σ41)
noncomputable def b_X6_step_80 (n : Nat) (rX6_steps : Int → Int → Int → Int → Int → AS → Option AS) (l0 l1 l3 l4 l5 l6 l7 : Int) (σ : AS) : Option AS :=
  gd (kd σ l0 = 21) <|
  if (ld σ l0 6) = 0 then (
    b_X6_step_97 n rX6_steps l0 l1 l3 l4 l5 l6 l7 σ)
  else (
    gd (kd σ l0 = 21) <|
    gI ((ld σ l0 7) + 1) <|
    gd (kd σ l0 = 21) <|
    nm (wr σ l0 7 ((ld σ l0 7) + 1)) fun σ48 =>
    b_X6_step_97 n rX6_steps l0 l1 l3 l4 l5 l6 l7 σ48)
noncomputable def b_X6_step_42 (n : Nat) (rX6_steps : Int → Int → Int → Int → Int → AS → Option AS) (l0 l1 l3 l4 l5 l6 l7 s0 : Int) (σ : AS) : Option AS :=
  if s0 = 0 then (
    gd (kd σ l0 = 21) <|
    gd (kd σ (ld σ l0 5) = 103 ∧ (0 : Int) ≤ l5 ∧ l5 < ln σ (ld σ l0 5)) <|
    if (ld σ (ld σ l0 5) l5) = 0 then (
      gd (kd σ l3 = 14) <|
      c1 (f_X20_type l3 σ) fun v55 σ56 =>
      if v55 = (-1) then (
        b_X6_step_80 n rX6_steps l0 l1 l3 l4 l5 l6 l7 σ56)
      else (
        gd (kd σ56 l7 = 5) <|
        gd (kd σ56 l3 = 14) <|
        c1 (f_X20_type l3 σ56) fun v61 σ62 =>
        if (ld σ56 l7 1) = v61 then (
          b_X6_step_80 n rX6_steps l0 l1 l3 l4 l5 l6 l7 σ62)
        else (
          some σ62)))
    else (
      some σ))
  else (
    some σ)
noncomputable def b_X6_step (n : Nat) (rX6_steps : Int → Int → Int → Int → Int → AS → Option AS) (a0 a1 a2 a3 a4 a5 a6 : Int) (σ : AS) : Option AS :=
  gd (kd σ a0 = 21) <|
  gd (kd σ (ld σ a0 0) = 2) <|
  gd (kd σ (ld σ (ld σ a0 0) 1) = 107 ∧ (0 : Int) ≤ a5 ∧ a5 < ln σ (ld σ (ld σ a0 0) 1)) <|
  nm (ld σ (ld σ (ld σ a0 0) 1) a5) fun u68 =>
  if a6 = 0 then (
    gd (kd σ a3 = 14) <|
    c1 (f_X20_way a3 σ) fun v72 σ73 =>
    if v72 = 0 then (
      gd (kd σ73 u68 = 5) <|
      gd (kd σ73 u68 = 5) <|
      if (ld σ73 u68 2) = (ld σ73 u68 3) then (
        b_X6_step_42 n rX6_steps a0 a1 a3 a4 a5 a6 u68 1 σ73)
      else (
        b_X6_step_41 n rX6_steps (b_X6_step_42 n rX6_steps) a0 a1 a3 a4 a5 a6 u68 σ73))
    else (
      b_X6_step_41 n rX6_steps (b_X6_step_42 n rX6_steps) a0 a1 a3 a4 a5 a6 u68 σ73))
  else (
    b_X6_step_41 n rX6_steps (b_X6_step_42 n rX6_steps) a0 a1 a3 a4 a5 a6 u68 σ)
noncomputable def b_X6_steps_46 (n : Nat) (rX6_arrive : Int → Int → Int → AS → Option AS) (rX6_step : Int → Int → Int → Int → Int → Int → Int → AS → Option AS) (k93 : Int → Int → Int → Int → Int → Int → AS → Option AS) : Nat → Int → Int → Int → Int → Int → Int → Int → AS → Option AS
  | 0, _, _, _, _, _, _, _, _ => none
  | q + 1, l0, l1, l2, l3, l4, l5, l6, σ =>
    gd (kd σ l5 = 4) <|
    gd (kd σ (ld σ l5 2) = 3) <|
    if (ld σ (ld σ l5 2) 1) ≤ l6 then (
      k93 l0 l1 l2 l3 l4 l5 σ)
    else (
      gd (kd σ l0 = 21) <|
      c1 (f_X6_isFull l0 σ) fun v23 σ24 =>
      if v23 = 0 then (
        gd (kd σ24 l5 = 4) <|
        gd (kd σ24 (ld σ24 l5 2) = 3) <|
        gd (kd σ24 (ld σ24 (ld σ24 l5 2) 0) = 100 ∧ (0 : Int) ≤ l6 ∧ l6 < ln σ24 (ld σ24 (ld σ24 l5 2) 0)) <|
        gd (kd σ24 l0 = 21) <|
        c0 (rX6_step l0 l1 l2 l3 l4 (ld σ24 (ld σ24 (ld σ24 l5 2) 0) l6) 1 σ24) fun σ32 =>
        gI (l6 + 1) <|
        nm (l6 + 1) fun u35 =>
        b_X6_steps_46 n rX6_arrive rX6_step k93 q l0 l1 l2 l3 l4 l5 u35 σ32)
      else (
        k93 l0 l1 l2 l3 l4 l5 σ24))
noncomputable def b_X6_steps_103 (n : Nat) (rX6_arrive : Int → Int → Int → AS → Option AS) (rX6_step : Int → Int → Int → Int → Int → Int → Int → AS → Option AS) : Nat → Int → Int → Int → Int → Int → Int → Int → AS → Option AS
  | 0, _, _, _, _, _, _, _, _ => none
  | q + 1, l0, l1, l2, l3, l4, l5, l6, σ =>
    gd (kd σ l5 = 4) <|
    gd (kd σ (ld σ l5 3) = 3) <|
    if (ld σ (ld σ l5 3) 1) ≤ l6 then (
      some σ)
    else (
      gd (kd σ l0 = 21) <|
      c1 (f_X6_isFull l0 σ) fun v59 σ60 =>
      if v59 = 0 then (
        gd (kd σ60 l5 = 4) <|
        gd (kd σ60 (ld σ60 l5 3) = 3) <|
        gd (kd σ60 (ld σ60 (ld σ60 l5 3) 0) = 100 ∧ (0 : Int) ≤ l6 ∧ l6 < ln σ60 (ld σ60 (ld σ60 l5 3) 0)) <|
        gd (kd σ60 l0 = 21) <|
        c0 (rX6_step l0 l1 l2 l3 l4 (ld σ60 (ld σ60 (ld σ60 l5 3) 0) l6) 0 σ60) fun σ68 =>
        gI (l6 + 1) <|
        nm (l6 + 1) fun u71 =>
        b_X6_steps_103 n rX6_arrive rX6_step q l0 l1 l2 l3 l4 l5 u71 σ68)
      else (
        some σ60))
noncomputable def b_X6_steps_93 (n : Nat) (rX6_arrive : Int → Int → Int → AS → Option AS) (rX6_step : Int → Int → Int → Int → Int → Int → Int → AS → Option AS) (l0 l1 l2 l3 l4 l5 : Int) (σ : AS) : Option AS :=
  gd (kd σ l3 = 14) <|
  c1 (f_X20_way l3 σ) fun v74 σ75 =>
  if 0 < v74 then (
    some σ75)
  else (
    b_X6_steps_103 n rX6_arrive rX6_step n l0 l1 l2 l3 l4 l5 0 σ75)
noncomputable def b_X6_steps_15 (n : Nat) (rX6_arrive : Int → Int → Int → AS → Option AS) (rX6_step : Int → Int → Int → Int → Int → Int → Int → AS → Option AS) (l0 l1 l2 l3 l4 : Int) (σ : AS) : Option AS :=
  gd (kd σ l3 = 14) <|
  c1 (f_X20_high l3 σ) fun v79 σ80 =>
  if l4 = v79 then (
    some σ80)
  else (
    gd (kd σ80 l0 = 21) <|
    gd (kd σ80 (ld σ80 l0 0) = 2) <|
    gd (kd σ80 (ld σ80 (ld σ80 l0 0) 0) = 106 ∧ (0 : Int) ≤ l2 ∧ l2 < ln σ80 (ld σ80 (ld σ80 l0 0) 0)) <|
    nm (ld σ80 (ld σ80 (ld σ80 l0 0) 0) l2) fun u86 =>
    gd (kd σ80 l3 = 14) <|
    c1 (f_X20_way l3 σ80) fun v89 σ90 =>
    if v89 < 0 then (
      b_X6_steps_93 n rX6_arrive rX6_step l0 l1 l2 l3 l4 u86 σ90)
    else (
      b_X6_steps_46 n rX6_arrive rX6_step (b_X6_steps_93 n rX6_arrive rX6_step) n l0 l1 l2 l3 l4 u86 0 σ90))
noncomputable def b_X6_steps (n : Nat) (rX6_arrive : Int → Int → Int → AS → Option AS) (rX6_step : Int → Int → Int → Int → Int → Int → Int → AS → Option AS) (a0 a1 a2 a3 a4 : Int) (σ : AS) : Option AS :=
  gd (kd σ a3 = 14) <|
  c1 (f_X20_low a3 σ) fun v94 σ95 =>
  if a4 < v94 then (
    b_X6_steps_15 n rX6_arrive rX6_step a0 a1 a2 a3 a4 σ95)
  else (
    gd (kd σ95 a0 = 21) <|
    c0 (rX6_arrive a0 a1 a2 σ95) fun σ100 =>
    b_X6_steps_15 n rX6_arrive rX6_step a0 a1 a2 a3 a4 σ100)
noncomputable def b_X6_node_146 (n : Nat) (rX6_arrive : Int → Int → Int → AS → Option AS) (rX6_steps : Int → Int → Int → Int → Int → AS → Option AS) (k111 : Int → Int → Int → AS → Option AS) (l0 l1 l4 : Int) (σ : AS) : Option AS :=
  gI (l4 + 1) <|
  nm (l4 + 1) fun u2 =>
  k111 l0 l1 u2 σ
noncomputable def b_X6_node_111 (n : Nat) (rX6_arrive : Int → Int → Int → AS → Option AS) (rX6_steps : Int → Int → Int → Int → Int → AS → Option AS) : Nat → Int → Int → Int → AS → Option AS
  | 0, _, _, _, _ => none
  | q + 1, l0, l1, l4, σ =>
    if 400 ≤ l4 then (
      some σ)
    else (
      gd (kd σ l0 = 21) <|
      c1 (f_X6_isFull l0 σ) fun v20 σ21 =>
      if v20 = 0 then (
        gd (kd σ21 l0 = 21) <|
        gd (kd σ21 (ld σ21 l0 0) = 2) <|
        gd (kd σ21 (ld σ21 (ld σ21 l0 0) 0) = 106 ∧ (0 : Int) ≤ l4 ∧ l4 < ln σ21 (ld σ21 (ld σ21 l0 0) 0)) <|
        if (ld σ21 (ld σ21 (ld σ21 l0 0) 0) l4) = 0 then (
          b_X6_node_146 n rX6_arrive rX6_steps (b_X6_node_111 n rX6_arrive rX6_steps q) l0 l1 l4 σ21)
        else (
          gd (kd σ21 l0 = 21) <|
          c0 (rX6_arrive l0 l1 l4 σ21) fun σ30 =>
          b_X6_node_146 n rX6_arrive rX6_steps (b_X6_node_111 n rX6_arrive rX6_steps q) l0 l1 l4 σ30))
      else (
        some σ21))
noncomputable def b_X6_node_108 (n : Nat) (rX6_arrive : Int → Int → Int → AS → Option AS) (rX6_steps : Int → Int → Int → Int → Int → AS → Option AS) (l0 l1 : Int) (σ : AS) : Option AS :=
  b_X6_node_111 n rX6_arrive rX6_steps n l0 l1 0 σ
noncomputable def b_X6_node (n : Nat) (rX6_arrive : Int → Int → Int → AS → Option AS) (rX6_steps : Int → Int → Int → Int → Int → AS → Option AS) (a0 a1 : Int) (σ : AS) : Option AS :=
  gd (kd σ a0 = 21) <|
  gd (kd σ (ld σ a0 2) = 12) <|
  gd (kd σ (ld σ (ld σ a0 2) 0) = 31) <|
  c1 (f_J32_size (ld σ (ld σ a0 2) 0) σ) fun v35 σ36 =>
  if a1 = v35 then (
    gd (kd σ36 a0 = 21) <|
    if (ld σ36 a0 6) = 0 then (
      gd (kd σ36 a0 = 21) <|
      c0 (f_X6_found n a0 σ36) fun σ79 =>
      some σ79)
    else (
      some σ36))
  else (
    gd (kd σ36 a0 = 21) <|
    gd (kd σ36 (ld σ36 a0 2) = 12) <|
    gd (kd σ36 (ld σ36 (ld σ36 a0 2) 1) = 31) <|
    c1 (f_J32_get (ld σ36 (ld σ36 a0 2) 1) a1 σ36) fun v42 σ43 =>
    gd (v42 = 0 ∨ kd σ43 v42 = 14) <|
    if v42 = 0 then (
      gd (kd σ43 a0 = 21) <|
      gd (kd σ43 (ld σ43 a0 2) = 12) <|
      gd (kd σ43 (ld σ43 (ld σ43 a0 2) 0) = 31) <|
      c1 (f_J32_get (ld σ43 (ld σ43 a0 2) 0) a1 σ43) fun v50 σ51 =>
      gd (v50 = 0 ∨ kd σ51 v50 = 13) <|
      gd (kd σ51 v50 = 13) <|
      c1 (f_X19_variable v50 σ51) fun v55 σ56 =>
      if v55 = (-1) then (
        b_X6_node_108 n rX6_arrive rX6_steps a0 a1 σ56)
      else (
        gd (kd σ56 a0 = 21) <|
        gd (kd σ56 (ld σ56 a0 4) = 100 ∧ (0 : Int) ≤ v55 ∧ v55 < ln σ56 (ld σ56 a0 4)) <|
        if (ld σ56 (ld σ56 a0 4) v55) = (-1) then (
          b_X6_node_108 n rX6_arrive rX6_steps a0 a1 σ56)
        else (
          gd (kd σ56 a0 = 21) <|
          gd (kd σ56 (ld σ56 a0 4) = 100 ∧ (0 : Int) ≤ v55 ∧ v55 < ln σ56 (ld σ56 a0 4)) <|
          gd (kd σ56 a0 = 21) <|
          c0 (rX6_arrive a0 a1 (ld σ56 (ld σ56 a0 4) v55) σ56) fun σ66 =>
          some σ66)))
    else (
      gd (kd σ43 a0 = 21) <|
      gI (a1 - 1) <|
      gd (kd σ43 (ld σ43 a0 3) = 100 ∧ (0 : Int) ≤ (a1 - 1) ∧ (a1 - 1) < ln σ43 (ld σ43 a0 3)) <|
      gd (kd σ43 a0 = 21) <|
      c0 (rX6_steps a0 a1 (ld σ43 (ld σ43 a0 3) (a1 - 1)) v42 0 σ43) fun σ73 =>
      some σ73))
/-- steps, so many hops -/
noncomputable def f_X6_steps (n : Nat) (rA : Int → Int → Int → AS → Option AS) : Nat → Int → Int → Int → Int → Int → AS → Option AS
  | 0, _, _, _, _, _, _ => none
  | h + 1, a0, a1, a2, a3, a4, σ => b_X6_steps n rA (b_X6_step n (f_X6_steps n rA h)) a0 a1 a2 a3 a4 σ
/-- node, so many nodes more -/
noncomputable def f_X6_node (n : Nat) : Nat → Int → Int → AS → Option AS
  | 0, _, _, _ => none
  | m + 1, a0, a1, σ => b_X6_node n (b_X6_arrive n (f_X6_node n m)) (f_X6_steps n (b_X6_arrive n (f_X6_node n m)) 5) a0 a1 σ
noncomputable def f_X23_falls (a0 : Int) (σ : AS) : Option (Int × AS) :=
  gd (kd σ a0 = 17) <|
  gd (0 ≤ (ld σ a0 1) ∧ (ld σ a0 1) ≤ 1) <|
  some ((ld σ a0 1), σ)
noncomputable def f_X5_compareItems_2 (n : Nat) : Nat → Int → Int → Int → Int → AS → Option (Int × AS)
  | 0, _, _, _, _, _ => none
  | q + 1, l0, l1, l2, l3, σ =>
    gd (kd σ l0 = 20) <|
    gd (kd σ (ld σ l0 5) = 12) <|
    gd (kd σ (ld σ (ld σ l0 5) 5) = 31) <|
    c1 (f_J32_size (ld σ (ld σ l0 5) 5) σ) fun v28 σ29 =>
    if v28 ≤ l3 then (
      some (0, σ29))
    else (
      gd (kd σ29 l0 = 20) <|
      gI (8 * l1) <|
      gI ((8 * l1) + l3) <|
      gd (kd σ29 (ld σ29 l0 0) = 101 ∧ (0 : Int) ≤ ((8 * l1) + l3) ∧ ((8 * l1) + l3) < ln σ29 (ld σ29 l0 0)) <|
      nm (ld σ29 (ld σ29 l0 0) ((8 * l1) + l3)) fun u36 =>
      gd (kd σ29 l0 = 20) <|
      gI (8 * l2) <|
      gI ((8 * l2) + l3) <|
      gd (kd σ29 (ld σ29 l0 0) = 101 ∧ (0 : Int) ≤ ((8 * l2) + l3) ∧ ((8 * l2) + l3) < ln σ29 (ld σ29 l0 0)) <|
      nm (ld σ29 (ld σ29 l0 0) ((8 * l2) + l3)) fun u42 =>
      if (lcmpW u36 u42) = 0 then (
        gI (l3 + 1) <|
        nm (l3 + 1) fun u46 =>
        f_X5_compareItems_2 n q l0 l1 l2 u46 σ29)
      else (
        if 0 ≤ (lcmpW u36 u42) then (
          some (1, σ29))
        else (
          some ((-1), σ29))))
noncomputable def f_X5_compareItems (n : Nat) (a0 a1 a2 : Int) (σ : AS) : Option (Int × AS) :=
  f_X5_compareItems_2 n n a0 a1 a2 0 σ
noncomputable def f_X5_compare_70 (n : Nat) (l0 l3 s0 : Int) (σ : AS) : Option (Int × AS) :=
  gd (kd σ l0 = 20) <|
  gd (kd σ (ld σ l0 5) = 12) <|
  gd (kd σ (ld σ (ld σ l0 5) 6) = 31) <|
  c1 (f_J32_get (ld σ (ld σ l0 5) 6) l3 σ) fun v4 σ5 =>
  gd (v4 = 0 ∨ kd σ5 v4 = 17) <|
  gd (kd σ5 v4 = 17) <|
  c1 (f_X23_falls v4 σ5) fun v9 σ10 =>
  if s0 = v9 then (
    some (1, σ10))
  else (
    some ((-1), σ10))
noncomputable def f_X5_compare_102 (n : Nat) (l0 l1 l2 : Int) (σ : AS) : Option (Int × AS) :=
  gd (kd σ l0 = 20) <|
  c1 (f_X5_compareItems n l0 l1 l2 σ) fun v14 σ15 =>
  some (v14, σ15)
noncomputable def f_X5_compare_2 (n : Nat) : Nat → Int → Int → Int → Int → AS → Option (Int × AS)
  | 0, _, _, _, _, _ => none
  | q + 1, l0, l1, l2, l3, σ =>
    gd (kd σ l0 = 20) <|
    gd (kd σ (ld σ l0 5) = 12) <|
    gd (kd σ (ld σ (ld σ l0 5) 6) = 31) <|
    c1 (f_J32_size (ld σ (ld σ l0 5) 6) σ) fun v46 σ47 =>
    if v46 ≤ l3 then (
      f_X5_compare_102 n l0 l1 l2 σ47)
    else (
      gd (kd σ47 l0 = 20) <|
      if (ld σ47 l0 6) = 0 then (
        gd (kd σ47 l0 = 20) <|
        gI (8 * l1) <|
        gI ((8 * l1) + l3) <|
        gd (kd σ47 (ld σ47 l0 1) = 101 ∧ (0 : Int) ≤ ((8 * l1) + l3) ∧ ((8 * l1) + l3) < ln σ47 (ld σ47 l0 1)) <|
        nm (ld σ47 (ld σ47 l0 1) ((8 * l1) + l3)) fun u56 =>
        gd (kd σ47 l0 = 20) <|
        gI (8 * l2) <|
        gI ((8 * l2) + l3) <|
        gd (kd σ47 (ld σ47 l0 1) = 101 ∧ (0 : Int) ≤ ((8 * l2) + l3) ∧ ((8 * l2) + l3) < ln σ47 (ld σ47 l0 1)) <|
        nm (ld σ47 (ld σ47 l0 1) ((8 * l2) + l3)) fun u62 =>
        if (lcmpW u56 u62) = 0 then (
          gI (l3 + 1) <|
          nm (l3 + 1) fun u66 =>
          f_X5_compare_2 n q l0 l1 l2 u66 σ47)
        else (
          if 0 ≤ (lcmpW u56 u62) then (
            f_X5_compare_70 n l0 l3 0 σ47)
          else (
            f_X5_compare_70 n l0 l3 1 σ47)))
      else (
        f_X5_compare_102 n l0 l1 l2 σ47))
noncomputable def f_X5_compare (n : Nat) (a0 a1 a2 : Int) (σ : AS) : Option (Int × AS) :=
  f_X5_compare_2 n n a0 a1 a2 0 σ
noncomputable def f_X5_sink_60 (n : Nat) (k10 : Int → Int → Int → Int → AS → Option AS) (k98 : Int → Int → Int → AS → Option AS) (l0 l2 l3 l4 l5 : Int) (σ : AS) : Option AS :=
  gd (kd σ l0 = 20) <|
  gd (kd σ (ld σ l0 3) = 100 ∧ (0 : Int) ≤ l5 ∧ l5 < ln σ (ld σ l0 3)) <|
  gd (kd σ l0 = 20) <|
  c1 (f_X5_compare n l0 l4 (ld σ (ld σ l0 3) l5) σ) fun v4 σ5 =>
  if v4 < 0 then (
    gd (kd σ5 l0 = 20) <|
    gd (kd σ5 l0 = 20) <|
    gd (kd σ5 (ld σ5 l0 3) = 100 ∧ (0 : Int) ≤ l5 ∧ l5 < ln σ5 (ld σ5 l0 3)) <|
    gd (kd σ5 (ld σ5 l0 3) = 100 ∧ (0 : Int) ≤ l3 ∧ l3 < ln σ5 (ld σ5 l0 3)) <|
    nm (wr σ5 (ld σ5 l0 3) l3 (ld σ5 (ld σ5 l0 3) l5)) fun σ12 =>
    k10 l0 l2 l5 l4 σ12)
  else (
    k98 l0 l3 l4 σ5)
noncomputable def f_X5_sink_98 (n : Nat) (l0 l3 l4 : Int) (σ : AS) : Option AS :=
  gd (kd σ l0 = 20) <|
  gd (kd σ (ld σ l0 3) = 100 ∧ (0 : Int) ≤ l3 ∧ l3 < ln σ (ld σ l0 3)) <|
  nm (wr σ (ld σ l0 3) l3 l4) fun σ16 =>
  some σ16
noncomputable def f_X5_sink_10 (n : Nat) : Nat → Int → Int → Int → Int → AS → Option AS
  | 0, _, _, _, _, _ => none
  | q + 1, l0, l2, l3, l4, σ =>
    gI (2 * l3) <|
    gI ((2 * l3) + 1) <|
    if l2 ≤ ((2 * l3) + 1) then (
      f_X5_sink_98 n l0 l3 l4 σ)
    else (
      gI (2 * l3) <|
      gI ((2 * l3) + 1) <|
      nm ((2 * l3) + 1) fun u45 =>
      gI (u45 + 1) <|
      if l2 ≤ (u45 + 1) then (
        f_X5_sink_60 n (f_X5_sink_10 n q) (f_X5_sink_98 n) l0 l2 l3 l4 u45 σ)
      else (
        gd (kd σ l0 = 20) <|
        gd (kd σ (ld σ l0 3) = 100 ∧ (0 : Int) ≤ u45 ∧ u45 < ln σ (ld σ l0 3)) <|
        gd (kd σ l0 = 20) <|
        gI (u45 + 1) <|
        gd (kd σ (ld σ l0 3) = 100 ∧ (0 : Int) ≤ (u45 + 1) ∧ (u45 + 1) < ln σ (ld σ l0 3)) <|
        gd (kd σ l0 = 20) <|
        c1 (f_X5_compare n l0 (ld σ (ld σ l0 3) u45) (ld σ (ld σ l0 3) (u45 + 1)) σ) fun v55 σ56 =>
        if 0 ≤ v55 then (
          f_X5_sink_60 n (f_X5_sink_10 n q) (f_X5_sink_98 n) l0 l2 l3 l4 u45 σ56)
        else (
          gI (u45 + 1) <|
          nm (u45 + 1) fun u60 =>
          f_X5_sink_60 n (f_X5_sink_10 n q) (f_X5_sink_98 n) l0 l2 l3 l4 u60 σ56)))
noncomputable def f_X5_sink (n : Nat) (a0 a1 a2 : Int) (σ : AS) : Option AS :=
  gd (kd σ a0 = 20) <|
  gd (kd σ (ld σ a0 3) = 100 ∧ (0 : Int) ≤ a1 ∧ a1 < ln σ (ld σ a0 3)) <|
  nm (ld σ (ld σ a0 3) a1) fun u64 =>
  f_X5_sink_10 n n a0 a2 a1 u64 σ
noncomputable def f_X5_sort_40 (n : Nat) : Nat → Int → Int → AS → Option AS
  | 0, _, _, _ => none
  | q + 1, l0, l2, σ =>
    if l2 ≤ 0 then (
      some σ)
    else (
      gd (kd σ l0 = 20) <|
      gd (kd σ (ld σ l0 3) = 100 ∧ (0 : Int) ≤ 0 ∧ 0 < ln σ (ld σ l0 3)) <|
      nm (ld σ (ld σ l0 3) 0) fun u26 =>
      gd (kd σ l0 = 20) <|
      gd (kd σ l0 = 20) <|
      gd (kd σ (ld σ l0 3) = 100 ∧ (0 : Int) ≤ l2 ∧ l2 < ln σ (ld σ l0 3)) <|
      gd (kd σ (ld σ l0 3) = 100 ∧ (0 : Int) ≤ 0 ∧ 0 < ln σ (ld σ l0 3)) <|
      nm (wr σ (ld σ l0 3) 0 (ld σ (ld σ l0 3) l2)) fun σ32 =>
      gd (kd σ32 l0 = 20) <|
      gd (kd σ32 (ld σ32 l0 3) = 100 ∧ (0 : Int) ≤ l2 ∧ l2 < ln σ32 (ld σ32 l0 3)) <|
      nm (wr σ32 (ld σ32 l0 3) l2 u26) fun σ36 =>
      gd (kd σ36 l0 = 20) <|
      c0 (f_X5_sink n l0 0 l2 σ36) fun σ40 =>
      gI (l2 + (-1)) <|
      nm (l2 + (-1)) fun u43 =>
      f_X5_sort_40 n q l0 u43 σ40)
noncomputable def f_X5_sort_14 (n : Nat) : Nat → Int → Int → AS → Option AS
  | 0, _, _, _ => none
  | q + 1, l0, l2, σ =>
    if l2 < 0 then (
      gd (kd σ l0 = 20) <|
      gI ((ld σ l0 4) - 1) <|
      nm ((ld σ l0 4) - 1) fun u61 =>
      f_X5_sort_40 n n l0 u61 σ)
    else (
      gd (kd σ l0 = 20) <|
      gd (kd σ l0 = 20) <|
      c0 (f_X5_sink n l0 l2 (ld σ l0 4) σ) fun σ66 =>
      gI (l2 + (-1)) <|
      nm (l2 + (-1)) fun u69 =>
      f_X5_sort_14 n q l0 u69 σ66)
noncomputable def f_X5_sort (n : Nat) (a0 a1 : Int) (σ : AS) : Option AS :=
  gd (kd σ a0 = 20) <|
  gd (0 ≤ a1 ∧ a1 ≤ 1) <|
  nm (wr σ a0 6 a1) fun σ73 =>
  gd (kd σ73 a0 = 20) <|
  gI ((idivW (ld σ73 a0 4) 2) - 1) <|
  nm ((idivW (ld σ73 a0 4) 2) - 1) fun u77 =>
  f_X5_sort_14 n n a0 u77 σ73
noncomputable def f_X5_join_57 (n : Nat) (k148 : Int → Int → Int → AS → Option AS) : Nat → Int → Int → Int → Int → Int → Int → AS → Option AS
  | 0, _, _, _, _, _, _, _ => none
  | q + 1, l0, l1, l2, l3, l4, l5, σ =>
    gd (kd σ l0 = 20) <|
    gd (kd σ (ld σ l0 5) = 12) <|
    gd (kd σ (ld σ (ld σ l0 5) 6) = 31) <|
    c1 (f_J32_size (ld σ (ld σ l0 5) 6) σ) fun v39 σ40 =>
    if v39 ≤ l5 then (
      gd (kd σ40 l0 = 20) <|
      gd (kd σ40 (ld σ40 l0 2) = 100 ∧ (0 : Int) ≤ l4 ∧ l4 < ln σ40 (ld σ40 l0 2)) <|
      gd (kd σ40 l0 = 20) <|
      gd (kd σ40 (ld σ40 l0 2) = 100 ∧ (0 : Int) ≤ l3 ∧ l3 < ln σ40 (ld σ40 l0 2)) <|
      gI ((ld σ40 (ld σ40 l0 2) l4) + (ld σ40 (ld σ40 l0 2) l3)) <|
      gd (kd σ40 (ld σ40 l0 2) = 100 ∧ (0 : Int) ≤ l4 ∧ l4 < ln σ40 (ld σ40 l0 2)) <|
      nm (wr σ40 (ld σ40 l0 2) l4 ((ld σ40 (ld σ40 l0 2) l4) + (ld σ40 (ld σ40 l0 2) l3))) fun σ49 =>
      k148 l0 l1 l2 σ49)
    else (
      gd (kd σ40 l0 = 20) <|
      gI (8 * l4) <|
      gI ((8 * l4) + l5) <|
      gd (kd σ40 l0 = 20) <|
      gI (8 * l4) <|
      gI ((8 * l4) + l5) <|
      gd (kd σ40 (ld σ40 l0 1) = 101 ∧ (0 : Int) ≤ ((8 * l4) + l5) ∧ ((8 * l4) + l5) < ln σ40 (ld σ40 l0 1)) <|
      gd (kd σ40 l0 = 20) <|
      gI (8 * l3) <|
      gI ((8 * l3) + l5) <|
      gd (kd σ40 (ld σ40 l0 1) = 101 ∧ (0 : Int) ≤ ((8 * l3) + l5) ∧ ((8 * l3) + l5) < ln σ40 (ld σ40 l0 1)) <|
      c1 (f_J12_min_2 (ld σ40 (ld σ40 l0 1) ((8 * l4) + l5)) (ld σ40 (ld σ40 l0 1) ((8 * l3) + l5)) σ40) fun v62 σ63 =>
      gd (kd σ63 (ld σ40 l0 1) = 101 ∧ (0 : Int) ≤ ((8 * l4) + l5) ∧ ((8 * l4) + l5) < ln σ63 (ld σ40 l0 1)) <|
      nm (wr σ63 (ld σ40 l0 1) ((8 * l4) + l5) v62) fun σ66 =>
      gI (l5 + 1) <|
      nm (l5 + 1) fun u69 =>
      f_X5_join_57 n k148 q l0 l1 l2 l3 l4 u69 σ66)
noncomputable def f_X5_join_138 (n : Nat) (k148 : Int → Int → Int → AS → Option AS) (l0 l1 l2 l3 : Int) (σ : AS) : Option AS :=
  gd (kd σ l0 = 20) <|
  gI (l1 + 1) <|
  nm (l1 + 1) fun u73 =>
  gd (kd σ (ld σ l0 3) = 100 ∧ (0 : Int) ≤ l1 ∧ l1 < ln σ (ld σ l0 3)) <|
  nm (wr σ (ld σ l0 3) l1 l3) fun σ76 =>
  k148 l0 u73 l2 σ76
noncomputable def f_X5_join_148 (n : Nat) (k9 : Int → Int → Int → AS → Option AS) (l0 l1 l2 : Int) (σ : AS) : Option AS :=
  gI (l2 + 1) <|
  nm (l2 + 1) fun u79 =>
  k9 l0 l1 u79 σ
noncomputable def f_X5_join_9 (n : Nat) : Nat → Int → Int → Int → AS → Option AS
  | 0, _, _, _, _ => none
  | q + 1, l0, l1, l2, σ =>
    gd (kd σ l0 = 20) <|
    if (ld σ l0 4) ≤ l2 then (
      gd (kd σ l0 = 20) <|
      nm (wr σ l0 4 l1) fun σ107 =>
      some σ107)
    else (
      gd (kd σ l0 = 20) <|
      gd (kd σ (ld σ l0 3) = 100 ∧ (0 : Int) ≤ l2 ∧ l2 < ln σ (ld σ l0 3)) <|
      nm (ld σ (ld σ l0 3) l2) fun u111 =>
      if l1 ≤ 0 then (
        f_X5_join_138 n (f_X5_join_148 n (f_X5_join_9 n q)) l0 l1 l2 u111 σ)
      else (
        gd (kd σ l0 = 20) <|
        gI (l1 - 1) <|
        gd (kd σ (ld σ l0 3) = 100 ∧ (0 : Int) ≤ (l1 - 1) ∧ (l1 - 1) < ln σ (ld σ l0 3)) <|
        gd (kd σ l0 = 20) <|
        c1 (f_X5_compareItems n l0 (ld σ (ld σ l0 3) (l1 - 1)) u111 σ) fun v118 σ119 =>
        if v118 = 0 then (
          gd (kd σ119 l0 = 20) <|
          gI (l1 - 1) <|
          gd (kd σ119 (ld σ119 l0 3) = 100 ∧ (0 : Int) ≤ (l1 - 1) ∧ (l1 - 1) < ln σ119 (ld σ119 l0 3)) <|
          nm (ld σ119 (ld σ119 l0 3) (l1 - 1)) fun u125 =>
          f_X5_join_57 n (f_X5_join_148 n (f_X5_join_9 n q)) n l0 l1 l2 u111 u125 0 σ119)
        else (
          f_X5_join_138 n (f_X5_join_148 n (f_X5_join_9 n q)) l0 l1 l2 u111 σ119)))
noncomputable def f_X5_join (n : Nat) (a0 : Int) (σ : AS) : Option AS :=
  gd (kd σ a0 = 20) <|
  c0 (f_X5_sort n a0 1 σ) fun σ129 =>
  f_X5_join_9 n n a0 0 0 σ129
noncomputable def f_X6_finish_22 (n : Nat) (k29 : Int → Int → AS → Option AS) (l0 l1 : Int) (σ : AS) : Option AS :=
  gd (kd σ l0 = 21) <|
  gd (kd σ (ld σ l0 1) = 20) <|
  c0 (f_X5_join n (ld σ l0 1) σ) fun σ4 =>
  k29 l0 l1 σ4
noncomputable def f_X6_finish_117 (n : Nat) (k149 : Int → Int → AS → Option AS) : Nat → Int → Int → Int → AS → Option AS
  | 0, _, _, _, _ => none
  | q + 1, l0, l1, l3, σ =>
    gd (kd σ l0 = 21) <|
    gd (kd σ (ld σ l0 2) = 12) <|
    gd (kd σ (ld σ (ld σ l0 2) 6) = 31) <|
    c1 (f_J32_size (ld σ (ld σ l0 2) 6) σ) fun v24 σ25 =>
    if v24 ≤ l3 then (
      k149 l0 l1 σ25)
    else (
      gd (kd σ25 l0 = 21) <|
      gd (kd σ25 (ld σ25 l0 1) = 20) <|
      gd (kd σ25 (ld σ25 (ld σ25 l0 1) 1) = 101 ∧ (0 : Int) ≤ l3 ∧ l3 < ln σ25 (ld σ25 (ld σ25 l0 1) 1)) <|
      nm (wr σ25 (ld σ25 (ld σ25 l0 1) 1) l3 (-9223372036854775808)) fun σ31 =>
      gI (l3 + 1) <|
      nm (l3 + 1) fun u34 =>
      f_X6_finish_117 n k149 q l0 l1 u34 σ31)
noncomputable def f_X6_finish_243 (n : Nat) (k180 : Int → Int → Int → Int → Int → AS → Option AS) (l0 l1 l3 l4 l5 : Int) (σ : AS) : Option AS :=
  gI (l5 + 1) <|
  nm (l5 + 1) fun u37 =>
  k180 l0 l1 l3 l4 u37 σ
noncomputable def f_X6_finish_318 (n : Nat) (k252 : Int → Int → Int → Int → Int → AS → Option AS) (l0 l1 l3 l4 l5 : Int) (σ : AS) : Option AS :=
  gI (l5 + 1) <|
  nm (l5 + 1) fun u40 =>
  k252 l0 l1 l3 l4 u40 σ
noncomputable def f_X6_finish_252 (n : Nat) (k151 : Int → Int → Int → AS → Option AS) : Nat → Int → Int → Int → Int → Int → AS → Option AS
  | 0, _, _, _, _, _, _ => none
  | q + 1, l0, l1, l3, l4, l5, σ =>
    gd (kd σ l0 = 21) <|
    gd (kd σ (ld σ l0 2) = 12) <|
    gd (kd σ (ld σ (ld σ l0 2) 6) = 31) <|
    c1 (f_J32_size (ld σ (ld σ l0 2) 6) σ) fun v81 σ82 =>
    if v81 ≤ l5 then (
      gI (l3 + 1) <|
      nm (l3 + 1) fun u86 =>
      k151 l0 l1 u86 σ82)
    else (
      gd (kd σ82 l0 = 21) <|
      gd (kd σ82 (ld σ82 l0 2) = 12) <|
      gd (kd σ82 (ld σ82 (ld σ82 l0 2) 6) = 31) <|
      c1 (f_J32_get (ld σ82 (ld σ82 l0 2) 6) l5 σ82) fun v91 σ92 =>
      gd (v91 = 0 ∨ kd σ92 v91 = 17) <|
      gd (kd σ92 v91 = 17) <|
      c1 (f_X23_term v91 σ92) fun v96 σ97 =>
      gd (kd σ97 v96 = 16) <|
      c1 (f_X22_isCount v96 σ97) fun v100 σ101 =>
      if v100 = 0 then (
        f_X6_finish_318 n (f_X6_finish_252 n k151 q) l0 l1 l3 l4 l5 σ101)
      else (
        gd (kd σ101 l0 = 21) <|
        gd (kd σ101 (ld σ101 l0 1) = 20) <|
        gI (8 * l4) <|
        gI ((8 * l4) + l5) <|
        gd (kd σ101 l0 = 21) <|
        gd (kd σ101 (ld σ101 l0 1) = 20) <|
        gd (kd σ101 (ld σ101 (ld σ101 l0 1) 2) = 100 ∧ (0 : Int) ≤ l4 ∧ l4 < ln σ101 (ld σ101 (ld σ101 l0 1) 2)) <|
        gd (kd σ101 (ld σ101 (ld σ101 l0 1) 1) = 101 ∧ (0 : Int) ≤ ((8 * l4) + l5) ∧ ((8 * l4) + l5) < ln σ101 (ld σ101 (ld σ101 l0 1) 1)) <|
        nm (wr σ101 (ld σ101 (ld σ101 l0 1) 1) ((8 * l4) + l5) (ld σ101 (ld σ101 (ld σ101 l0 1) 2) l4)) fun σ112 =>
        f_X6_finish_318 n (f_X6_finish_252 n k151 q) l0 l1 l3 l4 l5 σ112))
noncomputable def f_X6_finish_180 (n : Nat) (k151 : Int → Int → Int → AS → Option AS) : Nat → Int → Int → Int → Int → Int → AS → Option AS
  | 0, _, _, _, _, _, _ => none
  | q + 1, l0, l1, l3, l4, l5, σ =>
    gd (kd σ l0 = 21) <|
    gd (kd σ (ld σ l0 2) = 12) <|
    gd (kd σ (ld σ (ld σ l0 2) 5) = 31) <|
    c1 (f_J32_size (ld σ (ld σ l0 2) 5) σ) fun v146 σ147 =>
    if v146 ≤ l5 then (
      f_X6_finish_252 n k151 n l0 l1 l3 l4 0 σ147)
    else (
      gd (kd σ147 l0 = 21) <|
      gd (kd σ147 (ld σ147 l0 2) = 12) <|
      gd (kd σ147 (ld σ147 (ld σ147 l0 2) 5) = 31) <|
      c1 (f_J32_get (ld σ147 (ld σ147 l0 2) 5) l5 σ147) fun v153 σ154 =>
      gd (v153 = 0 ∨ kd σ154 v153 = 16) <|
      gd (kd σ154 v153 = 16) <|
      c1 (f_X22_isCount v153 σ154) fun v158 σ159 =>
      if v158 = 0 then (
        f_X6_finish_243 n (f_X6_finish_180 n k151 q) l0 l1 l3 l4 l5 σ159)
      else (
        gd (kd σ159 l0 = 21) <|
        gd (kd σ159 (ld σ159 l0 1) = 20) <|
        gI (8 * l4) <|
        gI ((8 * l4) + l5) <|
        gd (kd σ159 l0 = 21) <|
        gd (kd σ159 (ld σ159 l0 1) = 20) <|
        gd (kd σ159 (ld σ159 (ld σ159 l0 1) 2) = 100 ∧ (0 : Int) ≤ l4 ∧ l4 < ln σ159 (ld σ159 (ld σ159 l0 1) 2)) <|
        gd (kd σ159 (ld σ159 (ld σ159 l0 1) 0) = 101 ∧ (0 : Int) ≤ ((8 * l4) + l5) ∧ ((8 * l4) + l5) < ln σ159 (ld σ159 (ld σ159 l0 1) 0)) <|
        nm (wr σ159 (ld σ159 (ld σ159 l0 1) 0) ((8 * l4) + l5) (ld σ159 (ld σ159 (ld σ159 l0 1) 2) l4)) fun σ170 =>
        f_X6_finish_243 n (f_X6_finish_180 n k151 q) l0 l1 l3 l4 l5 σ170))
noncomputable def f_X6_finish_330 (n : Nat) (l0 : Int) (σ : AS) : Option AS :=
  gd (kd σ l0 = 21) <|
  gd (kd σ (ld σ l0 1) = 20) <|
  c0 (f_X5_sort n (ld σ l0 1) 0 σ) fun σ175 =>
  some σ175
noncomputable def f_X6_finish_151 (n : Nat) : Nat → Int → Int → Int → AS → Option AS
  | 0, _, _, _, _ => none
  | q + 1, l0, l1, l3, σ =>
    gd (kd σ l0 = 21) <|
    gd (kd σ (ld σ l0 1) = 20) <|
    if (ld σ (ld σ l0 1) 4) ≤ l3 then (
      f_X6_finish_330 n l0 σ)
    else (
      if l1 = 0 then (
        f_X6_finish_330 n l0 σ)
      else (
        gd (kd σ l0 = 21) <|
        gd (kd σ (ld σ l0 1) = 20) <|
        gd (kd σ (ld σ (ld σ l0 1) 3) = 100 ∧ (0 : Int) ≤ l3 ∧ l3 < ln σ (ld σ (ld σ l0 1) 3)) <|
        nm (ld σ (ld σ (ld σ l0 1) 3) l3) fun u193 =>
        f_X6_finish_180 n (f_X6_finish_151 n q) n l0 l1 l3 u193 0 σ))
noncomputable def f_X6_finish_149 (n : Nat) (l0 l1 : Int) (σ : AS) : Option AS :=
  f_X6_finish_151 n n l0 l1 0 σ
noncomputable def f_X6_finish_33 (n : Nat) : Nat → Int → Int → Int → Int → AS → Option AS
  | 0, _, _, _, _, _ => none
  | q + 1, l0, l1, l2, l3, σ =>
    gd (kd σ l0 = 21) <|
    gd (kd σ (ld σ l0 2) = 12) <|
    gd (kd σ (ld σ (ld σ l0 2) 5) = 31) <|
    c1 (f_J32_size (ld σ (ld σ l0 2) 5) σ) fun v239 σ240 =>
    if v239 ≤ l3 then (
      if l2 = 0 then (
        f_X6_finish_149 n l0 l1 σ240)
      else (
        gd (kd σ240 l0 = 21) <|
        gd (kd σ240 (ld σ240 l0 1) = 20) <|
        if (ld σ240 (ld σ240 l0 1) 4) = 0 then (
          gd (kd σ240 l0 = 21) <|
          gd (kd σ240 (ld σ240 l0 1) = 20) <|
          nm (wr σ240 (ld σ240 l0 1) 4 1) fun σ249 =>
          gd (kd σ249 l0 = 21) <|
          gd (kd σ249 (ld σ249 l0 1) = 20) <|
          gd (kd σ249 (ld σ249 (ld σ249 l0 1) 3) = 100 ∧ (0 : Int) ≤ 0 ∧ 0 < ln σ249 (ld σ249 (ld σ249 l0 1) 3)) <|
          nm (wr σ249 (ld σ249 (ld σ249 l0 1) 3) 0 0) fun σ254 =>
          gd (kd σ254 l0 = 21) <|
          gd (kd σ254 (ld σ254 l0 1) = 20) <|
          gd (kd σ254 (ld σ254 (ld σ254 l0 1) 2) = 100 ∧ (0 : Int) ≤ 0 ∧ 0 < ln σ254 (ld σ254 (ld σ254 l0 1) 2)) <|
          nm (wr σ254 (ld σ254 (ld σ254 l0 1) 2) 0 0) fun σ259 =>
          f_X6_finish_117 n (f_X6_finish_149 n) n l0 l1 0 σ259)
        else (
          f_X6_finish_149 n l0 l1 σ240)))
    else (
      gd (kd σ240 l0 = 21) <|
      gd (kd σ240 (ld σ240 l0 2) = 12) <|
      gd (kd σ240 (ld σ240 (ld σ240 l0 2) 5) = 31) <|
      c1 (f_J32_get (ld σ240 (ld σ240 l0 2) 5) l3 σ240) fun v264 σ265 =>
      gd (v264 = 0 ∨ kd σ265 v264 = 16) <|
      gd (kd σ265 v264 = 16) <|
      c1 (f_X22_isCount v264 σ265) fun v269 σ270 =>
      nm (iandW l2 v269) fun u272 =>
      gI (l3 + 1) <|
      nm (l3 + 1) fun u275 =>
      f_X6_finish_33 n q l0 l1 u272 u275 σ270)
noncomputable def f_X6_finish_29 (n : Nat) (l0 l1 : Int) (σ : AS) : Option AS :=
  f_X6_finish_33 n n l0 l1 l1 0 σ
noncomputable def f_X6_finish (n : Nat) (a0 : Int) (σ : AS) : Option AS :=
  gd (kd σ a0 = 21) <|
  gd (kd σ (ld σ a0 2) = 12) <|
  c1 (f_X18_counts n (ld σ a0 2) σ) fun v279 σ280 =>
  if v279 = 0 then (
    gd (kd σ280 a0 = 21) <|
    gd (kd σ280 (ld σ280 a0 2) = 12) <|
    if (ld σ280 (ld σ280 a0 2) 7) = 0 then (
      f_X6_finish_29 n a0 v279 σ280)
    else (
      f_X6_finish_22 n (f_X6_finish_29 n) a0 v279 σ280))
  else (
    f_X6_finish_22 n (f_X6_finish_29 n) a0 v279 σ280)
noncomputable def f_X6_go_18 (n : Nat) : Nat → Int → Int → AS → Option (Int × AS)
  | 0, _, _, _ => none
  | q + 1, l0, l2, σ =>
    if 8 ≤ l2 then (
      gd (kd σ l0 = 21) <|
      nm (wr σ l0 6 1) fun σ37 =>
      gd (kd σ37 l0 = 21) <|
      nm (wr σ37 l0 7 0) fun σ40 =>
      gd (kd σ40 l0 = 21) <|
      c0 (f_X6_node n 13 l0 0 σ40) fun σ44 =>
      gd (kd σ44 l0 = 21) <|
      c1 (f_X6_isFull l0 σ44) fun v47 σ48 =>
      if v47 = 0 then (
        gd (kd σ48 l0 = 21) <|
        nm (wr σ48 l0 6 0) fun σ52 =>
        gd (kd σ52 l0 = 21) <|
        c0 (f_X6_node n 13 l0 0 σ52) fun σ56 =>
        gd (kd σ56 l0 = 21) <|
        c0 (f_X6_finish n l0 σ56) fun σ60 =>
        some (1, σ60))
      else (
        some (0, σ48)))
    else (
      gd (kd σ l0 = 21) <|
      gd (kd σ (ld σ l0 4) = 100 ∧ (0 : Int) ≤ l2 ∧ l2 < ln σ (ld σ l0 4)) <|
      nm (wr σ (ld σ l0 4) l2 (-1)) fun σ64 =>
      gI (l2 + 1) <|
      nm (l2 + 1) fun u67 =>
      f_X6_go_18 n q l0 u67 σ64)
noncomputable def f_X6_go (n : Nat) (a0 a1 : Int) (σ : AS) : Option (Int × AS) :=
  gd (kd σ a0 = 21) <|
  nm (wr σ a0 2 a1) fun σ70 =>
  gd (kd σ70 a0 = 21) <|
  gd (kd σ70 a0 = 21) <|
  gd (kd σ70 (ld σ70 a0 1) = 20) <|
  c0 (f_X5_begin (ld σ70 a0 1) (ld σ70 a0 2) σ70) fun σ76 =>
  f_X6_go_18 n n a0 0 σ76
noncomputable def f_X1_ask_31 (n : Nat) (k36 : Int → Int → Int → AS → Option ((Nat ⊕ Int) × AS)) (l0 l1 : Int) (σ : AS) : Option ((Nat ⊕ Int) × AS) :=
  k36 l0 l1 1 σ
noncomputable def f_X1_ask_100 (n : Nat) : Nat → Int → Int → AS → Option ((Nat ⊕ Int) × AS)
  | 0, _, _, _ => none
  | q + 1, l0, l2, σ =>
    gd (kd σ l0 = 1) <|
    if (ld σ l0 9) ≤ l2 then (
      gd (kd σ l0 = 1) <|
      some (.inr (ld σ l0 9), σ))
    else (
      gd (kd σ l0 = 1) <|
      gd (kd σ (ld σ l0 6) = 20) <|
      gd (kd σ l0 = 1) <|
      gd (kd σ (ld σ l0 6) = 20) <|
      gd (kd σ (ld σ (ld σ l0 6) 3) = 100 ∧ (0 : Int) ≤ l2 ∧ l2 < ln σ (ld σ (ld σ l0 6) 3)) <|
      gI (8 * (ld σ (ld σ (ld σ l0 6) 3) l2)) <|
      gd (kd σ l0 = 1) <|
      gI (8 * l2) <|
      gd (kd σ l0 = 1) <|
      gd ((kd σ (ld σ (ld σ l0 6) 0) = 101 ∨ kd σ (ld σ (ld σ l0 6) 0) = 1101) ∧ kd σ (ld σ l0 8) = 101 ∧ (0 : Int) ≤ (8 * (ld σ (ld σ (ld σ l0 6) 3) l2)) ∧ (0 : Int) ≤ (8 * l2) ∧ (0 : Int) ≤ (ld σ l0 10) ∧ (8 * (ld σ (ld σ (ld σ l0 6) 3) l2)) + (ld σ l0 10) ≤ ln σ (ld σ (ld σ l0 6) 0) ∧ (8 * l2) + (ld σ l0 10) ≤ ln σ (ld σ l0 8)) <|
      nm (cpy σ (ld σ (ld σ l0 6) 0) (8 * (ld σ (ld σ (ld σ l0 6) 3) l2)) (ld σ l0 8) (8 * l2) (ld σ l0 10)) fun σ32 =>
      gI (l2 + 1) <|
      nm (l2 + 1) fun u35 =>
      f_X1_ask_100 n q l0 u35 σ32)
noncomputable def f_X1_ask_36 (n : Nat) (l0 l1 s0 : Int) (σ : AS) : Option ((Nat ⊕ Int) × AS) :=
  cx (f_X1_room s0 σ) fun _ σ38 =>
    gd (kd σ38 l0 = 1) <|
    nm (wr σ38 l0 3 0) fun σ42 =>
    gd (kd σ42 l0 = 1) <|
    gd (kd σ42 (ld σ42 l0 4) = 18) <|
    gd (kd σ42 l0 = 1) <|
    nm (wr σ42 l0 5 (ld σ42 (ld σ42 l0 4) 3)) fun σ47 =>
    if l1 = 0 then (
      gd (kd σ47 l0 = 1) <|
      gd (kd σ47 (ld σ47 l0 4) = 18) <|
      gI ((-1) - (ld σ47 (ld σ47 l0 4) 4)) <|
      some (.inr ((-1) - (ld σ47 (ld σ47 l0 4) 4)), σ47))
    else (
      gd (kd σ47 l0 = 1) <|
      gd (kd σ47 (ld σ47 l0 6) = 20) <|
      gd (kd σ47 l1 = 12) <|
      c1 (f_J12_min (ld σ47 (ld σ47 l0 6) 4) (ld σ47 l1 8) σ47) fun v53 σ54 =>
      gd (kd σ54 l0 = 1) <|
      nm (wr σ54 l0 9 v53) fun σ57 =>
      gd (kd σ57 l1 = 12) <|
      gd (kd σ57 (ld σ57 l1 5) = 31) <|
      c1 (f_J32_size (ld σ57 l1 5) σ57) fun v61 σ62 =>
      gd (kd σ62 l0 = 1) <|
      nm (wr σ62 l0 10 v61) fun σ65 =>
      f_X1_ask_100 n n l0 0 σ65)
noncomputable def f_X1_ask (n : Nat) (a0 : Int) (σ : AS) : Option ((Nat ⊕ Int) × AS) :=
  gd (kd σ a0 = 1) <|
  gd (kd σ a0 = 1) <|
  gd (kd σ a0 = 1) <|
  gd (kd σ (ld σ a0 4) = 18) <|
  c1 (f_X3_read n (ld σ a0 4) (ld σ a0 2) (ld σ a0 3) σ) fun v74 σ75 =>
  if v74 = 0 then (
    f_X1_ask_31 n (f_X1_ask_36 n) a0 v74 σ75)
  else (
    gd (kd σ75 a0 = 1) <|
    gd (kd σ75 (ld σ75 a0 7) = 21) <|
    c1 (f_X6_go n (ld σ75 a0 7) v74 σ75) fun v80 σ81 =>
    if v80 = 0 then (
      f_X1_ask_36 n a0 v74 0 σ81)
    else (
      f_X1_ask_31 n (f_X1_ask_36 n) a0 v74 σ81))
noncomputable def f_X0_ask (n : Nat) (a0 a1 : Int) (σ : AS) : Option (Int × AS) :=
  gd (kd σ a0 = 1) <|
  cy (f_X1_ask n a0 σ) (fun E5 σ3 =>
    if E5 = 3 then (
      nm (nx σ3) fun r7 =>
      nm (al σ3 0 0 0) fun σ9 =>
      some (1, σ9)
    ) else (
      none)) fun v2 σ3 =>
    gd (kd σ3 a1 = 101 ∧ (0 : Int) ≤ 0 ∧ 0 < ln σ3 a1) <|
    nm (wr σ3 a1 0 v2) fun σ12 =>
    some (0, σ12)
noncomputable def f_X7_at (a0 a1 : Int) (σ : AS) : Option (Int × AS) :=
  gd (kd σ a0 = 22) <|
  if (ld σ a0 16) ≤ a1 then (
    some (0, σ))
  else (
    gd (kd σ a0 = 22) <|
    gd ((kd σ (ld σ a0 15) = 102 ∨ kd σ (ld σ a0 15) = 1102) ∧ (0 : Int) ≤ a1 ∧ a1 < ln σ (ld σ a0 15)) <|
    some ((iandW (ld σ (ld σ a0 15) a1) 255), σ))
noncomputable def f_X7_isLetter (a0 : Int) (σ : AS) : Option (Int × AS) :=
  if a0 < 97 then (
    some (0, σ))
  else (
    if 122 < a0 then (
      some (0, σ))
    else (
      some (1, σ)))
noncomputable def f_X7_isDigit (a0 : Int) (σ : AS) : Option (Int × AS) :=
  if a0 < 48 then (
    some (0, σ))
  else (
    if 57 < a0 then (
      some (0, σ))
    else (
      some (1, σ)))
noncomputable def f_X7_isWord_8 (n : Nat) : Nat → Int → Int → Int → Int → AS → Option (Int × AS)
  | 0, _, _, _, _, _ => none
  | q + 1, l0, l1, l3, l5, σ =>
    gd (kd σ l0 = 22) <|
    if (ld σ l0 21) ≤ l5 then (
      gd (kd σ l0 = 22) <|
      gd (kd σ l0 = 22) <|
      if 8 < (isubW (ld σ l0 21) (ld σ l0 20)) then (
        some (0, σ))
      else (
        if (lcmpW l3 l1) = 0 then (
          some (1, σ))
        else (
          some (0, σ))))
    else (
      gd (kd σ l0 = 22) <|
      c1 (f_X7_at l0 l5 σ) fun v23 σ24 =>
      nm (lorW (lshlW l3 8) v23) fun u26 =>
      gI (l5 + 1) <|
      nm (l5 + 1) fun u29 =>
      f_X7_isWord_8 n q l0 l1 u26 u29 σ24)
noncomputable def f_X7_isWord (n : Nat) (a0 a1 : Int) (σ : AS) : Option (Int × AS) :=
  gd (kd σ a0 = 22) <|
  nm (ld σ a0 20) fun u32 =>
  f_X7_isWord_8 n n a0 a1 0 u32 σ
noncomputable def f_X7_word (n : Nat) (a0 : Int) (σ : AS) : Option (Int × AS) :=
  gd (kd σ a0 = 22) <|
  c1 (f_X7_isWord n a0 512852587109 σ) fun v2 σ3 =>
  if v2 = 0 then (
    gd (kd σ3 a0 = 22) <|
    c1 (f_X7_isWord n a0 6385252 σ3) fun v7 σ8 =>
    if v7 = 0 then (
      gd (kd σ8 a0 = 22) <|
      c1 (f_X7_isWord n a0 6840691 σ8) fun v12 σ13 =>
      if v12 = 0 then (
        gd (kd σ13 a0 = 22) <|
        c1 (f_X7_isWord n a0 28271 σ13) fun v17 σ18 =>
        if v17 = 0 then (
          gd (kd σ18 a0 = 22) <|
          c1 (f_X7_isWord n a0 125780071117422 σ18) fun v22 σ23 =>
          if v22 = 0 then (
            gd (kd σ23 a0 = 22) <|
            c1 (f_X7_isWord n a0 427071729268 σ23) fun v27 σ28 =>
            if v27 = 0 then (
              gd (kd σ28 a0 = 22) <|
              c1 (f_X7_isWord n a0 478660552050 σ28) fun v32 σ33 =>
              if v32 = 0 then (
                gd (kd σ33 a0 = 22) <|
                c1 (f_X7_isWord n a0 25209 σ33) fun v37 σ38 =>
                if v37 = 0 then (
                  gd (kd σ38 a0 = 22) <|
                  c1 (f_X7_isWord n a0 1684370275 σ38) fun v42 σ43 =>
                  if v42 = 0 then (
                    gd (kd σ43 a0 = 22) <|
                    c1 (f_X7_isWord n a0 465625246068 σ43) fun v47 σ48 =>
                    if v47 = 0 then (
                      gd (kd σ48 a0 = 22) <|
                      c1 (f_X7_isWord n a0 7235441220169655156 σ48) fun v52 σ53 =>
                      if v52 = 0 then (
                        some (1, σ53))
                      else (
                        some (20, σ53)))
                    else (
                      some (19, σ48)))
                  else (
                    some (18, σ43)))
                else (
                  some (17, σ38)))
              else (
                some (16, σ33)))
            else (
              some (15, σ28)))
          else (
            some (14, σ23)))
        else (
          some (13, σ18)))
      else (
        some (12, σ13)))
    else (
      some (11, σ8)))
  else (
    some (10, σ3))
noncomputable def f_X7_flaw (a0 a1 a2 : Int) (σ : AS) : Option (Int × AS) :=
  gd (kd σ a0 = 22) <|
  nm (wr σ a0 17 a1) fun σ2 =>
  gd (kd σ2 a0 = 22) <|
  nm (wr σ2 a0 18 a2) fun σ5 =>
  some (0, σ5)
noncomputable def f_X7_figure_79 (n : Nat) (k24 : Int → Int → AS → Option (Int × AS)) (l0 l1 s0 s1 : Int) (σ : AS) : Option (Int × AS) :=
  gd (kd σ s0 = 22) <|
  nm (wr σ s0 22 s1) fun σ2 =>
  gd (kd σ2 l0 = 22) <|
  gI ((ld σ2 l0 21) + 1) <|
  gd (kd σ2 l0 = 22) <|
  nm (wr σ2 l0 21 ((ld σ2 l0 21) + 1)) fun σ7 =>
  k24 l0 l1 σ7
noncomputable def f_X7_figure_142 (n : Nat) (l0 : Int) (σ : AS) : Option (Int × AS) :=
  gd (kd σ l0 = 22) <|
  gd (kd σ l0 = 22) <|
  c1 (f_X7_flaw l0 1 (ld σ l0 20) σ) fun v11 σ12 =>
  if v11 = 0 then (
    some (0, σ12))
  else (
    some (1, σ12))
noncomputable def f_X7_figure_112 (n : Nat) (l0 s0 s1 : Int) (σ : AS) : Option (Int × AS) :=
  gd (kd σ s0 = 22) <|
  nm (wr σ s0 22 s1) fun σ16 =>
  gd (kd σ16 l0 = 22) <|
  nm (wr σ16 l0 19 2) fun σ19 =>
  gd (kd σ19 l0 = 22) <|
  if (lcmpW (ld σ19 l0 22) (-2147483648)) < 0 then (
    f_X7_figure_142 n l0 σ19)
  else (
    gd (kd σ19 l0 = 22) <|
    if (lcmpW (ld σ19 l0 22) 2147483647) ≤ 0 then (
      some (1, σ19))
    else (
      f_X7_figure_142 n l0 σ19))
noncomputable def f_X7_figure_24 (n : Nat) : Nat → Int → Int → AS → Option (Int × AS)
  | 0, _, _, _ => none
  | q + 1, l0, l1, σ =>
    gd (kd σ l0 = 22) <|
    gd (kd σ l0 = 22) <|
    c1 (f_X7_at l0 (ld σ l0 21) σ) fun v52 σ53 =>
    c1 (f_X7_isDigit v52 σ53) fun v55 σ56 =>
    if v55 = 0 then (
      if l1 = 0 then (
        gd (kd σ56 l0 = 22) <|
        f_X7_figure_112 n l0 l0 (ld σ56 l0 22) σ56)
      else (
        gd (kd σ56 l0 = 22) <|
        gL (-(ld σ56 l0 22)) <|
        f_X7_figure_112 n l0 l0 (-(ld σ56 l0 22)) σ56))
    else (
      gd (kd σ56 l0 = 22) <|
      if (lcmpW (ld σ56 l0 22) 3000000000) ≤ 0 then (
        gd (kd σ56 l0 = 22) <|
        gL (10 * (ld σ56 l0 22)) <|
        gd (kd σ56 l0 = 22) <|
        gd (kd σ56 l0 = 22) <|
        c1 (f_X7_at l0 (ld σ56 l0 21) σ56) fun v69 σ70 =>
        gL ((10 * (ld σ56 l0 22)) + v69) <|
        gL (((10 * (ld σ56 l0 22)) + v69) - 48) <|
        f_X7_figure_79 n (f_X7_figure_24 n q) l0 l1 l0 (((10 * (ld σ56 l0 22)) + v69) - 48) σ70)
      else (
        gd (kd σ56 l0 = 22) <|
        f_X7_figure_79 n (f_X7_figure_24 n q) l0 l1 l0 (ld σ56 l0 22) σ56))
noncomputable def f_X7_figure_21 (n : Nat) (l0 l1 s0 s1 : Int) (σ : AS) : Option (Int × AS) :=
  gd (kd σ s0 = 22) <|
  nm (wr σ s0 22 s1) fun σ76 =>
  f_X7_figure_24 n n l0 l1 σ76
noncomputable def f_X7_figure (n : Nat) (a0 a1 : Int) (σ : AS) : Option (Int × AS) :=
  if a1 = 0 then (
    gd (kd σ a0 = 22) <|
    gd (kd σ a0 = 22) <|
    c1 (f_X7_at a0 (ld σ a0 20) σ) fun v81 σ82 =>
    gI (v81 - 48) <|
    f_X7_figure_21 n a0 a1 a0 (v81 - 48) σ82)
  else (
    f_X7_figure_21 n a0 a1 a0 0 σ)
noncomputable def f_X7_next_71 (n : Nat) (k8 : Int → AS → Option (Int × AS)) (l0 : Int) (σ : AS) : Option (Int × AS) :=
  gd (kd σ l0 = 22) <|
  gI ((ld σ l0 20) + 1) <|
  gd (kd σ l0 = 22) <|
  nm (wr σ l0 20 ((ld σ l0 20) + 1)) fun σ4 =>
  k8 l0 σ4
noncomputable def f_X7_next_164 (n : Nat) (k136 : Int → AS → Option (Int × AS)) (l0 : Int) (σ : AS) : Option (Int × AS) :=
  gd (kd σ l0 = 22) <|
  gI ((ld σ l0 21) + 1) <|
  gd (kd σ l0 = 22) <|
  nm (wr σ l0 21 ((ld σ l0 21) + 1)) fun σ9 =>
  k136 l0 σ9
noncomputable def f_X7_next_136 (n : Nat) : Nat → Int → AS → Option (Int × AS)
  | 0, _, _ => none
  | q + 1, l0, σ =>
    gd (kd σ l0 = 22) <|
    gd (kd σ l0 = 22) <|
    c1 (f_X7_at l0 (ld σ l0 21) σ) fun v38 σ39 =>
    c1 (f_X7_isLetter v38 σ39) fun v41 σ42 =>
    if v41 = 0 then (
      gd (kd σ42 l0 = 22) <|
      gd (kd σ42 l0 = 22) <|
      c1 (f_X7_at l0 (ld σ42 l0 21) σ42) fun v47 σ48 =>
      c1 (f_X7_isDigit v47 σ48) fun v50 σ51 =>
      if v50 = 0 then (
        gd (kd σ51 l0 = 22) <|
        c1 (f_X7_word n l0 σ51) fun v55 σ56 =>
        gd (kd σ56 l0 = 22) <|
        nm (wr σ56 l0 19 v55) fun σ59 =>
        some (1, σ59))
      else (
        f_X7_next_164 n (f_X7_next_136 n q) l0 σ51))
    else (
      f_X7_next_164 n (f_X7_next_136 n q) l0 σ42)
noncomputable def f_X7_next_226 (n : Nat) (s0 s1 : Int) (σ : AS) : Option (Int × AS) :=
  gd (kd σ s0 = 22) <|
  c1 (f_X7_figure n s0 s1 σ) fun v62 σ63 =>
  gd (0 ≤ v62 ∧ v62 ≤ 1) <|
  some (v62, σ63)
noncomputable def f_X7_next_214 (n : Nat) (l0 l1 : Int) (σ : AS) : Option (Int × AS) :=
  if l1 = 45 then (
    f_X7_next_226 n l0 1 σ)
  else (
    f_X7_next_226 n l0 0 σ)
noncomputable def f_X7_next_401 (n : Nat) (k458 : Int → Int → Int → AS → Option (Int × AS)) (l0 l1 l2 s0 : Int) (σ : AS) : Option (Int × AS) :=
  if l1 = 60 then (
    if l2 = 45 then (
      k458 l0 s0 41 σ)
    else (
      if l2 = 61 then (
        k458 l0 s0 45 σ)
      else (
        k458 l0 s0 44 σ)))
  else (
    if l1 = 62 then (
      if l2 = 61 then (
        k458 l0 s0 47 σ)
      else (
        k458 l0 s0 46 σ))
    else (
      k458 l0 s0 50 σ))
noncomputable def f_X7_next_458 (n : Nat) (k461 : Int → AS → Option (Int × AS)) (l0 s0 s1 : Int) (σ : AS) : Option (Int × AS) :=
  gd (kd σ s0 = 22) <|
  nm (wr σ s0 19 s1) fun σ73 =>
  k461 l0 σ73
noncomputable def f_X7_next_520 (n : Nat) (k525 : Int → Int → Int → Int → AS → Option (Int × AS)) (l0 s0 s1 : Int) (σ : AS) : Option (Int × AS) :=
  k525 l0 s0 s1 1 σ
noncomputable def f_X7_next_525 (n : Nat) (l0 s0 s1 s2 : Int) (σ : AS) : Option (Int × AS) :=
  gI (s1 + s2) <|
  gd (kd σ s0 = 22) <|
  nm (wr σ s0 21 (s1 + s2)) fun σ77 =>
  gd (kd σ77 l0 = 22) <|
  if (ld σ77 l0 19) = 50 then (
    gd (kd σ77 l0 = 22) <|
    gd (kd σ77 l0 = 22) <|
    c1 (f_X7_flaw l0 1 (ld σ77 l0 20) σ77) fun v83 σ84 =>
    if v83 = 0 then (
      some (0, σ84))
    else (
      some (1, σ84)))
  else (
    some (1, σ77))
noncomputable def f_X7_next_461 (n : Nat) (l0 : Int) (σ : AS) : Option (Int × AS) :=
  gd (kd σ l0 = 22) <|
  gd (kd σ l0 = 22) <|
  if (ld σ l0 19) = 38 then (
    f_X7_next_520 n (f_X7_next_525 n) l0 l0 (ld σ l0 21) σ)
  else (
    gd (kd σ l0 = 22) <|
    if (ld σ l0 19) = 40 then (
      f_X7_next_520 n (f_X7_next_525 n) l0 l0 (ld σ l0 21) σ)
    else (
      gd (kd σ l0 = 22) <|
      if (ld σ l0 19) = 41 then (
        f_X7_next_520 n (f_X7_next_525 n) l0 l0 (ld σ l0 21) σ)
      else (
        gd (kd σ l0 = 22) <|
        if (ld σ l0 19) = 43 then (
          f_X7_next_520 n (f_X7_next_525 n) l0 l0 (ld σ l0 21) σ)
        else (
          gd (kd σ l0 = 22) <|
          if (ld σ l0 19) = 45 then (
            f_X7_next_520 n (f_X7_next_525 n) l0 l0 (ld σ l0 21) σ)
          else (
            gd (kd σ l0 = 22) <|
            if (ld σ l0 19) = 47 then (
              f_X7_next_520 n (f_X7_next_525 n) l0 l0 (ld σ l0 21) σ)
            else (
              f_X7_next_525 n l0 l0 (ld σ l0 21) 0 σ))))))
noncomputable def f_X7_next_362 (n : Nat) (l0 l1 l2 s0 s1 : Int) (σ : AS) : Option (Int × AS) :=
  gd (kd σ s0 = 22) <|
  nm (wr σ s0 19 s1) fun σ101 =>
  gd (kd σ101 l0 = 22) <|
  if (ld σ101 l0 19) = 0 then (
    if l1 = 61 then (
      f_X7_next_458 n (f_X7_next_461 n) l0 l0 42 σ101)
    else (
      if l1 = 33 then (
        if l2 = 61 then (
          f_X7_next_458 n (f_X7_next_461 n) l0 l0 43 σ101)
        else (
          f_X7_next_401 n (f_X7_next_458 n (f_X7_next_461 n)) l0 l1 l2 l0 σ101))
      else (
        f_X7_next_401 n (f_X7_next_458 n (f_X7_next_461 n)) l0 l1 l2 l0 σ101)))
  else (
    f_X7_next_461 n l0 σ101)
noncomputable def f_X7_next_230 (n : Nat) (l0 l1 : Int) (σ : AS) : Option (Int × AS) :=
  gd (kd σ l0 = 22) <|
  gd (kd σ l0 = 22) <|
  c1 (f_X7_at l0 (ld σ l0 21) σ) fun v110 σ111 =>
  if l1 = 40 then (
    f_X7_next_362 n l0 l1 v110 l0 30 σ111)
  else (
    if l1 = 41 then (
      f_X7_next_362 n l0 l1 v110 l0 31 σ111)
    else (
      if l1 = 91 then (
        f_X7_next_362 n l0 l1 v110 l0 32 σ111)
      else (
        if l1 = 93 then (
          f_X7_next_362 n l0 l1 v110 l0 33 σ111)
        else (
          if l1 = 44 then (
            f_X7_next_362 n l0 l1 v110 l0 34 σ111)
          else (
            if l1 = 58 then (
              f_X7_next_362 n l0 l1 v110 l0 35 σ111)
            else (
              if l1 = 46 then (
                if v110 = 46 then (
                  f_X7_next_362 n l0 l1 v110 l0 38 σ111)
                else (
                  f_X7_next_362 n l0 l1 v110 l0 36 σ111))
              else (
                if l1 = 42 then (
                  f_X7_next_362 n l0 l1 v110 l0 37 σ111)
                else (
                  if l1 = 45 then (
                    if v110 = 62 then (
                      f_X7_next_362 n l0 l1 v110 l0 40 σ111)
                    else (
                      f_X7_next_362 n l0 l1 v110 l0 39 σ111))
                  else (
                    f_X7_next_362 n l0 l1 v110 l0 0 σ111)))))))))
noncomputable def f_X7_next_84 (n : Nat) (l0 : Int) (σ : AS) : Option (Int × AS) :=
  gd (kd σ l0 = 22) <|
  gd (kd σ l0 = 22) <|
  nm (wr σ l0 21 (ld σ l0 20)) fun σ126 =>
  gd (kd σ126 l0 = 22) <|
  nm (wr σ126 l0 19 0) fun σ129 =>
  gd (kd σ129 l0 = 22) <|
  gd (kd σ129 l0 = 22) <|
  if (ld σ129 l0 20) = (ld σ129 l0 16) then (
    some (1, σ129))
  else (
    gd (kd σ129 l0 = 22) <|
    gd (kd σ129 l0 = 22) <|
    c1 (f_X7_at l0 (ld σ129 l0 20) σ129) fun v136 σ137 =>
    gd (kd σ137 l0 = 22) <|
    gI ((ld σ137 l0 21) + 1) <|
    gd (kd σ137 l0 = 22) <|
    nm (wr σ137 l0 21 ((ld σ137 l0 21) + 1)) fun σ142 =>
    c1 (f_X7_isLetter v136 σ142) fun v144 σ145 =>
    if v144 = 0 then (
      c1 (f_X7_isDigit v136 σ145) fun v148 σ149 =>
      if v148 = 0 then (
        if v136 = 45 then (
          gd (kd σ149 l0 = 22) <|
          gd (kd σ149 l0 = 22) <|
          c1 (f_X7_at l0 (ld σ149 l0 21) σ149) fun v155 σ156 =>
          c1 (f_X7_isDigit v155 σ156) fun v158 σ159 =>
          if v158 = 0 then (
            f_X7_next_230 n l0 v136 σ159)
          else (
            f_X7_next_214 n l0 v136 σ159))
        else (
          f_X7_next_230 n l0 v136 σ149))
      else (
        f_X7_next_214 n l0 v136 σ149))
    else (
      f_X7_next_136 n n l0 σ145))
noncomputable def f_X7_next_8 (n : Nat) : Nat → Int → AS → Option (Int × AS)
  | 0, _, _ => none
  | q + 1, l0, σ =>
    gd (kd σ l0 = 22) <|
    gd (kd σ l0 = 22) <|
    if (ld σ l0 16) ≤ (ld σ l0 20) then (
      f_X7_next_84 n l0 σ)
    else (
      gd (kd σ l0 = 22) <|
      gd (kd σ l0 = 22) <|
      c1 (f_X7_at l0 (ld σ l0 20) σ) fun v194 σ195 =>
      if v194 = 9 then (
        f_X7_next_71 n (f_X7_next_8 n q) l0 σ195)
      else (
        gd (kd σ195 l0 = 22) <|
        gd (kd σ195 l0 = 22) <|
        c1 (f_X7_at l0 (ld σ195 l0 20) σ195) fun v200 σ201 =>
        if v200 = 10 then (
          f_X7_next_71 n (f_X7_next_8 n q) l0 σ201)
        else (
          gd (kd σ201 l0 = 22) <|
          gd (kd σ201 l0 = 22) <|
          c1 (f_X7_at l0 (ld σ201 l0 20) σ201) fun v206 σ207 =>
          if v206 = 13 then (
            f_X7_next_71 n (f_X7_next_8 n q) l0 σ207)
          else (
            gd (kd σ207 l0 = 22) <|
            gd (kd σ207 l0 = 22) <|
            c1 (f_X7_at l0 (ld σ207 l0 20) σ207) fun v212 σ213 =>
            if v212 = 32 then (
              f_X7_next_71 n (f_X7_next_8 n q) l0 σ213)
            else (
              f_X7_next_84 n l0 σ213)))))
noncomputable def f_X7_next (n : Nat) (a0 : Int) (σ : AS) : Option (Int × AS) :=
  gd (kd σ a0 = 22) <|
  gd (kd σ a0 = 22) <|
  nm (wr σ a0 20 (ld σ a0 21)) fun σ218 =>
  f_X7_next_8 n n a0 σ218
noncomputable def f_X7_cannot (a0 : Int) (σ : AS) : Option (Int × AS) :=
  gd (kd σ a0 = 22) <|
  gd (kd σ a0 = 22) <|
  c1 (f_X7_flaw a0 2 (ld σ a0 20) σ) fun v3 σ4 =>
  gd (0 ≤ v3 ∧ v3 ≤ 1) <|
  some (v3, σ4)
noncomputable def f_X7_name_85 (n : Nat) (k36 : Int → Int → Int → Int → AS → Option (Int × AS)) (l0 l1 l3 s0 : Int) (σ : AS) : Option (Int × AS) :=
  gI (l3 + 1) <|
  nm (l3 + 1) fun u2 =>
  k36 l0 l1 s0 u2 σ
noncomputable def f_X7_name_92 (n : Nat) (k2 : Int → Int → AS → Option (Int × AS)) (l0 l1 l2 : Int) (σ : AS) : Option (Int × AS) :=
  if l2 = 0 then (
    gI (l1 + 1) <|
    nm (l1 + 1) fun u6 =>
    k2 l0 u6 σ)
  else (
    some (l1, σ))
noncomputable def f_X7_name_36 (n : Nat) (k2 : Int → Int → AS → Option (Int × AS)) : Nat → Int → Int → Int → Int → AS → Option (Int × AS)
  | 0, _, _, _, _, _ => none
  | q + 1, l0, l1, l2, l3, σ =>
    gd (kd σ l0 = 22) <|
    gd (kd σ l0 = 22) <|
    gI ((ld σ l0 21) - (ld σ l0 20)) <|
    if ((ld σ l0 21) - (ld σ l0 20)) ≤ l3 then (
      f_X7_name_92 n k2 l0 l1 l2 σ)
    else (
      if l2 = 0 then (
        f_X7_name_92 n k2 l0 l1 l2 σ)
      else (
        gd (kd σ l0 = 22) <|
        gd (kd σ l0 = 22) <|
        gd (kd σ (ld σ l0 23) = 100 ∧ (0 : Int) ≤ l1 ∧ l1 < ln σ (ld σ l0 23)) <|
        gI ((ld σ (ld σ l0 23) l1) + l3) <|
        gd ((kd σ (ld σ l0 15) = 102 ∨ kd σ (ld σ l0 15) = 1102) ∧ (0 : Int) ≤ ((ld σ (ld σ l0 23) l1) + l3) ∧ ((ld σ (ld σ l0 23) l1) + l3) < ln σ (ld σ l0 15)) <|
        gd (kd σ l0 = 22) <|
        gd (kd σ l0 = 22) <|
        gI ((ld σ l0 20) + l3) <|
        gd ((kd σ (ld σ l0 15) = 102 ∨ kd σ (ld σ l0 15) = 1102) ∧ (0 : Int) ≤ ((ld σ l0 20) + l3) ∧ ((ld σ l0 20) + l3) < ln σ (ld σ l0 15)) <|
        if (ld σ (ld σ l0 15) ((ld σ (ld σ l0 23) l1) + l3)) = (ld σ (ld σ l0 15) ((ld σ l0 20) + l3)) then (
          f_X7_name_85 n (f_X7_name_36 n k2 q) l0 l1 l3 1 σ)
        else (
          f_X7_name_85 n (f_X7_name_36 n k2 q) l0 l1 l3 0 σ)))
noncomputable def f_X7_name_33 (n : Nat) (k2 : Int → Int → AS → Option (Int × AS)) (l0 l1 s0 : Int) (σ : AS) : Option (Int × AS) :=
  f_X7_name_36 n k2 n l0 l1 s0 0 σ
noncomputable def f_X7_name_2 (n : Nat) : Nat → Int → Int → AS → Option (Int × AS)
  | 0, _, _, _ => none
  | q + 1, l0, l1, σ =>
    gd (kd σ l0 = 22) <|
    if (ld σ l0 26) ≤ l1 then (
      gd (kd σ l0 = 22) <|
      if (ld σ l0 26) = 8 then (
        gd (kd σ l0 = 22) <|
        gd (kd σ l0 = 22) <|
        c1 (f_X7_flaw l0 3 (ld σ l0 20) σ) fun v111 σ112 =>
        some ((-1), σ112))
      else (
        gd (kd σ l0 = 22) <|
        gd (kd σ l0 = 22) <|
        gd (kd σ l0 = 22) <|
        gd (kd σ (ld σ l0 23) = 100 ∧ (0 : Int) ≤ (ld σ l0 26) ∧ (ld σ l0 26) < ln σ (ld σ l0 23)) <|
        nm (wr σ (ld σ l0 23) (ld σ l0 26) (ld σ l0 20)) fun σ87 =>
        gd (kd σ87 l0 = 22) <|
        gd (kd σ87 l0 = 22) <|
        gd (kd σ87 l0 = 22) <|
        gd (kd σ87 l0 = 22) <|
        gI ((ld σ87 l0 21) - (ld σ87 l0 20)) <|
        gd (kd σ87 (ld σ87 l0 24) = 100 ∧ (0 : Int) ≤ (ld σ87 l0 26) ∧ (ld σ87 l0 26) < ln σ87 (ld σ87 l0 24)) <|
        nm (wr σ87 (ld σ87 l0 24) (ld σ87 l0 26) ((ld σ87 l0 21) - (ld σ87 l0 20))) fun σ95 =>
        gd (kd σ95 l0 = 22) <|
        gd (kd σ95 l0 = 22) <|
        gd (kd σ95 (ld σ95 l0 25) = 100 ∧ (0 : Int) ≤ (ld σ95 l0 26) ∧ (ld σ95 l0 26) < ln σ95 (ld σ95 l0 25)) <|
        nm (wr σ95 (ld σ95 l0 25) (ld σ95 l0 26) 0) fun σ100 =>
        gd (kd σ100 l0 = 22) <|
        gI ((ld σ100 l0 26) + 1) <|
        gd (kd σ100 l0 = 22) <|
        nm (wr σ100 l0 26 ((ld σ100 l0 26) + 1)) fun σ105 =>
        gd (kd σ105 l0 = 22) <|
        gI ((ld σ105 l0 26) - 1) <|
        some (((ld σ105 l0 26) - 1), σ105)))
    else (
      gd (kd σ l0 = 22) <|
      gd (kd σ (ld σ l0 24) = 100 ∧ (0 : Int) ≤ l1 ∧ l1 < ln σ (ld σ l0 24)) <|
      gd (kd σ l0 = 22) <|
      gd (kd σ l0 = 22) <|
      gI ((ld σ l0 21) - (ld σ l0 20)) <|
      if (ld σ (ld σ l0 24) l1) = ((ld σ l0 21) - (ld σ l0 20)) then (
        f_X7_name_33 n (f_X7_name_2 n q) l0 l1 1 σ)
      else (
        f_X7_name_33 n (f_X7_name_2 n q) l0 l1 0 σ))
noncomputable def f_X7_name (n : Nat) (a0 : Int) (σ : AS) : Option (Int × AS) :=
  f_X7_name_2 n n a0 0 σ
noncomputable def f_X7_wrong (a0 a1 a2 : Int) (σ : AS) : Option AS :=
  gd (kd σ a0 = 22) <|
  if (ld σ a0 28) ≤ a2 then (
    some σ)
  else (
    gd (kd σ a0 = 22) <|
    nm (wr σ a0 27 a1) fun σ4 =>
    gd (kd σ4 a0 = 22) <|
    nm (wr σ4 a0 28 a2) fun σ7 =>
    some σ7)
noncomputable def f_X7_nameOf_56 (n : Nat) (k62 : Int → Int → Int → AS → Option (Int × AS)) (l0 l1 l2 l3 : Int) (σ : AS) : Option (Int × AS) :=
  gd (kd σ l0 = 22) <|
  c0 (f_X7_wrong l0 4 l2 σ) fun σ3 =>
  k62 l0 l1 l3 σ3
noncomputable def f_X7_nameOf_86 (n : Nat) (l0 l3 s0 s1 s2 : Int) (σ : AS) : Option (Int × AS) :=
  gd (kd σ s0 = 100 ∧ (0 : Int) ≤ s1 ∧ s1 < ln σ s0) <|
  nm (wr σ s0 s1 s2) fun σ6 =>
  gd (kd σ6 l0 = 22) <|
  nm (wr σ6 l0 41 l3) fun σ9 =>
  gd (kd σ9 l0 = 22) <|
  c1 (f_X7_next n l0 σ9) fun v12 σ13 =>
  gd (0 ≤ v12 ∧ v12 ≤ 1) <|
  some (v12, σ13)
noncomputable def f_X7_nameOf_62 (n : Nat) (l0 l1 l3 : Int) (σ : AS) : Option (Int × AS) :=
  gd (kd σ l0 = 22) <|
  gd (kd σ l0 = 22) <|
  gd (kd σ (ld σ l0 25) = 100 ∧ (0 : Int) ≤ l3 ∧ l3 < ln σ (ld σ l0 25)) <|
  if (ld σ (ld σ l0 25) l3) = 0 then (
    f_X7_nameOf_86 n l0 l3 (ld σ l0 25) l3 l1 σ)
  else (
    gd (kd σ l0 = 22) <|
    gd (kd σ (ld σ l0 25) = 100 ∧ (0 : Int) ≤ l3 ∧ l3 < ln σ (ld σ l0 25)) <|
    f_X7_nameOf_86 n l0 l3 (ld σ l0 25) l3 (ld σ (ld σ l0 25) l3) σ)
noncomputable def f_X7_nameOf (n : Nat) (a0 a1 : Int) (σ : AS) : Option (Int × AS) :=
  gd (kd σ a0 = 22) <|
  nm (wr σ a0 41 (-1)) fun σ23 =>
  gd (kd σ23 a0 = 22) <|
  if (ld σ23 a0 19) = 1 then (
    gd (kd σ23 a0 = 22) <|
    nm (ld σ23 a0 20) fun u28 =>
    gd (kd σ23 a0 = 22) <|
    c1 (f_X7_name n a0 σ23) fun v31 σ32 =>
    if v31 = (-1) then (
      some (0, σ32))
    else (
      gd (kd σ32 a0 = 22) <|
      gd (kd σ32 (ld σ32 a0 25) = 100 ∧ (0 : Int) ≤ v31 ∧ v31 < ln σ32 (ld σ32 a0 25)) <|
      if (ld σ32 (ld σ32 a0 25) v31) = 0 then (
        f_X7_nameOf_62 n a0 a1 v31 σ32)
      else (
        if a1 = 2 then (
          f_X7_nameOf_56 n (f_X7_nameOf_62 n) a0 a1 u28 v31 σ32)
        else (
          gd (kd σ32 a0 = 22) <|
          gd (kd σ32 (ld σ32 a0 25) = 100 ∧ (0 : Int) ≤ v31 ∧ v31 < ln σ32 (ld σ32 a0 25)) <|
          if (ld σ32 (ld σ32 a0 25) v31) = 2 then (
            f_X7_nameOf_56 n (f_X7_nameOf_62 n) a0 a1 u28 v31 σ32)
          else (
            f_X7_nameOf_62 n a0 a1 v31 σ32)))))
  else (
    some (1, σ23))
noncomputable def f_X7_isFigure_33 (n : Nat) (l0 : Int) (σ : AS) : Option (Int × AS) :=
  gd (kd σ l0 = 22) <|
  gd (kd σ l0 = 22) <|
  c1 (f_X7_flaw l0 3 (ld σ l0 20) σ) fun v3 σ4 =>
  gd (0 ≤ v3 ∧ v3 ≤ 1) <|
  some (v3, σ4)
noncomputable def f_X7_isFigure (n : Nat) (a0 a1 a2 : Int) (σ : AS) : Option (Int × AS) :=
  gd (kd σ a0 = 22) <|
  if (ld σ a0 19) = 2 then (
    gd (kd σ a0 = 22) <|
    if (lcmpW (ld σ a0 22) a1) < 0 then (
      f_X7_isFigure_33 n a0 σ)
    else (
      gd (kd σ a0 = 22) <|
      if (lcmpW (ld σ a0 22) a2) ≤ 0 then (
        gd (kd σ a0 = 22) <|
        gd (kd σ a0 = 22) <|
        nm (wr σ a0 42 (l2iW (ld σ a0 22))) fun σ15 =>
        gd (kd σ15 a0 = 22) <|
        c1 (f_X7_next n a0 σ15) fun v18 σ19 =>
        gd (0 ≤ v18 ∧ v18 ≤ 1) <|
        some (v18, σ19))
      else (
        f_X7_isFigure_33 n a0 σ)))
  else (
    gd (kd σ a0 = 22) <|
    c1 (f_X7_cannot a0 σ) fun v23 σ24 =>
    gd (0 ≤ v23 ∧ v23 ≤ 1) <|
    some (v23, σ24))
noncomputable def f_X7_small (n : Nat) (a0 : Int) (σ : AS) : Option (Int × AS) :=
  gd (kd σ a0 = 22) <|
  nm (wr σ a0 42 (-1)) fun σ2 =>
  gd (kd σ2 a0 = 22) <|
  if (ld σ2 a0 19) = 35 then (
    gd (kd σ2 a0 = 22) <|
    c1 (f_X7_next n a0 σ2) fun v7 σ8 =>
    if v7 = 0 then (
      some (0, σ8))
    else (
      gd (kd σ8 a0 = 22) <|
      c1 (f_X7_isFigure n a0 0 31 σ8) fun v12 σ13 =>
      if v12 = 0 then (
        some (0, σ13))
      else (
        some (1, σ13))))
  else (
    some (1, σ2))
noncomputable def f_X7_op (a0 a1 a2 a3 a4 a5 : Int) (σ : AS) : Option AS :=
  gd (kd σ a0 = 22) <|
  gI (5 * (ld σ a0 32)) <|
  nm (5 * (ld σ a0 32)) fun u3 =>
  gd (kd σ a0 = 22) <|
  gd (kd σ (ld σ a0 31) = 100 ∧ (0 : Int) ≤ u3 ∧ u3 < ln σ (ld σ a0 31)) <|
  nm (wr σ (ld σ a0 31) u3 a1) fun σ7 =>
  gd (kd σ7 a0 = 22) <|
  gI (u3 + 1) <|
  gd (kd σ7 (ld σ7 a0 31) = 100 ∧ (0 : Int) ≤ (u3 + 1) ∧ (u3 + 1) < ln σ7 (ld σ7 a0 31)) <|
  nm (wr σ7 (ld σ7 a0 31) (u3 + 1) a2) fun σ12 =>
  gd (kd σ12 a0 = 22) <|
  gI (u3 + 2) <|
  gd (kd σ12 (ld σ12 a0 31) = 100 ∧ (0 : Int) ≤ (u3 + 2) ∧ (u3 + 2) < ln σ12 (ld σ12 a0 31)) <|
  nm (wr σ12 (ld σ12 a0 31) (u3 + 2) a3) fun σ17 =>
  gd (kd σ17 a0 = 22) <|
  gI (u3 + 3) <|
  gd (kd σ17 (ld σ17 a0 31) = 100 ∧ (0 : Int) ≤ (u3 + 3) ∧ (u3 + 3) < ln σ17 (ld σ17 a0 31)) <|
  nm (wr σ17 (ld σ17 a0 31) (u3 + 3) a4) fun σ22 =>
  gd (kd σ22 a0 = 22) <|
  gI (u3 + 4) <|
  gd (kd σ22 (ld σ22 a0 31) = 100 ∧ (0 : Int) ≤ (u3 + 4) ∧ (u3 + 4) < ln σ22 (ld σ22 a0 31)) <|
  nm (wr σ22 (ld σ22 a0 31) (u3 + 4) a5) fun σ27 =>
  gd (kd σ27 a0 = 22) <|
  gI ((ld σ27 a0 32) + 1) <|
  gd (kd σ27 a0 = 22) <|
  nm (wr σ27 a0 32 ((ld σ27 a0 32) + 1)) fun σ32 =>
  some σ32
noncomputable def f_X7_take (n : Nat) (a0 a1 : Int) (σ : AS) : Option (Int × AS) :=
  gd (kd σ a0 = 22) <|
  if (ld σ a0 19) = a1 then (
    gd (kd σ a0 = 22) <|
    c1 (f_X7_next n a0 σ) fun v9 σ10 =>
    gd (0 ≤ v9 ∧ v9 ≤ 1) <|
    some (v9, σ10))
  else (
    gd (kd σ a0 = 22) <|
    c1 (f_X7_cannot a0 σ) fun v4 σ5 =>
    gd (0 ≤ v4 ∧ v4 ≤ 1) <|
    some (v4, σ5))
noncomputable def f_X7_nodeText_77 (n : Nat) (l0 s0 s1 : Int) (σ : AS) : Option (Int × AS) :=
  gd (kd σ l0 = 22) <|
  gd (kd σ l0 = 22) <|
  gd (kd σ s0 = 22) <|
  c0 (f_X7_op s0 s1 (ld σ l0 41) (ld σ l0 42) 0 0 σ) fun σ5 =>
  gd (kd σ5 l0 = 22) <|
  c1 (f_X7_take n l0 31 σ5) fun v8 σ9 =>
  gd (0 ≤ v8 ∧ v8 ≤ 1) <|
  some (v8, σ9)
noncomputable def f_X7_nodeText (n : Nat) (a0 a1 : Int) (σ : AS) : Option (Int × AS) :=
  gd (kd σ a0 = 22) <|
  if (ld σ a0 19) = 30 then (
    gd (kd σ a0 = 22) <|
    if (ld σ a0 29) = 12 then (
      gd (kd σ a0 = 22) <|
      gd (kd σ a0 = 22) <|
      c1 (f_X7_flaw a0 3 (ld σ a0 20) σ) fun v39 σ40 =>
      gd (0 ≤ v39 ∧ v39 ≤ 1) <|
      some (v39, σ40))
    else (
      gd (kd σ a0 = 22) <|
      gI ((ld σ a0 29) + 1) <|
      gd (kd σ a0 = 22) <|
      nm (wr σ a0 29 ((ld σ a0 29) + 1)) fun σ19 =>
      gd (kd σ19 a0 = 22) <|
      c1 (f_X7_next n a0 σ19) fun v22 σ23 =>
      if v22 = 0 then (
        some (0, σ23))
      else (
        gd (kd σ23 a0 = 22) <|
        c1 (f_X7_nameOf n a0 1 σ23) fun v27 σ28 =>
        if v27 = 0 then (
          some (0, σ28))
        else (
          gd (kd σ28 a0 = 22) <|
          c1 (f_X7_small n a0 σ28) fun v32 σ33 =>
          if v32 = 0 then (
            some (0, σ33))
          else (
            if a1 = 0 then (
              f_X7_nodeText_77 n a0 a0 2 σ33)
            else (
              f_X7_nodeText_77 n a0 a0 0 σ33))))))
  else (
    gd (kd σ a0 = 22) <|
    c1 (f_X7_cannot a0 σ) fun v44 σ45 =>
    gd (0 ≤ v44 ∧ v44 ≤ 1) <|
    some (v44, σ45))
noncomputable def f_X7_edgeText_188 (n : Nat) (k189 : Int → Int → Int → Int → Int → Int → Int → AS → Option (Int × AS)) (l0 l1 l2 l3 l4 l5 : Int) (σ : AS) : Option (Int × AS) :=
  k189 l0 l1 l2 l3 l4 l5 0 σ
noncomputable def f_X7_edgeText_273 (n : Nat) (k248 : Int → Int → Int → Int → Int → Int → AS → Option (Int × AS)) (l0 l3 l4 l5 l7 l8 s0 s1 s2 s3 s4 s5 : Int) (σ : AS) : Option (Int × AS) :=
  gd (kd σ s0 = 22) <|
  c0 (f_X7_op s0 s1 s2 s3 s4 s5 σ) fun σ3 =>
  gI (l8 + 1) <|
  nm (l8 + 1) fun u6 =>
  k248 l0 l3 l4 l5 l7 u6 σ3
noncomputable def f_X7_edgeText_248 (n : Nat) : Nat → Int → Int → Int → Int → Int → Int → AS → Option (Int × AS)
  | 0, _, _, _, _, _, _, _ => none
  | q + 1, l0, l3, l4, l5, l7, l8, σ =>
    if l5 ≤ l8 then (
      gd (kd σ l0 = 22) <|
      c1 (f_X7_next n l0 σ) fun v17 σ18 =>
      gd (0 ≤ v17 ∧ v17 ≤ 1) <|
      some (v17, σ18))
    else (
      if l4 ≤ l8 then (
        f_X7_edgeText_273 n (f_X7_edgeText_248 n q) l0 l3 l4 l5 l7 l8 l0 3 (-1) l3 l7 0 σ)
      else (
        f_X7_edgeText_273 n (f_X7_edgeText_248 n q) l0 l3 l4 l5 l7 l8 l0 3 (-1) l3 l7 1 σ))
noncomputable def f_X7_edgeText_245 (n : Nat) (l0 l3 l4 l5 l7 : Int) (σ : AS) : Option (Int × AS) :=
  f_X7_edgeText_248 n n l0 l3 l4 l5 l7 0 σ
noncomputable def f_X7_edgeText_228 (n : Nat) (l0 l2 l3 l4 l5 s0 : Int) (σ : AS) : Option (Int × AS) :=
  if l5 = 0 then (
    gd (kd σ l0 = 22) <|
    c0 (f_X7_op l0 1 l2 l3 s0 0 σ) fun σ25 =>
    f_X7_edgeText_245 n l0 l3 l4 l5 s0 σ25)
  else (
    f_X7_edgeText_245 n l0 l3 l4 l5 s0 σ)
noncomputable def f_X7_edgeText_210 (n : Nat) (l0 l1 l2 l3 l4 l5 l6 : Int) (σ : AS) : Option (Int × AS) :=
  if l1 = 0 then (
    if l6 = 0 then (
      f_X7_edgeText_228 n l0 l2 l3 l4 l5 2 σ)
    else (
      f_X7_edgeText_228 n l0 l2 l3 l4 l5 0 σ))
  else (
    f_X7_edgeText_228 n l0 l2 l3 l4 l5 1 σ)
noncomputable def f_X7_edgeText_189 (n : Nat) (l0 l1 l2 l3 l4 l5 s0 : Int) (σ : AS) : Option (Int × AS) :=
  gd (kd σ l0 = 22) <|
  if (ld σ l0 19) = 39 then (
    f_X7_edgeText_210 n l0 l1 l2 l3 l4 l5 s0 σ)
  else (
    if s0 = 0 then (
      gd (kd σ l0 = 22) <|
      c1 (f_X7_cannot l0 σ) fun v33 σ34 =>
      gd (0 ≤ v33 ∧ v33 ≤ 1) <|
      some (v33, σ34))
    else (
      f_X7_edgeText_210 n l0 l1 l2 l3 l4 l5 s0 σ))
noncomputable def f_X7_edgeText_160 (n : Nat) (l0 l1 l2 l3 l4 l5 : Int) (σ : AS) : Option (Int × AS) :=
  gd (kd σ l0 = 22) <|
  c1 (f_X7_take n l0 33 σ) fun v38 σ39 =>
  if v38 = 0 then (
    some (0, σ39))
  else (
    if l1 = 0 then (
      gd (kd σ39 l0 = 22) <|
      if (ld σ39 l0 19) = 40 then (
        f_X7_edgeText_189 n l0 l1 l2 l3 l4 l5 1 σ39)
      else (
        f_X7_edgeText_188 n (f_X7_edgeText_189 n) l0 l1 l2 l3 l4 l5 σ39))
    else (
      f_X7_edgeText_188 n (f_X7_edgeText_189 n) l0 l1 l2 l3 l4 l5 σ39))
noncomputable def f_X7_edgeText_43 (n : Nat) (l0 s0 : Int) (σ : AS) : Option (Int × AS) :=
  gd (kd σ l0 = 22) <|
  c1 (f_X7_next n l0 σ) fun v46 σ47 =>
  if v46 = 0 then (
    some (0, σ47))
  else (
    gd (kd σ47 l0 = 22) <|
    c1 (f_X7_take n l0 32 σ47) fun v51 σ52 =>
    if v51 = 0 then (
      some (0, σ52))
    else (
      gd (kd σ52 l0 = 22) <|
      c1 (f_X7_nameOf n l0 2 σ52) fun v56 σ57 =>
      if v56 = 0 then (
        some (0, σ57))
      else (
        gd (kd σ57 l0 = 22) <|
        nm (ld σ57 l0 41) fun u61 =>
        gd (kd σ57 l0 = 22) <|
        c1 (f_X7_small n l0 σ57) fun v64 σ65 =>
        if v64 = 0 then (
          some (0, σ65))
        else (
          gd (kd σ65 l0 = 22) <|
          nm (ld σ65 l0 42) fun u69 =>
          gd (kd σ65 l0 = 22) <|
          if (ld σ65 l0 19) = 37 then (
            if u61 = (-1) then (
              gd (kd σ65 l0 = 22) <|
              c1 (f_X7_next n l0 σ65) fun v75 σ76 =>
              if v75 = 0 then (
                some (0, σ76))
              else (
                gd (kd σ76 l0 = 22) <|
                c1 (f_X7_isFigure n l0 1 4 σ76) fun v80 σ81 =>
                if v80 = 0 then (
                  some (0, σ81))
                else (
                  gd (kd σ81 l0 = 22) <|
                  nm (ld σ81 l0 42) fun u85 =>
                  gd (kd σ81 l0 = 22) <|
                  c1 (f_X7_take n l0 38 σ81) fun v88 σ89 =>
                  if v88 = 0 then (
                    some (0, σ89))
                  else (
                    gd (kd σ89 l0 = 22) <|
                    c1 (f_X7_isFigure n l0 u85 4 σ89) fun v93 σ94 =>
                    if v93 = 0 then (
                      some (0, σ94))
                    else (
                      gd (kd σ94 l0 = 22) <|
                      nm (ld σ94 l0 42) fun u98 =>
                      f_X7_edgeText_160 n l0 s0 u61 u69 u85 u98 σ94)))))
            else (
              f_X7_edgeText_160 n l0 s0 u61 u69 0 0 σ65))
          else (
            f_X7_edgeText_160 n l0 s0 u61 u69 0 0 σ65)))))
noncomputable def f_X7_edgeText (n : Nat) (a0 : Int) (σ : AS) : Option (Int × AS) :=
  gd (kd σ a0 = 22) <|
  if (ld σ a0 30) = 8 then (
    gd (kd σ a0 = 22) <|
    gd (kd σ a0 = 22) <|
    c1 (f_X7_flaw a0 3 (ld σ a0 20) σ) fun v111 σ112 =>
    gd (0 ≤ v111 ∧ v111 ≤ 1) <|
    some (v111, σ112))
  else (
    gd (kd σ a0 = 22) <|
    gI ((ld σ a0 30) + 1) <|
    gd (kd σ a0 = 22) <|
    nm (wr σ a0 30 ((ld σ a0 30) + 1)) fun σ105 =>
    gd (kd σ105 a0 = 22) <|
    if (ld σ105 a0 19) = 41 then (
      f_X7_edgeText_43 n a0 1 σ105)
    else (
      f_X7_edgeText_43 n a0 0 σ105))
noncomputable def f_X7_pattern_28 (n : Nat) (k10 : Int → AS → Option (Int × AS)) (l0 : Int) (σ : AS) : Option (Int × AS) :=
  gd (kd σ l0 = 22) <|
  c1 (f_X7_edgeText n l0 σ) fun v2 σ3 =>
  if v2 = 0 then (
    some (0, σ3))
  else (
    gd (kd σ3 l0 = 22) <|
    c1 (f_X7_nodeText n l0 0 σ3) fun v7 σ8 =>
    if v7 = 0 then (
      some (0, σ8))
    else (
      k10 l0 σ8))
noncomputable def f_X7_pattern_10 (n : Nat) : Nat → Int → AS → Option (Int × AS)
  | 0, _, _ => none
  | q + 1, l0, σ =>
    gd (kd σ l0 = 22) <|
    if (ld σ l0 19) = 39 then (
      f_X7_pattern_28 n (f_X7_pattern_10 n q) l0 σ)
    else (
      gd (kd σ l0 = 22) <|
      if (ld σ l0 19) = 41 then (
        f_X7_pattern_28 n (f_X7_pattern_10 n q) l0 σ)
      else (
        some (1, σ)))
noncomputable def f_X7_pattern (n : Nat) (a0 : Int) (σ : AS) : Option (Int × AS) :=
  gd (kd σ a0 = 22) <|
  c1 (f_X7_nodeText n a0 1 σ) fun v20 σ21 =>
  if v20 = 0 then (
    some (0, σ21))
  else (
    f_X7_pattern_10 n n a0 σ21)
noncomputable def f_X7_patternTexts_29 (n : Nat) (k2 : Int → Int → AS → Option (Int × AS)) (l0 s0 : Int) (σ : AS) : Option (Int × AS) :=
  if s0 = 0 then (
    k2 l0 s0 σ)
  else (
    gd (kd σ l0 = 22) <|
    c1 (f_X7_next n l0 σ) fun v3 σ4 =>
    if v3 = 0 then (
      some (0, σ4))
    else (
      k2 l0 s0 σ4))
noncomputable def f_X7_patternTexts_2 (n : Nat) : Nat → Int → Int → AS → Option (Int × AS)
  | 0, _, _, _ => none
  | q + 1, l0, l1, σ =>
    if l1 = 0 then (
      some (1, σ))
    else (
      gd (kd σ l0 = 22) <|
      c1 (f_X7_pattern n l0 σ) fun v17 σ18 =>
      if v17 = 0 then (
        some (0, σ18))
      else (
        gd (kd σ18 l0 = 22) <|
        if (ld σ18 l0 19) = 34 then (
          f_X7_patternTexts_29 n (f_X7_patternTexts_2 n q) l0 1 σ18)
        else (
          f_X7_patternTexts_29 n (f_X7_patternTexts_2 n q) l0 0 σ18)))
noncomputable def f_X7_patternTexts (n : Nat) (a0 : Int) (σ : AS) : Option (Int × AS) :=
  f_X7_patternTexts_2 n n a0 1 σ
noncomputable def f_X7_nameOrKey_41 (n : Nat) (l0 l1 : Int) (σ : AS) : Option (Int × AS) :=
  gd (kd σ l0 = 22) <|
  nm (wr σ l0 43 (-1)) fun σ2 =>
  gd (kd σ2 l0 = 22) <|
  c1 (f_X7_next n l0 σ2) fun v5 σ6 =>
  if v5 = 0 then (
    some (0, σ6))
  else (
    gd (kd σ6 l0 = 22) <|
    if (ld σ6 l0 19) = 36 then (
      gd (kd σ6 l0 = 22) <|
      c1 (f_X7_next n l0 σ6) fun v12 σ13 =>
      if v12 = 0 then (
        some (0, σ13))
      else (
        gd (kd σ13 l0 = 22) <|
        c1 (f_X7_isFigure n l0 0 31 σ13) fun v17 σ18 =>
        if v17 = 0 then (
          some (0, σ18))
        else (
          gd (kd σ18 l0 = 22) <|
          gd (kd σ18 l0 = 22) <|
          nm (wr σ18 l0 43 (ld σ18 l0 42)) fun σ23 =>
          some (1, σ23))))
    else (
      if l1 = 0 then (
        some (1, σ6))
      else (
        gd (kd σ6 l0 = 22) <|
        c1 (f_X7_cannot l0 σ6) fun v27 σ28 =>
        if v27 = 0 then (
          some (0, σ28))
        else (
          some (1, σ28)))))
noncomputable def f_X7_nameOrKey (n : Nat) (a0 a1 : Int) (σ : AS) : Option (Int × AS) :=
  gd (kd σ a0 = 22) <|
  nm (ld σ a0 20) fun u32 =>
  gd (kd σ a0 = 22) <|
  c1 (f_X7_name n a0 σ) fun v35 σ36 =>
  gd (kd σ36 a0 = 22) <|
  nm (wr σ36 a0 41 v35) fun σ39 =>
  gd (kd σ39 a0 = 22) <|
  if (ld σ39 a0 41) = (-1) then (
    some (0, σ39))
  else (
    gd (kd σ39 a0 = 22) <|
    gd (kd σ39 a0 = 22) <|
    gd (kd σ39 (ld σ39 a0 25) = 100 ∧ (0 : Int) ≤ (ld σ39 a0 41) ∧ (ld σ39 a0 41) < ln σ39 (ld σ39 a0 25)) <|
    if (ld σ39 (ld σ39 a0 25) (ld σ39 a0 41)) = 0 then (
      gd (kd σ39 a0 = 22) <|
      c0 (f_X7_wrong a0 5 u32 σ39) fun σ49 =>
      f_X7_nameOrKey_41 n a0 a1 σ49)
    else (
      f_X7_nameOrKey_41 n a0 a1 σ39))
noncomputable def f_X7_term_74 (n : Nat) (l0 l1 s0 s1 s2 : Int) (σ : AS) : Option (Int × AS) :=
  gd (kd σ s0 = 100 ∧ (0 : Int) ≤ s1 ∧ s1 < ln σ s0) <|
  nm (wr σ s0 s1 s2) fun σ2 =>
  gd (kd σ2 l0 = 22) <|
  gI (l1 + 1) <|
  gd (kd σ2 l0 = 22) <|
  gd (kd σ2 (ld σ2 l0 33) = 100 ∧ (0 : Int) ≤ (l1 + 1) ∧ (l1 + 1) < ln σ2 (ld σ2 l0 33)) <|
  nm (wr σ2 (ld σ2 l0 33) (l1 + 1) (ld σ2 l0 41)) fun σ8 =>
  gd (kd σ8 l0 = 22) <|
  gI (l1 + 2) <|
  gd (kd σ8 l0 = 22) <|
  gd (kd σ8 (ld σ8 l0 33) = 100 ∧ (0 : Int) ≤ (l1 + 2) ∧ (l1 + 2) < ln σ8 (ld σ8 l0 33)) <|
  nm (wr σ8 (ld σ8 l0 33) (l1 + 2) (ld σ8 l0 43)) fun σ14 =>
  some (1, σ14)
noncomputable def f_X7_term (n : Nat) (a0 a1 : Int) (σ : AS) : Option (Int × AS) :=
  gd (kd σ a0 = 22) <|
  if (ld σ a0 19) = 2 then (
    gd (kd σ a0 = 22) <|
    gd (kd σ (ld σ a0 33) = 100 ∧ (0 : Int) ≤ a1 ∧ a1 < ln σ (ld σ a0 33)) <|
    nm (wr σ (ld σ a0 33) a1 0) fun σ35 =>
    gd (kd σ35 a0 = 22) <|
    gI (a1 + 1) <|
    gd (kd σ35 a0 = 22) <|
    gd (kd σ35 (ld σ35 a0 33) = 100 ∧ (0 : Int) ≤ (a1 + 1) ∧ (a1 + 1) < ln σ35 (ld σ35 a0 33)) <|
    nm (wr σ35 (ld σ35 a0 33) (a1 + 1) (l2iW (ld σ35 a0 22))) fun σ41 =>
    gd (kd σ41 a0 = 22) <|
    c1 (f_X7_next n a0 σ41) fun v44 σ45 =>
    gd (0 ≤ v44 ∧ v44 ≤ 1) <|
    some (v44, σ45))
  else (
    gd (kd σ a0 = 22) <|
    if (ld σ a0 19) = 1 then (
      gd (kd σ a0 = 22) <|
      c1 (f_X7_nameOrKey n a0 0 σ) fun v21 σ22 =>
      if v21 = 0 then (
        some (0, σ22))
      else (
        gd (kd σ22 a0 = 22) <|
        gd (kd σ22 a0 = 22) <|
        if (ld σ22 a0 43) = (-1) then (
          f_X7_term_74 n a0 a1 (ld σ22 a0 33) a1 1 σ22)
        else (
          f_X7_term_74 n a0 a1 (ld σ22 a0 33) a1 2 σ22)))
    else (
      gd (kd σ a0 = 22) <|
      c1 (f_X7_cannot a0 σ) fun v29 σ30 =>
      gd (0 ≤ v29 ∧ v29 ≤ 1) <|
      some (v29, σ30)))
noncomputable def f_X7_condition_18 (n : Nat) (k23 : Int → Int → AS → Option (Int × AS)) (l0 : Int) (σ : AS) : Option (Int × AS) :=
  k23 l0 1 σ
noncomputable def f_X7_condition_49 (n : Nat) (l0 l1 : Int) (σ : AS) : Option (Int × AS) :=
  gd (kd σ l0 = 22) <|
  if (ld σ l0 34) = 8 then (
    gd (kd σ l0 = 22) <|
    gd (kd σ l0 = 22) <|
    c1 (f_X7_flaw l0 3 (ld σ l0 20) σ) fun v78 σ79 =>
    gd (0 ≤ v78 ∧ v78 ≤ 1) <|
    some (v78, σ79))
  else (
    gd (kd σ l0 = 22) <|
    gI (7 * (ld σ l0 34)) <|
    nm (7 * (ld σ l0 34)) fun u5 =>
    gd (kd σ l0 = 22) <|
    gI ((ld σ l0 34) + 1) <|
    gd (kd σ l0 = 22) <|
    nm (wr σ l0 34 ((ld σ l0 34) + 1)) fun σ10 =>
    if l1 = 0 then (
      gI (u5 + 1) <|
      gd (kd σ10 l0 = 22) <|
      c1 (f_X7_term n l0 (u5 + 1) σ10) fun v15 σ16 =>
      if v15 = 0 then (
        some (0, σ16))
      else (
        gd (kd σ16 l0 = 22) <|
        if 42 ≤ (ld σ16 l0 19) then (
          gd (kd σ16 l0 = 22) <|
          gd (kd σ16 l0 = 22) <|
          gd (kd σ16 (ld σ16 l0 33) = 100 ∧ (0 : Int) ≤ u5 ∧ u5 < ln σ16 (ld σ16 l0 33)) <|
          nm (wr σ16 (ld σ16 l0 33) u5 (ld σ16 l0 19)) fun σ24 =>
          gd (kd σ24 l0 = 22) <|
          c1 (f_X7_next n l0 σ24) fun v27 σ28 =>
          if v27 = 0 then (
            some (0, σ28))
          else (
            gI (u5 + 4) <|
            gd (kd σ28 l0 = 22) <|
            c1 (f_X7_term n l0 (u5 + 4) σ28) fun v33 σ34 =>
            if v33 = 0 then (
              some (0, σ34))
            else (
              some (1, σ34))))
        else (
          gd (kd σ16 l0 = 22) <|
          c1 (f_X7_cannot l0 σ16) fun v38 σ39 =>
          gd (0 ≤ v38 ∧ v38 ≤ 1) <|
          some (v38, σ39))))
    else (
      gd (kd σ10 l0 = 22) <|
      gd (kd σ10 l0 = 22) <|
      gd (kd σ10 (ld σ10 l0 33) = 100 ∧ (0 : Int) ≤ u5 ∧ u5 < ln σ10 (ld σ10 l0 33)) <|
      nm (wr σ10 (ld σ10 l0 33) u5 (ld σ10 l0 19)) fun σ45 =>
      gd (kd σ45 l0 = 22) <|
      c1 (f_X7_next n l0 σ45) fun v48 σ49 =>
      if v48 = 0 then (
        some (0, σ49))
      else (
        gd (kd σ49 l0 = 22) <|
        if (ld σ49 l0 19) = 1 then (
          gd (kd σ49 l0 = 22) <|
          c1 (f_X7_nameOrKey n l0 1 σ49) fun v55 σ56 =>
          if v55 = 0 then (
            some (0, σ56))
          else (
            gd (kd σ56 l0 = 22) <|
            gI (u5 + 2) <|
            gd (kd σ56 l0 = 22) <|
            gd (kd σ56 (ld σ56 l0 33) = 100 ∧ (0 : Int) ≤ (u5 + 2) ∧ (u5 + 2) < ln σ56 (ld σ56 l0 33)) <|
            nm (wr σ56 (ld σ56 l0 33) (u5 + 2) (ld σ56 l0 41)) fun σ63 =>
            gd (kd σ63 l0 = 22) <|
            gI (u5 + 3) <|
            gd (kd σ63 l0 = 22) <|
            gd (kd σ63 (ld σ63 l0 33) = 100 ∧ (0 : Int) ≤ (u5 + 3) ∧ (u5 + 3) < ln σ63 (ld σ63 l0 33)) <|
            nm (wr σ63 (ld σ63 l0 33) (u5 + 3) (ld σ63 l0 43)) fun σ69 =>
            some (1, σ69)))
        else (
          gd (kd σ49 l0 = 22) <|
          c1 (f_X7_cannot l0 σ49) fun v72 σ73 =>
          gd (0 ≤ v72 ∧ v72 ≤ 1) <|
          some (v72, σ73)))))
noncomputable def f_X7_condition_23 (n : Nat) (l0 s0 : Int) (σ : AS) : Option (Int × AS) :=
  if s0 = 0 then (
    gd (kd σ l0 = 22) <|
    if (ld σ l0 19) = 1 then (
      f_X7_condition_49 n l0 s0 σ)
    else (
      gd (kd σ l0 = 22) <|
      if (ld σ l0 19) = 2 then (
        f_X7_condition_49 n l0 s0 σ)
      else (
        gd (kd σ l0 = 22) <|
        c1 (f_X7_cannot l0 σ) fun v88 σ89 =>
        gd (0 ≤ v88 ∧ v88 ≤ 1) <|
        some (v88, σ89))))
  else (
    f_X7_condition_49 n l0 s0 σ)
noncomputable def f_X7_condition (n : Nat) (a0 : Int) (σ : AS) : Option (Int × AS) :=
  gd (kd σ a0 = 22) <|
  if (ld σ a0 19) = 12 then (
    f_X7_condition_18 n (f_X7_condition_23 n) a0 σ)
  else (
    gd (kd σ a0 = 22) <|
    if (ld σ a0 19) = 13 then (
      f_X7_condition_18 n (f_X7_condition_23 n) a0 σ)
    else (
      f_X7_condition_23 n a0 0 σ))
noncomputable def f_X7_conditionTexts_49 (n : Nat) (k15 : Int → Int → AS → Option (Int × AS)) (l0 s0 : Int) (σ : AS) : Option (Int × AS) :=
  k15 l0 s0 σ
noncomputable def f_X7_conditionTexts_15 (n : Nat) : Nat → Int → Int → AS → Option (Int × AS)
  | 0, _, _, _ => none
  | q + 1, l0, l1, σ =>
    if l1 = 0 then (
      some (1, σ))
    else (
      gd (kd σ l0 = 22) <|
      c1 (f_X7_next n l0 σ) fun v16 σ17 =>
      if v16 = 0 then (
        some (0, σ17))
      else (
        gd (kd σ17 l0 = 22) <|
        c1 (f_X7_condition n l0 σ17) fun v21 σ22 =>
        if v21 = 0 then (
          some (0, σ22))
        else (
          gd (kd σ22 l0 = 22) <|
          if (ld σ22 l0 19) = 11 then (
            f_X7_conditionTexts_49 n (f_X7_conditionTexts_15 n q) l0 1 σ22)
          else (
            f_X7_conditionTexts_49 n (f_X7_conditionTexts_15 n q) l0 0 σ22))))
noncomputable def f_X7_conditionTexts_14 (n : Nat) (l0 s0 : Int) (σ : AS) : Option (Int × AS) :=
  f_X7_conditionTexts_15 n n l0 s0 σ
noncomputable def f_X7_conditionTexts (n : Nat) (a0 : Int) (σ : AS) : Option (Int × AS) :=
  gd (kd σ a0 = 22) <|
  if (ld σ a0 19) = 10 then (
    f_X7_conditionTexts_14 n a0 1 σ)
  else (
    f_X7_conditionTexts_14 n a0 0 σ)
noncomputable def f_X7_item_103 (n : Nat) (l0 l1 l3 s0 s1 s2 : Int) (σ : AS) : Option (Int × AS) :=
  gd (kd σ s0 = 100 ∧ (0 : Int) ≤ s1 ∧ s1 < ln σ s0) <|
  nm (wr σ s0 s1 s2) fun σ2 =>
  gI (l3 + 1) <|
  gd (kd σ2 l0 = 22) <|
  gd (kd σ2 l1 = 100 ∧ (0 : Int) ≤ (l3 + 1) ∧ (l3 + 1) < ln σ2 l1) <|
  nm (wr σ2 l1 (l3 + 1) (ld σ2 l0 41)) fun σ7 =>
  gI (l3 + 2) <|
  gd (kd σ7 l0 = 22) <|
  gd (kd σ7 l1 = 100 ∧ (0 : Int) ≤ (l3 + 2) ∧ (l3 + 2) < ln σ7 l1) <|
  nm (wr σ7 l1 (l3 + 2) (ld σ7 l0 43)) fun σ12 =>
  some (1, σ12)
noncomputable def f_X7_item_22 (n : Nat) (l0 l1 l2 : Int) (σ : AS) : Option (Int × AS) :=
  if l2 = 8 then (
    gd (kd σ l0 = 22) <|
    gd (kd σ l0 = 22) <|
    c1 (f_X7_flaw l0 3 (ld σ l0 20) σ) fun v49 σ50 =>
    gd (0 ≤ v49 ∧ v49 ≤ 1) <|
    some (v49, σ50))
  else (
    gI (4 * l2) <|
    nm (4 * l2) fun u16 =>
    gd (kd σ l1 = 100 ∧ (0 : Int) ≤ u16 ∧ u16 < ln σ l1) <|
    nm (wr σ l1 u16 0) fun σ19 =>
    gI (u16 + 1) <|
    gd (kd σ19 l1 = 100 ∧ (0 : Int) ≤ (u16 + 1) ∧ (u16 + 1) < ln σ19 l1) <|
    nm (wr σ19 l1 (u16 + 1) (-1)) fun σ23 =>
    gI (u16 + 2) <|
    gd (kd σ23 l1 = 100 ∧ (0 : Int) ≤ (u16 + 2) ∧ (u16 + 2) < ln σ23 l1) <|
    nm (wr σ23 l1 (u16 + 2) (-1)) fun σ27 =>
    gI (u16 + 3) <|
    gd (kd σ27 l1 = 100 ∧ (0 : Int) ≤ (u16 + 3) ∧ (u16 + 3) < ln σ27 l1) <|
    nm (wr σ27 l1 (u16 + 3) 0) fun σ31 =>
    gd (kd σ31 l0 = 22) <|
    if (ld σ31 l0 19) = 15 then (
      gd (kd σ31 l0 = 22) <|
      c1 (f_X7_next n l0 σ31) fun v43 σ44 =>
      gd (0 ≤ v43 ∧ v43 ≤ 1) <|
      some (v43, σ44))
    else (
      gd (kd σ31 l0 = 22) <|
      c1 (f_X7_nameOrKey n l0 0 σ31) fun v36 σ37 =>
      if v36 = 0 then (
        some (0, σ37))
      else (
        gd (kd σ37 l0 = 22) <|
        if (ld σ37 l0 43) = (-1) then (
          f_X7_item_103 n l0 l1 u16 l1 u16 1 σ37)
        else (
          f_X7_item_103 n l0 l1 u16 l1 u16 2 σ37))))
noncomputable def f_X7_item (n : Nat) (a0 a1 a2 : Int) (σ : AS) : Option (Int × AS) :=
  gd (kd σ a0 = 22) <|
  if (ld σ a0 19) = 15 then (
    f_X7_item_22 n a0 a1 a2 σ)
  else (
    gd (kd σ a0 = 22) <|
    if (ld σ a0 19) = 1 then (
      f_X7_item_22 n a0 a1 a2 σ)
    else (
      gd (kd σ a0 = 22) <|
      c1 (f_X7_cannot a0 σ) fun v58 σ59 =>
      gd (0 ≤ v58 ∧ v58 ≤ 1) <|
      some (v58, σ59)))
noncomputable def f_X7_itemTexts_92 (n : Nat) (k47 : Int → Int → AS → Option (Int × AS)) (l0 s0 : Int) (σ : AS) : Option (Int × AS) :=
  if s0 = 0 then (
    k47 l0 s0 σ)
  else (
    gd (kd σ l0 = 22) <|
    c1 (f_X7_next n l0 σ) fun v3 σ4 =>
    if v3 = 0 then (
      some (0, σ4))
    else (
      k47 l0 s0 σ4))
noncomputable def f_X7_itemTexts_47 (n : Nat) : Nat → Int → Int → AS → Option (Int × AS)
  | 0, _, _, _ => none
  | q + 1, l0, l1, σ =>
    if l1 = 0 then (
      some (1, σ))
    else (
      gd (kd σ l0 = 22) <|
      gd (kd σ l0 = 22) <|
      gd (kd σ l0 = 22) <|
      c1 (f_X7_item n l0 (ld σ l0 35) (ld σ l0 36) σ) fun v26 σ27 =>
      if v26 = 0 then (
        some (0, σ27))
      else (
        gd (kd σ27 l0 = 22) <|
        gI ((ld σ27 l0 36) + 1) <|
        gd (kd σ27 l0 = 22) <|
        nm (wr σ27 l0 36 ((ld σ27 l0 36) + 1)) fun σ33 =>
        gd (kd σ33 l0 = 22) <|
        if (ld σ33 l0 19) = 34 then (
          f_X7_itemTexts_92 n (f_X7_itemTexts_47 n q) l0 1 σ33)
        else (
          f_X7_itemTexts_92 n (f_X7_itemTexts_47 n q) l0 0 σ33)))
noncomputable def f_X7_itemTexts_45 (n : Nat) (l0 : Int) (σ : AS) : Option (Int × AS) :=
  f_X7_itemTexts_47 n n l0 1 σ
noncomputable def f_X7_itemTexts_26 (n : Nat) (l0 s0 s1 : Int) (σ : AS) : Option (Int × AS) :=
  gd (kd σ s0 = 22) <|
  gd (0 ≤ s1 ∧ s1 ≤ 1) <|
  nm (wr σ s0 39 s1) fun σ39 =>
  gd (kd σ39 l0 = 22) <|
  if (ld σ39 l0 39) = 0 then (
    f_X7_itemTexts_45 n l0 σ39)
  else (
    gd (kd σ39 l0 = 22) <|
    c1 (f_X7_next n l0 σ39) fun v44 σ45 =>
    if v44 = 0 then (
      some (0, σ45))
    else (
      f_X7_itemTexts_45 n l0 σ45))
noncomputable def f_X7_itemTexts (n : Nat) (a0 : Int) (σ : AS) : Option (Int × AS) :=
  gd (kd σ a0 = 22) <|
  c1 (f_X7_take n a0 14 σ) fun v49 σ50 =>
  if v49 = 0 then (
    some (0, σ50))
  else (
    gd (kd σ50 a0 = 22) <|
    if (ld σ50 a0 19) = 20 then (
      f_X7_itemTexts_26 n a0 a0 1 σ50)
    else (
      f_X7_itemTexts_26 n a0 a0 0 σ50))
noncomputable def f_X7_hasCount_27 (n : Nat) (k32 : Int → Int → Int → AS → Option (Int × AS)) (l0 l2 : Int) (σ : AS) : Option (Int × AS) :=
  k32 l0 l2 1 σ
noncomputable def f_X7_hasCount_32 (n : Nat) (k4 : Int → Int → Int → AS → Option (Int × AS)) (l0 l2 s0 : Int) (σ : AS) : Option (Int × AS) :=
  gI (l2 + 1) <|
  nm (l2 + 1) fun u2 =>
  k4 l0 s0 u2 σ
noncomputable def f_X7_hasCount_4 (n : Nat) : Nat → Int → Int → Int → AS → Option (Int × AS)
  | 0, _, _, _, _ => none
  | q + 1, l0, l1, l2, σ =>
    gd (kd σ l0 = 22) <|
    if (ld σ l0 36) ≤ l2 then (
      gd (0 ≤ l1 ∧ l1 ≤ 1) <|
      some (l1, σ))
    else (
      if l1 = 0 then (
        gd (kd σ l0 = 22) <|
        gI (4 * l2) <|
        gd (kd σ (ld σ l0 35) = 100 ∧ (0 : Int) ≤ (4 * l2) ∧ (4 * l2) < ln σ (ld σ l0 35)) <|
        if (ld σ (ld σ l0 35) (4 * l2)) = 0 then (
          f_X7_hasCount_27 n (f_X7_hasCount_32 n (f_X7_hasCount_4 n q)) l0 l2 σ)
        else (
          f_X7_hasCount_32 n (f_X7_hasCount_4 n q) l0 l2 0 σ))
      else (
        f_X7_hasCount_27 n (f_X7_hasCount_32 n (f_X7_hasCount_4 n q)) l0 l2 σ))
noncomputable def f_X7_hasCount (n : Nat) (a0 : Int) (σ : AS) : Option (Int × AS) :=
  f_X7_hasCount_4 n n a0 0 0 σ
noncomputable def f_X7_orderTexts_126 (n : Nat) (k2 : Int → Int → AS → Option (Int × AS)) (l0 l1 : Int) (σ : AS) : Option (Int × AS) :=
  k2 l0 l1 σ
noncomputable def f_X7_orderTexts_112 (n : Nat) (k2 : Int → Int → AS → Option (Int × AS)) (l0 s0 : Int) (σ : AS) : Option (Int × AS) :=
  if s0 = 0 then (
    f_X7_orderTexts_126 n k2 l0 s0 σ)
  else (
    gd (kd σ l0 = 22) <|
    c1 (f_X7_next n l0 σ) fun v3 σ4 =>
    if v3 = 0 then (
      some (0, σ4))
    else (
      f_X7_orderTexts_126 n k2 l0 s0 σ4))
noncomputable def f_X7_orderTexts_88 (n : Nat) (k2 : Int → Int → AS → Option (Int × AS)) (l0 : Int) (σ : AS) : Option (Int × AS) :=
  gd (kd σ l0 = 22) <|
  gI ((ld σ l0 38) + 1) <|
  gd (kd σ l0 = 22) <|
  nm (wr σ l0 38 ((ld σ l0 38) + 1)) fun σ10 =>
  gd (kd σ10 l0 = 22) <|
  if (ld σ10 l0 19) = 34 then (
    f_X7_orderTexts_112 n k2 l0 1 σ10)
  else (
    f_X7_orderTexts_112 n k2 l0 0 σ10)
noncomputable def f_X7_orderTexts_56 (n : Nat) (k2 : Int → Int → AS → Option (Int × AS)) (l0 : Int) (σ : AS) : Option (Int × AS) :=
  gd (kd σ l0 = 22) <|
  if (ld σ l0 19) = 18 then (
    gd (kd σ l0 = 22) <|
    gd (kd σ l0 = 22) <|
    gI (4 * (ld σ l0 38)) <|
    gI ((4 * (ld σ l0 38)) + 3) <|
    gd (kd σ (ld σ l0 37) = 100 ∧ (0 : Int) ≤ ((4 * (ld σ l0 38)) + 3) ∧ ((4 * (ld σ l0 38)) + 3) < ln σ (ld σ l0 37)) <|
    nm (wr σ (ld σ l0 37) ((4 * (ld σ l0 38)) + 3) 1) fun σ21 =>
    gd (kd σ21 l0 = 22) <|
    c1 (f_X7_next n l0 σ21) fun v24 σ25 =>
    if v24 = 0 then (
      some (0, σ25))
    else (
      f_X7_orderTexts_88 n k2 l0 σ25))
  else (
    f_X7_orderTexts_88 n k2 l0 σ)
noncomputable def f_X7_orderTexts_2 (n : Nat) : Nat → Int → Int → AS → Option (Int × AS)
  | 0, _, _, _ => none
  | q + 1, l0, l1, σ =>
    if l1 = 0 then (
      some (1, σ))
    else (
      gd (kd σ l0 = 22) <|
      nm (ld σ l0 20) fun u55 =>
      gd (kd σ l0 = 22) <|
      gd (kd σ l0 = 22) <|
      gd (kd σ l0 = 22) <|
      c1 (f_X7_item n l0 (ld σ l0 37) (ld σ l0 38) σ) fun v60 σ61 =>
      if v60 = 0 then (
        some (0, σ61))
      else (
        gd (kd σ61 l0 = 22) <|
        gd (kd σ61 l0 = 22) <|
        gI (4 * (ld σ61 l0 38)) <|
        gd (kd σ61 (ld σ61 l0 37) = 100 ∧ (0 : Int) ≤ (4 * (ld σ61 l0 38)) ∧ (4 * (ld σ61 l0 38)) < ln σ61 (ld σ61 l0 37)) <|
        if (ld σ61 (ld σ61 l0 37) (4 * (ld σ61 l0 38))) = 0 then (
          gd (kd σ61 l0 = 22) <|
          c1 (f_X7_hasCount n l0 σ61) fun v70 σ71 =>
          if v70 = 0 then (
            gd (kd σ71 l0 = 22) <|
            c0 (f_X7_wrong l0 6 u55 σ71) fun σ76 =>
            f_X7_orderTexts_56 n (f_X7_orderTexts_2 n q) l0 σ76)
          else (
            f_X7_orderTexts_56 n (f_X7_orderTexts_2 n q) l0 σ71))
        else (
          f_X7_orderTexts_56 n (f_X7_orderTexts_2 n q) l0 σ61)))
noncomputable def f_X7_orderTexts (n : Nat) (a0 : Int) (σ : AS) : Option (Int × AS) :=
  f_X7_orderTexts_2 n n a0 1 σ
noncomputable def f_X7_question_166 (n : Nat) (l0 : Int) (σ : AS) : Option (Int × AS) :=
  gd (kd σ l0 = 22) <|
  if (ld σ l0 19) = 0 then (
    gd (kd σ l0 = 22) <|
    if (ld σ l0 28) = 100000 then (
      some (1, σ))
    else (
      gd (kd σ l0 = 22) <|
      gd (kd σ l0 = 22) <|
      gd (kd σ l0 = 22) <|
      c1 (f_X7_flaw l0 (ld σ l0 27) (ld σ l0 28) σ) fun v8 σ9 =>
      if v8 = 0 then (
        some (0, σ9))
      else (
        some (1, σ9))))
  else (
    gd (kd σ l0 = 22) <|
    c1 (f_X7_cannot l0 σ) fun v13 σ14 =>
    gd (0 ≤ v13 ∧ v13 ≤ 1) <|
    some (v13, σ14))
noncomputable def f_X7_question_128 (n : Nat) (l0 : Int) (σ : AS) : Option (Int × AS) :=
  gd (kd σ l0 = 22) <|
  if (ld σ l0 19) = 19 then (
    gd (kd σ l0 = 22) <|
    c1 (f_X7_next n l0 σ) fun v20 σ21 =>
    if v20 = 0 then (
      some (0, σ21))
    else (
      gd (kd σ21 l0 = 22) <|
      c1 (f_X7_isFigure n l0 0 2147483647 σ21) fun v25 σ26 =>
      if v25 = 0 then (
        some (0, σ26))
      else (
        gd (kd σ26 l0 = 22) <|
        gd (kd σ26 l0 = 22) <|
        nm (wr σ26 l0 40 (ld σ26 l0 42)) fun σ31 =>
        f_X7_question_166 n l0 σ31)))
  else (
    f_X7_question_166 n l0 σ)
noncomputable def f_X7_question (n : Nat) (a0 : Int) (σ : AS) : Option (Int × AS) :=
  gd (kd σ a0 = 22) <|
  nm (wr σ a0 26 0) fun σ34 =>
  gd (kd σ34 a0 = 22) <|
  nm (wr σ34 a0 29 0) fun σ37 =>
  gd (kd σ37 a0 = 22) <|
  nm (wr σ37 a0 30 0) fun σ40 =>
  gd (kd σ40 a0 = 22) <|
  nm (wr σ40 a0 32 0) fun σ43 =>
  gd (kd σ43 a0 = 22) <|
  nm (wr σ43 a0 34 0) fun σ46 =>
  gd (kd σ46 a0 = 22) <|
  nm (wr σ46 a0 36 0) fun σ49 =>
  gd (kd σ49 a0 = 22) <|
  nm (wr σ49 a0 38 0) fun σ52 =>
  gd (kd σ52 a0 = 22) <|
  nm (wr σ52 a0 40 100000) fun σ55 =>
  gd (kd σ55 a0 = 22) <|
  nm (wr σ55 a0 28 100000) fun σ58 =>
  gd (kd σ58 a0 = 22) <|
  nm (wr σ58 a0 17 0) fun σ61 =>
  gd (kd σ61 a0 = 22) <|
  nm (wr σ61 a0 18 0) fun σ64 =>
  gd (kd σ64 a0 = 22) <|
  nm (wr σ64 a0 21 0) fun σ67 =>
  gd (kd σ67 a0 = 22) <|
  c1 (f_X7_next n a0 σ67) fun v70 σ71 =>
  if v70 = 0 then (
    some (0, σ71))
  else (
    gd (kd σ71 a0 = 22) <|
    c1 (f_X7_patternTexts n a0 σ71) fun v75 σ76 =>
    if v75 = 0 then (
      some (0, σ76))
    else (
      gd (kd σ76 a0 = 22) <|
      c1 (f_X7_conditionTexts n a0 σ76) fun v80 σ81 =>
      if v80 = 0 then (
        some (0, σ81))
      else (
        gd (kd σ81 a0 = 22) <|
        c1 (f_X7_itemTexts n a0 σ81) fun v85 σ86 =>
        if v85 = 0 then (
          some (0, σ86))
        else (
          gd (kd σ86 a0 = 22) <|
          if (ld σ86 a0 19) = 16 then (
            gd (kd σ86 a0 = 22) <|
            c1 (f_X7_next n a0 σ86) fun v92 σ93 =>
            if v92 = 0 then (
              some (0, σ93))
            else (
              gd (kd σ93 a0 = 22) <|
              c1 (f_X7_take n a0 17 σ93) fun v97 σ98 =>
              if v97 = 0 then (
                some (0, σ98))
              else (
                gd (kd σ98 a0 = 22) <|
                c1 (f_X7_orderTexts n a0 σ98) fun v102 σ103 =>
                if v102 = 0 then (
                  some (0, σ103))
                else (
                  f_X7_question_128 n a0 σ103))))
          else (
            f_X7_question_128 n a0 σ86)))))
noncomputable def f_X7_forget_33 (n : Nat) (k2 : Int → Int → Int → AS → Option AS) (l0 l1 l2 s0 s1 s2 : Int) (σ : AS) : Option AS :=
  gd (kd σ s0 = 100 ∧ (0 : Int) ≤ s1 ∧ s1 < ln σ s0) <|
  nm (wr σ s0 s1 s2) fun σ2 =>
  gI (l2 + 1) <|
  nm (l2 + 1) fun u5 =>
  k2 l0 l1 u5 σ2
noncomputable def f_X7_forget_2 (n : Nat) : Nat → Int → Int → Int → AS → Option AS
  | 0, _, _, _, _ => none
  | q + 1, l0, l1, l2, σ =>
    if 8 ≤ l2 then (
      some σ)
    else (
      gd (kd σ l0 = 22) <|
      gd (kd σ l0 = 22) <|
      gd (kd σ (ld σ l0 49) = 100 ∧ (0 : Int) ≤ l2 ∧ l2 < ln σ (ld σ l0 49)) <|
      if (ld σ (ld σ l0 49) l2) < l1 then (
        gd (kd σ l0 = 22) <|
        gd (kd σ (ld σ l0 49) = 100 ∧ (0 : Int) ≤ l2 ∧ l2 < ln σ (ld σ l0 49)) <|
        f_X7_forget_33 n (f_X7_forget_2 n q) l0 l1 l2 (ld σ l0 49) l2 (ld σ (ld σ l0 49) l2) σ)
      else (
        f_X7_forget_33 n (f_X7_forget_2 n q) l0 l1 l2 (ld σ l0 49) l2 (-1) σ))
noncomputable def f_X7_forget (n : Nat) (a0 a1 : Int) (σ : AS) : Option AS :=
  f_X7_forget_2 n n a0 a1 0 σ
noncomputable def f_X7_isTerm_75 (n : Nat) (l4 s0 s1 : Int) (σ : AS) : Option (Int × AS) :=
  gd (kd σ s0 = 22) <|
  nm (wr σ s0 55 s1) fun σ2 =>
  if l4 = (-1) then (
    some (0, σ2))
  else (
    some (1, σ2))
noncomputable def f_X7_isTerm_41 (n : Nat) (l0 l2 l3 s0 s1 : Int) (σ : AS) : Option (Int × AS) :=
  gd (kd σ l0 = 22) <|
  gd (kd σ (ld σ l0 48) = 100 ∧ (0 : Int) ≤ l2 ∧ l2 < ln σ (ld σ l0 48)) <|
  gd (kd σ s0 = 22) <|
  c1 (f_X7_property n s0 s1 (ld σ (ld σ l0 48) l2) l3 σ) fun v8 σ9 =>
  if v8 = (-1) then (
    f_X7_isTerm_75 n v8 l0 0 σ9)
  else (
    gd (kd σ9 l0 = 22) <|
    gI (4 * v8) <|
    gI ((4 * v8) + 3) <|
    gd (kd σ9 (ld σ9 l0 5) = 100 ∧ (0 : Int) ≤ ((4 * v8) + 3) ∧ ((4 * v8) + 3) < ln σ9 (ld σ9 l0 5)) <|
    f_X7_isTerm_75 n v8 l0 (ld σ9 (ld σ9 l0 5) ((4 * v8) + 3)) σ9)
noncomputable def f_X7_isTerm (n : Nat) (a0 a1 a2 a3 : Int) (σ : AS) : Option (Int × AS) :=
  if 2 ≤ a1 then (
    gd (kd σ a0 = 22) <|
    gd (kd σ (ld σ a0 25) = 100 ∧ (0 : Int) ≤ a2 ∧ a2 < ln σ (ld σ a0 25)) <|
    if (ld σ (ld σ a0 25) a2) = 2 then (
      f_X7_isTerm_41 n a0 a2 a3 a0 1 σ)
    else (
      f_X7_isTerm_41 n a0 a2 a3 a0 0 σ))
  else (
    if a1 = 0 then (
      gd (kd σ a0 = 22) <|
      nm (wr σ a0 55 a2) fun σ27 =>
      some (1, σ27))
    else (
      gd (kd σ a0 = 22) <|
      gd (kd σ (ld σ a0 48) = 100 ∧ (0 : Int) ≤ a2 ∧ a2 < ln σ (ld σ a0 48)) <|
      gd (kd σ a0 = 22) <|
      nm (wr σ a0 55 (ld σ (ld σ a0 48) a2)) fun σ24 =>
      some (1, σ24)))
noncomputable def f_X7_holds_50 (n : Nat) (s0 s1 : Int) (σ : AS) : Option (Int × AS) :=
  if s0 = s1 then (
    some (1, σ))
  else (
    some (0, σ))
noncomputable def f_X7_holds (n : Nat) (a0 a1 : Int) (σ : AS) : Option (Int × AS) :=
  gI (7 * a1) <|
  nm (7 * a1) fun u3 =>
  gd (kd σ a0 = 22) <|
  gd (kd σ (ld σ a0 33) = 100 ∧ (0 : Int) ≤ u3 ∧ u3 < ln σ (ld σ a0 33)) <|
  nm (ld σ (ld σ a0 33) u3) fun u7 =>
  if 40 ≤ u7 then (
    gd (kd σ a0 = 22) <|
    gI (u3 + 1) <|
    gd (kd σ (ld σ a0 33) = 100 ∧ (0 : Int) ≤ (u3 + 1) ∧ (u3 + 1) < ln σ (ld σ a0 33)) <|
    gd (kd σ a0 = 22) <|
    gI (u3 + 2) <|
    gd (kd σ (ld σ a0 33) = 100 ∧ (0 : Int) ≤ (u3 + 2) ∧ (u3 + 2) < ln σ (ld σ a0 33)) <|
    gd (kd σ a0 = 22) <|
    gI (u3 + 3) <|
    gd (kd σ (ld σ a0 33) = 100 ∧ (0 : Int) ≤ (u3 + 3) ∧ (u3 + 3) < ln σ (ld σ a0 33)) <|
    gd (kd σ a0 = 22) <|
    c1 (f_X7_isTerm n a0 (ld σ (ld σ a0 33) (u3 + 1)) (ld σ (ld σ a0 33) (u3 + 2)) (ld σ (ld σ a0 33) (u3 + 3)) σ) fun v20 σ21 =>
    if v20 = 0 then (
      some (0, σ21))
    else (
      gd (kd σ21 a0 = 22) <|
      nm (ld σ21 a0 55) fun u25 =>
      gd (kd σ21 a0 = 22) <|
      gI (u3 + 4) <|
      gd (kd σ21 (ld σ21 a0 33) = 100 ∧ (0 : Int) ≤ (u3 + 4) ∧ (u3 + 4) < ln σ21 (ld σ21 a0 33)) <|
      gd (kd σ21 a0 = 22) <|
      gI (u3 + 5) <|
      gd (kd σ21 (ld σ21 a0 33) = 100 ∧ (0 : Int) ≤ (u3 + 5) ∧ (u3 + 5) < ln σ21 (ld σ21 a0 33)) <|
      gd (kd σ21 a0 = 22) <|
      gI (u3 + 6) <|
      gd (kd σ21 (ld σ21 a0 33) = 100 ∧ (0 : Int) ≤ (u3 + 6) ∧ (u3 + 6) < ln σ21 (ld σ21 a0 33)) <|
      gd (kd σ21 a0 = 22) <|
      c1 (f_X7_isTerm n a0 (ld σ21 (ld σ21 a0 33) (u3 + 4)) (ld σ21 (ld σ21 a0 33) (u3 + 5)) (ld σ21 (ld σ21 a0 33) (u3 + 6)) σ21) fun v37 σ38 =>
      if v37 = 0 then (
        some (0, σ38))
      else (
        gd (kd σ38 a0 = 22) <|
        nm (ld σ38 a0 55) fun u42 =>
        if u7 = 42 then (
          if u25 = u42 then (
            some (1, σ38))
          else (
            some (0, σ38)))
        else (
          if u7 = 43 then (
            if u25 = u42 then (
              some (0, σ38))
            else (
              some (1, σ38)))
          else (
            if u7 = 44 then (
              if u42 ≤ u25 then (
                some (0, σ38))
              else (
                some (1, σ38)))
            else (
              if u7 = 45 then (
                if u42 < u25 then (
                  some (0, σ38))
                else (
                  some (1, σ38)))
              else (
                if u7 = 46 then (
                  if u25 ≤ u42 then (
                    some (0, σ38))
                  else (
                    some (1, σ38)))
                else (
                  if u25 < u42 then (
                    some (0, σ38))
                  else (
                    some (1, σ38))))))))))
  else (
    gd (kd σ a0 = 22) <|
    gI (u3 + 2) <|
    gd (kd σ (ld σ a0 33) = 100 ∧ (0 : Int) ≤ (u3 + 2) ∧ (u3 + 2) < ln σ (ld σ a0 33)) <|
    gd (kd σ a0 = 22) <|
    gI (u3 + 3) <|
    gd (kd σ (ld σ a0 33) = 100 ∧ (0 : Int) ≤ (u3 + 3) ∧ (u3 + 3) < ln σ (ld σ a0 33)) <|
    gd (kd σ a0 = 22) <|
    c1 (f_X7_isTerm n a0 2 (ld σ (ld σ a0 33) (u3 + 2)) (ld σ (ld σ a0 33) (u3 + 3)) σ) fun v62 σ63 =>
    if u7 = 12 then (
      f_X7_holds_50 n v62 1 σ63)
    else (
      f_X7_holds_50 n v62 0 σ63))
noncomputable def f_X7_match_96 (n : Nat) (k101 : Int → Int → Int → Int → Int → Int → AS → Option AS) (l0 l1 l2 s0 s1 : Int) (σ : AS) : Option AS :=
  k101 l0 l1 l2 s0 s1 1 σ
noncomputable def f_X7_match_143 (n : Nat) (k35 : Int → Int → Int → AS → Option AS) (l0 l1 l2 s0 s1 s2 : Int) (σ : AS) : Option AS :=
  gd (kd σ s0 = 100 ∧ (0 : Int) ≤ s1 ∧ s1 < ln σ s0) <|
  nm (wr σ s0 s1 s2) fun σ2 =>
  gI (l2 + 1) <|
  nm (l2 + 1) fun u5 =>
  k35 l0 l1 u5 σ2
noncomputable def f_X7_match_101 (n : Nat) (k35 : Int → Int → Int → AS → Option AS) (l0 l1 l2 s0 s1 s2 : Int) (σ : AS) : Option AS :=
  gd (kd σ s0 = 103 ∧ (0 : Int) ≤ s1 ∧ s1 < ln σ s0) <|
  gd (0 ≤ s2 ∧ s2 ≤ 1) <|
  nm (wr σ s0 s1 s2) fun σ9 =>
  gd (kd σ9 l0 = 22) <|
  gI (l1 + l2) <|
  gd (kd σ9 l0 = 22) <|
  gI (4 * l2) <|
  gd (kd σ9 (ld σ9 l0 35) = 100 ∧ (0 : Int) ≤ (4 * l2) ∧ (4 * l2) < ln σ9 (ld σ9 l0 35)) <|
  if (ld σ9 (ld σ9 l0 35) (4 * l2)) = 0 then (
    f_X7_match_143 n k35 l0 l1 l2 (ld σ9 l0 50) (l1 + l2) 0 σ9)
  else (
    gd (kd σ9 l0 = 22) <|
    gI (l1 + l2) <|
    gd (kd σ9 (ld σ9 l0 51) = 103 ∧ (0 : Int) ≤ (l1 + l2) ∧ (l1 + l2) < ln σ9 (ld σ9 l0 51)) <|
    if (ld σ9 (ld σ9 l0 51) (l1 + l2)) = 0 then (
      f_X7_match_143 n k35 l0 l1 l2 (ld σ9 l0 50) (l1 + l2) 0 σ9)
    else (
      gd (kd σ9 l0 = 22) <|
      f_X7_match_143 n k35 l0 l1 l2 (ld σ9 l0 50) (l1 + l2) (ld σ9 l0 55) σ9))
noncomputable def f_X7_match_216 (n : Nat) (k221 : Int → Int → Int → Int → Int → Int → AS → Option AS) (l0 l1 l2 s0 s1 : Int) (σ : AS) : Option AS :=
  k221 l0 l1 l2 s0 s1 1 σ
noncomputable def f_X7_match_269 (n : Nat) (k152 : Int → Int → Int → AS → Option AS) (l0 l1 l2 s0 s1 s2 : Int) (σ : AS) : Option AS :=
  gd (kd σ s0 = 100 ∧ (0 : Int) ≤ s1 ∧ s1 < ln σ s0) <|
  nm (wr σ s0 s1 s2) fun σ23 =>
  gI (l2 + 1) <|
  nm (l2 + 1) fun u26 =>
  k152 l0 l1 u26 σ23
noncomputable def f_X7_match_221 (n : Nat) (k152 : Int → Int → Int → AS → Option AS) (l0 l1 l2 s0 s1 s2 : Int) (σ : AS) : Option AS :=
  gd (kd σ s0 = 103 ∧ (0 : Int) ≤ s1 ∧ s1 < ln σ s0) <|
  gd (0 ≤ s2 ∧ s2 ≤ 1) <|
  nm (wr σ s0 s1 s2) fun σ30 =>
  gd (kd σ30 l0 = 22) <|
  gI (l1 + 8) <|
  gI ((l1 + 8) + l2) <|
  gd (kd σ30 l0 = 22) <|
  gI (4 * l2) <|
  gd (kd σ30 (ld σ30 l0 37) = 100 ∧ (0 : Int) ≤ (4 * l2) ∧ (4 * l2) < ln σ30 (ld σ30 l0 37)) <|
  if (ld σ30 (ld σ30 l0 37) (4 * l2)) = 0 then (
    f_X7_match_269 n k152 l0 l1 l2 (ld σ30 l0 50) ((l1 + 8) + l2) 0 σ30)
  else (
    gd (kd σ30 l0 = 22) <|
    gI (l1 + 8) <|
    gI ((l1 + 8) + l2) <|
    gd (kd σ30 (ld σ30 l0 51) = 103 ∧ (0 : Int) ≤ ((l1 + 8) + l2) ∧ ((l1 + 8) + l2) < ln σ30 (ld σ30 l0 51)) <|
    if (ld σ30 (ld σ30 l0 51) ((l1 + 8) + l2)) = 0 then (
      f_X7_match_269 n k152 l0 l1 l2 (ld σ30 l0 50) ((l1 + 8) + l2) 0 σ30)
    else (
      gd (kd σ30 l0 = 22) <|
      f_X7_match_269 n k152 l0 l1 l2 (ld σ30 l0 50) ((l1 + 8) + l2) (ld σ30 l0 55) σ30))
noncomputable def f_X7_match_152 (n : Nat) : Nat → Int → Int → Int → AS → Option AS
  | 0, _, _, _, _ => none
  | q + 1, l0, l1, l2, σ =>
    gd (kd σ l0 = 22) <|
    if (ld σ l0 38) ≤ l2 then (
      gd (kd σ l0 = 22) <|
      gd (kd σ l0 = 22) <|
      gd (kd σ (ld σ l0 52) = 100 ∧ (0 : Int) ≤ (ld σ l0 53) ∧ (ld σ l0 53) < ln σ (ld σ l0 52)) <|
      nm (wr σ (ld σ l0 52) (ld σ l0 53) 1) fun σ85 =>
      gd (kd σ85 l0 = 22) <|
      gI ((ld σ85 l0 53) + 1) <|
      gd (kd σ85 l0 = 22) <|
      nm (wr σ85 l0 53 ((ld σ85 l0 53) + 1)) fun σ90 =>
      some σ90)
    else (
      gd (kd σ l0 = 22) <|
      gI (l1 + 8) <|
      gI ((l1 + 8) + l2) <|
      gd (kd σ l0 = 22) <|
      gI (4 * l2) <|
      gd (kd σ (ld σ l0 37) = 100 ∧ (0 : Int) ≤ (4 * l2) ∧ (4 * l2) < ln σ (ld σ l0 37)) <|
      if (ld σ (ld σ l0 37) (4 * l2)) = 0 then (
        f_X7_match_216 n (f_X7_match_221 n (f_X7_match_152 n q)) l0 l1 l2 (ld σ l0 51) ((l1 + 8) + l2) σ)
      else (
        gd (kd σ l0 = 22) <|
        gI (4 * l2) <|
        gd (kd σ (ld σ l0 37) = 100 ∧ (0 : Int) ≤ (4 * l2) ∧ (4 * l2) < ln σ (ld σ l0 37)) <|
        gd (kd σ l0 = 22) <|
        gI (4 * l2) <|
        gI ((4 * l2) + 1) <|
        gd (kd σ (ld σ l0 37) = 100 ∧ (0 : Int) ≤ ((4 * l2) + 1) ∧ ((4 * l2) + 1) < ln σ (ld σ l0 37)) <|
        gd (kd σ l0 = 22) <|
        gI (4 * l2) <|
        gI ((4 * l2) + 2) <|
        gd (kd σ (ld σ l0 37) = 100 ∧ (0 : Int) ≤ ((4 * l2) + 2) ∧ ((4 * l2) + 2) < ln σ (ld σ l0 37)) <|
        gd (kd σ l0 = 22) <|
        c1 (f_X7_isTerm n l0 (ld σ (ld σ l0 37) (4 * l2)) (ld σ (ld σ l0 37) ((4 * l2) + 1)) (ld σ (ld σ l0 37) ((4 * l2) + 2)) σ) fun v111 σ112 =>
        if v111 = 0 then (
          f_X7_match_221 n (f_X7_match_152 n q) l0 l1 l2 (ld σ l0 51) ((l1 + 8) + l2) 0 σ112)
        else (
          f_X7_match_216 n (f_X7_match_221 n (f_X7_match_152 n q)) l0 l1 l2 (ld σ l0 51) ((l1 + 8) + l2) σ112)))
noncomputable def f_X7_match_35 (n : Nat) : Nat → Int → Int → Int → AS → Option AS
  | 0, _, _, _, _ => none
  | q + 1, l0, l1, l2, σ =>
    gd (kd σ l0 = 22) <|
    if (ld σ l0 36) ≤ l2 then (
      f_X7_match_152 n n l0 l1 0 σ)
    else (
      gd (kd σ l0 = 22) <|
      gI (l1 + l2) <|
      gd (kd σ l0 = 22) <|
      gI (4 * l2) <|
      gd (kd σ (ld σ l0 35) = 100 ∧ (0 : Int) ≤ (4 * l2) ∧ (4 * l2) < ln σ (ld σ l0 35)) <|
      if (ld σ (ld σ l0 35) (4 * l2)) = 0 then (
        f_X7_match_96 n (f_X7_match_101 n (f_X7_match_35 n q)) l0 l1 l2 (ld σ l0 51) (l1 + l2) σ)
      else (
        gd (kd σ l0 = 22) <|
        gI (4 * l2) <|
        gd (kd σ (ld σ l0 35) = 100 ∧ (0 : Int) ≤ (4 * l2) ∧ (4 * l2) < ln σ (ld σ l0 35)) <|
        gd (kd σ l0 = 22) <|
        gI (4 * l2) <|
        gI ((4 * l2) + 1) <|
        gd (kd σ (ld σ l0 35) = 100 ∧ (0 : Int) ≤ ((4 * l2) + 1) ∧ ((4 * l2) + 1) < ln σ (ld σ l0 35)) <|
        gd (kd σ l0 = 22) <|
        gI (4 * l2) <|
        gI ((4 * l2) + 2) <|
        gd (kd σ (ld σ l0 35) = 100 ∧ (0 : Int) ≤ ((4 * l2) + 2) ∧ ((4 * l2) + 2) < ln σ (ld σ l0 35)) <|
        gd (kd σ l0 = 22) <|
        c1 (f_X7_isTerm n l0 (ld σ (ld σ l0 35) (4 * l2)) (ld σ (ld σ l0 35) ((4 * l2) + 1)) (ld σ (ld σ l0 35) ((4 * l2) + 2)) σ) fun v159 σ160 =>
        if v159 = 0 then (
          f_X7_match_101 n (f_X7_match_35 n q) l0 l1 l2 (ld σ l0 51) (l1 + l2) 0 σ160)
        else (
          f_X7_match_96 n (f_X7_match_101 n (f_X7_match_35 n q)) l0 l1 l2 (ld σ l0 51) (l1 + l2) σ160)))
noncomputable def f_X7_match_2 (n : Nat) : Nat → Int → Int → AS → Option AS
  | 0, _, _, _ => none
  | q + 1, l0, l1, σ =>
    gd (kd σ l0 = 22) <|
    if (ld σ l0 34) ≤ l1 then (
      gd (kd σ l0 = 22) <|
      gI (16 * (ld σ l0 53)) <|
      nm (16 * (ld σ l0 53)) fun u181 =>
      f_X7_match_35 n n l0 u181 0 σ)
    else (
      gd (kd σ l0 = 22) <|
      c1 (f_X7_holds n l0 l1 σ) fun v184 σ185 =>
      if v184 = 0 then (
        some σ185)
      else (
        gI (l1 + 1) <|
        nm (l1 + 1) fun u189 =>
        f_X7_match_2 n q l0 u189 σ185))
noncomputable def f_X7_match (n : Nat) (a0 : Int) (σ : AS) : Option AS :=
  f_X7_match_2 n n a0 0 σ
noncomputable def f_X7_choices (a0 a1 : Int) (σ : AS) : Option (Int × AS) :=
  gd (kd σ a0 = 22) <|
  gI (5 * a1) <|
  gd (kd σ (ld σ a0 31) = 100 ∧ (0 : Int) ≤ (5 * a1) ∧ (5 * a1) < ln σ (ld σ a0 31)) <|
  nm (ld σ (ld σ a0 31) (5 * a1)) fun u4 =>
  if u4 = 0 then (
    some (400, σ))
  else (
    if u4 = 1 then (
      some (2000, σ))
    else (
      if u4 = 2 then (
        some (1, σ))
      else (
        some (2001, σ))))
noncomputable def f_X7_bind_43 (l0 l1 l2 l3 : Int) (σ : AS) : Option (Int × AS) :=
  gd (kd σ l0 = 22) <|
  gd (kd σ (ld σ l0 48) = 100 ∧ (0 : Int) ≤ l2 ∧ l2 < ln σ (ld σ l0 48)) <|
  nm (wr σ (ld σ l0 48) l2 l3) fun σ3 =>
  gd (kd σ3 l0 = 22) <|
  gd (kd σ3 (ld σ3 l0 49) = 100 ∧ (0 : Int) ≤ l2 ∧ l2 < ln σ3 (ld σ3 l0 49)) <|
  nm (wr σ3 (ld σ3 l0 49) l2 l1) fun σ7 =>
  some (1, σ7)
noncomputable def f_X7_bind (a0 a1 a2 a3 : Int) (σ : AS) : Option (Int × AS) :=
  if a2 = (-1) then (
    some (1, σ))
  else (
    gd (kd σ a0 = 22) <|
    gd (kd σ (ld σ a0 49) = 100 ∧ (0 : Int) ≤ a2 ∧ a2 < ln σ (ld σ a0 49)) <|
    if (ld σ (ld σ a0 49) a2) = (-1) then (
      f_X7_bind_43 a0 a1 a2 a3 σ)
    else (
      gd (kd σ a0 = 22) <|
      gd (kd σ (ld σ a0 49) = 100 ∧ (0 : Int) ≤ a2 ∧ a2 < ln σ (ld σ a0 49)) <|
      if a1 ≤ (ld σ (ld σ a0 49) a2) then (
        f_X7_bind_43 a0 a1 a2 a3 σ)
      else (
        gd (kd σ a0 = 22) <|
        gd (kd σ (ld σ a0 48) = 100 ∧ (0 : Int) ≤ a2 ∧ a2 < ln σ (ld σ a0 48)) <|
        if (ld σ (ld σ a0 48) a2) = a3 then (
          some (1, σ))
        else (
          some (0, σ)))))
noncomputable def f_X7_isFree_2 (n : Nat) : Nat → Int → Int → Int → Int → AS → Option (Int × AS)
  | 0, _, _, _, _, _ => none
  | q + 1, l0, l1, l2, l3, σ =>
    if l1 ≤ l3 then (
      some (1, σ))
    else (
      gd (kd σ l0 = 22) <|
      gd (kd σ (ld σ l0 45) = 100 ∧ (0 : Int) ≤ l3 ∧ l3 < ln σ (ld σ l0 45)) <|
      if (ld σ (ld σ l0 45) l3) = l2 then (
        some (0, σ))
      else (
        gI (l3 + 1) <|
        nm (l3 + 1) fun u13 =>
        f_X7_isFree_2 n q l0 l1 l2 u13 σ))
noncomputable def f_X7_isFree (n : Nat) (a0 a1 a2 : Int) (σ : AS) : Option (Int × AS) :=
  f_X7_isFree_2 n n a0 a1 a2 0 σ
noncomputable def f_X7_isGone_122 (n : Nat) (l0 l1 l2 l3 s0 : Int) (σ : AS) : Option (Int × AS) :=
  gd (kd σ l0 = 22) <|
  gd (kd σ (ld σ l0 46) = 100 ∧ (0 : Int) ≤ l1 ∧ l1 < ln σ (ld σ l0 46)) <|
  if s0 = (ld σ (ld σ l0 46) l1) then (
    gd (kd σ l0 = 22) <|
    gd (kd σ (ld σ l0 45) = 100 ∧ (0 : Int) ≤ l1 ∧ l1 < ln σ (ld σ l0 45)) <|
    nm (wr σ (ld σ l0 45) l1 l2) fun σ6 =>
    gd (kd σ6 l0 = 22) <|
    gI (l1 + 1) <|
    if l3 = 0 then (
      gd (kd σ6 l0 = 22) <|
      gd (kd σ6 (ld σ6 l0 4) = 100 ∧ (0 : Int) ≤ l2 ∧ l2 < ln σ6 (ld σ6 l0 4)) <|
      gd (kd σ6 (ld σ6 l0 46) = 100 ∧ (0 : Int) ≤ (l1 + 1) ∧ (l1 + 1) < ln σ6 (ld σ6 l0 46)) <|
      nm (wr σ6 (ld σ6 l0 46) (l1 + 1) (ld σ6 (ld σ6 l0 4) l2)) fun σ14 =>
      some (1, σ14))
    else (
      gd (kd σ6 l0 = 22) <|
      gd (kd σ6 (ld σ6 l0 3) = 100 ∧ (0 : Int) ≤ l2 ∧ l2 < ln σ6 (ld σ6 l0 3)) <|
      gd (kd σ6 (ld σ6 l0 46) = 100 ∧ (0 : Int) ≤ (l1 + 1) ∧ (l1 + 1) < ln σ6 (ld σ6 l0 46)) <|
      nm (wr σ6 (ld σ6 l0 46) (l1 + 1) (ld σ6 (ld σ6 l0 3) l2)) fun σ19 =>
      some (1, σ19)))
  else (
    some (0, σ))
noncomputable def f_X7_isGone_103 (n : Nat) (l0 l1 l2 l3 : Int) (σ : AS) : Option (Int × AS) :=
  if l3 = 0 then (
    gd (kd σ l0 = 22) <|
    gd (kd σ (ld σ l0 3) = 100 ∧ (0 : Int) ≤ l2 ∧ l2 < ln σ (ld σ l0 3)) <|
    f_X7_isGone_122 n l0 l1 l2 l3 (ld σ (ld σ l0 3) l2) σ)
  else (
    gd (kd σ l0 = 22) <|
    gd (kd σ (ld σ l0 4) = 100 ∧ (0 : Int) ≤ l2 ∧ l2 < ln σ (ld σ l0 4)) <|
    f_X7_isGone_122 n l0 l1 l2 l3 (ld σ (ld σ l0 4) l2) σ)
noncomputable def f_X7_isGone_51 (n : Nat) (l0 l1 l2 l3 l5 : Int) (σ : AS) : Option (Int × AS) :=
  gd (kd σ l0 = 22) <|
  c1 (f_X7_isFree n l0 l1 l2 σ) fun v27 σ28 =>
  if v27 = 0 then (
    some (0, σ28))
  else (
    if l3 = 0 then (
      if l5 = 1 then (
        some (0, σ28))
      else (
        f_X7_isGone_103 n l0 l1 l2 l3 σ28))
    else (
      if l5 = 0 then (
        some (0, σ28))
      else (
        if l5 = 2 then (
          gd (kd σ28 l0 = 22) <|
          gd (kd σ28 (ld σ28 l0 3) = 100 ∧ (0 : Int) ≤ l2 ∧ l2 < ln σ28 (ld σ28 l0 3)) <|
          gd (kd σ28 l0 = 22) <|
          gd (kd σ28 (ld σ28 l0 4) = 100 ∧ (0 : Int) ≤ l2 ∧ l2 < ln σ28 (ld σ28 l0 4)) <|
          if (ld σ28 (ld σ28 l0 3) l2) = (ld σ28 (ld σ28 l0 4) l2) then (
            some (0, σ28))
          else (
            f_X7_isGone_103 n l0 l1 l2 l3 σ28))
        else (
          f_X7_isGone_103 n l0 l1 l2 l3 σ28))))
noncomputable def f_X7_isGone (n : Nat) (a0 a1 a2 a3 : Int) (σ : AS) : Option (Int × AS) :=
  gd (kd σ a0 = 22) <|
  gI (5 * a1) <|
  gI ((5 * a1) + 2) <|
  gd (kd σ (ld σ a0 31) = 100 ∧ (0 : Int) ≤ ((5 * a1) + 2) ∧ ((5 * a1) + 2) < ln σ (ld σ a0 31)) <|
  nm (ld σ (ld σ a0 31) ((5 * a1) + 2)) fun u44 =>
  gd (kd σ a0 = 22) <|
  gI (5 * a1) <|
  gI ((5 * a1) + 3) <|
  gd (kd σ (ld σ a0 31) = 100 ∧ (0 : Int) ≤ ((5 * a1) + 3) ∧ ((5 * a1) + 3) < ln σ (ld σ a0 31)) <|
  nm (ld σ (ld σ a0 31) ((5 * a1) + 3)) fun u50 =>
  gd (kd σ a0 = 22) <|
  gd (kd σ (ld σ a0 2) = 100 ∧ (0 : Int) ≤ a2 ∧ a2 < ln σ (ld σ a0 2)) <|
  if (ld σ (ld σ a0 2) a2) = (-1) then (
    some (0, σ))
  else (
    if u44 = (-1) then (
      f_X7_isGone_51 n a0 a1 a2 a3 u50 σ)
    else (
      gd (kd σ a0 = 22) <|
      gd (kd σ (ld σ a0 2) = 100 ∧ (0 : Int) ≤ a2 ∧ a2 < ln σ (ld σ a0 2)) <|
      if (ld σ (ld σ a0 2) a2) = u44 then (
        f_X7_isGone_51 n a0 a1 a2 a3 u50 σ)
      else (
        some (0, σ))))
noncomputable def f_X7_isChoice_109 (n : Nat) (l0 l1 l4 l6 : Int) (σ : AS) : Option (Int × AS) :=
  gd (kd σ l0 = 22) <|
  c1 (f_X7_bind l0 l1 l4 l6 σ) fun v2 σ3 =>
  if v2 = 0 then (
    some (0, σ3))
  else (
    some (1, σ3))
noncomputable def f_X7_isChoice_70 (n : Nat) (l0 l1 l4 l5 s0 : Int) (σ : AS) : Option (Int × AS) :=
  gd (kd σ l0 = 22) <|
  gI (l1 + 1) <|
  gd (kd σ (ld σ l0 46) = 100 ∧ (0 : Int) ≤ (l1 + 1) ∧ (l1 + 1) < ln σ (ld σ l0 46)) <|
  nm (wr σ (ld σ l0 46) (l1 + 1) s0) fun σ9 =>
  gd (kd σ9 l0 = 22) <|
  c1 (f_X7_isNode l0 s0 σ9) fun v12 σ13 =>
  if v12 = 0 then (
    some (0, σ13))
  else (
    if l5 = (-1) then (
      f_X7_isChoice_109 n l0 l1 l4 s0 σ13)
    else (
      gd (kd σ13 l0 = 22) <|
      gd (kd σ13 (ld σ13 l0 1) = 100 ∧ (0 : Int) ≤ s0 ∧ s0 < ln σ13 (ld σ13 l0 1)) <|
      if (ld σ13 (ld σ13 l0 1) s0) = l5 then (
        f_X7_isChoice_109 n l0 l1 l4 s0 σ13)
      else (
        some (0, σ13))))
noncomputable def f_X7_isChoice_56 (n : Nat) (l0 l1 l2 l3 l4 l5 : Int) (σ : AS) : Option (Int × AS) :=
  if l3 = 0 then (
    f_X7_isChoice_70 n l0 l1 l4 l5 l2 σ)
  else (
    gd (kd σ l0 = 22) <|
    gd (kd σ (ld σ l0 46) = 100 ∧ (0 : Int) ≤ l1 ∧ l1 < ln σ (ld σ l0 46)) <|
    f_X7_isChoice_70 n l0 l1 l4 l5 (ld σ (ld σ l0 46) l1) σ)
noncomputable def f_X7_isChoice_149 (n : Nat) (l0 l1 l2 l4 s0 s1 s2 s3 : Int) (σ : AS) : Option (Int × AS) :=
  gd (kd σ s0 = 22) <|
  c1 (f_X7_isGone n s0 s1 s2 s3 σ) fun v24 σ25 =>
  if v24 = 0 then (
    some (0, σ25))
  else (
    gd (kd σ25 l0 = 22) <|
    c1 (f_X7_bind l0 l1 l4 (idivW l2 2) σ25) fun v29 σ30 =>
    if v29 = 0 then (
      some (0, σ30))
    else (
      some (1, σ30)))
noncomputable def f_X7_isChoice_207 (n : Nat) (k208 : Int → Int → Int → Int → AS → Option (Int × AS)) (l0 l1 l2 : Int) (σ : AS) : Option (Int × AS) :=
  k208 l0 l1 l2 0 σ
noncomputable def f_X7_isChoice_282 (n : Nat) (s0 s1 s2 s3 : Int) (σ : AS) : Option (Int × AS) :=
  gd (kd σ s0 = 22) <|
  c1 (f_X7_isGone n s0 s1 s2 s3 σ) fun v34 σ35 =>
  if v34 = 0 then (
    some (0, σ35))
  else (
    some (1, σ35))
noncomputable def f_X7_isChoice_208 (n : Nat) (l0 l1 l2 s0 : Int) (σ : AS) : Option (Int × AS) :=
  if l2 = 0 then (
    gd (kd σ l0 = 22) <|
    gd (kd σ (ld σ l0 47) = 103 ∧ (0 : Int) ≤ l1 ∧ l1 < ln σ (ld σ l0 47)) <|
    nm (wr σ (ld σ l0 47) l1 1) fun σ44 =>
    gd (kd σ44 l0 = 22) <|
    gI (l1 + 1) <|
    gd (kd σ44 l0 = 22) <|
    gd (kd σ44 (ld σ44 l0 46) = 100 ∧ (0 : Int) ≤ l1 ∧ l1 < ln σ44 (ld σ44 l0 46)) <|
    gd (kd σ44 (ld σ44 l0 46) = 100 ∧ (0 : Int) ≤ (l1 + 1) ∧ (l1 + 1) < ln σ44 (ld σ44 l0 46)) <|
    nm (wr σ44 (ld σ44 l0 46) (l1 + 1) (ld σ44 (ld σ44 l0 46) l1)) fun σ51 =>
    if s0 = 0 then (
      gd (kd σ51 l0 = 22) <|
      gI (5 * l1) <|
      gI ((5 * l1) + 4) <|
      gd (kd σ51 (ld σ51 l0 31) = 100 ∧ (0 : Int) ≤ ((5 * l1) + 4) ∧ ((5 * l1) + 4) < ln σ51 (ld σ51 l0 31)) <|
      if (ld σ51 (ld σ51 l0 31) ((5 * l1) + 4)) = 0 then (
        some (1, σ51))
      else (
        some (0, σ51)))
    else (
      some (1, σ51)))
  else (
    if s0 = 0 then (
      gI (l2 - 1) <|
      if (iremW l2 2) = 0 then (
        f_X7_isChoice_282 n l0 l1 (idivW (l2 - 1) 2) 1 σ)
      else (
        f_X7_isChoice_282 n l0 l1 (idivW (l2 - 1) 2) 0 σ))
    else (
      some (0, σ)))
noncomputable def f_X7_isChoice (n : Nat) (a0 a1 a2 : Int) (σ : AS) : Option (Int × AS) :=
  gd (kd σ a0 = 22) <|
  gI (5 * a1) <|
  gd (kd σ (ld σ a0 31) = 100 ∧ (0 : Int) ≤ (5 * a1) ∧ (5 * a1) < ln σ (ld σ a0 31)) <|
  nm (ld σ (ld σ a0 31) (5 * a1)) fun u62 =>
  gd (kd σ a0 = 22) <|
  gI (5 * a1) <|
  gI ((5 * a1) + 1) <|
  gd (kd σ (ld σ a0 31) = 100 ∧ (0 : Int) ≤ ((5 * a1) + 1) ∧ ((5 * a1) + 1) < ln σ (ld σ a0 31)) <|
  nm (ld σ (ld σ a0 31) ((5 * a1) + 1)) fun u68 =>
  gd (kd σ a0 = 22) <|
  gI (5 * a1) <|
  gI ((5 * a1) + 2) <|
  gd (kd σ (ld σ a0 31) = 100 ∧ (0 : Int) ≤ ((5 * a1) + 2) ∧ ((5 * a1) + 2) < ln σ (ld σ a0 31)) <|
  nm (ld σ (ld σ a0 31) ((5 * a1) + 2)) fun u74 =>
  gd (kd σ a0 = 22) <|
  gd (kd σ (ld σ a0 45) = 100 ∧ (0 : Int) ≤ a1 ∧ a1 < ln σ (ld σ a0 45)) <|
  nm (wr σ (ld σ a0 45) a1 (-1)) fun σ78 =>
  gd (kd σ78 a0 = 22) <|
  gd (kd σ78 (ld σ78 a0 47) = 103 ∧ (0 : Int) ≤ a1 ∧ a1 < ln σ78 (ld σ78 a0 47)) <|
  nm (wr σ78 (ld σ78 a0 47) a1 0) fun σ82 =>
  if u62 = 0 then (
    f_X7_isChoice_56 n a0 a1 a2 u62 u68 u74 σ82)
  else (
    if u62 = 2 then (
      f_X7_isChoice_56 n a0 a1 a2 u62 u68 u74 σ82)
    else (
      if u62 = 1 then (
        if (iremW a2 2) = 1 then (
          f_X7_isChoice_149 n a0 a1 a2 u68 a0 a1 (idivW a2 2) 1 σ82)
        else (
          f_X7_isChoice_149 n a0 a1 a2 u68 a0 a1 (idivW a2 2) 0 σ82))
      else (
        if a1 ≤ 0 then (
          f_X7_isChoice_207 n (f_X7_isChoice_208 n) a0 a1 a2 σ82)
        else (
          gd (kd σ82 a0 = 22) <|
          gI (5 * a1) <|
          gI ((5 * a1) - 5) <|
          gd (kd σ82 (ld σ82 a0 31) = 100 ∧ (0 : Int) ≤ ((5 * a1) - 5) ∧ ((5 * a1) - 5) < ln σ82 (ld σ82 a0 31)) <|
          if (ld σ82 (ld σ82 a0 31) ((5 * a1) - 5)) = 3 then (
            gd (kd σ82 a0 = 22) <|
            gI (a1 - 1) <|
            gd (kd σ82 (ld σ82 a0 47) = 103 ∧ (0 : Int) ≤ (a1 - 1) ∧ (a1 - 1) < ln σ82 (ld σ82 a0 47)) <|
            if (ld σ82 (ld σ82 a0 47) (a1 - 1)) = 0 then (
              f_X7_isChoice_207 n (f_X7_isChoice_208 n) a0 a1 a2 σ82)
            else (
              f_X7_isChoice_208 n a0 a1 a2 1 σ82))
          else (
            f_X7_isChoice_207 n (f_X7_isChoice_208 n) a0 a1 a2 σ82)))))
noncomputable def f_X7_isMatched_141 (n : Nat) (k142 : Int → Int → Int → Int → Int → AS → Option (Int × AS)) (l0 l1 s0 s1 : Int) (σ : AS) : Option (Int × AS) :=
  k142 l0 l1 s0 s1 1 σ
noncomputable def f_X7_isMatched_142 (n : Nat) (k168 : Int → Int → AS → Option (Int × AS)) (l0 l1 s0 s1 s2 : Int) (σ : AS) : Option (Int × AS) :=
  gI (s1 + s2) <|
  gd (kd σ s0 = 22) <|
  nm (wr σ s0 54 (s1 + s2)) fun σ3 =>
  gd (kd σ3 l0 = 22) <|
  if (ld σ3 l0 54) ≤ 10000 then (
    gI (l1 + 1) <|
    nm (l1 + 1) fun u8 =>
    gd (kd σ3 l0 = 22) <|
    gd (kd σ3 (ld σ3 l0 44) = 100 ∧ (0 : Int) ≤ u8 ∧ u8 < ln σ3 (ld σ3 l0 44)) <|
    nm (wr σ3 (ld σ3 l0 44) u8 (-1)) fun σ12 =>
    k168 l0 u8 σ12)
  else (
    some (0, σ3))
noncomputable def f_X7_isMatched_168 (n : Nat) (k24 : Int → Int → AS → Option (Int × AS)) (l0 l1 : Int) (σ : AS) : Option (Int × AS) :=
  k24 l0 l1 σ
noncomputable def f_X7_isMatched_91 (n : Nat) (k24 : Int → Int → AS → Option (Int × AS)) (l0 l1 l2 l3 : Int) (σ : AS) : Option (Int × AS) :=
  gd (kd σ l0 = 22) <|
  gd (kd σ (ld σ l0 44) = 100 ∧ (0 : Int) ≤ l1 ∧ l1 < ln σ (ld σ l0 44)) <|
  nm (wr σ (ld σ l0 44) l1 l2) fun σ16 =>
  if l2 = l3 then (
    gd (kd σ16 l0 = 22) <|
    gd (kd σ16 (ld σ16 l0 45) = 100 ∧ (0 : Int) ≤ l1 ∧ l1 < ln σ16 (ld σ16 l0 45)) <|
    nm (wr σ16 (ld σ16 l0 45) l1 (-1)) fun σ27 =>
    gI (l1 + (-1)) <|
    nm (l1 + (-1)) fun u30 =>
    f_X7_isMatched_168 n k24 l0 u30 σ27)
  else (
    gd (kd σ16 l0 = 22) <|
    gd (kd σ16 l0 = 22) <|
    gI (5 * l1) <|
    gd (kd σ16 (ld σ16 l0 31) = 100 ∧ (0 : Int) ≤ (5 * l1) ∧ (5 * l1) < ln σ16 (ld σ16 l0 31)) <|
    if (ld σ16 (ld σ16 l0 31) (5 * l1)) = 3 then (
      if l2 = 0 then (
        f_X7_isMatched_142 n (f_X7_isMatched_168 n k24) l0 l1 l0 (ld σ16 l0 54) 0 σ16)
      else (
        f_X7_isMatched_141 n (f_X7_isMatched_142 n (f_X7_isMatched_168 n k24)) l0 l1 l0 (ld σ16 l0 54) σ16))
    else (
      f_X7_isMatched_141 n (f_X7_isMatched_142 n (f_X7_isMatched_168 n k24)) l0 l1 l0 (ld σ16 l0 54) σ16))
noncomputable def f_X7_isMatched_66 (n : Nat) (k24 : Int → Int → AS → Option (Int × AS)) : Nat → Int → Int → Int → Int → AS → Option (Int × AS)
  | 0, _, _, _, _, _ => none
  | q + 1, l0, l1, l2, l3, σ =>
    if l3 ≤ l2 then (
      f_X7_isMatched_91 n k24 l0 l1 l2 l3 σ)
    else (
      gd (kd σ l0 = 22) <|
      c1 (f_X7_isChoice n l0 l1 l2 σ) fun v47 σ48 =>
      if v47 = 0 then (
        gd (kd σ48 l0 = 22) <|
        c0 (f_X7_forget n l0 l1 σ48) fun σ53 =>
        gI (l2 + 1) <|
        nm (l2 + 1) fun u56 =>
        f_X7_isMatched_66 n k24 q l0 l1 u56 l3 σ53)
      else (
        f_X7_isMatched_91 n k24 l0 l1 l2 l3 σ48))
noncomputable def f_X7_isMatched_24 (n : Nat) : Nat → Int → Int → AS → Option (Int × AS)
  | 0, _, _, _ => none
  | q + 1, l0, l1, σ =>
    if l1 < 0 then (
      some (1, σ))
    else (
      gd (kd σ l0 = 22) <|
      if l1 = (ld σ l0 32) then (
        gd (kd σ l0 = 22) <|
        c0 (f_X7_match n l0 σ) fun σ99 =>
        gI (l1 + (-1)) <|
        nm (l1 + (-1)) fun u102 =>
        f_X7_isMatched_24 n q l0 u102 σ99)
      else (
        gd (kd σ l0 = 22) <|
        c0 (f_X7_forget n l0 l1 σ) fun σ86 =>
        gd (kd σ86 l0 = 22) <|
        gd (kd σ86 (ld σ86 l0 44) = 100 ∧ (0 : Int) ≤ l1 ∧ l1 < ln σ86 (ld σ86 l0 44)) <|
        gI ((ld σ86 (ld σ86 l0 44) l1) + 1) <|
        nm ((ld σ86 (ld σ86 l0 44) l1) + 1) fun u91 =>
        gd (kd σ86 l0 = 22) <|
        c1 (f_X7_choices l0 l1 σ86) fun v94 σ95 =>
        f_X7_isMatched_66 n (f_X7_isMatched_24 n q) n l0 l1 u91 v94 σ95))
noncomputable def f_X7_isMatched (n : Nat) (a0 : Int) (σ : AS) : Option (Int × AS) :=
  gd (kd σ a0 = 22) <|
  nm (wr σ a0 53 0) fun σ105 =>
  gd (kd σ105 a0 = 22) <|
  nm (wr σ105 a0 54 0) fun σ108 =>
  gd (kd σ108 a0 = 22) <|
  c0 (f_X7_forget n a0 0 σ108) fun σ112 =>
  gd (kd σ112 a0 = 22) <|
  gd (kd σ112 (ld σ112 a0 44) = 100 ∧ (0 : Int) ≤ 0 ∧ 0 < ln σ112 (ld σ112 a0 44)) <|
  nm (wr σ112 (ld σ112 a0 44) 0 (-1)) fun σ116 =>
  f_X7_isMatched_24 n n a0 0 σ116
noncomputable def f_X7_compareCells (a0 a1 a2 : Int) (σ : AS) : Option (Int × AS) :=
  gd (kd σ a0 = 22) <|
  gd (kd σ (ld σ a0 51) = 103 ∧ (0 : Int) ≤ a1 ∧ a1 < ln σ (ld σ a0 51)) <|
  gd (kd σ a0 = 22) <|
  gd (kd σ (ld σ a0 51) = 103 ∧ (0 : Int) ≤ a2 ∧ a2 < ln σ (ld σ a0 51)) <|
  if (ld σ (ld σ a0 51) a1) = (ld σ (ld σ a0 51) a2) then (
    gd (kd σ a0 = 22) <|
    gd (kd σ (ld σ a0 50) = 100 ∧ (0 : Int) ≤ a1 ∧ a1 < ln σ (ld σ a0 50)) <|
    gd (kd σ a0 = 22) <|
    gd (kd σ (ld σ a0 50) = 100 ∧ (0 : Int) ≤ a2 ∧ a2 < ln σ (ld σ a0 50)) <|
    if (ld σ (ld σ a0 50) a2) ≤ (ld σ (ld σ a0 50) a1) then (
      gd (kd σ a0 = 22) <|
      gd (kd σ (ld σ a0 50) = 100 ∧ (0 : Int) ≤ a1 ∧ a1 < ln σ (ld σ a0 50)) <|
      gd (kd σ a0 = 22) <|
      gd (kd σ (ld σ a0 50) = 100 ∧ (0 : Int) ≤ a2 ∧ a2 < ln σ (ld σ a0 50)) <|
      if (ld σ (ld σ a0 50) a1) ≤ (ld σ (ld σ a0 50) a2) then (
        some (0, σ))
      else (
        some (1, σ)))
    else (
      some ((-1), σ)))
  else (
    gd (kd σ a0 = 22) <|
    gd (kd σ (ld σ a0 51) = 103 ∧ (0 : Int) ≤ a1 ∧ a1 < ln σ (ld σ a0 51)) <|
    if (ld σ (ld σ a0 51) a1) = 0 then (
      some ((-1), σ))
    else (
      some (1, σ)))
noncomputable def f_X7_compareItems_2 (n : Nat) : Nat → Int → Int → Int → Int → AS → Option (Int × AS)
  | 0, _, _, _, _, _ => none
  | q + 1, l0, l1, l2, l3, σ =>
    gd (kd σ l0 = 22) <|
    if (ld σ l0 36) ≤ l3 then (
      some (0, σ))
    else (
      gI (16 * l1) <|
      gI ((16 * l1) + l3) <|
      gI (16 * l2) <|
      gI ((16 * l2) + l3) <|
      gd (kd σ l0 = 22) <|
      c1 (f_X7_compareCells l0 ((16 * l1) + l3) ((16 * l2) + l3) σ) fun v22 σ23 =>
      if v22 = 0 then (
        gI (l3 + 1) <|
        nm (l3 + 1) fun u27 =>
        f_X7_compareItems_2 n q l0 l1 l2 u27 σ23)
      else (
        some (v22, σ23)))
noncomputable def f_X7_compareItems (n : Nat) (a0 a1 a2 : Int) (σ : AS) : Option (Int × AS) :=
  f_X7_compareItems_2 n n a0 a1 a2 0 σ
noncomputable def f_X7_compareAll_2 (n : Nat) : Nat → Int → Int → Int → Int → AS → Option (Int × AS)
  | 0, _, _, _, _, _ => none
  | q + 1, l0, l1, l2, l3, σ =>
    gd (kd σ l0 = 22) <|
    if (ld σ l0 38) ≤ l3 then (
      gd (kd σ l0 = 22) <|
      c1 (f_X7_compareItems n l0 l1 l2 σ) fun v30 σ31 =>
      some (v30, σ31))
    else (
      gI (16 * l1) <|
      gI ((16 * l1) + 8) <|
      gI (((16 * l1) + 8) + l3) <|
      gI (16 * l2) <|
      gI ((16 * l2) + 8) <|
      gI (((16 * l2) + 8) + l3) <|
      gd (kd σ l0 = 22) <|
      c1 (f_X7_compareCells l0 (((16 * l1) + 8) + l3) (((16 * l2) + 8) + l3) σ) fun v40 σ41 =>
      if v40 = 0 then (
        gI (l3 + 1) <|
        nm (l3 + 1) fun u45 =>
        f_X7_compareAll_2 n q l0 l1 l2 u45 σ41)
      else (
        gd (kd σ41 l0 = 22) <|
        gI (4 * l3) <|
        gI ((4 * l3) + 3) <|
        gd (kd σ41 (ld σ41 l0 37) = 100 ∧ (0 : Int) ≤ ((4 * l3) + 3) ∧ ((4 * l3) + 3) < ln σ41 (ld σ41 l0 37)) <|
        if (ld σ41 (ld σ41 l0 37) ((4 * l3) + 3)) = 1 then (
          gI (-v40) <|
          some ((-v40), σ41))
        else (
          some (v40, σ41))))
noncomputable def f_X7_compareAll (n : Nat) (a0 a1 a2 : Int) (σ : AS) : Option (Int × AS) :=
  f_X7_compareAll_2 n n a0 a1 a2 0 σ
