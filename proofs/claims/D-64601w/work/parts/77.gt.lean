/-! the reference over its contents (written by wip/tools/gtwin.py) -/
set_option maxRecDepth 1000000
noncomputable def g_X7_empty_24 (n : Nat) : Nat → Int → Int → TT → Option TT
  | 0, _, _, _ => none
  | q + 1, l0, l1, τ =>
    if 1000 ≤ l1 then (
      nm (sa τ 1022 6 0) fun τ14 =>
      some τ14)
    else (
      gd ((0 : Int) ≤ l1 ∧ l1 < 1000) <|
      nm (sa τ (1024) l1 (-1)) fun τ18 =>
      gI (l1 + 1) <|
      nm (l1 + 1) fun u21 =>
      g_X7_empty_24 n q l0 u21 τ18)
noncomputable def g_X7_empty_2 (n : Nat) : Nat → Int → Int → TT → Option TT
  | 0, _, _, _ => none
  | q + 1, l0, l1, τ =>
    if 400 ≤ l1 then (
      g_X7_empty_24 n n l0 0 τ)
    else (
      gd ((0 : Int) ≤ l1 ∧ l1 < 400) <|
      nm (sa τ (1023) l1 (-1)) fun τ34 =>
      gI (l1 + 1) <|
      nm (l1 + 1) fun u37 =>
      g_X7_empty_2 n q l0 u37 τ34)
noncomputable def g_X7_empty (n : Nat) (a0 : Int) (τ : TT) : Option TT :=
  g_X7_empty_2 n n a0 0 τ
noncomputable def g_X7_first_2 (n : Nat) : Nat → Int → Int → Int → TT → Option (Int × TT)
  | 0, _, _, _, _ => none
  | q + 1, l0, l1, l2, τ =>
    if l1 ≤ l2 then (
      some (l2, τ))
    else (
      gd ((0 : Int) ≤ l2 ∧ l2 < tn l0) <|
      if (τ l0 l2) = (-1) then (
        some (l2, τ))
      else (
        gI (l2 + 1) <|
        nm (l2 + 1) fun u11 =>
        g_X7_first_2 n q l0 l1 u11 τ))
noncomputable def g_X7_first (n : Nat) (a0 a1 : Int) (τ : TT) : Option (Int × TT) :=
  g_X7_first_2 n n a0 a1 0 τ
noncomputable def g_X7_isSmall (a0 : Int) (τ : TT) : Option (Int × TT) :=
  if a0 < 0 then (
    some (0, τ))
  else (
    if 32 ≤ a0 then (
      some (0, τ))
    else (
      some (1, τ)))
noncomputable def g_X7_removeProperty_14 (n : Nat) : Nat → Int → Int → TT → Option TT
  | 0, _, _, _ => none
  | q + 1, l0, l2, τ =>
    gI (4 * (τ 1022 6)) <|
    if (4 * (τ 1022 6)) ≤ l2 then (
      some τ)
    else (
      gI (l2 + 4) <|
      gd ((0 : Int) ≤ (l2 + 4) ∧ (l2 + 4) < 12000) <|
      gd ((0 : Int) ≤ l2 ∧ l2 < 12000) <|
      nm (sa τ (1027) l2 (τ (1027) (l2 + 4))) fun τ22 =>
      gI (l2 + 1) <|
      nm (l2 + 1) fun u25 =>
      g_X7_removeProperty_14 n q l0 u25 τ22)
noncomputable def g_X7_removeProperty (n : Nat) (a0 a1 : Int) (τ : TT) : Option TT :=
  gI ((τ 1022 6) - 1) <|
  nm (sa τ 1022 6 ((τ 1022 6) - 1)) fun τ30 =>
  gI (4 * a1) <|
  nm (4 * a1) fun u33 =>
  g_X7_removeProperty_14 n n a0 u33 τ30
noncomputable def g_X7_removeAll_50 (n : Nat) (k7 : Int → Int → Int → Int → TT → Option TT) (l0 l1 l2 l3 : Int) (τ : TT) : Option TT :=
  gI (l3 + (-1)) <|
  nm (l3 + (-1)) fun u2 =>
  k7 l0 l1 l2 u2 τ
noncomputable def g_X7_removeAll_28 (n : Nat) (k7 : Int → Int → Int → Int → TT → Option TT) (l0 l1 l2 l3 s0 s1 : Int) (τ : TT) : Option TT :=
  if s0 = s1 then (
    gI (4 * l3) <|
    gI ((4 * l3) + 1) <|
    gd ((0 : Int) ≤ ((4 * l3) + 1) ∧ ((4 * l3) + 1) < 12000) <|
    if (τ (1027) ((4 * l3) + 1)) = l2 then (
      t0 (g_X7_removeProperty n l0 l3 τ) fun τ12 =>
      g_X7_removeAll_50 n k7 l0 l1 l2 l3 τ12)
    else (
      g_X7_removeAll_50 n k7 l0 l1 l2 l3 τ))
  else (
    g_X7_removeAll_50 n k7 l0 l1 l2 l3 τ)
noncomputable def g_X7_removeAll_7 (n : Nat) : Nat → Int → Int → Int → Int → TT → Option TT
  | 0, _, _, _, _, _ => none
  | q + 1, l0, l1, l2, l3, τ =>
    if l3 < 0 then (
      some τ)
    else (
      gI (4 * l3) <|
      gd ((0 : Int) ≤ (4 * l3) ∧ (4 * l3) < 12000) <|
      if l1 = 0 then (
        g_X7_removeAll_28 n (g_X7_removeAll_7 n q) l0 l1 l2 l3 (τ (1027) (4 * l3)) 0 τ)
      else (
        g_X7_removeAll_28 n (g_X7_removeAll_7 n q) l0 l1 l2 l3 (τ (1027) (4 * l3)) 1 τ))
noncomputable def g_X7_removeAll (n : Nat) (a0 a1 a2 : Int) (τ : TT) : Option TT :=
  gI ((τ 1022 6) - 1) <|
  nm ((τ 1022 6) - 1) fun u26 =>
  g_X7_removeAll_7 n n a0 a1 a2 u26 τ
noncomputable def g_X7_property_66 (n : Nat) (k3 : Int → Int → Int → Int → Int → TT → Option (Int × TT)) (l0 l1 l2 l3 l4 : Int) (τ : TT) : Option (Int × TT) :=
  gI (l4 + 1) <|
  nm (l4 + 1) fun u2 =>
  k3 l0 l1 l2 l3 u2 τ
noncomputable def g_X7_property_30 (n : Nat) (k3 : Int → Int → Int → Int → Int → TT → Option (Int × TT)) (l0 l1 l2 l3 l4 s0 s1 : Int) (τ : TT) : Option (Int × TT) :=
  if s0 = s1 then (
    gI (4 * l4) <|
    gI ((4 * l4) + 1) <|
    gd ((0 : Int) ≤ ((4 * l4) + 1) ∧ ((4 * l4) + 1) < 12000) <|
    if (τ (1027) ((4 * l4) + 1)) = l2 then (
      gI (4 * l4) <|
      gI ((4 * l4) + 2) <|
      gd ((0 : Int) ≤ ((4 * l4) + 2) ∧ ((4 * l4) + 2) < 12000) <|
      if (τ (1027) ((4 * l4) + 2)) = l3 then (
        some (l4, τ))
      else (
        g_X7_property_66 n k3 l0 l1 l2 l3 l4 τ))
    else (
      g_X7_property_66 n k3 l0 l1 l2 l3 l4 τ))
  else (
    g_X7_property_66 n k3 l0 l1 l2 l3 l4 τ)
noncomputable def g_X7_property_3 (n : Nat) : Nat → Int → Int → Int → Int → Int → TT → Option (Int × TT)
  | 0, _, _, _, _, _, _ => none
  | q + 1, l0, l1, l2, l3, l4, τ =>
    if (τ 1022 6) ≤ l4 then (
      some ((-1), τ))
    else (
      gI (4 * l4) <|
      gd ((0 : Int) ≤ (4 * l4) ∧ (4 * l4) < 12000) <|
      if l1 = 0 then (
        g_X7_property_30 n (g_X7_property_3 n q) l0 l1 l2 l3 l4 (τ (1027) (4 * l4)) 0 τ)
      else (
        g_X7_property_30 n (g_X7_property_3 n q) l0 l1 l2 l3 l4 (τ (1027) (4 * l4)) 1 τ))
noncomputable def g_X7_property (n : Nat) (a0 a1 a2 a3 : Int) (τ : TT) : Option (Int × TT) :=
  g_X7_property_3 n n a0 a1 a2 a3 0 τ
noncomputable def g_X7_act_163 (n : Nat) (l0 l2 l3 l4 l5 l6 : Int) (τ : TT) : Option TT :=
  gI (4 * l6) <|
  gd ((0 : Int) ≤ (4 * l6) ∧ (4 * l6) < 12000) <|
  nm (sa τ (1027) (4 * l6) l2) fun τ4 =>
  gI (4 * l6) <|
  gI ((4 * l6) + 1) <|
  gd ((0 : Int) ≤ ((4 * l6) + 1) ∧ ((4 * l6) + 1) < 12000) <|
  nm (sa τ4 (1027) ((4 * l6) + 1) l3) fun τ10 =>
  gI (4 * l6) <|
  gI ((4 * l6) + 2) <|
  gd ((0 : Int) ≤ ((4 * l6) + 2) ∧ ((4 * l6) + 2) < 12000) <|
  nm (sa τ10 (1027) ((4 * l6) + 2) l4) fun τ16 =>
  gI (4 * l6) <|
  gI ((4 * l6) + 3) <|
  gd ((0 : Int) ≤ ((4 * l6) + 3) ∧ ((4 * l6) + 3) < 12000) <|
  nm (sa τ16 (1027) ((4 * l6) + 3) l5) fun τ22 =>
  some τ22
noncomputable def g_X7_act_121 (n : Nat) (l0 l1 l2 l3 l4 l5 s0 s1 : Int) (τ : TT) : Option TT :=
  t1 (g_X7_property n s0 s1 l3 l4 τ) fun v25 τ26 =>
  if l1 = 5 then (
    t0 (g_X7_removeProperty n l0 v25 τ26) fun τ40 =>
    some τ40)
  else (
    if v25 = (-1) then (
      nm (τ26 1022 6) fun u31 =>
      gI ((τ26 1022 6) + 1) <|
      nm (sa τ26 1022 6 ((τ26 1022 6) + 1)) fun τ36 =>
      g_X7_act_163 n l0 l2 l3 l4 l5 u31 τ36)
    else (
      g_X7_act_163 n l0 l2 l3 l4 l5 v25 τ26))
noncomputable def g_X7_act (n : Nat) (a0 a1 a2 a3 a4 a5 : Int) (τ : TT) : Option TT :=
  if a1 = 0 then (
    t1 (g_X7_first n (1023) 400 τ) fun v81 τ82 =>
    gd ((0 : Int) ≤ v81 ∧ v81 < 400) <|
    nm (sa τ82 (1023) v81 a2) fun τ85 =>
    some τ85)
  else (
    if a1 = 1 then (
      t1 (g_X7_first n (1024) 1000 τ) fun v64 τ65 =>
      gd ((0 : Int) ≤ v64 ∧ v64 < 1000) <|
      nm (sa τ65 (1024) v64 a4) fun τ69 =>
      gd ((0 : Int) ≤ v64 ∧ v64 < 1000) <|
      nm (sa τ69 (1025) v64 a2) fun τ73 =>
      gd ((0 : Int) ≤ v64 ∧ v64 < 1000) <|
      nm (sa τ73 (1026) v64 a3) fun τ77 =>
      some τ77)
    else (
      if a1 = 2 then (
        t0 (g_X7_removeAll n a0 0 a2 τ) fun τ57 =>
        gd ((0 : Int) ≤ a2 ∧ a2 < 400) <|
        nm (sa τ57 (1023) a2 (-1)) fun τ61 =>
        some τ61)
      else (
        if a1 = 3 then (
          t0 (g_X7_removeAll n a0 1 a2 τ) fun τ49 =>
          gd ((0 : Int) ≤ a2 ∧ a2 < 1000) <|
          nm (sa τ49 (1024) a2 (-1)) fun τ53 =>
          some τ53)
        else (
          if a2 = 1 then (
            g_X7_act_121 n a0 a1 a2 a3 a4 a5 a0 1 τ)
          else (
            g_X7_act_121 n a0 a1 a2 a3 a4 a5 a0 0 τ)))))
noncomputable def g_X7_change (n : Nat) (a0 a1 a2 a3 a4 a5 : Int) (τ : TT) : Option TT :=
  gI (5 * (τ 1022 8)) <|
  nm (5 * (τ 1022 8)) fun u3 =>
  gd ((0 : Int) ≤ u3 ∧ u3 < 25000) <|
  nm (sa τ (1028) u3 a1) fun τ7 =>
  gI (u3 + 1) <|
  gd ((0 : Int) ≤ (u3 + 1) ∧ (u3 + 1) < 25000) <|
  nm (sa τ7 (1028) (u3 + 1) a2) fun τ12 =>
  gI (u3 + 2) <|
  gd ((0 : Int) ≤ (u3 + 2) ∧ (u3 + 2) < 25000) <|
  nm (sa τ12 (1028) (u3 + 2) a3) fun τ17 =>
  gI (u3 + 3) <|
  gd ((0 : Int) ≤ (u3 + 3) ∧ (u3 + 3) < 25000) <|
  nm (sa τ17 (1028) (u3 + 3) a4) fun τ22 =>
  gI (u3 + 4) <|
  gd ((0 : Int) ≤ (u3 + 4) ∧ (u3 + 4) < 25000) <|
  nm (sa τ22 (1028) (u3 + 4) a5) fun τ27 =>
  gI ((τ27 1022 8) + 1) <|
  nm (sa τ27 1022 8 ((τ27 1022 8) + 1)) fun τ32 =>
  t0 (g_X7_act n a0 a1 a2 a3 a4 a5 τ32) fun τ36 =>
  some τ36
noncomputable def g_X7_node_35 (n : Nat) (l0 l1 l2 s0 s1 : Int) (τ : TT) : Option (Int × TT) :=
  nm (sa τ 1022 0 s1) fun τ2 =>
  if (τ2 1022 0) ≤ 0 then (
    t0 (g_X7_change n l0 0 l1 0 0 0 τ2) fun τ8 =>
    some (l2, τ8))
  else (
    some (0, τ2))
noncomputable def g_X7_node (n : Nat) (a0 a1 : Int) (τ : TT) : Option (Int × TT) :=
  t1 (g_X7_first n (1023) 400 τ) fun v11 τ12 =>
  t1 (g_X7_isSmall a1 τ12) fun v14 τ15 =>
  if v14 = 0 then (
    g_X7_node_35 n a0 a1 v11 a0 1 τ15)
  else (
    if v11 = 400 then (
      g_X7_node_35 n a0 a1 v11 a0 2 τ15)
    else (
      g_X7_node_35 n a0 a1 v11 a0 0 τ15))
noncomputable def g_X7_thrown (a0 : Int) (τ : TT) : Option (Int × TT) :=
  some ((τ 1022 0), τ)
noncomputable def g_X7_isNode (a0 a1 : Int) (τ : TT) : Option (Int × TT) :=
  if a1 < 0 then (
    some (0, τ))
  else (
    if 400 ≤ a1 then (
      some (0, τ))
    else (
      gd ((0 : Int) ≤ a1 ∧ a1 < 400) <|
      if (τ (1023) a1) = (-1) then (
        some (0, τ))
      else (
        some (1, τ))))
noncomputable def g_X7_edge_29 (n : Nat) (k57 : Int → Int → Int → Int → Int → Int → Int → TT → Option (Int × TT)) (l0 l1 l2 l3 l4 s0 : Int) (τ : TT) : Option (Int × TT) :=
  k57 l0 l1 l2 l3 l4 s0 1 τ
noncomputable def g_X7_edge_57 (n : Nat) (l0 l1 l2 l3 l4 s0 s1 : Int) (τ : TT) : Option (Int × TT) :=
  nm (sa τ 1022 0 s1) fun τ2 =>
  if (τ2 1022 0) ≤ 0 then (
    t0 (g_X7_change n l0 1 l1 l2 l3 0 τ2) fun τ8 =>
    some (l4, τ8))
  else (
    some (0, τ2))
noncomputable def g_X7_edge (n : Nat) (a0 a1 a2 a3 : Int) (τ : TT) : Option (Int × TT) :=
  t1 (g_X7_first n (1024) 1000 τ) fun v11 τ12 =>
  t1 (g_X7_isNode a0 a1 τ12) fun v15 τ16 =>
  if v15 = 0 then (
    g_X7_edge_29 n (g_X7_edge_57 n) a0 a1 a2 a3 v11 a0 τ16)
  else (
    t1 (g_X7_isNode a0 a2 τ16) fun v20 τ21 =>
    if v20 = 0 then (
      g_X7_edge_29 n (g_X7_edge_57 n) a0 a1 a2 a3 v11 a0 τ21)
    else (
      t1 (g_X7_isSmall a3 τ21) fun v24 τ25 =>
      if v24 = 0 then (
        g_X7_edge_57 n a0 a1 a2 a3 v11 a0 2 τ25)
      else (
        if v11 = 1000 then (
          g_X7_edge_57 n a0 a1 a2 a3 v11 a0 3 τ25)
        else (
          g_X7_edge_57 n a0 a1 a2 a3 v11 a0 0 τ25))))
noncomputable def g_X7_degree_46 (n : Nat) (k54 : Int → Int → Int → Int → Int → TT → Option (Int × TT)) (k55 : Int → Int → Int → Int → Int → Int → TT → Option (Int × TT)) (l0 l1 l2 l4 s0 s1 : Int) (τ : TT) : Option (Int × TT) :=
  if s1 = l1 then (
    k55 l0 l1 l2 l4 s0 1 τ)
  else (
    k54 l0 l1 l2 l4 s0 τ)
noncomputable def g_X7_degree_54 (n : Nat) (k55 : Int → Int → Int → Int → Int → Int → TT → Option (Int × TT)) (l0 l1 l2 l4 s0 : Int) (τ : TT) : Option (Int × TT) :=
  k55 l0 l1 l2 l4 s0 0 τ
noncomputable def g_X7_degree_55 (n : Nat) (k5 : Int → Int → Int → Int → Int → TT → Option (Int × TT)) (l0 l1 l2 l4 s0 s1 : Int) (τ : TT) : Option (Int × TT) :=
  gI (s0 + s1) <|
  nm (s0 + s1) fun u3 =>
  gI (l4 + 1) <|
  nm (l4 + 1) fun u6 =>
  k5 l0 l1 l2 u3 u6 τ
noncomputable def g_X7_degree_5 (n : Nat) : Nat → Int → Int → Int → Int → Int → TT → Option (Int × TT)
  | 0, _, _, _, _, _, _ => none
  | q + 1, l0, l1, l2, l3, l4, τ =>
    if 1000 ≤ l4 then (
      some (l3, τ))
    else (
      gd ((0 : Int) ≤ l4 ∧ l4 < 1000) <|
      if (τ (1024) l4) = (-1) then (
        g_X7_degree_54 n (g_X7_degree_55 n (g_X7_degree_5 n q)) l0 l1 l2 l4 l3 τ)
      else (
        if l2 = 0 then (
          gd ((0 : Int) ≤ l4 ∧ l4 < 1000) <|
          g_X7_degree_46 n (g_X7_degree_54 n (g_X7_degree_55 n (g_X7_degree_5 n q))) (g_X7_degree_55 n (g_X7_degree_5 n q)) l0 l1 l2 l4 l3 (τ (1025) l4) τ)
        else (
          gd ((0 : Int) ≤ l4 ∧ l4 < 1000) <|
          g_X7_degree_46 n (g_X7_degree_54 n (g_X7_degree_55 n (g_X7_degree_5 n q))) (g_X7_degree_55 n (g_X7_degree_5 n q)) l0 l1 l2 l4 l3 (τ (1026) l4) τ)))
noncomputable def g_X7_degree (n : Nat) (a0 a1 a2 : Int) (τ : TT) : Option (Int × TT) :=
  g_X7_degree_5 n n a0 a1 a2 0 0 τ
noncomputable def g_X7_dropNode_34 (n : Nat) (l0 l1 s0 s1 : Int) (τ : TT) : Option TT :=
  nm (sa τ 1022 0 s1) fun τ2 =>
  if (τ2 1022 0) = 0 then (
    t0 (g_X7_change n l0 2 l1 0 0 0 τ2) fun τ8 =>
    some τ8)
  else (
    some τ2)
noncomputable def g_X7_dropNode (n : Nat) (a0 a1 : Int) (τ : TT) : Option TT :=
  t1 (g_X7_isNode a0 a1 τ) fun v11 τ12 =>
  if v11 = 0 then (
    g_X7_dropNode_34 n a0 a1 a0 1 τ12)
  else (
    t1 (g_X7_degree n a0 a1 1 τ12) fun v16 τ17 =>
    t1 (g_X7_degree n a0 a1 0 τ17) fun v20 τ21 =>
    gI (v16 + v20) <|
    if (v16 + v20) ≤ 0 then (
      g_X7_dropNode_34 n a0 a1 a0 0 τ21)
    else (
      g_X7_dropNode_34 n a0 a1 a0 2 τ21))
noncomputable def g_X7_isEdge (a0 a1 : Int) (τ : TT) : Option (Int × TT) :=
  if a1 < 0 then (
    some (0, τ))
  else (
    if 1000 ≤ a1 then (
      some (0, τ))
    else (
      gd ((0 : Int) ≤ a1 ∧ a1 < 1000) <|
      if (τ (1024) a1) = (-1) then (
        some (0, τ))
      else (
        some (1, τ))))
noncomputable def g_X7_dropEdge_14 (n : Nat) (l0 l1 s0 s1 : Int) (τ : TT) : Option TT :=
  nm (sa τ 1022 0 s1) fun τ2 =>
  if (τ2 1022 0) = 0 then (
    t0 (g_X7_change n l0 3 l1 0 0 0 τ2) fun τ8 =>
    some τ8)
  else (
    some τ2)
noncomputable def g_X7_dropEdge (n : Nat) (a0 a1 : Int) (τ : TT) : Option TT :=
  t1 (g_X7_isEdge a0 a1 τ) fun v11 τ12 =>
  if v11 = 0 then (
    g_X7_dropEdge_14 n a0 a1 a0 1 τ12)
  else (
    g_X7_dropEdge_14 n a0 a1 a0 0 τ12)
noncomputable def g_X7_faultOf_17 (l3 s0 : Int) (τ : TT) : Option (Int × TT) :=
  if s0 = 0 then (
    some (1, τ))
  else (
    t1 (g_X7_isSmall l3 τ) fun v2 τ3 =>
    if v2 = 0 then (
      some (2, τ3))
    else (
      some (0, τ3)))
noncomputable def g_X7_faultOf (a0 a1 a2 a3 : Int) (τ : TT) : Option (Int × TT) :=
  if a1 = 0 then (
    t1 (g_X7_isNode a0 a2 τ) fun v8 τ9 =>
    g_X7_faultOf_17 a3 v8 τ9)
  else (
    t1 (g_X7_isEdge a0 a2 τ) fun v12 τ13 =>
    g_X7_faultOf_17 a3 v12 τ13)
noncomputable def g_X7_put_71 (n : Nat) (l2 l3 l4 l5 s0 s1 s2 : Int) (τ : TT) : Option (Int × TT) :=
  t0 (g_X7_change n s0 s1 s2 l2 l3 l4 τ) fun τ3 =>
  gd (0 ≤ l5 ∧ l5 ≤ 1) <|
  some (l5, τ3)
noncomputable def g_X7_put_60 (n : Nat) (l0 l1 l2 l3 l4 l5 : Int) (τ : TT) : Option (Int × TT) :=
  if l1 = 0 then (
    g_X7_put_71 n l2 l3 l4 l5 l0 4 0 τ)
  else (
    g_X7_put_71 n l2 l3 l4 l5 l0 4 1 τ)
noncomputable def g_X7_put_36 (n : Nat) (l0 l1 l2 l3 l4 s0 : Int) (τ : TT) : Option (Int × TT) :=
  if s0 = 0 then (
    if (τ 1022 6) = 3000 then (
      nm (sa τ 1022 0 3) fun τ11 =>
      some (0, τ11))
    else (
      g_X7_put_60 n l0 l1 l2 l3 l4 s0 τ))
  else (
    g_X7_put_60 n l0 l1 l2 l3 l4 s0 τ)
noncomputable def g_X7_put (n : Nat) (a0 a1 a2 a3 a4 : Int) (τ : TT) : Option (Int × TT) :=
  t1 (g_X7_faultOf a0 a1 a2 a3 τ) fun v14 τ15 =>
  nm (sa τ15 1022 0 v14) fun τ18 =>
  if (τ18 1022 0) ≤ 0 then (
    t1 (g_X7_property n a0 a1 a2 a3 τ18) fun v23 τ24 =>
    if v23 = (-1) then (
      g_X7_put_36 n a0 a1 a2 a3 a4 0 τ24)
    else (
      g_X7_put_36 n a0 a1 a2 a3 a4 1 τ24))
  else (
    some (0, τ18))
noncomputable def g_X7_remove_42 (n : Nat) (l2 l3 s0 s1 s2 : Int) (τ : TT) : Option (Int × TT) :=
  t0 (g_X7_change n s0 s1 s2 l2 l3 0 τ) fun τ3 =>
  some (1, τ3)
noncomputable def g_X7_remove (n : Nat) (a0 a1 a2 a3 : Int) (τ : TT) : Option (Int × TT) :=
  t1 (g_X7_faultOf a0 a1 a2 a3 τ) fun v6 τ7 =>
  nm (sa τ7 1022 0 v6) fun τ10 =>
  if 0 < (τ10 1022 0) then (
    some (0, τ10))
  else (
    t1 (g_X7_property n a0 a1 a2 a3 τ10) fun v15 τ16 =>
    if v15 = (-1) then (
      some (0, τ16))
    else (
      if a1 = 0 then (
        g_X7_remove_42 n a2 a3 a0 5 0 τ16)
      else (
        g_X7_remove_42 n a2 a3 a0 5 1 τ16)))
noncomputable def g_X7_has (n : Nat) (a0 a1 a2 a3 : Int) (τ : TT) : Option (Int × TT) :=
  t1 (g_X7_faultOf a0 a1 a2 a3 τ) fun v2 τ3 =>
  nm (sa τ3 1022 0 v2) fun τ6 =>
  if (τ6 1022 0) = 0 then (
    t1 (g_X7_property n a0 a1 a2 a3 τ6) fun v11 τ12 =>
    if v11 = (-1) then (
      some (0, τ12))
    else (
      some (1, τ12)))
  else (
    some (0, τ6))
noncomputable def g_X7_get_29 (n : Nat) (l0 s0 : Int) (τ : TT) : Option (Int × TT) :=
  if s0 = (-1) then (
    some (0, τ))
  else (
    gI (4 * s0) <|
    gI ((4 * s0) + 3) <|
    gd ((0 : Int) ≤ ((4 * s0) + 3) ∧ ((4 * s0) + 3) < 12000) <|
    some ((τ (1027) ((4 * s0) + 3)), τ))
noncomputable def g_X7_get (n : Nat) (a0 a1 a2 a3 : Int) (τ : TT) : Option (Int × TT) :=
  t1 (g_X7_faultOf a0 a1 a2 a3 τ) fun v7 τ8 =>
  nm (sa τ8 1022 0 v7) fun τ11 =>
  if (τ11 1022 0) = 0 then (
    t1 (g_X7_property n a0 a1 a2 a3 τ11) fun v16 τ17 =>
    g_X7_get_29 n a0 v16 τ17)
  else (
    g_X7_get_29 n a0 (-1) τ11)
noncomputable def g_X7_propertiesOf_55 (n : Nat) (k56 : Int → Int → Int → Int → Int → Int → TT → Option (Int × TT)) (l0 l1 l2 l4 s0 : Int) (τ : TT) : Option (Int × TT) :=
  k56 l0 l1 l2 l4 s0 0 τ
noncomputable def g_X7_propertiesOf_56 (n : Nat) (k5 : Int → Int → Int → Int → Int → TT → Option (Int × TT)) (l0 l1 l2 l4 s0 s1 : Int) (τ : TT) : Option (Int × TT) :=
  gI (s0 + s1) <|
  nm (s0 + s1) fun u2 =>
  gI (l4 + 1) <|
  nm (l4 + 1) fun u5 =>
  k5 l0 l1 l2 u2 u5 τ
noncomputable def g_X7_propertiesOf_33 (n : Nat) (k5 : Int → Int → Int → Int → Int → TT → Option (Int × TT)) (l0 l1 l2 l4 s0 s1 s2 : Int) (τ : TT) : Option (Int × TT) :=
  if s1 = s2 then (
    gI (4 * l4) <|
    gI ((4 * l4) + 1) <|
    gd ((0 : Int) ≤ ((4 * l4) + 1) ∧ ((4 * l4) + 1) < 12000) <|
    if (τ (1027) ((4 * l4) + 1)) = l2 then (
      g_X7_propertiesOf_56 n k5 l0 l1 l2 l4 s0 1 τ)
    else (
      g_X7_propertiesOf_55 n (g_X7_propertiesOf_56 n k5) l0 l1 l2 l4 s0 τ))
  else (
    g_X7_propertiesOf_55 n (g_X7_propertiesOf_56 n k5) l0 l1 l2 l4 s0 τ)
noncomputable def g_X7_propertiesOf_5 (n : Nat) : Nat → Int → Int → Int → Int → Int → TT → Option (Int × TT)
  | 0, _, _, _, _, _, _ => none
  | q + 1, l0, l1, l2, l3, l4, τ =>
    if (τ 1022 6) ≤ l4 then (
      some (l3, τ))
    else (
      gI (4 * l4) <|
      gd ((0 : Int) ≤ (4 * l4) ∧ (4 * l4) < 12000) <|
      if l1 = 0 then (
        g_X7_propertiesOf_33 n (g_X7_propertiesOf_5 n q) l0 l1 l2 l4 l3 (τ (1027) (4 * l4)) 0 τ)
      else (
        g_X7_propertiesOf_33 n (g_X7_propertiesOf_5 n q) l0 l1 l2 l4 l3 (τ (1027) (4 * l4)) 1 τ))
noncomputable def g_X7_propertiesOf (n : Nat) (a0 a1 a2 : Int) (τ : TT) : Option (Int × TT) :=
  g_X7_propertiesOf_5 n n a0 a1 a2 0 0 τ
noncomputable def g_X7_ofNode_22 (n : Nat) (k27 : Int → Int → Int → Int → Int → TT → Option (Int × TT)) (l0 l1 l2 s0 : Int) (τ : TT) : Option (Int × TT) :=
  k27 l0 l1 l2 s0 2 τ
noncomputable def g_X7_ofNode_78 (n : Nat) (s0 s1 s2 : Int) (τ : TT) : Option (Int × TT) :=
  t1 (g_X7_degree n s0 s1 s2 τ) fun v2 τ3 =>
  some (v2, τ3)
noncomputable def g_X7_ofNode_27 (n : Nat) (l0 l1 l2 s0 s1 : Int) (τ : TT) : Option (Int × TT) :=
  nm (sa τ 1022 0 s1) fun τ6 =>
  if (τ6 1022 0) ≤ 0 then (
    if l2 = 0 then (
      gd ((0 : Int) ≤ l1 ∧ l1 < 400) <|
      some ((τ6 (1023) l1), τ6))
    else (
      if l2 = 3 then (
        t1 (g_X7_propertiesOf n l0 0 l1 τ6) fun v14 τ15 =>
        some (v14, τ15))
      else (
        if l2 = 2 then (
          g_X7_ofNode_78 n l0 l1 1 τ6)
        else (
          g_X7_ofNode_78 n l0 l1 0 τ6))))
  else (
    some (0, τ6))
noncomputable def g_X7_ofNode (n : Nat) (a0 a1 a2 : Int) (τ : TT) : Option (Int × TT) :=
  t1 (g_X7_isNode a0 a1 τ) fun v20 τ21 =>
  if v20 = 0 then (
    g_X7_ofNode_27 n a0 a1 a2 a0 1 τ21)
  else (
    if a2 < 0 then (
      g_X7_ofNode_22 n (g_X7_ofNode_27 n) a0 a1 a2 a0 τ21)
    else (
      if a2 ≤ 3 then (
        g_X7_ofNode_27 n a0 a1 a2 a0 0 τ21)
      else (
        g_X7_ofNode_22 n (g_X7_ofNode_27 n) a0 a1 a2 a0 τ21)))
noncomputable def g_X7_ofEdge_22 (n : Nat) (k27 : Int → Int → Int → Int → Int → TT → Option (Int × TT)) (l0 l1 l2 s0 : Int) (τ : TT) : Option (Int × TT) :=
  k27 l0 l1 l2 s0 2 τ
noncomputable def g_X7_ofEdge_27 (n : Nat) (l0 l1 l2 s0 s1 : Int) (τ : TT) : Option (Int × TT) :=
  nm (sa τ 1022 0 s1) fun τ2 =>
  if (τ2 1022 0) ≤ 0 then (
    if l2 = 0 then (
      gd ((0 : Int) ≤ l1 ∧ l1 < 1000) <|
      some ((τ2 (1024) l1), τ2))
    else (
      if l2 = 1 then (
        gd ((0 : Int) ≤ l1 ∧ l1 < 1000) <|
        some ((τ2 (1025) l1), τ2))
      else (
        if l2 = 2 then (
          gd ((0 : Int) ≤ l1 ∧ l1 < 1000) <|
          some ((τ2 (1026) l1), τ2))
        else (
          t1 (g_X7_propertiesOf n l0 1 l1 τ2) fun v10 τ11 =>
          some (v10, τ11)))))
  else (
    some (0, τ2))
noncomputable def g_X7_ofEdge (n : Nat) (a0 a1 a2 : Int) (τ : TT) : Option (Int × TT) :=
  t1 (g_X7_isEdge a0 a1 τ) fun v20 τ21 =>
  if v20 = 0 then (
    g_X7_ofEdge_27 n a0 a1 a2 a0 1 τ21)
  else (
    if a2 < 0 then (
      g_X7_ofEdge_22 n (g_X7_ofEdge_27 n) a0 a1 a2 a0 τ21)
    else (
      if a2 ≤ 3 then (
        g_X7_ofEdge_27 n a0 a1 a2 a0 0 τ21)
      else (
        g_X7_ofEdge_22 n (g_X7_ofEdge_27 n) a0 a1 a2 a0 τ21)))
noncomputable def g_X7_edgeAt_17 (n : Nat) (k18 : Int → Int → Int → Int → Int → Int → TT → Option (Int × TT)) (l0 l1 l2 l3 s0 : Int) (τ : TT) : Option (Int × TT) :=
  k18 l0 l1 l2 l3 s0 1 τ
noncomputable def g_X7_edgeAt_74 (n : Nat) (k89 : Int → Int → Int → Int → Int → TT → Option (Int × TT)) (l0 l1 l2 l4 l5 s0 : Int) (τ : TT) : Option (Int × TT) :=
  if s0 = l1 then (
    if l4 = 0 then (
      some (l5, τ))
    else (
      gI (l4 + (-1)) <|
      nm (l4 + (-1)) fun u4 =>
      k89 l0 l1 l2 u4 l5 τ))
  else (
    k89 l0 l1 l2 l4 l5 τ)
noncomputable def g_X7_edgeAt_89 (n : Nat) (k27 : Int → Int → Int → Int → Int → TT → Option (Int × TT)) (l0 l1 l2 l4 l5 : Int) (τ : TT) : Option (Int × TT) :=
  gI (l5 + 1) <|
  nm (l5 + 1) fun u7 =>
  k27 l0 l1 l2 l4 u7 τ
noncomputable def g_X7_edgeAt_27 (n : Nat) : Nat → Int → Int → Int → Int → Int → TT → Option (Int × TT)
  | 0, _, _, _, _, _, _ => none
  | q + 1, l0, l1, l2, l4, l5, τ =>
    if 1000 ≤ l5 then (
      nm (sa τ 1022 0 1) fun τ28 =>
      some (0, τ28))
    else (
      if (τ 1022 0) = 0 then (
        gd ((0 : Int) ≤ l5 ∧ l5 < 1000) <|
        if (τ (1024) l5) = (-1) then (
          g_X7_edgeAt_89 n (g_X7_edgeAt_27 n q) l0 l1 l2 l4 l5 τ)
        else (
          if l2 = 0 then (
            gd ((0 : Int) ≤ l5 ∧ l5 < 1000) <|
            g_X7_edgeAt_74 n (g_X7_edgeAt_89 n (g_X7_edgeAt_27 n q)) l0 l1 l2 l4 l5 (τ (1025) l5) τ)
          else (
            gd ((0 : Int) ≤ l5 ∧ l5 < 1000) <|
            g_X7_edgeAt_74 n (g_X7_edgeAt_89 n (g_X7_edgeAt_27 n q)) l0 l1 l2 l4 l5 (τ (1026) l5) τ)))
      else (
        nm (sa τ 1022 0 1) fun τ33 =>
        some (0, τ33)))
noncomputable def g_X7_edgeAt_18 (n : Nat) (l0 l1 l2 l3 s0 s1 : Int) (τ : TT) : Option (Int × TT) :=
  nm (sa τ 1022 0 s1) fun τ44 =>
  g_X7_edgeAt_27 n n l0 l1 l2 l3 0 τ44
noncomputable def g_X7_edgeAt (n : Nat) (a0 a1 a2 a3 : Int) (τ : TT) : Option (Int × TT) :=
  t1 (g_X7_isNode a0 a1 τ) fun v47 τ48 =>
  if v47 = 0 then (
    g_X7_edgeAt_17 n (g_X7_edgeAt_18 n) a0 a1 a2 a3 a0 τ48)
  else (
    if a3 < 0 then (
      g_X7_edgeAt_17 n (g_X7_edgeAt_18 n) a0 a1 a2 a3 a0 τ48)
    else (
      g_X7_edgeAt_18 n a0 a1 a2 a3 a0 0 τ48))
noncomputable def g_X7_sync (a0 : Int) (τ : TT) : Option (Int × TT) :=
  nm (sa τ 1022 0 0) fun τ2 =>
  gI ((τ2 1022 8) - (τ2 1022 9)) <|
  nm ((τ2 1022 8) - (τ2 1022 9)) fun u7 =>
  nm (sa τ2 1022 9 (τ2 1022 8)) fun τ11 =>
  some (u7, τ11)
noncomputable def g_X7_crash_18 (n : Nat) (k23 : Int → Int → Int → Int → TT → Option (Int × TT)) (l0 l1 s0 : Int) (τ : TT) : Option (Int × TT) :=
  k23 l0 l1 s0 1 τ
noncomputable def g_X7_crash_71 (n : Nat) : Nat → Int → Int → Int → TT → Option (Int × TT)
  | 0, _, _, _, _ => none
  | q + 1, l0, l2, l3, τ =>
    if (τ 1022 8) ≤ l3 then (
      some (l2, τ))
    else (
      gI (5 * l3) <|
      gd ((0 : Int) ≤ (5 * l3) ∧ (5 * l3) < 25000) <|
      gI (5 * l3) <|
      gI ((5 * l3) + 1) <|
      gd ((0 : Int) ≤ ((5 * l3) + 1) ∧ ((5 * l3) + 1) < 25000) <|
      gI (5 * l3) <|
      gI ((5 * l3) + 2) <|
      gd ((0 : Int) ≤ ((5 * l3) + 2) ∧ ((5 * l3) + 2) < 25000) <|
      gI (5 * l3) <|
      gI ((5 * l3) + 3) <|
      gd ((0 : Int) ≤ ((5 * l3) + 3) ∧ ((5 * l3) + 3) < 25000) <|
      gI (5 * l3) <|
      gI ((5 * l3) + 4) <|
      gd ((0 : Int) ≤ ((5 * l3) + 4) ∧ ((5 * l3) + 4) < 25000) <|
      t0 (g_X7_act n l0 (τ (1028) (5 * l3)) (τ (1028) ((5 * l3) + 1)) (τ (1028) ((5 * l3) + 2)) (τ (1028) ((5 * l3) + 3)) (τ (1028) ((5 * l3) + 4)) τ) fun τ52 =>
      gI (l3 + 1) <|
      nm (l3 + 1) fun u55 =>
      g_X7_crash_71 n q l0 l2 u55 τ52)
noncomputable def g_X7_crash_23 (n : Nat) (l0 l1 s0 s1 : Int) (τ : TT) : Option (Int × TT) :=
  nm (sa τ 1022 0 s1) fun τ58 =>
  if (τ58 1022 0) ≤ 0 then (
    gI ((τ58 1022 8) - (τ58 1022 9)) <|
    gI (((τ58 1022 8) - (τ58 1022 9)) - l1) <|
    nm (((τ58 1022 8) - (τ58 1022 9)) - l1) fun u66 =>
    gI ((τ58 1022 9) + l1) <|
    nm (sa τ58 1022 8 ((τ58 1022 9) + l1)) fun τ71 =>
    nm (sa τ71 1022 9 (τ71 1022 8)) fun τ75 =>
    t0 (g_X7_empty n l0 τ75) fun τ79 =>
    g_X7_crash_71 n n l0 u66 0 τ79)
  else (
    some (0, τ58))
noncomputable def g_X7_crash (n : Nat) (a0 a1 : Int) (τ : TT) : Option (Int × TT) :=
  if a1 < 0 then (
    g_X7_crash_18 n (g_X7_crash_23 n) a0 a1 a0 τ)
  else (
    gI ((τ 1022 8) - (τ 1022 9)) <|
    if a1 ≤ ((τ 1022 8) - (τ 1022 9)) then (
      g_X7_crash_23 n a0 a1 a0 0 τ)
    else (
      g_X7_crash_18 n (g_X7_crash_23 n) a0 a1 a0 τ))
noncomputable def g_X7_walk_25 (n : Nat) (k34 : Int → Int → Int → Int → Int → Int → TT → Option (Int × TT)) (k29 : Int → Int → Int → Int → Int → TT → Option (Int × TT)) (l0 l1 l2 l3 s0 : Int) (τ : TT) : Option (Int × TT) :=
  if 0 ≤ l3 then (
    k34 l0 l1 l2 l3 s0 0 τ)
  else (
    k29 l0 l1 l2 l3 s0 τ)
noncomputable def g_X7_walk_29 (n : Nat) (k34 : Int → Int → Int → Int → Int → Int → TT → Option (Int × TT)) (l0 l1 l2 l3 s0 : Int) (τ : TT) : Option (Int × TT) :=
  k34 l0 l1 l2 l3 s0 2 τ
noncomputable def g_X7_walk_74 (n : Nat) (k49 : Int → Int → Int → Int → Int → TT → Option (Int × TT)) (l0 l1 l2 l3 l4 s0 s1 s2 : Int) (τ : TT) : Option (Int × TT) :=
  gd ((0 : Int) ≤ s1 ∧ s1 < tn s0) <|
  nm (sa τ s0 s1 s2) fun τ3 =>
  gI (l4 + 1) <|
  nm (l4 + 1) fun u6 =>
  k49 l0 l1 l2 l3 u6 τ3
noncomputable def g_X7_walk_130 (n : Nat) (k179 : Int → Int → Int → Int → Int → TT → Option (Int × TT)) (l0 l2 l3 l4 l5 : Int) (τ : TT) : Option (Int × TT) :=
  gd ((0 : Int) ≤ l5 ∧ l5 < 1000) <|
  gd ((0 : Int) ≤ (τ (1025) l5) ∧ (τ (1025) l5) < 400) <|
  if (τ (1029) (τ (1025) l5)) = l4 then (
    gd ((0 : Int) ≤ l5 ∧ l5 < 1000) <|
    gd ((0 : Int) ≤ (τ (1026) l5) ∧ (τ (1026) l5) < 400) <|
    if (τ (1029) (τ (1026) l5)) = (-1) then (
      gd ((0 : Int) ≤ l5 ∧ l5 < 1000) <|
      gI (l4 + 1) <|
      gd ((0 : Int) ≤ (τ (1026) l5) ∧ (τ (1026) l5) < 400) <|
      nm (sa τ (1029) (τ (1026) l5) (l4 + 1)) fun τ23 =>
      k179 l0 l2 l3 l4 l5 τ23)
    else (
      k179 l0 l2 l3 l4 l5 τ))
  else (
    k179 l0 l2 l3 l4 l5 τ)
noncomputable def g_X7_walk_179 (n : Nat) (k95 : Int → Int → Int → Int → Int → TT → Option (Int × TT)) (l0 l2 l3 l4 l5 : Int) (τ : TT) : Option (Int × TT) :=
  gI (l5 + 1) <|
  nm (l5 + 1) fun u26 =>
  k95 l0 l2 l3 l4 u26 τ
noncomputable def g_X7_walk_95 (n : Nat) (k84 : Int → Int → Int → Int → TT → Option (Int × TT)) : Nat → Int → Int → Int → Int → Int → TT → Option (Int × TT)
  | 0, _, _, _, _, _, _ => none
  | q + 1, l0, l2, l3, l4, l5, τ =>
    if 1000 ≤ l5 then (
      gI (l4 + 1) <|
      nm (l4 + 1) fun u41 =>
      k84 l0 l2 l3 u41 τ)
    else (
      gd ((0 : Int) ≤ l5 ∧ l5 < 1000) <|
      if (τ (1024) l5) = (-1) then (
        g_X7_walk_179 n (g_X7_walk_95 n k84 q) l0 l2 l3 l4 l5 τ)
      else (
        if l2 = (-1) then (
          g_X7_walk_130 n (g_X7_walk_179 n (g_X7_walk_95 n k84 q)) l0 l2 l3 l4 l5 τ)
        else (
          gd ((0 : Int) ≤ l5 ∧ l5 < 1000) <|
          if (τ (1024) l5) = l2 then (
            g_X7_walk_130 n (g_X7_walk_179 n (g_X7_walk_95 n k84 q)) l0 l2 l3 l4 l5 τ)
          else (
            g_X7_walk_179 n (g_X7_walk_95 n k84 q) l0 l2 l3 l4 l5 τ))))
noncomputable def g_X7_walk_279 (n : Nat) (k216 : Int → Int → Int → Int → TT → Option (Int × TT)) (l0 l3 l4 l5 : Int) (τ : TT) : Option (Int × TT) :=
  gI (l5 + 1) <|
  nm (l5 + 1) fun u51 =>
  k216 l0 l3 l4 u51 τ
noncomputable def g_X7_walk_216 (n : Nat) (k199 : Int → Int → Int → TT → Option (Int × TT)) : Nat → Int → Int → Int → Int → TT → Option (Int × TT)
  | 0, _, _, _, _, _ => none
  | q + 1, l0, l3, l4, l5, τ =>
    if 400 ≤ l5 then (
      gI (l4 + 1) <|
      nm (l4 + 1) fun u80 =>
      k199 l0 l3 u80 τ)
    else (
      gd ((0 : Int) ≤ l5 ∧ l5 < 400) <|
      if (τ (1023) l5) = (-1) then (
        g_X7_walk_279 n (g_X7_walk_216 n k199 q) l0 l3 l4 l5 τ)
      else (
        gd ((0 : Int) ≤ l5 ∧ l5 < 400) <|
        if (τ (1029) l5) = l4 then (
          gd ((0 : Int) ≤ (τ 1022 13) ∧ (τ 1022 13) < 400) <|
          nm (sa τ (1030) (τ 1022 13) l5) fun τ91 =>
          gd ((0 : Int) ≤ (τ91 1022 13) ∧ (τ91 1022 13) < 400) <|
          nm (sa τ91 (1031) (τ91 1022 13) l4) fun τ96 =>
          gI ((τ96 1022 13) + 1) <|
          nm (sa τ96 1022 13 ((τ96 1022 13) + 1)) fun τ101 =>
          g_X7_walk_279 n (g_X7_walk_216 n k199 q) l0 l3 l4 l5 τ101)
        else (
          g_X7_walk_279 n (g_X7_walk_216 n k199 q) l0 l3 l4 l5 τ)))
noncomputable def g_X7_walk_199 (n : Nat) : Nat → Int → Int → Int → TT → Option (Int × TT)
  | 0, _, _, _, _ => none
  | q + 1, l0, l3, l4, τ =>
    if 400 ≤ l4 then (
      some ((τ 1022 13), τ))
    else (
      if l3 < l4 then (
        some ((τ 1022 13), τ))
      else (
        g_X7_walk_216 n (g_X7_walk_199 n q) n l0 l3 l4 0 τ))
noncomputable def g_X7_walk_84 (n : Nat) : Nat → Int → Int → Int → Int → TT → Option (Int × TT)
  | 0, _, _, _, _, _ => none
  | q + 1, l0, l2, l3, l4, τ =>
    if 400 ≤ l4 then (
      nm (sa τ 1022 13 0) fun τ117 =>
      g_X7_walk_199 n n l0 l3 0 τ117)
    else (
      g_X7_walk_95 n (g_X7_walk_84 n q) n l0 l2 l3 l4 0 τ)
noncomputable def g_X7_walk_49 (n : Nat) : Nat → Int → Int → Int → Int → Int → TT → Option (Int × TT)
  | 0, _, _, _, _, _, _ => none
  | q + 1, l0, l1, l2, l3, l4, τ =>
    if 400 ≤ l4 then (
      g_X7_walk_84 n n l0 l2 l3 0 τ)
    else (
      if l4 = l1 then (
        g_X7_walk_74 n (g_X7_walk_49 n q) l0 l1 l2 l3 l4 (1029) l4 0 τ)
      else (
        g_X7_walk_74 n (g_X7_walk_49 n q) l0 l1 l2 l3 l4 (1029) l4 (-1) τ))
noncomputable def g_X7_walk_34 (n : Nat) (l0 l1 l2 l3 s0 s1 : Int) (τ : TT) : Option (Int × TT) :=
  nm (sa τ 1022 0 s1) fun τ126 =>
  if (τ126 1022 0) ≤ 0 then (
    g_X7_walk_49 n n l0 l1 l2 l3 0 τ126)
  else (
    some (0, τ126))
noncomputable def g_X7_walk (n : Nat) (a0 a1 a2 a3 : Int) (τ : TT) : Option (Int × TT) :=
  t1 (g_X7_isNode a0 a1 τ) fun v131 τ132 =>
  if v131 = 0 then (
    g_X7_walk_34 n a0 a1 a2 a3 a0 1 τ132)
  else (
    if a2 = (-1) then (
      g_X7_walk_25 n (g_X7_walk_34 n) (g_X7_walk_29 n (g_X7_walk_34 n)) a0 a1 a2 a3 a0 τ132)
    else (
      t1 (g_X7_isSmall a2 τ132) fun v136 τ137 =>
      if v136 = 0 then (
        g_X7_walk_29 n (g_X7_walk_34 n) a0 a1 a2 a3 a0 τ137)
      else (
        g_X7_walk_25 n (g_X7_walk_34 n) (g_X7_walk_29 n (g_X7_walk_34 n)) a0 a1 a2 a3 a0 τ137)))
noncomputable def g_X7_walked_13 (k18 : Int → Int → Int → Int → Int → TT → Option (Int × TT)) (l0 l1 l2 s0 : Int) (τ : TT) : Option (Int × TT) :=
  k18 l0 l1 l2 s0 1 τ
noncomputable def g_X7_walked_18 (l0 l1 l2 s0 s1 : Int) (τ : TT) : Option (Int × TT) :=
  nm (sa τ 1022 0 s1) fun τ2 =>
  if (τ2 1022 0) ≤ 0 then (
    if l2 = 0 then (
      gd ((0 : Int) ≤ l1 ∧ l1 < 400) <|
      some ((τ2 (1030) l1), τ2))
    else (
      gd ((0 : Int) ≤ l1 ∧ l1 < 400) <|
      some ((τ2 (1031) l1), τ2)))
  else (
    some (0, τ2))
noncomputable def g_X7_walked (a0 a1 a2 : Int) (τ : TT) : Option (Int × TT) :=
  if a1 < 0 then (
    g_X7_walked_13 (g_X7_walked_18) a0 a1 a2 a0 τ)
  else (
    if a1 < (τ 1022 13) then (
      g_X7_walked_18 a0 a1 a2 a0 0 τ)
    else (
      g_X7_walked_13 (g_X7_walked_18) a0 a1 a2 a0 τ))
noncomputable def g_X7_cost_17 (n : Nat) (k33 : Int → Int → Int → Int → Int → Int → TT → Option (Int × TT)) (l0 l1 l2 l3 s0 : Int) (τ : TT) : Option (Int × TT) :=
  k33 l0 l1 l2 l3 s0 1 τ
noncomputable def g_X7_cost_75 (n : Nat) (k48 : Int → Int → Int → Int → Int → TT → Option (Int × TT)) (l0 l1 l2 l3 l4 s0 s1 s2 : Int) (τ : TT) : Option (Int × TT) :=
  gd ((0 : Int) ≤ s1 ∧ s1 < tn s0) <|
  nm (sa τ s0 s1 s2) fun τ2 =>
  gI (l4 + 1) <|
  nm (l4 + 1) fun u5 =>
  k48 l0 l1 l2 l3 u5 τ2
noncomputable def g_X7_cost_245 (n : Nat) (k262 : Int → Int → Int → Int → Int → TT → Option (Int × TT)) (l0 l2 l3 l5 l6 l7 : Int) (τ : TT) : Option (Int × TT) :=
  gd ((0 : Int) ≤ l6 ∧ l6 < 1000) <|
  gd ((0 : Int) ≤ (τ (1026) l6) ∧ (τ (1026) l6) < 400) <|
  nm (sa τ (1032) (τ (1026) l6) l7) fun τ11 =>
  k262 l0 l2 l3 1 l5 τ11
noncomputable def g_X7_cost_262 (n : Nat) (k96 : Int → Int → Int → Int → Int → TT → Option (Int × TT)) (l0 l2 l3 l4 l5 : Int) (τ : TT) : Option (Int × TT) :=
  gI (l5 + 1) <|
  nm (l5 + 1) fun u14 =>
  k96 l0 l2 l3 l4 u14 τ
noncomputable def g_X7_cost_96 (n : Nat) (k85 : Int → Int → Int → Int → TT → Option (Int × TT)) : Nat → Int → Int → Int → Int → Int → TT → Option (Int × TT)
  | 0, _, _, _, _, _, _ => none
  | q + 1, l0, l2, l3, l4, l5, τ =>
    if (τ 1022 6) ≤ l5 then (
      k85 l0 l2 l3 l4 τ)
    else (
      gI (4 * l5) <|
      gI ((4 * l5) + 1) <|
      gd ((0 : Int) ≤ ((4 * l5) + 1) ∧ ((4 * l5) + 1) < 12000) <|
      nm (τ (1027) ((4 * l5) + 1)) fun u70 =>
      gI (4 * l5) <|
      gd ((0 : Int) ≤ (4 * l5) ∧ (4 * l5) < 12000) <|
      if (τ (1027) (4 * l5)) = 0 then (
        g_X7_cost_262 n (g_X7_cost_96 n k85 q) l0 l2 l3 l4 l5 τ)
      else (
        gI (4 * l5) <|
        gI ((4 * l5) + 2) <|
        gd ((0 : Int) ≤ ((4 * l5) + 2) ∧ ((4 * l5) + 2) < 12000) <|
        if (τ (1027) ((4 * l5) + 2)) = l3 then (
          gI (4 * l5) <|
          gI ((4 * l5) + 3) <|
          gd ((0 : Int) ≤ ((4 * l5) + 3) ∧ ((4 * l5) + 3) < 12000) <|
          if (τ (1027) ((4 * l5) + 3)) < 0 then (
            g_X7_cost_262 n (g_X7_cost_96 n k85 q) l0 l2 l3 l4 l5 τ)
          else (
            gd ((0 : Int) ≤ u70 ∧ u70 < 1000) <|
            gd ((0 : Int) ≤ (τ (1025) u70) ∧ (τ (1025) u70) < 400) <|
            if (lcmpW (τ (1032) (τ (1025) u70)) (-1)) = 0 then (
              g_X7_cost_262 n (g_X7_cost_96 n k85 q) l0 l2 l3 l4 l5 τ)
            else (
              gd ((0 : Int) ≤ u70 ∧ u70 < 1000) <|
              gd ((0 : Int) ≤ (τ (1025) u70) ∧ (τ (1025) u70) < 400) <|
              gI (4 * l5) <|
              gI ((4 * l5) + 3) <|
              gd ((0 : Int) ≤ ((4 * l5) + 3) ∧ ((4 * l5) + 3) < 12000) <|
              gL ((τ (1032) (τ (1025) u70)) + (τ (1027) ((4 * l5) + 3))) <|
              nm ((τ (1032) (τ (1025) u70)) + (τ (1027) ((4 * l5) + 3))) fun u100 =>
              gd ((0 : Int) ≤ u70 ∧ u70 < 1000) <|
              gd ((0 : Int) ≤ (τ (1026) u70) ∧ (τ (1026) u70) < 400) <|
              if (lcmpW (τ (1032) (τ (1026) u70)) (-1)) = 0 then (
                g_X7_cost_245 n (g_X7_cost_262 n (g_X7_cost_96 n k85 q)) l0 l2 l3 l5 u70 u100 τ)
              else (
                gd ((0 : Int) ≤ u70 ∧ u70 < 1000) <|
                gd ((0 : Int) ≤ (τ (1026) u70) ∧ (τ (1026) u70) < 400) <|
                if 0 ≤ (lcmpW u100 (τ (1032) (τ (1026) u70))) then (
                  g_X7_cost_262 n (g_X7_cost_96 n k85 q) l0 l2 l3 l4 l5 τ)
                else (
                  g_X7_cost_245 n (g_X7_cost_262 n (g_X7_cost_96 n k85 q)) l0 l2 l3 l5 u70 u100 τ)))))
        else (
          g_X7_cost_262 n (g_X7_cost_96 n k85 q) l0 l2 l3 l4 l5 τ)))
noncomputable def g_X7_cost_85 (n : Nat) : Nat → Int → Int → Int → Int → TT → Option (Int × TT)
  | 0, _, _, _, _, _ => none
  | q + 1, l0, l2, l3, l4, τ =>
    if l4 = 0 then (
      gd ((0 : Int) ≤ l2 ∧ l2 < 400) <|
      some ((τ (1032) l2), τ))
    else (
      g_X7_cost_96 n (g_X7_cost_85 n q) n l0 l2 l3 0 0 τ)
noncomputable def g_X7_cost_48 (n : Nat) : Nat → Int → Int → Int → Int → Int → TT → Option (Int × TT)
  | 0, _, _, _, _, _, _ => none
  | q + 1, l0, l1, l2, l3, l4, τ =>
    if 400 ≤ l4 then (
      g_X7_cost_85 n n l0 l2 l3 1 τ)
    else (
      if l4 = l1 then (
        g_X7_cost_75 n (g_X7_cost_48 n q) l0 l1 l2 l3 l4 (1032) l4 0 τ)
      else (
        g_X7_cost_75 n (g_X7_cost_48 n q) l0 l1 l2 l3 l4 (1032) l4 (-1) τ))
noncomputable def g_X7_cost_33 (n : Nat) (l0 l1 l2 l3 s0 s1 : Int) (τ : TT) : Option (Int × TT) :=
  nm (sa τ 1022 0 s1) fun τ125 =>
  if (τ125 1022 0) ≤ 0 then (
    g_X7_cost_48 n n l0 l1 l2 l3 0 τ125)
  else (
    some (0, τ125))
noncomputable def g_X7_cost (n : Nat) (a0 a1 a2 a3 : Int) (τ : TT) : Option (Int × TT) :=
  t1 (g_X7_isNode a0 a1 τ) fun v130 τ131 =>
  if v130 = 0 then (
    g_X7_cost_17 n (g_X7_cost_33 n) a0 a1 a2 a3 a0 τ131)
  else (
    t1 (g_X7_isNode a0 a2 τ131) fun v135 τ136 =>
    if v135 = 0 then (
      g_X7_cost_17 n (g_X7_cost_33 n) a0 a1 a2 a3 a0 τ136)
    else (
      t1 (g_X7_isSmall a3 τ136) fun v139 τ140 =>
      if v139 = 0 then (
        g_X7_cost_33 n a0 a1 a2 a3 a0 2 τ140)
      else (
        g_X7_cost_33 n a0 a1 a2 a3 a0 0 τ140)))
noncomputable def g_X7_feed_87 (n : Nat) (k34 : Int → Int → Int → Int → Int → Int → Int → TT → Option (Int × TT)) (l0 l1 l2 l3 l4 l5 l6 s0 : Int) (τ : TT) : Option (Int × TT) :=
  gI (8 * (iremW l6 4)) <|
  gI (24 - (8 * (iremW l6 4))) <|
  gd ((0 : Int) ≤ (τ 1022 16) ∧ (τ 1022 16) < 2000) <|
  gd (-128 ≤ (i2bW (ishrW s0 (24 - (8 * (iremW l6 4))))) ∧ (i2bW (ishrW s0 (24 - (8 * (iremW l6 4))))) ≤ 127) <|
  nm (sa τ (1033) (τ 1022 16) (i2bW (ishrW s0 (24 - (8 * (iremW l6 4)))))) fun τ7 =>
  gI ((τ7 1022 16) + 1) <|
  nm (sa τ7 1022 16 ((τ7 1022 16) + 1)) fun τ12 =>
  gI (l6 + 1) <|
  nm (l6 + 1) fun u15 =>
  k34 l0 l1 l2 l3 l4 l5 u15 τ12
noncomputable def g_X7_feed_34 (n : Nat) : Nat → Int → Int → Int → Int → Int → Int → Int → TT → Option (Int × TT)
  | 0, _, _, _, _, _, _, _, _ => none
  | q + 1, l0, l1, l2, l3, l4, l5, l6, τ =>
    if 20 ≤ l6 then (
      some ((τ 1022 16), τ))
    else (
      if 4 ≤ l6 then (
        if 8 ≤ l6 then (
          if 12 ≤ l6 then (
            if 16 ≤ l6 then (
              g_X7_feed_87 n (g_X7_feed_34 n q) l0 l1 l2 l3 l4 l5 l6 l5 τ)
            else (
              g_X7_feed_87 n (g_X7_feed_34 n q) l0 l1 l2 l3 l4 l5 l6 l4 τ))
          else (
            g_X7_feed_87 n (g_X7_feed_34 n q) l0 l1 l2 l3 l4 l5 l6 l3 τ))
        else (
          g_X7_feed_87 n (g_X7_feed_34 n q) l0 l1 l2 l3 l4 l5 l6 l2 τ))
      else (
        g_X7_feed_87 n (g_X7_feed_34 n q) l0 l1 l2 l3 l4 l5 l6 l1 τ))
noncomputable def g_X7_feed_19 (n : Nat) (l0 l1 l2 l3 l4 l5 s0 s1 : Int) (τ : TT) : Option (Int × TT) :=
  nm (sa τ 1022 0 s1) fun τ30 =>
  if (τ30 1022 0) ≤ 0 then (
    g_X7_feed_34 n n l0 l1 l2 l3 l4 l5 0 τ30)
  else (
    some (0, τ30))
noncomputable def g_X7_feed (n : Nat) (a0 a1 a2 a3 a4 a5 : Int) (τ : TT) : Option (Int × TT) :=
  gI ((τ 1022 16) + 20) <|
  if ((τ 1022 16) + 20) ≤ 2000 then (
    g_X7_feed_19 n a0 a1 a2 a3 a4 a5 a0 0 τ)
  else (
    g_X7_feed_19 n a0 a1 a2 a3 a4 a5 a0 1 τ)
noncomputable def g_X7_end_13 (k18 : Int → Int → Int → Int → TT → Option TT) (l0 l1 s0 : Int) (τ : TT) : Option TT :=
  k18 l0 l1 s0 1 τ
noncomputable def g_X7_end_18 (l0 l1 s0 s1 : Int) (τ : TT) : Option TT :=
  nm (sa τ 1022 0 s1) fun τ2 =>
  if (τ2 1022 0) = 0 then (
    nm (sa τ2 1022 16 l1) fun τ11 =>
    some τ11)
  else (
    nm (sa τ2 1022 16 (τ2 1022 16)) fun τ8 =>
    some τ8)
noncomputable def g_X7_end (a0 a1 : Int) (τ : TT) : Option TT :=
  if a1 < 0 then (
    g_X7_end_13 (g_X7_end_18) a0 a1 a0 τ)
  else (
    if a1 ≤ (τ 1022 16) then (
      g_X7_end_18 a0 a1 a0 0 τ)
    else (
      g_X7_end_13 (g_X7_end_18) a0 a1 a0 τ))
noncomputable def g_X7_at (a0 a1 : Int) (τ : TT) : Option (Int × TT) :=
  if (τ 1022 16) ≤ a1 then (
    some (0, τ))
  else (
    gd ((0 : Int) ≤ a1 ∧ a1 < 2000) <|
    some ((iandW (τ (1033) a1) 255), τ))
noncomputable def g_X7_isLetter (a0 : Int) (τ : TT) : Option (Int × TT) :=
  if a0 < 97 then (
    some (0, τ))
  else (
    if 122 < a0 then (
      some (0, τ))
    else (
      some (1, τ)))
noncomputable def g_X7_isDigit (a0 : Int) (τ : TT) : Option (Int × TT) :=
  if a0 < 48 then (
    some (0, τ))
  else (
    if 57 < a0 then (
      some (0, τ))
    else (
      some (1, τ)))
noncomputable def g_X7_isWord_8 (n : Nat) : Nat → Int → Int → Int → Int → TT → Option (Int × TT)
  | 0, _, _, _, _, _ => none
  | q + 1, l0, l1, l3, l5, τ =>
    if (τ 1022 21) ≤ l5 then (
      if 8 < (isubW (τ 1022 21) (τ 1022 20)) then (
        some (0, τ))
      else (
        if (lcmpW l3 l1) = 0 then (
          some (1, τ))
        else (
          some (0, τ))))
    else (
      t1 (g_X7_at l0 l5 τ) fun v23 τ24 =>
      nm (lorW (lshlW l3 8) v23) fun u26 =>
      gI (l5 + 1) <|
      nm (l5 + 1) fun u29 =>
      g_X7_isWord_8 n q l0 l1 u26 u29 τ24)
noncomputable def g_X7_isWord (n : Nat) (a0 a1 : Int) (τ : TT) : Option (Int × TT) :=
  nm (τ 1022 20) fun u32 =>
  g_X7_isWord_8 n n a0 a1 0 u32 τ
noncomputable def g_X7_word (n : Nat) (a0 : Int) (τ : TT) : Option (Int × TT) :=
  t1 (g_X7_isWord n a0 512852587109 τ) fun v2 τ3 =>
  if v2 = 0 then (
    t1 (g_X7_isWord n a0 6385252 τ3) fun v7 τ8 =>
    if v7 = 0 then (
      t1 (g_X7_isWord n a0 6840691 τ8) fun v12 τ13 =>
      if v12 = 0 then (
        t1 (g_X7_isWord n a0 28271 τ13) fun v17 τ18 =>
        if v17 = 0 then (
          t1 (g_X7_isWord n a0 125780071117422 τ18) fun v22 τ23 =>
          if v22 = 0 then (
            t1 (g_X7_isWord n a0 427071729268 τ23) fun v27 τ28 =>
            if v27 = 0 then (
              t1 (g_X7_isWord n a0 478660552050 τ28) fun v32 τ33 =>
              if v32 = 0 then (
                t1 (g_X7_isWord n a0 25209 τ33) fun v37 τ38 =>
                if v37 = 0 then (
                  t1 (g_X7_isWord n a0 1684370275 τ38) fun v42 τ43 =>
                  if v42 = 0 then (
                    t1 (g_X7_isWord n a0 465625246068 τ43) fun v47 τ48 =>
                    if v47 = 0 then (
                      t1 (g_X7_isWord n a0 7235441220169655156 τ48) fun v52 τ53 =>
                      if v52 = 0 then (
                        some (1, τ53))
                      else (
                        some (20, τ53)))
                    else (
                      some (19, τ48)))
                  else (
                    some (18, τ43)))
                else (
                  some (17, τ38)))
              else (
                some (16, τ33)))
            else (
              some (15, τ28)))
          else (
            some (14, τ23)))
        else (
          some (13, τ18)))
      else (
        some (12, τ13)))
    else (
      some (11, τ8)))
  else (
    some (10, τ3))
noncomputable def g_X7_flaw (a0 a1 a2 : Int) (τ : TT) : Option (Int × TT) :=
  nm (sa τ 1022 17 a1) fun τ2 =>
  nm (sa τ2 1022 18 a2) fun τ5 =>
  some (0, τ5)
noncomputable def g_X7_figure_79 (n : Nat) (k24 : Int → Int → TT → Option (Int × TT)) (l0 l1 s0 s1 : Int) (τ : TT) : Option (Int × TT) :=
  nm (sa τ 1022 22 s1) fun τ2 =>
  gI ((τ2 1022 21) + 1) <|
  nm (sa τ2 1022 21 ((τ2 1022 21) + 1)) fun τ7 =>
  k24 l0 l1 τ7
noncomputable def g_X7_figure_142 (n : Nat) (l0 : Int) (τ : TT) : Option (Int × TT) :=
  t1 (g_X7_flaw l0 1 (τ 1022 20) τ) fun v11 τ12 =>
  if v11 = 0 then (
    some (0, τ12))
  else (
    some (1, τ12))
noncomputable def g_X7_figure_112 (n : Nat) (l0 s0 s1 : Int) (τ : TT) : Option (Int × TT) :=
  nm (sa τ 1022 22 s1) fun τ16 =>
  nm (sa τ16 1022 19 2) fun τ19 =>
  if (lcmpW (τ19 1022 22) (-2147483648)) < 0 then (
    g_X7_figure_142 n l0 τ19)
  else (
    if (lcmpW (τ19 1022 22) 2147483647) ≤ 0 then (
      some (1, τ19))
    else (
      g_X7_figure_142 n l0 τ19))
noncomputable def g_X7_figure_24 (n : Nat) : Nat → Int → Int → TT → Option (Int × TT)
  | 0, _, _, _ => none
  | q + 1, l0, l1, τ =>
    t1 (g_X7_at l0 (τ 1022 21) τ) fun v52 τ53 =>
    t1 (g_X7_isDigit v52 τ53) fun v55 τ56 =>
    if v55 = 0 then (
      if l1 = 0 then (
        g_X7_figure_112 n l0 l0 (τ56 1022 22) τ56)
      else (
        gL (-(τ56 1022 22)) <|
        g_X7_figure_112 n l0 l0 (-(τ56 1022 22)) τ56))
    else (
      if (lcmpW (τ56 1022 22) 3000000000) ≤ 0 then (
        gL (10 * (τ56 1022 22)) <|
        t1 (g_X7_at l0 (τ56 1022 21) τ56) fun v69 τ70 =>
        gL ((10 * (τ56 1022 22)) + v69) <|
        gL (((10 * (τ56 1022 22)) + v69) - 48) <|
        g_X7_figure_79 n (g_X7_figure_24 n q) l0 l1 l0 (((10 * (τ56 1022 22)) + v69) - 48) τ70)
      else (
        g_X7_figure_79 n (g_X7_figure_24 n q) l0 l1 l0 (τ56 1022 22) τ56))
noncomputable def g_X7_figure_21 (n : Nat) (l0 l1 s0 s1 : Int) (τ : TT) : Option (Int × TT) :=
  nm (sa τ 1022 22 s1) fun τ76 =>
  g_X7_figure_24 n n l0 l1 τ76
noncomputable def g_X7_figure (n : Nat) (a0 a1 : Int) (τ : TT) : Option (Int × TT) :=
  if a1 = 0 then (
    t1 (g_X7_at a0 (τ 1022 20) τ) fun v81 τ82 =>
    gI (v81 - 48) <|
    g_X7_figure_21 n a0 a1 a0 (v81 - 48) τ82)
  else (
    g_X7_figure_21 n a0 a1 a0 0 τ)
noncomputable def g_X7_next_71 (n : Nat) (k8 : Int → TT → Option (Int × TT)) (l0 : Int) (τ : TT) : Option (Int × TT) :=
  gI ((τ 1022 20) + 1) <|
  nm (sa τ 1022 20 ((τ 1022 20) + 1)) fun τ4 =>
  k8 l0 τ4
noncomputable def g_X7_next_164 (n : Nat) (k136 : Int → TT → Option (Int × TT)) (l0 : Int) (τ : TT) : Option (Int × TT) :=
  gI ((τ 1022 21) + 1) <|
  nm (sa τ 1022 21 ((τ 1022 21) + 1)) fun τ9 =>
  k136 l0 τ9
noncomputable def g_X7_next_136 (n : Nat) : Nat → Int → TT → Option (Int × TT)
  | 0, _, _ => none
  | q + 1, l0, τ =>
    t1 (g_X7_at l0 (τ 1022 21) τ) fun v38 τ39 =>
    t1 (g_X7_isLetter v38 τ39) fun v41 τ42 =>
    if v41 = 0 then (
      t1 (g_X7_at l0 (τ42 1022 21) τ42) fun v47 τ48 =>
      t1 (g_X7_isDigit v47 τ48) fun v50 τ51 =>
      if v50 = 0 then (
        t1 (g_X7_word n l0 τ51) fun v55 τ56 =>
        nm (sa τ56 1022 19 v55) fun τ59 =>
        some (1, τ59))
      else (
        g_X7_next_164 n (g_X7_next_136 n q) l0 τ51))
    else (
      g_X7_next_164 n (g_X7_next_136 n q) l0 τ42)
noncomputable def g_X7_next_226 (n : Nat) (s0 s1 : Int) (τ : TT) : Option (Int × TT) :=
  t1 (g_X7_figure n s0 s1 τ) fun v62 τ63 =>
  gd (0 ≤ v62 ∧ v62 ≤ 1) <|
  some (v62, τ63)
noncomputable def g_X7_next_214 (n : Nat) (l0 l1 : Int) (τ : TT) : Option (Int × TT) :=
  if l1 = 45 then (
    g_X7_next_226 n l0 1 τ)
  else (
    g_X7_next_226 n l0 0 τ)
noncomputable def g_X7_next_401 (n : Nat) (k458 : Int → Int → Int → TT → Option (Int × TT)) (l0 l1 l2 s0 : Int) (τ : TT) : Option (Int × TT) :=
  if l1 = 60 then (
    if l2 = 45 then (
      k458 l0 s0 41 τ)
    else (
      if l2 = 61 then (
        k458 l0 s0 45 τ)
      else (
        k458 l0 s0 44 τ)))
  else (
    if l1 = 62 then (
      if l2 = 61 then (
        k458 l0 s0 47 τ)
      else (
        k458 l0 s0 46 τ))
    else (
      k458 l0 s0 50 τ))
noncomputable def g_X7_next_458 (n : Nat) (k461 : Int → TT → Option (Int × TT)) (l0 s0 s1 : Int) (τ : TT) : Option (Int × TT) :=
  nm (sa τ 1022 19 s1) fun τ73 =>
  k461 l0 τ73
noncomputable def g_X7_next_520 (n : Nat) (k525 : Int → Int → Int → Int → TT → Option (Int × TT)) (l0 s0 s1 : Int) (τ : TT) : Option (Int × TT) :=
  k525 l0 s0 s1 1 τ
noncomputable def g_X7_next_525 (n : Nat) (l0 s0 s1 s2 : Int) (τ : TT) : Option (Int × TT) :=
  gI (s1 + s2) <|
  nm (sa τ 1022 21 (s1 + s2)) fun τ77 =>
  if (τ77 1022 19) = 50 then (
    t1 (g_X7_flaw l0 1 (τ77 1022 20) τ77) fun v83 τ84 =>
    if v83 = 0 then (
      some (0, τ84))
    else (
      some (1, τ84)))
  else (
    some (1, τ77))
noncomputable def g_X7_next_461 (n : Nat) (l0 : Int) (τ : TT) : Option (Int × TT) :=
  if (τ 1022 19) = 38 then (
    g_X7_next_520 n (g_X7_next_525 n) l0 l0 (τ 1022 21) τ)
  else (
    if (τ 1022 19) = 40 then (
      g_X7_next_520 n (g_X7_next_525 n) l0 l0 (τ 1022 21) τ)
    else (
      if (τ 1022 19) = 41 then (
        g_X7_next_520 n (g_X7_next_525 n) l0 l0 (τ 1022 21) τ)
      else (
        if (τ 1022 19) = 43 then (
          g_X7_next_520 n (g_X7_next_525 n) l0 l0 (τ 1022 21) τ)
        else (
          if (τ 1022 19) = 45 then (
            g_X7_next_520 n (g_X7_next_525 n) l0 l0 (τ 1022 21) τ)
          else (
            if (τ 1022 19) = 47 then (
              g_X7_next_520 n (g_X7_next_525 n) l0 l0 (τ 1022 21) τ)
            else (
              g_X7_next_525 n l0 l0 (τ 1022 21) 0 τ))))))
noncomputable def g_X7_next_362 (n : Nat) (l0 l1 l2 s0 s1 : Int) (τ : TT) : Option (Int × TT) :=
  nm (sa τ 1022 19 s1) fun τ101 =>
  if (τ101 1022 19) = 0 then (
    if l1 = 61 then (
      g_X7_next_458 n (g_X7_next_461 n) l0 l0 42 τ101)
    else (
      if l1 = 33 then (
        if l2 = 61 then (
          g_X7_next_458 n (g_X7_next_461 n) l0 l0 43 τ101)
        else (
          g_X7_next_401 n (g_X7_next_458 n (g_X7_next_461 n)) l0 l1 l2 l0 τ101))
      else (
        g_X7_next_401 n (g_X7_next_458 n (g_X7_next_461 n)) l0 l1 l2 l0 τ101)))
  else (
    g_X7_next_461 n l0 τ101)
noncomputable def g_X7_next_230 (n : Nat) (l0 l1 : Int) (τ : TT) : Option (Int × TT) :=
  t1 (g_X7_at l0 (τ 1022 21) τ) fun v110 τ111 =>
  if l1 = 40 then (
    g_X7_next_362 n l0 l1 v110 l0 30 τ111)
  else (
    if l1 = 41 then (
      g_X7_next_362 n l0 l1 v110 l0 31 τ111)
    else (
      if l1 = 91 then (
        g_X7_next_362 n l0 l1 v110 l0 32 τ111)
      else (
        if l1 = 93 then (
          g_X7_next_362 n l0 l1 v110 l0 33 τ111)
        else (
          if l1 = 44 then (
            g_X7_next_362 n l0 l1 v110 l0 34 τ111)
          else (
            if l1 = 58 then (
              g_X7_next_362 n l0 l1 v110 l0 35 τ111)
            else (
              if l1 = 46 then (
                if v110 = 46 then (
                  g_X7_next_362 n l0 l1 v110 l0 38 τ111)
                else (
                  g_X7_next_362 n l0 l1 v110 l0 36 τ111))
              else (
                if l1 = 42 then (
                  g_X7_next_362 n l0 l1 v110 l0 37 τ111)
                else (
                  if l1 = 45 then (
                    if v110 = 62 then (
                      g_X7_next_362 n l0 l1 v110 l0 40 τ111)
                    else (
                      g_X7_next_362 n l0 l1 v110 l0 39 τ111))
                  else (
                    g_X7_next_362 n l0 l1 v110 l0 0 τ111)))))))))
noncomputable def g_X7_next_84 (n : Nat) (l0 : Int) (τ : TT) : Option (Int × TT) :=
  nm (sa τ 1022 21 (τ 1022 20)) fun τ126 =>
  nm (sa τ126 1022 19 0) fun τ129 =>
  if (τ129 1022 20) = (τ129 1022 16) then (
    some (1, τ129))
  else (
    t1 (g_X7_at l0 (τ129 1022 20) τ129) fun v136 τ137 =>
    gI ((τ137 1022 21) + 1) <|
    nm (sa τ137 1022 21 ((τ137 1022 21) + 1)) fun τ142 =>
    t1 (g_X7_isLetter v136 τ142) fun v144 τ145 =>
    if v144 = 0 then (
      t1 (g_X7_isDigit v136 τ145) fun v148 τ149 =>
      if v148 = 0 then (
        if v136 = 45 then (
          t1 (g_X7_at l0 (τ149 1022 21) τ149) fun v155 τ156 =>
          t1 (g_X7_isDigit v155 τ156) fun v158 τ159 =>
          if v158 = 0 then (
            g_X7_next_230 n l0 v136 τ159)
          else (
            g_X7_next_214 n l0 v136 τ159))
        else (
          g_X7_next_230 n l0 v136 τ149))
      else (
        g_X7_next_214 n l0 v136 τ149))
    else (
      g_X7_next_136 n n l0 τ145))
noncomputable def g_X7_next_8 (n : Nat) : Nat → Int → TT → Option (Int × TT)
  | 0, _, _ => none
  | q + 1, l0, τ =>
    if (τ 1022 16) ≤ (τ 1022 20) then (
      g_X7_next_84 n l0 τ)
    else (
      t1 (g_X7_at l0 (τ 1022 20) τ) fun v194 τ195 =>
      if v194 = 9 then (
        g_X7_next_71 n (g_X7_next_8 n q) l0 τ195)
      else (
        t1 (g_X7_at l0 (τ195 1022 20) τ195) fun v200 τ201 =>
        if v200 = 10 then (
          g_X7_next_71 n (g_X7_next_8 n q) l0 τ201)
        else (
          t1 (g_X7_at l0 (τ201 1022 20) τ201) fun v206 τ207 =>
          if v206 = 13 then (
            g_X7_next_71 n (g_X7_next_8 n q) l0 τ207)
          else (
            t1 (g_X7_at l0 (τ207 1022 20) τ207) fun v212 τ213 =>
            if v212 = 32 then (
              g_X7_next_71 n (g_X7_next_8 n q) l0 τ213)
            else (
              g_X7_next_84 n l0 τ213)))))
noncomputable def g_X7_next (n : Nat) (a0 : Int) (τ : TT) : Option (Int × TT) :=
  nm (sa τ 1022 20 (τ 1022 21)) fun τ218 =>
  g_X7_next_8 n n a0 τ218
noncomputable def g_X7_cannot (a0 : Int) (τ : TT) : Option (Int × TT) :=
  t1 (g_X7_flaw a0 2 (τ 1022 20) τ) fun v3 τ4 =>
  gd (0 ≤ v3 ∧ v3 ≤ 1) <|
  some (v3, τ4)
noncomputable def g_X7_name_85 (n : Nat) (k36 : Int → Int → Int → Int → TT → Option (Int × TT)) (l0 l1 l3 s0 : Int) (τ : TT) : Option (Int × TT) :=
  gI (l3 + 1) <|
  nm (l3 + 1) fun u2 =>
  k36 l0 l1 s0 u2 τ
noncomputable def g_X7_name_92 (n : Nat) (k2 : Int → Int → TT → Option (Int × TT)) (l0 l1 l2 : Int) (τ : TT) : Option (Int × TT) :=
  if l2 = 0 then (
    gI (l1 + 1) <|
    nm (l1 + 1) fun u6 =>
    k2 l0 u6 τ)
  else (
    some (l1, τ))
noncomputable def g_X7_name_36 (n : Nat) (k2 : Int → Int → TT → Option (Int × TT)) : Nat → Int → Int → Int → Int → TT → Option (Int × TT)
  | 0, _, _, _, _, _ => none
  | q + 1, l0, l1, l2, l3, τ =>
    gI ((τ 1022 21) - (τ 1022 20)) <|
    if ((τ 1022 21) - (τ 1022 20)) ≤ l3 then (
      g_X7_name_92 n k2 l0 l1 l2 τ)
    else (
      if l2 = 0 then (
        g_X7_name_92 n k2 l0 l1 l2 τ)
      else (
        gd ((0 : Int) ≤ l1 ∧ l1 < 9) <|
        gI ((τ (1034) l1) + l3) <|
        gd ((0 : Int) ≤ ((τ (1034) l1) + l3) ∧ ((τ (1034) l1) + l3) < 2000) <|
        gI ((τ 1022 20) + l3) <|
        gd ((0 : Int) ≤ ((τ 1022 20) + l3) ∧ ((τ 1022 20) + l3) < 2000) <|
        if (τ (1033) ((τ (1034) l1) + l3)) = (τ (1033) ((τ 1022 20) + l3)) then (
          g_X7_name_85 n (g_X7_name_36 n k2 q) l0 l1 l3 1 τ)
        else (
          g_X7_name_85 n (g_X7_name_36 n k2 q) l0 l1 l3 0 τ)))
noncomputable def g_X7_name_33 (n : Nat) (k2 : Int → Int → TT → Option (Int × TT)) (l0 l1 s0 : Int) (τ : TT) : Option (Int × TT) :=
  g_X7_name_36 n k2 n l0 l1 s0 0 τ
noncomputable def g_X7_name_2 (n : Nat) : Nat → Int → Int → TT → Option (Int × TT)
  | 0, _, _, _ => none
  | q + 1, l0, l1, τ =>
    if (τ 1022 26) ≤ l1 then (
      if (τ 1022 26) = 8 then (
        t1 (g_X7_flaw l0 3 (τ 1022 20) τ) fun v111 τ112 =>
        some ((-1), τ112))
      else (
        gd ((0 : Int) ≤ (τ 1022 26) ∧ (τ 1022 26) < 9) <|
        nm (sa τ (1034) (τ 1022 26) (τ 1022 20)) fun τ87 =>
        gI ((τ87 1022 21) - (τ87 1022 20)) <|
        gd ((0 : Int) ≤ (τ87 1022 26) ∧ (τ87 1022 26) < 9) <|
        nm (sa τ87 (1035) (τ87 1022 26) ((τ87 1022 21) - (τ87 1022 20))) fun τ95 =>
        gd ((0 : Int) ≤ (τ95 1022 26) ∧ (τ95 1022 26) < 9) <|
        nm (sa τ95 (1036) (τ95 1022 26) 0) fun τ100 =>
        gI ((τ100 1022 26) + 1) <|
        nm (sa τ100 1022 26 ((τ100 1022 26) + 1)) fun τ105 =>
        gI ((τ105 1022 26) - 1) <|
        some (((τ105 1022 26) - 1), τ105)))
    else (
      gd ((0 : Int) ≤ l1 ∧ l1 < 9) <|
      gI ((τ 1022 21) - (τ 1022 20)) <|
      if (τ (1035) l1) = ((τ 1022 21) - (τ 1022 20)) then (
        g_X7_name_33 n (g_X7_name_2 n q) l0 l1 1 τ)
      else (
        g_X7_name_33 n (g_X7_name_2 n q) l0 l1 0 τ))
noncomputable def g_X7_name (n : Nat) (a0 : Int) (τ : TT) : Option (Int × TT) :=
  g_X7_name_2 n n a0 0 τ
noncomputable def g_X7_wrong (a0 a1 a2 : Int) (τ : TT) : Option TT :=
  if (τ 1022 28) ≤ a2 then (
    some τ)
  else (
    nm (sa τ 1022 27 a1) fun τ4 =>
    nm (sa τ4 1022 28 a2) fun τ7 =>
    some τ7)
noncomputable def g_X7_nameOf_56 (n : Nat) (k62 : Int → Int → Int → TT → Option (Int × TT)) (l0 l1 l2 l3 : Int) (τ : TT) : Option (Int × TT) :=
  t0 (g_X7_wrong l0 4 l2 τ) fun τ3 =>
  k62 l0 l1 l3 τ3
noncomputable def g_X7_nameOf_86 (n : Nat) (l0 l3 s0 s1 s2 : Int) (τ : TT) : Option (Int × TT) :=
  gd ((0 : Int) ≤ s1 ∧ s1 < tn s0) <|
  nm (sa τ s0 s1 s2) fun τ6 =>
  nm (sa τ6 1022 41 l3) fun τ9 =>
  t1 (g_X7_next n l0 τ9) fun v12 τ13 =>
  gd (0 ≤ v12 ∧ v12 ≤ 1) <|
  some (v12, τ13)
noncomputable def g_X7_nameOf_62 (n : Nat) (l0 l1 l3 : Int) (τ : TT) : Option (Int × TT) :=
  gd ((0 : Int) ≤ l3 ∧ l3 < 9) <|
  if (τ (1036) l3) = 0 then (
    g_X7_nameOf_86 n l0 l3 (1036) l3 l1 τ)
  else (
    gd ((0 : Int) ≤ l3 ∧ l3 < 9) <|
    g_X7_nameOf_86 n l0 l3 (1036) l3 (τ (1036) l3) τ)
noncomputable def g_X7_nameOf (n : Nat) (a0 a1 : Int) (τ : TT) : Option (Int × TT) :=
  nm (sa τ 1022 41 (-1)) fun τ23 =>
  if (τ23 1022 19) = 1 then (
    nm (τ23 1022 20) fun u28 =>
    t1 (g_X7_name n a0 τ23) fun v31 τ32 =>
    if v31 = (-1) then (
      some (0, τ32))
    else (
      gd ((0 : Int) ≤ v31 ∧ v31 < 9) <|
      if (τ32 (1036) v31) = 0 then (
        g_X7_nameOf_62 n a0 a1 v31 τ32)
      else (
        if a1 = 2 then (
          g_X7_nameOf_56 n (g_X7_nameOf_62 n) a0 a1 u28 v31 τ32)
        else (
          gd ((0 : Int) ≤ v31 ∧ v31 < 9) <|
          if (τ32 (1036) v31) = 2 then (
            g_X7_nameOf_56 n (g_X7_nameOf_62 n) a0 a1 u28 v31 τ32)
          else (
            g_X7_nameOf_62 n a0 a1 v31 τ32)))))
  else (
    some (1, τ23))
noncomputable def g_X7_isFigure_33 (n : Nat) (l0 : Int) (τ : TT) : Option (Int × TT) :=
  t1 (g_X7_flaw l0 3 (τ 1022 20) τ) fun v3 τ4 =>
  gd (0 ≤ v3 ∧ v3 ≤ 1) <|
  some (v3, τ4)
noncomputable def g_X7_isFigure (n : Nat) (a0 a1 a2 : Int) (τ : TT) : Option (Int × TT) :=
  if (τ 1022 19) = 2 then (
    if (lcmpW (τ 1022 22) a1) < 0 then (
      g_X7_isFigure_33 n a0 τ)
    else (
      if (lcmpW (τ 1022 22) a2) ≤ 0 then (
        nm (sa τ 1022 42 (l2iW (τ 1022 22))) fun τ15 =>
        t1 (g_X7_next n a0 τ15) fun v18 τ19 =>
        gd (0 ≤ v18 ∧ v18 ≤ 1) <|
        some (v18, τ19))
      else (
        g_X7_isFigure_33 n a0 τ)))
  else (
    t1 (g_X7_cannot a0 τ) fun v23 τ24 =>
    gd (0 ≤ v23 ∧ v23 ≤ 1) <|
    some (v23, τ24))
noncomputable def g_X7_small (n : Nat) (a0 : Int) (τ : TT) : Option (Int × TT) :=
  nm (sa τ 1022 42 (-1)) fun τ2 =>
  if (τ2 1022 19) = 35 then (
    t1 (g_X7_next n a0 τ2) fun v7 τ8 =>
    if v7 = 0 then (
      some (0, τ8))
    else (
      t1 (g_X7_isFigure n a0 0 31 τ8) fun v12 τ13 =>
      if v12 = 0 then (
        some (0, τ13))
      else (
        some (1, τ13))))
  else (
    some (1, τ2))
noncomputable def g_X7_op (a0 a1 a2 a3 a4 a5 : Int) (τ : TT) : Option TT :=
  gI (5 * (τ 1022 32)) <|
  nm (5 * (τ 1022 32)) fun u3 =>
  gd ((0 : Int) ≤ u3 ∧ u3 < 300) <|
  nm (sa τ (1037) u3 a1) fun τ7 =>
  gI (u3 + 1) <|
  gd ((0 : Int) ≤ (u3 + 1) ∧ (u3 + 1) < 300) <|
  nm (sa τ7 (1037) (u3 + 1) a2) fun τ12 =>
  gI (u3 + 2) <|
  gd ((0 : Int) ≤ (u3 + 2) ∧ (u3 + 2) < 300) <|
  nm (sa τ12 (1037) (u3 + 2) a3) fun τ17 =>
  gI (u3 + 3) <|
  gd ((0 : Int) ≤ (u3 + 3) ∧ (u3 + 3) < 300) <|
  nm (sa τ17 (1037) (u3 + 3) a4) fun τ22 =>
  gI (u3 + 4) <|
  gd ((0 : Int) ≤ (u3 + 4) ∧ (u3 + 4) < 300) <|
  nm (sa τ22 (1037) (u3 + 4) a5) fun τ27 =>
  gI ((τ27 1022 32) + 1) <|
  nm (sa τ27 1022 32 ((τ27 1022 32) + 1)) fun τ32 =>
  some τ32
noncomputable def g_X7_take (n : Nat) (a0 a1 : Int) (τ : TT) : Option (Int × TT) :=
  if (τ 1022 19) = a1 then (
    t1 (g_X7_next n a0 τ) fun v9 τ10 =>
    gd (0 ≤ v9 ∧ v9 ≤ 1) <|
    some (v9, τ10))
  else (
    t1 (g_X7_cannot a0 τ) fun v4 τ5 =>
    gd (0 ≤ v4 ∧ v4 ≤ 1) <|
    some (v4, τ5))
noncomputable def g_X7_nodeText_77 (n : Nat) (l0 s0 s1 : Int) (τ : TT) : Option (Int × TT) :=
  t0 (g_X7_op s0 s1 (τ 1022 41) (τ 1022 42) 0 0 τ) fun τ5 =>
  t1 (g_X7_take n l0 31 τ5) fun v8 τ9 =>
  gd (0 ≤ v8 ∧ v8 ≤ 1) <|
  some (v8, τ9)
noncomputable def g_X7_nodeText (n : Nat) (a0 a1 : Int) (τ : TT) : Option (Int × TT) :=
  if (τ 1022 19) = 30 then (
    if (τ 1022 29) = 12 then (
      t1 (g_X7_flaw a0 3 (τ 1022 20) τ) fun v39 τ40 =>
      gd (0 ≤ v39 ∧ v39 ≤ 1) <|
      some (v39, τ40))
    else (
      gI ((τ 1022 29) + 1) <|
      nm (sa τ 1022 29 ((τ 1022 29) + 1)) fun τ19 =>
      t1 (g_X7_next n a0 τ19) fun v22 τ23 =>
      if v22 = 0 then (
        some (0, τ23))
      else (
        t1 (g_X7_nameOf n a0 1 τ23) fun v27 τ28 =>
        if v27 = 0 then (
          some (0, τ28))
        else (
          t1 (g_X7_small n a0 τ28) fun v32 τ33 =>
          if v32 = 0 then (
            some (0, τ33))
          else (
            if a1 = 0 then (
              g_X7_nodeText_77 n a0 a0 2 τ33)
            else (
              g_X7_nodeText_77 n a0 a0 0 τ33))))))
  else (
    t1 (g_X7_cannot a0 τ) fun v44 τ45 =>
    gd (0 ≤ v44 ∧ v44 ≤ 1) <|
    some (v44, τ45))
noncomputable def g_X7_edgeText_188 (n : Nat) (k189 : Int → Int → Int → Int → Int → Int → Int → TT → Option (Int × TT)) (l0 l1 l2 l3 l4 l5 : Int) (τ : TT) : Option (Int × TT) :=
  k189 l0 l1 l2 l3 l4 l5 0 τ
noncomputable def g_X7_edgeText_273 (n : Nat) (k248 : Int → Int → Int → Int → Int → Int → TT → Option (Int × TT)) (l0 l3 l4 l5 l7 l8 s0 s1 s2 s3 s4 s5 : Int) (τ : TT) : Option (Int × TT) :=
  t0 (g_X7_op s0 s1 s2 s3 s4 s5 τ) fun τ3 =>
  gI (l8 + 1) <|
  nm (l8 + 1) fun u6 =>
  k248 l0 l3 l4 l5 l7 u6 τ3
noncomputable def g_X7_edgeText_248 (n : Nat) : Nat → Int → Int → Int → Int → Int → Int → TT → Option (Int × TT)
  | 0, _, _, _, _, _, _, _ => none
  | q + 1, l0, l3, l4, l5, l7, l8, τ =>
    if l5 ≤ l8 then (
      t1 (g_X7_next n l0 τ) fun v17 τ18 =>
      gd (0 ≤ v17 ∧ v17 ≤ 1) <|
      some (v17, τ18))
    else (
      if l4 ≤ l8 then (
        g_X7_edgeText_273 n (g_X7_edgeText_248 n q) l0 l3 l4 l5 l7 l8 l0 3 (-1) l3 l7 0 τ)
      else (
        g_X7_edgeText_273 n (g_X7_edgeText_248 n q) l0 l3 l4 l5 l7 l8 l0 3 (-1) l3 l7 1 τ))
noncomputable def g_X7_edgeText_245 (n : Nat) (l0 l3 l4 l5 l7 : Int) (τ : TT) : Option (Int × TT) :=
  g_X7_edgeText_248 n n l0 l3 l4 l5 l7 0 τ
noncomputable def g_X7_edgeText_228 (n : Nat) (l0 l2 l3 l4 l5 s0 : Int) (τ : TT) : Option (Int × TT) :=
  if l5 = 0 then (
    t0 (g_X7_op l0 1 l2 l3 s0 0 τ) fun τ25 =>
    g_X7_edgeText_245 n l0 l3 l4 l5 s0 τ25)
  else (
    g_X7_edgeText_245 n l0 l3 l4 l5 s0 τ)
noncomputable def g_X7_edgeText_210 (n : Nat) (l0 l1 l2 l3 l4 l5 l6 : Int) (τ : TT) : Option (Int × TT) :=
  if l1 = 0 then (
    if l6 = 0 then (
      g_X7_edgeText_228 n l0 l2 l3 l4 l5 2 τ)
    else (
      g_X7_edgeText_228 n l0 l2 l3 l4 l5 0 τ))
  else (
    g_X7_edgeText_228 n l0 l2 l3 l4 l5 1 τ)
noncomputable def g_X7_edgeText_189 (n : Nat) (l0 l1 l2 l3 l4 l5 s0 : Int) (τ : TT) : Option (Int × TT) :=
  if (τ 1022 19) = 39 then (
    g_X7_edgeText_210 n l0 l1 l2 l3 l4 l5 s0 τ)
  else (
    if s0 = 0 then (
      t1 (g_X7_cannot l0 τ) fun v33 τ34 =>
      gd (0 ≤ v33 ∧ v33 ≤ 1) <|
      some (v33, τ34))
    else (
      g_X7_edgeText_210 n l0 l1 l2 l3 l4 l5 s0 τ))
noncomputable def g_X7_edgeText_160 (n : Nat) (l0 l1 l2 l3 l4 l5 : Int) (τ : TT) : Option (Int × TT) :=
  t1 (g_X7_take n l0 33 τ) fun v38 τ39 =>
  if v38 = 0 then (
    some (0, τ39))
  else (
    if l1 = 0 then (
      if (τ39 1022 19) = 40 then (
        g_X7_edgeText_189 n l0 l1 l2 l3 l4 l5 1 τ39)
      else (
        g_X7_edgeText_188 n (g_X7_edgeText_189 n) l0 l1 l2 l3 l4 l5 τ39))
    else (
      g_X7_edgeText_188 n (g_X7_edgeText_189 n) l0 l1 l2 l3 l4 l5 τ39))
noncomputable def g_X7_edgeText_43 (n : Nat) (l0 s0 : Int) (τ : TT) : Option (Int × TT) :=
  t1 (g_X7_next n l0 τ) fun v46 τ47 =>
  if v46 = 0 then (
    some (0, τ47))
  else (
    t1 (g_X7_take n l0 32 τ47) fun v51 τ52 =>
    if v51 = 0 then (
      some (0, τ52))
    else (
      t1 (g_X7_nameOf n l0 2 τ52) fun v56 τ57 =>
      if v56 = 0 then (
        some (0, τ57))
      else (
        nm (τ57 1022 41) fun u61 =>
        t1 (g_X7_small n l0 τ57) fun v64 τ65 =>
        if v64 = 0 then (
          some (0, τ65))
        else (
          nm (τ65 1022 42) fun u69 =>
          if (τ65 1022 19) = 37 then (
            if u61 = (-1) then (
              t1 (g_X7_next n l0 τ65) fun v75 τ76 =>
              if v75 = 0 then (
                some (0, τ76))
              else (
                t1 (g_X7_isFigure n l0 1 4 τ76) fun v80 τ81 =>
                if v80 = 0 then (
                  some (0, τ81))
                else (
                  nm (τ81 1022 42) fun u85 =>
                  t1 (g_X7_take n l0 38 τ81) fun v88 τ89 =>
                  if v88 = 0 then (
                    some (0, τ89))
                  else (
                    t1 (g_X7_isFigure n l0 u85 4 τ89) fun v93 τ94 =>
                    if v93 = 0 then (
                      some (0, τ94))
                    else (
                      nm (τ94 1022 42) fun u98 =>
                      g_X7_edgeText_160 n l0 s0 u61 u69 u85 u98 τ94)))))
            else (
              g_X7_edgeText_160 n l0 s0 u61 u69 0 0 τ65))
          else (
            g_X7_edgeText_160 n l0 s0 u61 u69 0 0 τ65)))))
noncomputable def g_X7_edgeText (n : Nat) (a0 : Int) (τ : TT) : Option (Int × TT) :=
  if (τ 1022 30) = 8 then (
    t1 (g_X7_flaw a0 3 (τ 1022 20) τ) fun v111 τ112 =>
    gd (0 ≤ v111 ∧ v111 ≤ 1) <|
    some (v111, τ112))
  else (
    gI ((τ 1022 30) + 1) <|
    nm (sa τ 1022 30 ((τ 1022 30) + 1)) fun τ105 =>
    if (τ105 1022 19) = 41 then (
      g_X7_edgeText_43 n a0 1 τ105)
    else (
      g_X7_edgeText_43 n a0 0 τ105))
noncomputable def g_X7_pattern_28 (n : Nat) (k10 : Int → TT → Option (Int × TT)) (l0 : Int) (τ : TT) : Option (Int × TT) :=
  t1 (g_X7_edgeText n l0 τ) fun v2 τ3 =>
  if v2 = 0 then (
    some (0, τ3))
  else (
    t1 (g_X7_nodeText n l0 0 τ3) fun v7 τ8 =>
    if v7 = 0 then (
      some (0, τ8))
    else (
      k10 l0 τ8))
noncomputable def g_X7_pattern_10 (n : Nat) : Nat → Int → TT → Option (Int × TT)
  | 0, _, _ => none
  | q + 1, l0, τ =>
    if (τ 1022 19) = 39 then (
      g_X7_pattern_28 n (g_X7_pattern_10 n q) l0 τ)
    else (
      if (τ 1022 19) = 41 then (
        g_X7_pattern_28 n (g_X7_pattern_10 n q) l0 τ)
      else (
        some (1, τ)))
noncomputable def g_X7_pattern (n : Nat) (a0 : Int) (τ : TT) : Option (Int × TT) :=
  t1 (g_X7_nodeText n a0 1 τ) fun v20 τ21 =>
  if v20 = 0 then (
    some (0, τ21))
  else (
    g_X7_pattern_10 n n a0 τ21)
noncomputable def g_X7_patternTexts_29 (n : Nat) (k2 : Int → Int → TT → Option (Int × TT)) (l0 s0 : Int) (τ : TT) : Option (Int × TT) :=
  if s0 = 0 then (
    k2 l0 s0 τ)
  else (
    t1 (g_X7_next n l0 τ) fun v3 τ4 =>
    if v3 = 0 then (
      some (0, τ4))
    else (
      k2 l0 s0 τ4))
noncomputable def g_X7_patternTexts_2 (n : Nat) : Nat → Int → Int → TT → Option (Int × TT)
  | 0, _, _, _ => none
  | q + 1, l0, l1, τ =>
    if l1 = 0 then (
      some (1, τ))
    else (
      t1 (g_X7_pattern n l0 τ) fun v17 τ18 =>
      if v17 = 0 then (
        some (0, τ18))
      else (
        if (τ18 1022 19) = 34 then (
          g_X7_patternTexts_29 n (g_X7_patternTexts_2 n q) l0 1 τ18)
        else (
          g_X7_patternTexts_29 n (g_X7_patternTexts_2 n q) l0 0 τ18)))
noncomputable def g_X7_patternTexts (n : Nat) (a0 : Int) (τ : TT) : Option (Int × TT) :=
  g_X7_patternTexts_2 n n a0 1 τ
noncomputable def g_X7_nameOrKey_41 (n : Nat) (l0 l1 : Int) (τ : TT) : Option (Int × TT) :=
  nm (sa τ 1022 43 (-1)) fun τ2 =>
  t1 (g_X7_next n l0 τ2) fun v5 τ6 =>
  if v5 = 0 then (
    some (0, τ6))
  else (
    if (τ6 1022 19) = 36 then (
      t1 (g_X7_next n l0 τ6) fun v12 τ13 =>
      if v12 = 0 then (
        some (0, τ13))
      else (
        t1 (g_X7_isFigure n l0 0 31 τ13) fun v17 τ18 =>
        if v17 = 0 then (
          some (0, τ18))
        else (
          nm (sa τ18 1022 43 (τ18 1022 42)) fun τ23 =>
          some (1, τ23))))
    else (
      if l1 = 0 then (
        some (1, τ6))
      else (
        t1 (g_X7_cannot l0 τ6) fun v27 τ28 =>
        if v27 = 0 then (
          some (0, τ28))
        else (
          some (1, τ28)))))
noncomputable def g_X7_nameOrKey (n : Nat) (a0 a1 : Int) (τ : TT) : Option (Int × TT) :=
  nm (τ 1022 20) fun u32 =>
  t1 (g_X7_name n a0 τ) fun v35 τ36 =>
  nm (sa τ36 1022 41 v35) fun τ39 =>
  if (τ39 1022 41) = (-1) then (
    some (0, τ39))
  else (
    gd ((0 : Int) ≤ (τ39 1022 41) ∧ (τ39 1022 41) < 9) <|
    if (τ39 (1036) (τ39 1022 41)) = 0 then (
      t0 (g_X7_wrong a0 5 u32 τ39) fun τ49 =>
      g_X7_nameOrKey_41 n a0 a1 τ49)
    else (
      g_X7_nameOrKey_41 n a0 a1 τ39))
noncomputable def g_X7_term_74 (n : Nat) (l0 l1 s0 s1 s2 : Int) (τ : TT) : Option (Int × TT) :=
  gd ((0 : Int) ≤ s1 ∧ s1 < tn s0) <|
  nm (sa τ s0 s1 s2) fun τ2 =>
  gI (l1 + 1) <|
  gd ((0 : Int) ≤ (l1 + 1) ∧ (l1 + 1) < 56) <|
  nm (sa τ2 (1038) (l1 + 1) (τ2 1022 41)) fun τ8 =>
  gI (l1 + 2) <|
  gd ((0 : Int) ≤ (l1 + 2) ∧ (l1 + 2) < 56) <|
  nm (sa τ8 (1038) (l1 + 2) (τ8 1022 43)) fun τ14 =>
  some (1, τ14)
noncomputable def g_X7_term (n : Nat) (a0 a1 : Int) (τ : TT) : Option (Int × TT) :=
  if (τ 1022 19) = 2 then (
    gd ((0 : Int) ≤ a1 ∧ a1 < 56) <|
    nm (sa τ (1038) a1 0) fun τ35 =>
    gI (a1 + 1) <|
    gd ((0 : Int) ≤ (a1 + 1) ∧ (a1 + 1) < 56) <|
    nm (sa τ35 (1038) (a1 + 1) (l2iW (τ35 1022 22))) fun τ41 =>
    t1 (g_X7_next n a0 τ41) fun v44 τ45 =>
    gd (0 ≤ v44 ∧ v44 ≤ 1) <|
    some (v44, τ45))
  else (
    if (τ 1022 19) = 1 then (
      t1 (g_X7_nameOrKey n a0 0 τ) fun v21 τ22 =>
      if v21 = 0 then (
        some (0, τ22))
      else (
        if (τ22 1022 43) = (-1) then (
          g_X7_term_74 n a0 a1 (1038) a1 1 τ22)
        else (
          g_X7_term_74 n a0 a1 (1038) a1 2 τ22)))
    else (
      t1 (g_X7_cannot a0 τ) fun v29 τ30 =>
      gd (0 ≤ v29 ∧ v29 ≤ 1) <|
      some (v29, τ30)))
noncomputable def g_X7_condition_18 (n : Nat) (k23 : Int → Int → TT → Option (Int × TT)) (l0 : Int) (τ : TT) : Option (Int × TT) :=
  k23 l0 1 τ
noncomputable def g_X7_condition_49 (n : Nat) (l0 l1 : Int) (τ : TT) : Option (Int × TT) :=
  if (τ 1022 34) = 8 then (
    t1 (g_X7_flaw l0 3 (τ 1022 20) τ) fun v78 τ79 =>
    gd (0 ≤ v78 ∧ v78 ≤ 1) <|
    some (v78, τ79))
  else (
    gI (7 * (τ 1022 34)) <|
    nm (7 * (τ 1022 34)) fun u5 =>
    gI ((τ 1022 34) + 1) <|
    nm (sa τ 1022 34 ((τ 1022 34) + 1)) fun τ10 =>
    if l1 = 0 then (
      gI (u5 + 1) <|
      t1 (g_X7_term n l0 (u5 + 1) τ10) fun v15 τ16 =>
      if v15 = 0 then (
        some (0, τ16))
      else (
        if 42 ≤ (τ16 1022 19) then (
          gd ((0 : Int) ≤ u5 ∧ u5 < 56) <|
          nm (sa τ16 (1038) u5 (τ16 1022 19)) fun τ24 =>
          t1 (g_X7_next n l0 τ24) fun v27 τ28 =>
          if v27 = 0 then (
            some (0, τ28))
          else (
            gI (u5 + 4) <|
            t1 (g_X7_term n l0 (u5 + 4) τ28) fun v33 τ34 =>
            if v33 = 0 then (
              some (0, τ34))
            else (
              some (1, τ34))))
        else (
          t1 (g_X7_cannot l0 τ16) fun v38 τ39 =>
          gd (0 ≤ v38 ∧ v38 ≤ 1) <|
          some (v38, τ39))))
    else (
      gd ((0 : Int) ≤ u5 ∧ u5 < 56) <|
      nm (sa τ10 (1038) u5 (τ10 1022 19)) fun τ45 =>
      t1 (g_X7_next n l0 τ45) fun v48 τ49 =>
      if v48 = 0 then (
        some (0, τ49))
      else (
        if (τ49 1022 19) = 1 then (
          t1 (g_X7_nameOrKey n l0 1 τ49) fun v55 τ56 =>
          if v55 = 0 then (
            some (0, τ56))
          else (
            gI (u5 + 2) <|
            gd ((0 : Int) ≤ (u5 + 2) ∧ (u5 + 2) < 56) <|
            nm (sa τ56 (1038) (u5 + 2) (τ56 1022 41)) fun τ63 =>
            gI (u5 + 3) <|
            gd ((0 : Int) ≤ (u5 + 3) ∧ (u5 + 3) < 56) <|
            nm (sa τ63 (1038) (u5 + 3) (τ63 1022 43)) fun τ69 =>
            some (1, τ69)))
        else (
          t1 (g_X7_cannot l0 τ49) fun v72 τ73 =>
          gd (0 ≤ v72 ∧ v72 ≤ 1) <|
          some (v72, τ73)))))
noncomputable def g_X7_condition_23 (n : Nat) (l0 s0 : Int) (τ : TT) : Option (Int × TT) :=
  if s0 = 0 then (
    if (τ 1022 19) = 1 then (
      g_X7_condition_49 n l0 s0 τ)
    else (
      if (τ 1022 19) = 2 then (
        g_X7_condition_49 n l0 s0 τ)
      else (
        t1 (g_X7_cannot l0 τ) fun v88 τ89 =>
        gd (0 ≤ v88 ∧ v88 ≤ 1) <|
        some (v88, τ89))))
  else (
    g_X7_condition_49 n l0 s0 τ)
noncomputable def g_X7_condition (n : Nat) (a0 : Int) (τ : TT) : Option (Int × TT) :=
  if (τ 1022 19) = 12 then (
    g_X7_condition_18 n (g_X7_condition_23 n) a0 τ)
  else (
    if (τ 1022 19) = 13 then (
      g_X7_condition_18 n (g_X7_condition_23 n) a0 τ)
    else (
      g_X7_condition_23 n a0 0 τ))
noncomputable def g_X7_conditionTexts_49 (n : Nat) (k15 : Int → Int → TT → Option (Int × TT)) (l0 s0 : Int) (τ : TT) : Option (Int × TT) :=
  k15 l0 s0 τ
noncomputable def g_X7_conditionTexts_15 (n : Nat) : Nat → Int → Int → TT → Option (Int × TT)
  | 0, _, _, _ => none
  | q + 1, l0, l1, τ =>
    if l1 = 0 then (
      some (1, τ))
    else (
      t1 (g_X7_next n l0 τ) fun v16 τ17 =>
      if v16 = 0 then (
        some (0, τ17))
      else (
        t1 (g_X7_condition n l0 τ17) fun v21 τ22 =>
        if v21 = 0 then (
          some (0, τ22))
        else (
          if (τ22 1022 19) = 11 then (
            g_X7_conditionTexts_49 n (g_X7_conditionTexts_15 n q) l0 1 τ22)
          else (
            g_X7_conditionTexts_49 n (g_X7_conditionTexts_15 n q) l0 0 τ22))))
noncomputable def g_X7_conditionTexts_14 (n : Nat) (l0 s0 : Int) (τ : TT) : Option (Int × TT) :=
  g_X7_conditionTexts_15 n n l0 s0 τ
noncomputable def g_X7_conditionTexts (n : Nat) (a0 : Int) (τ : TT) : Option (Int × TT) :=
  if (τ 1022 19) = 10 then (
    g_X7_conditionTexts_14 n a0 1 τ)
  else (
    g_X7_conditionTexts_14 n a0 0 τ)
noncomputable def g_X7_item_103 (n : Nat) (l0 l1 l3 s0 s1 s2 : Int) (τ : TT) : Option (Int × TT) :=
  gd ((0 : Int) ≤ s1 ∧ s1 < tn s0) <|
  nm (sa τ s0 s1 s2) fun τ2 =>
  gI (l3 + 1) <|
  gd ((0 : Int) ≤ (l3 + 1) ∧ (l3 + 1) < tn l1) <|
  nm (sa τ2 l1 (l3 + 1) (τ2 1022 41)) fun τ7 =>
  gI (l3 + 2) <|
  gd ((0 : Int) ≤ (l3 + 2) ∧ (l3 + 2) < tn l1) <|
  nm (sa τ7 l1 (l3 + 2) (τ7 1022 43)) fun τ12 =>
  some (1, τ12)
noncomputable def g_X7_item_22 (n : Nat) (l0 l1 l2 : Int) (τ : TT) : Option (Int × TT) :=
  if l2 = 8 then (
    t1 (g_X7_flaw l0 3 (τ 1022 20) τ) fun v49 τ50 =>
    gd (0 ≤ v49 ∧ v49 ≤ 1) <|
    some (v49, τ50))
  else (
    gI (4 * l2) <|
    nm (4 * l2) fun u16 =>
    gd ((0 : Int) ≤ u16 ∧ u16 < tn l1) <|
    nm (sa τ l1 u16 0) fun τ19 =>
    gI (u16 + 1) <|
    gd ((0 : Int) ≤ (u16 + 1) ∧ (u16 + 1) < tn l1) <|
    nm (sa τ19 l1 (u16 + 1) (-1)) fun τ23 =>
    gI (u16 + 2) <|
    gd ((0 : Int) ≤ (u16 + 2) ∧ (u16 + 2) < tn l1) <|
    nm (sa τ23 l1 (u16 + 2) (-1)) fun τ27 =>
    gI (u16 + 3) <|
    gd ((0 : Int) ≤ (u16 + 3) ∧ (u16 + 3) < tn l1) <|
    nm (sa τ27 l1 (u16 + 3) 0) fun τ31 =>
    if (τ31 1022 19) = 15 then (
      t1 (g_X7_next n l0 τ31) fun v43 τ44 =>
      gd (0 ≤ v43 ∧ v43 ≤ 1) <|
      some (v43, τ44))
    else (
      t1 (g_X7_nameOrKey n l0 0 τ31) fun v36 τ37 =>
      if v36 = 0 then (
        some (0, τ37))
      else (
        if (τ37 1022 43) = (-1) then (
          g_X7_item_103 n l0 l1 u16 l1 u16 1 τ37)
        else (
          g_X7_item_103 n l0 l1 u16 l1 u16 2 τ37))))
noncomputable def g_X7_item (n : Nat) (a0 a1 a2 : Int) (τ : TT) : Option (Int × TT) :=
  if (τ 1022 19) = 15 then (
    g_X7_item_22 n a0 a1 a2 τ)
  else (
    if (τ 1022 19) = 1 then (
      g_X7_item_22 n a0 a1 a2 τ)
    else (
      t1 (g_X7_cannot a0 τ) fun v58 τ59 =>
      gd (0 ≤ v58 ∧ v58 ≤ 1) <|
      some (v58, τ59)))
noncomputable def g_X7_itemTexts_92 (n : Nat) (k47 : Int → Int → TT → Option (Int × TT)) (l0 s0 : Int) (τ : TT) : Option (Int × TT) :=
  if s0 = 0 then (
    k47 l0 s0 τ)
  else (
    t1 (g_X7_next n l0 τ) fun v3 τ4 =>
    if v3 = 0 then (
      some (0, τ4))
    else (
      k47 l0 s0 τ4))
noncomputable def g_X7_itemTexts_47 (n : Nat) : Nat → Int → Int → TT → Option (Int × TT)
  | 0, _, _, _ => none
  | q + 1, l0, l1, τ =>
    if l1 = 0 then (
      some (1, τ))
    else (
      t1 (g_X7_item n l0 (1039) (τ 1022 36) τ) fun v26 τ27 =>
      if v26 = 0 then (
        some (0, τ27))
      else (
        gI ((τ27 1022 36) + 1) <|
        nm (sa τ27 1022 36 ((τ27 1022 36) + 1)) fun τ33 =>
        if (τ33 1022 19) = 34 then (
          g_X7_itemTexts_92 n (g_X7_itemTexts_47 n q) l0 1 τ33)
        else (
          g_X7_itemTexts_92 n (g_X7_itemTexts_47 n q) l0 0 τ33)))
noncomputable def g_X7_itemTexts_45 (n : Nat) (l0 : Int) (τ : TT) : Option (Int × TT) :=
  g_X7_itemTexts_47 n n l0 1 τ
noncomputable def g_X7_itemTexts_26 (n : Nat) (l0 s0 s1 : Int) (τ : TT) : Option (Int × TT) :=
  gd (0 ≤ s1 ∧ s1 ≤ 1) <|
  nm (sa τ 1022 39 s1) fun τ39 =>
  if (τ39 1022 39) = 0 then (
    g_X7_itemTexts_45 n l0 τ39)
  else (
    t1 (g_X7_next n l0 τ39) fun v44 τ45 =>
    if v44 = 0 then (
      some (0, τ45))
    else (
      g_X7_itemTexts_45 n l0 τ45))
noncomputable def g_X7_itemTexts (n : Nat) (a0 : Int) (τ : TT) : Option (Int × TT) :=
  t1 (g_X7_take n a0 14 τ) fun v49 τ50 =>
  if v49 = 0 then (
    some (0, τ50))
  else (
    if (τ50 1022 19) = 20 then (
      g_X7_itemTexts_26 n a0 a0 1 τ50)
    else (
      g_X7_itemTexts_26 n a0 a0 0 τ50))
noncomputable def g_X7_hasCount_27 (n : Nat) (k32 : Int → Int → Int → TT → Option (Int × TT)) (l0 l2 : Int) (τ : TT) : Option (Int × TT) :=
  k32 l0 l2 1 τ
noncomputable def g_X7_hasCount_32 (n : Nat) (k4 : Int → Int → Int → TT → Option (Int × TT)) (l0 l2 s0 : Int) (τ : TT) : Option (Int × TT) :=
  gI (l2 + 1) <|
  nm (l2 + 1) fun u2 =>
  k4 l0 s0 u2 τ
noncomputable def g_X7_hasCount_4 (n : Nat) : Nat → Int → Int → Int → TT → Option (Int × TT)
  | 0, _, _, _, _ => none
  | q + 1, l0, l1, l2, τ =>
    if (τ 1022 36) ≤ l2 then (
      gd (0 ≤ l1 ∧ l1 ≤ 1) <|
      some (l1, τ))
    else (
      if l1 = 0 then (
        gI (4 * l2) <|
        gd ((0 : Int) ≤ (4 * l2) ∧ (4 * l2) < 32) <|
        if (τ (1039) (4 * l2)) = 0 then (
          g_X7_hasCount_27 n (g_X7_hasCount_32 n (g_X7_hasCount_4 n q)) l0 l2 τ)
        else (
          g_X7_hasCount_32 n (g_X7_hasCount_4 n q) l0 l2 0 τ))
      else (
        g_X7_hasCount_27 n (g_X7_hasCount_32 n (g_X7_hasCount_4 n q)) l0 l2 τ))
noncomputable def g_X7_hasCount (n : Nat) (a0 : Int) (τ : TT) : Option (Int × TT) :=
  g_X7_hasCount_4 n n a0 0 0 τ
noncomputable def g_X7_orderTexts_126 (n : Nat) (k2 : Int → Int → TT → Option (Int × TT)) (l0 l1 : Int) (τ : TT) : Option (Int × TT) :=
  k2 l0 l1 τ
noncomputable def g_X7_orderTexts_112 (n : Nat) (k2 : Int → Int → TT → Option (Int × TT)) (l0 s0 : Int) (τ : TT) : Option (Int × TT) :=
  if s0 = 0 then (
    g_X7_orderTexts_126 n k2 l0 s0 τ)
  else (
    t1 (g_X7_next n l0 τ) fun v3 τ4 =>
    if v3 = 0 then (
      some (0, τ4))
    else (
      g_X7_orderTexts_126 n k2 l0 s0 τ4))
noncomputable def g_X7_orderTexts_88 (n : Nat) (k2 : Int → Int → TT → Option (Int × TT)) (l0 : Int) (τ : TT) : Option (Int × TT) :=
  gI ((τ 1022 38) + 1) <|
  nm (sa τ 1022 38 ((τ 1022 38) + 1)) fun τ10 =>
  if (τ10 1022 19) = 34 then (
    g_X7_orderTexts_112 n k2 l0 1 τ10)
  else (
    g_X7_orderTexts_112 n k2 l0 0 τ10)
noncomputable def g_X7_orderTexts_56 (n : Nat) (k2 : Int → Int → TT → Option (Int × TT)) (l0 : Int) (τ : TT) : Option (Int × TT) :=
  if (τ 1022 19) = 18 then (
    gI (4 * (τ 1022 38)) <|
    gI ((4 * (τ 1022 38)) + 3) <|
    gd ((0 : Int) ≤ ((4 * (τ 1022 38)) + 3) ∧ ((4 * (τ 1022 38)) + 3) < 32) <|
    nm (sa τ (1040) ((4 * (τ 1022 38)) + 3) 1) fun τ21 =>
    t1 (g_X7_next n l0 τ21) fun v24 τ25 =>
    if v24 = 0 then (
      some (0, τ25))
    else (
      g_X7_orderTexts_88 n k2 l0 τ25))
  else (
    g_X7_orderTexts_88 n k2 l0 τ)
noncomputable def g_X7_orderTexts_2 (n : Nat) : Nat → Int → Int → TT → Option (Int × TT)
  | 0, _, _, _ => none
  | q + 1, l0, l1, τ =>
    if l1 = 0 then (
      some (1, τ))
    else (
      nm (τ 1022 20) fun u55 =>
      t1 (g_X7_item n l0 (1040) (τ 1022 38) τ) fun v60 τ61 =>
      if v60 = 0 then (
        some (0, τ61))
      else (
        gI (4 * (τ61 1022 38)) <|
        gd ((0 : Int) ≤ (4 * (τ61 1022 38)) ∧ (4 * (τ61 1022 38)) < 32) <|
        if (τ61 (1040) (4 * (τ61 1022 38))) = 0 then (
          t1 (g_X7_hasCount n l0 τ61) fun v70 τ71 =>
          if v70 = 0 then (
            t0 (g_X7_wrong l0 6 u55 τ71) fun τ76 =>
            g_X7_orderTexts_56 n (g_X7_orderTexts_2 n q) l0 τ76)
          else (
            g_X7_orderTexts_56 n (g_X7_orderTexts_2 n q) l0 τ71))
        else (
          g_X7_orderTexts_56 n (g_X7_orderTexts_2 n q) l0 τ61)))
noncomputable def g_X7_orderTexts (n : Nat) (a0 : Int) (τ : TT) : Option (Int × TT) :=
  g_X7_orderTexts_2 n n a0 1 τ
noncomputable def g_X7_question_166 (n : Nat) (l0 : Int) (τ : TT) : Option (Int × TT) :=
  if (τ 1022 19) = 0 then (
    if (τ 1022 28) = 100000 then (
      some (1, τ))
    else (
      t1 (g_X7_flaw l0 (τ 1022 27) (τ 1022 28) τ) fun v8 τ9 =>
      if v8 = 0 then (
        some (0, τ9))
      else (
        some (1, τ9))))
  else (
    t1 (g_X7_cannot l0 τ) fun v13 τ14 =>
    gd (0 ≤ v13 ∧ v13 ≤ 1) <|
    some (v13, τ14))
noncomputable def g_X7_question_128 (n : Nat) (l0 : Int) (τ : TT) : Option (Int × TT) :=
  if (τ 1022 19) = 19 then (
    t1 (g_X7_next n l0 τ) fun v20 τ21 =>
    if v20 = 0 then (
      some (0, τ21))
    else (
      t1 (g_X7_isFigure n l0 0 2147483647 τ21) fun v25 τ26 =>
      if v25 = 0 then (
        some (0, τ26))
      else (
        nm (sa τ26 1022 40 (τ26 1022 42)) fun τ31 =>
        g_X7_question_166 n l0 τ31)))
  else (
    g_X7_question_166 n l0 τ)
noncomputable def g_X7_question (n : Nat) (a0 : Int) (τ : TT) : Option (Int × TT) :=
  nm (sa τ 1022 26 0) fun τ34 =>
  nm (sa τ34 1022 29 0) fun τ37 =>
  nm (sa τ37 1022 30 0) fun τ40 =>
  nm (sa τ40 1022 32 0) fun τ43 =>
  nm (sa τ43 1022 34 0) fun τ46 =>
  nm (sa τ46 1022 36 0) fun τ49 =>
  nm (sa τ49 1022 38 0) fun τ52 =>
  nm (sa τ52 1022 40 100000) fun τ55 =>
  nm (sa τ55 1022 28 100000) fun τ58 =>
  nm (sa τ58 1022 17 0) fun τ61 =>
  nm (sa τ61 1022 18 0) fun τ64 =>
  nm (sa τ64 1022 21 0) fun τ67 =>
  t1 (g_X7_next n a0 τ67) fun v70 τ71 =>
  if v70 = 0 then (
    some (0, τ71))
  else (
    t1 (g_X7_patternTexts n a0 τ71) fun v75 τ76 =>
    if v75 = 0 then (
      some (0, τ76))
    else (
      t1 (g_X7_conditionTexts n a0 τ76) fun v80 τ81 =>
      if v80 = 0 then (
        some (0, τ81))
      else (
        t1 (g_X7_itemTexts n a0 τ81) fun v85 τ86 =>
        if v85 = 0 then (
          some (0, τ86))
        else (
          if (τ86 1022 19) = 16 then (
            t1 (g_X7_next n a0 τ86) fun v92 τ93 =>
            if v92 = 0 then (
              some (0, τ93))
            else (
              t1 (g_X7_take n a0 17 τ93) fun v97 τ98 =>
              if v97 = 0 then (
                some (0, τ98))
              else (
                t1 (g_X7_orderTexts n a0 τ98) fun v102 τ103 =>
                if v102 = 0 then (
                  some (0, τ103))
                else (
                  g_X7_question_128 n a0 τ103))))
          else (
            g_X7_question_128 n a0 τ86)))))
noncomputable def g_X7_forget_33 (n : Nat) (k2 : Int → Int → Int → TT → Option TT) (l0 l1 l2 s0 s1 s2 : Int) (τ : TT) : Option TT :=
  gd ((0 : Int) ≤ s1 ∧ s1 < tn s0) <|
  nm (sa τ s0 s1 s2) fun τ2 =>
  gI (l2 + 1) <|
  nm (l2 + 1) fun u5 =>
  k2 l0 l1 u5 τ2
noncomputable def g_X7_forget_2 (n : Nat) : Nat → Int → Int → Int → TT → Option TT
  | 0, _, _, _, _ => none
  | q + 1, l0, l1, l2, τ =>
    if 8 ≤ l2 then (
      some τ)
    else (
      gd ((0 : Int) ≤ l2 ∧ l2 < 8) <|
      if (τ (1046) l2) < l1 then (
        gd ((0 : Int) ≤ l2 ∧ l2 < 8) <|
        g_X7_forget_33 n (g_X7_forget_2 n q) l0 l1 l2 (1046) l2 (τ (1046) l2) τ)
      else (
        g_X7_forget_33 n (g_X7_forget_2 n q) l0 l1 l2 (1046) l2 (-1) τ))
noncomputable def g_X7_forget (n : Nat) (a0 a1 : Int) (τ : TT) : Option TT :=
  g_X7_forget_2 n n a0 a1 0 τ
noncomputable def g_X7_isTerm_75 (n : Nat) (l4 s0 s1 : Int) (τ : TT) : Option (Int × TT) :=
  nm (sa τ 1022 55 s1) fun τ2 =>
  if l4 = (-1) then (
    some (0, τ2))
  else (
    some (1, τ2))
noncomputable def g_X7_isTerm_41 (n : Nat) (l0 l2 l3 s0 s1 : Int) (τ : TT) : Option (Int × TT) :=
  gd ((0 : Int) ≤ l2 ∧ l2 < 8) <|
  t1 (g_X7_property n s0 s1 (τ (1045) l2) l3 τ) fun v8 τ9 =>
  if v8 = (-1) then (
    g_X7_isTerm_75 n v8 l0 0 τ9)
  else (
    gI (4 * v8) <|
    gI ((4 * v8) + 3) <|
    gd ((0 : Int) ≤ ((4 * v8) + 3) ∧ ((4 * v8) + 3) < 12000) <|
    g_X7_isTerm_75 n v8 l0 (τ9 (1027) ((4 * v8) + 3)) τ9)
noncomputable def g_X7_isTerm (n : Nat) (a0 a1 a2 a3 : Int) (τ : TT) : Option (Int × TT) :=
  if 2 ≤ a1 then (
    gd ((0 : Int) ≤ a2 ∧ a2 < 9) <|
    if (τ (1036) a2) = 2 then (
      g_X7_isTerm_41 n a0 a2 a3 a0 1 τ)
    else (
      g_X7_isTerm_41 n a0 a2 a3 a0 0 τ))
  else (
    if a1 = 0 then (
      nm (sa τ 1022 55 a2) fun τ27 =>
      some (1, τ27))
    else (
      gd ((0 : Int) ≤ a2 ∧ a2 < 8) <|
      nm (sa τ 1022 55 (τ (1045) a2)) fun τ24 =>
      some (1, τ24)))
noncomputable def g_X7_holds_50 (n : Nat) (s0 s1 : Int) (τ : TT) : Option (Int × TT) :=
  if s0 = s1 then (
    some (1, τ))
  else (
    some (0, τ))
noncomputable def g_X7_holds (n : Nat) (a0 a1 : Int) (τ : TT) : Option (Int × TT) :=
  gI (7 * a1) <|
  nm (7 * a1) fun u3 =>
  gd ((0 : Int) ≤ u3 ∧ u3 < 56) <|
  nm (τ (1038) u3) fun u7 =>
  if 40 ≤ u7 then (
    gI (u3 + 1) <|
    gd ((0 : Int) ≤ (u3 + 1) ∧ (u3 + 1) < 56) <|
    gI (u3 + 2) <|
    gd ((0 : Int) ≤ (u3 + 2) ∧ (u3 + 2) < 56) <|
    gI (u3 + 3) <|
    gd ((0 : Int) ≤ (u3 + 3) ∧ (u3 + 3) < 56) <|
    t1 (g_X7_isTerm n a0 (τ (1038) (u3 + 1)) (τ (1038) (u3 + 2)) (τ (1038) (u3 + 3)) τ) fun v20 τ21 =>
    if v20 = 0 then (
      some (0, τ21))
    else (
      nm (τ21 1022 55) fun u25 =>
      gI (u3 + 4) <|
      gd ((0 : Int) ≤ (u3 + 4) ∧ (u3 + 4) < 56) <|
      gI (u3 + 5) <|
      gd ((0 : Int) ≤ (u3 + 5) ∧ (u3 + 5) < 56) <|
      gI (u3 + 6) <|
      gd ((0 : Int) ≤ (u3 + 6) ∧ (u3 + 6) < 56) <|
      t1 (g_X7_isTerm n a0 (τ21 (1038) (u3 + 4)) (τ21 (1038) (u3 + 5)) (τ21 (1038) (u3 + 6)) τ21) fun v37 τ38 =>
      if v37 = 0 then (
        some (0, τ38))
      else (
        nm (τ38 1022 55) fun u42 =>
        if u7 = 42 then (
          if u25 = u42 then (
            some (1, τ38))
          else (
            some (0, τ38)))
        else (
          if u7 = 43 then (
            if u25 = u42 then (
              some (0, τ38))
            else (
              some (1, τ38)))
          else (
            if u7 = 44 then (
              if u42 ≤ u25 then (
                some (0, τ38))
              else (
                some (1, τ38)))
            else (
              if u7 = 45 then (
                if u42 < u25 then (
                  some (0, τ38))
                else (
                  some (1, τ38)))
              else (
                if u7 = 46 then (
                  if u25 ≤ u42 then (
                    some (0, τ38))
                  else (
                    some (1, τ38)))
                else (
                  if u25 < u42 then (
                    some (0, τ38))
                  else (
                    some (1, τ38))))))))))
  else (
    gI (u3 + 2) <|
    gd ((0 : Int) ≤ (u3 + 2) ∧ (u3 + 2) < 56) <|
    gI (u3 + 3) <|
    gd ((0 : Int) ≤ (u3 + 3) ∧ (u3 + 3) < 56) <|
    t1 (g_X7_isTerm n a0 2 (τ (1038) (u3 + 2)) (τ (1038) (u3 + 3)) τ) fun v62 τ63 =>
    if u7 = 12 then (
      g_X7_holds_50 n v62 1 τ63)
    else (
      g_X7_holds_50 n v62 0 τ63))
noncomputable def g_X7_match_96 (n : Nat) (k101 : Int → Int → Int → Int → Int → Int → TT → Option TT) (l0 l1 l2 s0 s1 : Int) (τ : TT) : Option TT :=
  k101 l0 l1 l2 s0 s1 1 τ
noncomputable def g_X7_match_143 (n : Nat) (k35 : Int → Int → Int → TT → Option TT) (l0 l1 l2 s0 s1 s2 : Int) (τ : TT) : Option TT :=
  gd ((0 : Int) ≤ s1 ∧ s1 < tn s0) <|
  nm (sa τ s0 s1 s2) fun τ2 =>
  gI (l2 + 1) <|
  nm (l2 + 1) fun u5 =>
  k35 l0 l1 u5 τ2
noncomputable def g_X7_match_101 (n : Nat) (k35 : Int → Int → Int → TT → Option TT) (l0 l1 l2 s0 s1 s2 : Int) (τ : TT) : Option TT :=
  gd ((0 : Int) ≤ s1 ∧ s1 < tn s0) <|
  gd (0 ≤ s2 ∧ s2 ≤ 1) <|
  nm (sa τ s0 s1 s2) fun τ9 =>
  gI (l1 + l2) <|
  gI (4 * l2) <|
  gd ((0 : Int) ≤ (4 * l2) ∧ (4 * l2) < 32) <|
  if (τ9 (1039) (4 * l2)) = 0 then (
    g_X7_match_143 n k35 l0 l1 l2 (1047) (l1 + l2) 0 τ9)
  else (
    gI (l1 + l2) <|
    gd ((0 : Int) ≤ (l1 + l2) ∧ (l1 + l2) < 160016) <|
    if (τ9 (1048) (l1 + l2)) = 0 then (
      g_X7_match_143 n k35 l0 l1 l2 (1047) (l1 + l2) 0 τ9)
    else (
      g_X7_match_143 n k35 l0 l1 l2 (1047) (l1 + l2) (τ9 1022 55) τ9))
noncomputable def g_X7_match_216 (n : Nat) (k221 : Int → Int → Int → Int → Int → Int → TT → Option TT) (l0 l1 l2 s0 s1 : Int) (τ : TT) : Option TT :=
  k221 l0 l1 l2 s0 s1 1 τ
noncomputable def g_X7_match_269 (n : Nat) (k152 : Int → Int → Int → TT → Option TT) (l0 l1 l2 s0 s1 s2 : Int) (τ : TT) : Option TT :=
  gd ((0 : Int) ≤ s1 ∧ s1 < tn s0) <|
  nm (sa τ s0 s1 s2) fun τ23 =>
  gI (l2 + 1) <|
  nm (l2 + 1) fun u26 =>
  k152 l0 l1 u26 τ23
noncomputable def g_X7_match_221 (n : Nat) (k152 : Int → Int → Int → TT → Option TT) (l0 l1 l2 s0 s1 s2 : Int) (τ : TT) : Option TT :=
  gd ((0 : Int) ≤ s1 ∧ s1 < tn s0) <|
  gd (0 ≤ s2 ∧ s2 ≤ 1) <|
  nm (sa τ s0 s1 s2) fun τ30 =>
  gI (l1 + 8) <|
  gI ((l1 + 8) + l2) <|
  gI (4 * l2) <|
  gd ((0 : Int) ≤ (4 * l2) ∧ (4 * l2) < 32) <|
  if (τ30 (1040) (4 * l2)) = 0 then (
    g_X7_match_269 n k152 l0 l1 l2 (1047) ((l1 + 8) + l2) 0 τ30)
  else (
    gI (l1 + 8) <|
    gI ((l1 + 8) + l2) <|
    gd ((0 : Int) ≤ ((l1 + 8) + l2) ∧ ((l1 + 8) + l2) < 160016) <|
    if (τ30 (1048) ((l1 + 8) + l2)) = 0 then (
      g_X7_match_269 n k152 l0 l1 l2 (1047) ((l1 + 8) + l2) 0 τ30)
    else (
      g_X7_match_269 n k152 l0 l1 l2 (1047) ((l1 + 8) + l2) (τ30 1022 55) τ30))
noncomputable def g_X7_match_152 (n : Nat) : Nat → Int → Int → Int → TT → Option TT
  | 0, _, _, _, _ => none
  | q + 1, l0, l1, l2, τ =>
    if (τ 1022 38) ≤ l2 then (
      gd ((0 : Int) ≤ (τ 1022 53) ∧ (τ 1022 53) < 10001) <|
      nm (sa τ (1049) (τ 1022 53) 1) fun τ85 =>
      gI ((τ85 1022 53) + 1) <|
      nm (sa τ85 1022 53 ((τ85 1022 53) + 1)) fun τ90 =>
      some τ90)
    else (
      gI (l1 + 8) <|
      gI ((l1 + 8) + l2) <|
      gI (4 * l2) <|
      gd ((0 : Int) ≤ (4 * l2) ∧ (4 * l2) < 32) <|
      if (τ (1040) (4 * l2)) = 0 then (
        g_X7_match_216 n (g_X7_match_221 n (g_X7_match_152 n q)) l0 l1 l2 (1048) ((l1 + 8) + l2) τ)
      else (
        gI (4 * l2) <|
        gd ((0 : Int) ≤ (4 * l2) ∧ (4 * l2) < 32) <|
        gI (4 * l2) <|
        gI ((4 * l2) + 1) <|
        gd ((0 : Int) ≤ ((4 * l2) + 1) ∧ ((4 * l2) + 1) < 32) <|
        gI (4 * l2) <|
        gI ((4 * l2) + 2) <|
        gd ((0 : Int) ≤ ((4 * l2) + 2) ∧ ((4 * l2) + 2) < 32) <|
        t1 (g_X7_isTerm n l0 (τ (1040) (4 * l2)) (τ (1040) ((4 * l2) + 1)) (τ (1040) ((4 * l2) + 2)) τ) fun v111 τ112 =>
        if v111 = 0 then (
          g_X7_match_221 n (g_X7_match_152 n q) l0 l1 l2 (1048) ((l1 + 8) + l2) 0 τ112)
        else (
          g_X7_match_216 n (g_X7_match_221 n (g_X7_match_152 n q)) l0 l1 l2 (1048) ((l1 + 8) + l2) τ112)))
noncomputable def g_X7_match_35 (n : Nat) : Nat → Int → Int → Int → TT → Option TT
  | 0, _, _, _, _ => none
  | q + 1, l0, l1, l2, τ =>
    if (τ 1022 36) ≤ l2 then (
      g_X7_match_152 n n l0 l1 0 τ)
    else (
      gI (l1 + l2) <|
      gI (4 * l2) <|
      gd ((0 : Int) ≤ (4 * l2) ∧ (4 * l2) < 32) <|
      if (τ (1039) (4 * l2)) = 0 then (
        g_X7_match_96 n (g_X7_match_101 n (g_X7_match_35 n q)) l0 l1 l2 (1048) (l1 + l2) τ)
      else (
        gI (4 * l2) <|
        gd ((0 : Int) ≤ (4 * l2) ∧ (4 * l2) < 32) <|
        gI (4 * l2) <|
        gI ((4 * l2) + 1) <|
        gd ((0 : Int) ≤ ((4 * l2) + 1) ∧ ((4 * l2) + 1) < 32) <|
        gI (4 * l2) <|
        gI ((4 * l2) + 2) <|
        gd ((0 : Int) ≤ ((4 * l2) + 2) ∧ ((4 * l2) + 2) < 32) <|
        t1 (g_X7_isTerm n l0 (τ (1039) (4 * l2)) (τ (1039) ((4 * l2) + 1)) (τ (1039) ((4 * l2) + 2)) τ) fun v159 τ160 =>
        if v159 = 0 then (
          g_X7_match_101 n (g_X7_match_35 n q) l0 l1 l2 (1048) (l1 + l2) 0 τ160)
        else (
          g_X7_match_96 n (g_X7_match_101 n (g_X7_match_35 n q)) l0 l1 l2 (1048) (l1 + l2) τ160)))
noncomputable def g_X7_match_2 (n : Nat) : Nat → Int → Int → TT → Option TT
  | 0, _, _, _ => none
  | q + 1, l0, l1, τ =>
    if (τ 1022 34) ≤ l1 then (
      gI (16 * (τ 1022 53)) <|
      nm (16 * (τ 1022 53)) fun u181 =>
      g_X7_match_35 n n l0 u181 0 τ)
    else (
      t1 (g_X7_holds n l0 l1 τ) fun v184 τ185 =>
      if v184 = 0 then (
        some τ185)
      else (
        gI (l1 + 1) <|
        nm (l1 + 1) fun u189 =>
        g_X7_match_2 n q l0 u189 τ185))
noncomputable def g_X7_match (n : Nat) (a0 : Int) (τ : TT) : Option TT :=
  g_X7_match_2 n n a0 0 τ
noncomputable def g_X7_choices (a0 a1 : Int) (τ : TT) : Option (Int × TT) :=
  gI (5 * a1) <|
  gd ((0 : Int) ≤ (5 * a1) ∧ (5 * a1) < 300) <|
  nm (τ (1037) (5 * a1)) fun u4 =>
  if u4 = 0 then (
    some (400, τ))
  else (
    if u4 = 1 then (
      some (2000, τ))
    else (
      if u4 = 2 then (
        some (1, τ))
      else (
        some (2001, τ))))
noncomputable def g_X7_bind_43 (l0 l1 l2 l3 : Int) (τ : TT) : Option (Int × TT) :=
  gd ((0 : Int) ≤ l2 ∧ l2 < 8) <|
  nm (sa τ (1045) l2 l3) fun τ3 =>
  gd ((0 : Int) ≤ l2 ∧ l2 < 8) <|
  nm (sa τ3 (1046) l2 l1) fun τ7 =>
  some (1, τ7)
noncomputable def g_X7_bind (a0 a1 a2 a3 : Int) (τ : TT) : Option (Int × TT) :=
  if a2 = (-1) then (
    some (1, τ))
  else (
    gd ((0 : Int) ≤ a2 ∧ a2 < 8) <|
    if (τ (1046) a2) = (-1) then (
      g_X7_bind_43 a0 a1 a2 a3 τ)
    else (
      gd ((0 : Int) ≤ a2 ∧ a2 < 8) <|
      if a1 ≤ (τ (1046) a2) then (
        g_X7_bind_43 a0 a1 a2 a3 τ)
      else (
        gd ((0 : Int) ≤ a2 ∧ a2 < 8) <|
        if (τ (1045) a2) = a3 then (
          some (1, τ))
        else (
          some (0, τ)))))
noncomputable def g_X7_isFree_2 (n : Nat) : Nat → Int → Int → Int → Int → TT → Option (Int × TT)
  | 0, _, _, _, _, _ => none
  | q + 1, l0, l1, l2, l3, τ =>
    if l1 ≤ l3 then (
      some (1, τ))
    else (
      gd ((0 : Int) ≤ l3 ∧ l3 < 60) <|
      if (τ (1042) l3) = l2 then (
        some (0, τ))
      else (
        gI (l3 + 1) <|
        nm (l3 + 1) fun u13 =>
        g_X7_isFree_2 n q l0 l1 l2 u13 τ))
noncomputable def g_X7_isFree (n : Nat) (a0 a1 a2 : Int) (τ : TT) : Option (Int × TT) :=
  g_X7_isFree_2 n n a0 a1 a2 0 τ
noncomputable def g_X7_isGone_122 (n : Nat) (l0 l1 l2 l3 s0 : Int) (τ : TT) : Option (Int × TT) :=
  gd ((0 : Int) ≤ l1 ∧ l1 < 60) <|
  if s0 = (τ (1043) l1) then (
    gd ((0 : Int) ≤ l1 ∧ l1 < 60) <|
    nm (sa τ (1042) l1 l2) fun τ6 =>
    gI (l1 + 1) <|
    if l3 = 0 then (
      gd ((0 : Int) ≤ l2 ∧ l2 < 1000) <|
      gd ((0 : Int) ≤ (l1 + 1) ∧ (l1 + 1) < 60) <|
      nm (sa τ6 (1043) (l1 + 1) (τ6 (1026) l2)) fun τ14 =>
      some (1, τ14))
    else (
      gd ((0 : Int) ≤ l2 ∧ l2 < 1000) <|
      gd ((0 : Int) ≤ (l1 + 1) ∧ (l1 + 1) < 60) <|
      nm (sa τ6 (1043) (l1 + 1) (τ6 (1025) l2)) fun τ19 =>
      some (1, τ19)))
  else (
    some (0, τ))
noncomputable def g_X7_isGone_103 (n : Nat) (l0 l1 l2 l3 : Int) (τ : TT) : Option (Int × TT) :=
  if l3 = 0 then (
    gd ((0 : Int) ≤ l2 ∧ l2 < 1000) <|
    g_X7_isGone_122 n l0 l1 l2 l3 (τ (1025) l2) τ)
  else (
    gd ((0 : Int) ≤ l2 ∧ l2 < 1000) <|
    g_X7_isGone_122 n l0 l1 l2 l3 (τ (1026) l2) τ)
noncomputable def g_X7_isGone_51 (n : Nat) (l0 l1 l2 l3 l5 : Int) (τ : TT) : Option (Int × TT) :=
  t1 (g_X7_isFree n l0 l1 l2 τ) fun v27 τ28 =>
  if v27 = 0 then (
    some (0, τ28))
  else (
    if l3 = 0 then (
      if l5 = 1 then (
        some (0, τ28))
      else (
        g_X7_isGone_103 n l0 l1 l2 l3 τ28))
    else (
      if l5 = 0 then (
        some (0, τ28))
      else (
        if l5 = 2 then (
          gd ((0 : Int) ≤ l2 ∧ l2 < 1000) <|
          gd ((0 : Int) ≤ l2 ∧ l2 < 1000) <|
          if (τ28 (1025) l2) = (τ28 (1026) l2) then (
            some (0, τ28))
          else (
            g_X7_isGone_103 n l0 l1 l2 l3 τ28))
        else (
          g_X7_isGone_103 n l0 l1 l2 l3 τ28))))
noncomputable def g_X7_isGone (n : Nat) (a0 a1 a2 a3 : Int) (τ : TT) : Option (Int × TT) :=
  gI (5 * a1) <|
  gI ((5 * a1) + 2) <|
  gd ((0 : Int) ≤ ((5 * a1) + 2) ∧ ((5 * a1) + 2) < 300) <|
  nm (τ (1037) ((5 * a1) + 2)) fun u44 =>
  gI (5 * a1) <|
  gI ((5 * a1) + 3) <|
  gd ((0 : Int) ≤ ((5 * a1) + 3) ∧ ((5 * a1) + 3) < 300) <|
  nm (τ (1037) ((5 * a1) + 3)) fun u50 =>
  gd ((0 : Int) ≤ a2 ∧ a2 < 1000) <|
  if (τ (1024) a2) = (-1) then (
    some (0, τ))
  else (
    if u44 = (-1) then (
      g_X7_isGone_51 n a0 a1 a2 a3 u50 τ)
    else (
      gd ((0 : Int) ≤ a2 ∧ a2 < 1000) <|
      if (τ (1024) a2) = u44 then (
        g_X7_isGone_51 n a0 a1 a2 a3 u50 τ)
      else (
        some (0, τ))))
noncomputable def g_X7_isChoice_109 (n : Nat) (l0 l1 l4 l6 : Int) (τ : TT) : Option (Int × TT) :=
  t1 (g_X7_bind l0 l1 l4 l6 τ) fun v2 τ3 =>
  if v2 = 0 then (
    some (0, τ3))
  else (
    some (1, τ3))
noncomputable def g_X7_isChoice_70 (n : Nat) (l0 l1 l4 l5 s0 : Int) (τ : TT) : Option (Int × TT) :=
  gI (l1 + 1) <|
  gd ((0 : Int) ≤ (l1 + 1) ∧ (l1 + 1) < 60) <|
  nm (sa τ (1043) (l1 + 1) s0) fun τ9 =>
  t1 (g_X7_isNode l0 s0 τ9) fun v12 τ13 =>
  if v12 = 0 then (
    some (0, τ13))
  else (
    if l5 = (-1) then (
      g_X7_isChoice_109 n l0 l1 l4 s0 τ13)
    else (
      gd ((0 : Int) ≤ s0 ∧ s0 < 400) <|
      if (τ13 (1023) s0) = l5 then (
        g_X7_isChoice_109 n l0 l1 l4 s0 τ13)
      else (
        some (0, τ13))))
noncomputable def g_X7_isChoice_56 (n : Nat) (l0 l1 l2 l3 l4 l5 : Int) (τ : TT) : Option (Int × TT) :=
  if l3 = 0 then (
    g_X7_isChoice_70 n l0 l1 l4 l5 l2 τ)
  else (
    gd ((0 : Int) ≤ l1 ∧ l1 < 60) <|
    g_X7_isChoice_70 n l0 l1 l4 l5 (τ (1043) l1) τ)
noncomputable def g_X7_isChoice_149 (n : Nat) (l0 l1 l2 l4 s0 s1 s2 s3 : Int) (τ : TT) : Option (Int × TT) :=
  t1 (g_X7_isGone n s0 s1 s2 s3 τ) fun v24 τ25 =>
  if v24 = 0 then (
    some (0, τ25))
  else (
    t1 (g_X7_bind l0 l1 l4 (idivW l2 2) τ25) fun v29 τ30 =>
    if v29 = 0 then (
      some (0, τ30))
    else (
      some (1, τ30)))
noncomputable def g_X7_isChoice_207 (n : Nat) (k208 : Int → Int → Int → Int → TT → Option (Int × TT)) (l0 l1 l2 : Int) (τ : TT) : Option (Int × TT) :=
  k208 l0 l1 l2 0 τ
noncomputable def g_X7_isChoice_282 (n : Nat) (s0 s1 s2 s3 : Int) (τ : TT) : Option (Int × TT) :=
  t1 (g_X7_isGone n s0 s1 s2 s3 τ) fun v34 τ35 =>
  if v34 = 0 then (
    some (0, τ35))
  else (
    some (1, τ35))
noncomputable def g_X7_isChoice_208 (n : Nat) (l0 l1 l2 s0 : Int) (τ : TT) : Option (Int × TT) :=
  if l2 = 0 then (
    gd ((0 : Int) ≤ l1 ∧ l1 < 60) <|
    nm (sa τ (1044) l1 1) fun τ44 =>
    gI (l1 + 1) <|
    gd ((0 : Int) ≤ l1 ∧ l1 < 60) <|
    gd ((0 : Int) ≤ (l1 + 1) ∧ (l1 + 1) < 60) <|
    nm (sa τ44 (1043) (l1 + 1) (τ44 (1043) l1)) fun τ51 =>
    if s0 = 0 then (
      gI (5 * l1) <|
      gI ((5 * l1) + 4) <|
      gd ((0 : Int) ≤ ((5 * l1) + 4) ∧ ((5 * l1) + 4) < 300) <|
      if (τ51 (1037) ((5 * l1) + 4)) = 0 then (
        some (1, τ51))
      else (
        some (0, τ51)))
    else (
      some (1, τ51)))
  else (
    if s0 = 0 then (
      gI (l2 - 1) <|
      if (iremW l2 2) = 0 then (
        g_X7_isChoice_282 n l0 l1 (idivW (l2 - 1) 2) 1 τ)
      else (
        g_X7_isChoice_282 n l0 l1 (idivW (l2 - 1) 2) 0 τ))
    else (
      some (0, τ)))
noncomputable def g_X7_isChoice (n : Nat) (a0 a1 a2 : Int) (τ : TT) : Option (Int × TT) :=
  gI (5 * a1) <|
  gd ((0 : Int) ≤ (5 * a1) ∧ (5 * a1) < 300) <|
  nm (τ (1037) (5 * a1)) fun u62 =>
  gI (5 * a1) <|
  gI ((5 * a1) + 1) <|
  gd ((0 : Int) ≤ ((5 * a1) + 1) ∧ ((5 * a1) + 1) < 300) <|
  nm (τ (1037) ((5 * a1) + 1)) fun u68 =>
  gI (5 * a1) <|
  gI ((5 * a1) + 2) <|
  gd ((0 : Int) ≤ ((5 * a1) + 2) ∧ ((5 * a1) + 2) < 300) <|
  nm (τ (1037) ((5 * a1) + 2)) fun u74 =>
  gd ((0 : Int) ≤ a1 ∧ a1 < 60) <|
  nm (sa τ (1042) a1 (-1)) fun τ78 =>
  gd ((0 : Int) ≤ a1 ∧ a1 < 60) <|
  nm (sa τ78 (1044) a1 0) fun τ82 =>
  if u62 = 0 then (
    g_X7_isChoice_56 n a0 a1 a2 u62 u68 u74 τ82)
  else (
    if u62 = 2 then (
      g_X7_isChoice_56 n a0 a1 a2 u62 u68 u74 τ82)
    else (
      if u62 = 1 then (
        if (iremW a2 2) = 1 then (
          g_X7_isChoice_149 n a0 a1 a2 u68 a0 a1 (idivW a2 2) 1 τ82)
        else (
          g_X7_isChoice_149 n a0 a1 a2 u68 a0 a1 (idivW a2 2) 0 τ82))
      else (
        if a1 ≤ 0 then (
          g_X7_isChoice_207 n (g_X7_isChoice_208 n) a0 a1 a2 τ82)
        else (
          gI (5 * a1) <|
          gI ((5 * a1) - 5) <|
          gd ((0 : Int) ≤ ((5 * a1) - 5) ∧ ((5 * a1) - 5) < 300) <|
          if (τ82 (1037) ((5 * a1) - 5)) = 3 then (
            gI (a1 - 1) <|
            gd ((0 : Int) ≤ (a1 - 1) ∧ (a1 - 1) < 60) <|
            if (τ82 (1044) (a1 - 1)) = 0 then (
              g_X7_isChoice_207 n (g_X7_isChoice_208 n) a0 a1 a2 τ82)
            else (
              g_X7_isChoice_208 n a0 a1 a2 1 τ82))
          else (
            g_X7_isChoice_207 n (g_X7_isChoice_208 n) a0 a1 a2 τ82)))))
noncomputable def g_X7_isMatched_141 (n : Nat) (k142 : Int → Int → Int → Int → Int → TT → Option (Int × TT)) (l0 l1 s0 s1 : Int) (τ : TT) : Option (Int × TT) :=
  k142 l0 l1 s0 s1 1 τ
noncomputable def g_X7_isMatched_142 (n : Nat) (k168 : Int → Int → TT → Option (Int × TT)) (l0 l1 s0 s1 s2 : Int) (τ : TT) : Option (Int × TT) :=
  gI (s1 + s2) <|
  nm (sa τ 1022 54 (s1 + s2)) fun τ3 =>
  if (τ3 1022 54) ≤ 10000 then (
    gI (l1 + 1) <|
    nm (l1 + 1) fun u8 =>
    gd ((0 : Int) ≤ u8 ∧ u8 < 60) <|
    nm (sa τ3 (1041) u8 (-1)) fun τ12 =>
    k168 l0 u8 τ12)
  else (
    some (0, τ3))
noncomputable def g_X7_isMatched_168 (n : Nat) (k24 : Int → Int → TT → Option (Int × TT)) (l0 l1 : Int) (τ : TT) : Option (Int × TT) :=
  k24 l0 l1 τ
noncomputable def g_X7_isMatched_91 (n : Nat) (k24 : Int → Int → TT → Option (Int × TT)) (l0 l1 l2 l3 : Int) (τ : TT) : Option (Int × TT) :=
  gd ((0 : Int) ≤ l1 ∧ l1 < 60) <|
  nm (sa τ (1041) l1 l2) fun τ16 =>
  if l2 = l3 then (
    gd ((0 : Int) ≤ l1 ∧ l1 < 60) <|
    nm (sa τ16 (1042) l1 (-1)) fun τ27 =>
    gI (l1 + (-1)) <|
    nm (l1 + (-1)) fun u30 =>
    g_X7_isMatched_168 n k24 l0 u30 τ27)
  else (
    gI (5 * l1) <|
    gd ((0 : Int) ≤ (5 * l1) ∧ (5 * l1) < 300) <|
    if (τ16 (1037) (5 * l1)) = 3 then (
      if l2 = 0 then (
        g_X7_isMatched_142 n (g_X7_isMatched_168 n k24) l0 l1 l0 (τ16 1022 54) 0 τ16)
      else (
        g_X7_isMatched_141 n (g_X7_isMatched_142 n (g_X7_isMatched_168 n k24)) l0 l1 l0 (τ16 1022 54) τ16))
    else (
      g_X7_isMatched_141 n (g_X7_isMatched_142 n (g_X7_isMatched_168 n k24)) l0 l1 l0 (τ16 1022 54) τ16))
noncomputable def g_X7_isMatched_66 (n : Nat) (k24 : Int → Int → TT → Option (Int × TT)) : Nat → Int → Int → Int → Int → TT → Option (Int × TT)
  | 0, _, _, _, _, _ => none
  | q + 1, l0, l1, l2, l3, τ =>
    if l3 ≤ l2 then (
      g_X7_isMatched_91 n k24 l0 l1 l2 l3 τ)
    else (
      t1 (g_X7_isChoice n l0 l1 l2 τ) fun v47 τ48 =>
      if v47 = 0 then (
        t0 (g_X7_forget n l0 l1 τ48) fun τ53 =>
        gI (l2 + 1) <|
        nm (l2 + 1) fun u56 =>
        g_X7_isMatched_66 n k24 q l0 l1 u56 l3 τ53)
      else (
        g_X7_isMatched_91 n k24 l0 l1 l2 l3 τ48))
noncomputable def g_X7_isMatched_24 (n : Nat) : Nat → Int → Int → TT → Option (Int × TT)
  | 0, _, _, _ => none
  | q + 1, l0, l1, τ =>
    if l1 < 0 then (
      some (1, τ))
    else (
      if l1 = (τ 1022 32) then (
        t0 (g_X7_match n l0 τ) fun τ99 =>
        gI (l1 + (-1)) <|
        nm (l1 + (-1)) fun u102 =>
        g_X7_isMatched_24 n q l0 u102 τ99)
      else (
        t0 (g_X7_forget n l0 l1 τ) fun τ86 =>
        gd ((0 : Int) ≤ l1 ∧ l1 < 60) <|
        gI ((τ86 (1041) l1) + 1) <|
        nm ((τ86 (1041) l1) + 1) fun u91 =>
        t1 (g_X7_choices l0 l1 τ86) fun v94 τ95 =>
        g_X7_isMatched_66 n (g_X7_isMatched_24 n q) n l0 l1 u91 v94 τ95))
noncomputable def g_X7_isMatched (n : Nat) (a0 : Int) (τ : TT) : Option (Int × TT) :=
  nm (sa τ 1022 53 0) fun τ105 =>
  nm (sa τ105 1022 54 0) fun τ108 =>
  t0 (g_X7_forget n a0 0 τ108) fun τ112 =>
  gd ((0 : Int) ≤ 0 ∧ 0 < 60) <|
  nm (sa τ112 (1041) 0 (-1)) fun τ116 =>
  g_X7_isMatched_24 n n a0 0 τ116
noncomputable def g_X7_compareCells (a0 a1 a2 : Int) (τ : TT) : Option (Int × TT) :=
  gd ((0 : Int) ≤ a1 ∧ a1 < 160016) <|
  gd ((0 : Int) ≤ a2 ∧ a2 < 160016) <|
  if (τ (1048) a1) = (τ (1048) a2) then (
    gd ((0 : Int) ≤ a1 ∧ a1 < 160016) <|
    gd ((0 : Int) ≤ a2 ∧ a2 < 160016) <|
    if (τ (1047) a2) ≤ (τ (1047) a1) then (
      gd ((0 : Int) ≤ a1 ∧ a1 < 160016) <|
      gd ((0 : Int) ≤ a2 ∧ a2 < 160016) <|
      if (τ (1047) a1) ≤ (τ (1047) a2) then (
        some (0, τ))
      else (
        some (1, τ)))
    else (
      some ((-1), τ)))
  else (
    gd ((0 : Int) ≤ a1 ∧ a1 < 160016) <|
    if (τ (1048) a1) = 0 then (
      some ((-1), τ))
    else (
      some (1, τ)))
noncomputable def g_X7_compareItems_2 (n : Nat) : Nat → Int → Int → Int → Int → TT → Option (Int × TT)
  | 0, _, _, _, _, _ => none
  | q + 1, l0, l1, l2, l3, τ =>
    if (τ 1022 36) ≤ l3 then (
      some (0, τ))
    else (
      gI (16 * l1) <|
      gI ((16 * l1) + l3) <|
      gI (16 * l2) <|
      gI ((16 * l2) + l3) <|
      t1 (g_X7_compareCells l0 ((16 * l1) + l3) ((16 * l2) + l3) τ) fun v22 τ23 =>
      if v22 = 0 then (
        gI (l3 + 1) <|
        nm (l3 + 1) fun u27 =>
        g_X7_compareItems_2 n q l0 l1 l2 u27 τ23)
      else (
        some (v22, τ23)))
noncomputable def g_X7_compareItems (n : Nat) (a0 a1 a2 : Int) (τ : TT) : Option (Int × TT) :=
  g_X7_compareItems_2 n n a0 a1 a2 0 τ
noncomputable def g_X7_compareAll_2 (n : Nat) : Nat → Int → Int → Int → Int → TT → Option (Int × TT)
  | 0, _, _, _, _, _ => none
  | q + 1, l0, l1, l2, l3, τ =>
    if (τ 1022 38) ≤ l3 then (
      t1 (g_X7_compareItems n l0 l1 l2 τ) fun v30 τ31 =>
      some (v30, τ31))
    else (
      gI (16 * l1) <|
      gI ((16 * l1) + 8) <|
      gI (((16 * l1) + 8) + l3) <|
      gI (16 * l2) <|
      gI ((16 * l2) + 8) <|
      gI (((16 * l2) + 8) + l3) <|
      t1 (g_X7_compareCells l0 (((16 * l1) + 8) + l3) (((16 * l2) + 8) + l3) τ) fun v40 τ41 =>
      if v40 = 0 then (
        gI (l3 + 1) <|
        nm (l3 + 1) fun u45 =>
        g_X7_compareAll_2 n q l0 l1 l2 u45 τ41)
      else (
        gI (4 * l3) <|
        gI ((4 * l3) + 3) <|
        gd ((0 : Int) ≤ ((4 * l3) + 3) ∧ ((4 * l3) + 3) < 32) <|
        if (τ41 (1040) ((4 * l3) + 3)) = 1 then (
          gI (-v40) <|
          some ((-v40), τ41))
        else (
          some (v40, τ41))))
noncomputable def g_X7_compareAll (n : Nat) (a0 a1 a2 : Int) (τ : TT) : Option (Int × TT) :=
  g_X7_compareAll_2 n n a0 a1 a2 0 τ
noncomputable def g_X7_sort_87 (n : Nat) (k115 : Int → Int → Int → Int → Int → Int → Int → TT → Option TT) (k44 : Int → Int → Int → Int → Int → Int → Int → TT → Option TT) (l0 l1 l2 l3 l4 l5 l6 s0 : Int) (τ : TT) : Option TT :=
  if s0 ≤ 0 then (
    k115 l0 l1 l2 l3 l4 l5 l6 τ)
  else (
    gI (l6 - l3) <|
    gd ((0 : Int) ≤ (l6 - l3) ∧ (l6 - l3) < 10001) <|
    gd ((0 : Int) ≤ l6 ∧ l6 < 10001) <|
    nm (sa τ (1050) l6 (τ (1050) (l6 - l3))) fun τ7 =>
    gI (l6 - l3) <|
    nm (l6 - l3) fun u10 =>
    k44 l0 l1 l2 l3 l4 l5 u10 τ7)
noncomputable def g_X7_sort_115 (n : Nat) (k25 : Int → Int → Int → Int → Int → TT → Option TT) (l0 l1 l2 l3 l4 l5 l6 : Int) (τ : TT) : Option TT :=
  gd ((0 : Int) ≤ l6 ∧ l6 < 10001) <|
  nm (sa τ (1050) l6 l5) fun τ14 =>
  gI (l4 + 1) <|
  nm (l4 + 1) fun u17 =>
  k25 l0 l1 l2 l3 u17 τ14
noncomputable def g_X7_sort_44 (n : Nat) (k25 : Int → Int → Int → Int → Int → TT → Option TT) : Nat → Int → Int → Int → Int → Int → Int → Int → TT → Option TT
  | 0, _, _, _, _, _, _, _, _ => none
  | q + 1, l0, l1, l2, l3, l4, l5, l6, τ =>
    if l6 < l3 then (
      g_X7_sort_115 n k25 l0 l1 l2 l3 l4 l5 l6 τ)
    else (
      if l2 = 0 then (
        gI (l6 - l3) <|
        gd ((0 : Int) ≤ (l6 - l3) ∧ (l6 - l3) < 10001) <|
        t1 (g_X7_compareItems n l0 (τ (1050) (l6 - l3)) l5 τ) fun v41 τ42 =>
        g_X7_sort_87 n (g_X7_sort_115 n k25) (g_X7_sort_44 n k25 q) l0 l1 l2 l3 l4 l5 l6 v41 τ42)
      else (
        gI (l6 - l3) <|
        gd ((0 : Int) ≤ (l6 - l3) ∧ (l6 - l3) < 10001) <|
        t1 (g_X7_compareAll n l0 (τ (1050) (l6 - l3)) l5 τ) fun v48 τ49 =>
        g_X7_sort_87 n (g_X7_sort_115 n k25) (g_X7_sort_44 n k25 q) l0 l1 l2 l3 l4 l5 l6 v48 τ49))
noncomputable def g_X7_sort_25 (n : Nat) (k18 : Int → Int → Int → Int → TT → Option TT) : Nat → Int → Int → Int → Int → Int → TT → Option TT
  | 0, _, _, _, _, _, _ => none
  | q + 1, l0, l1, l2, l3, l4, τ =>
    if l1 ≤ l4 then (
      nm (idivW l3 3) fun u59 =>
      k18 l0 l1 l2 u59 τ)
    else (
      gd ((0 : Int) ≤ l4 ∧ l4 < 10001) <|
      nm (τ (1050) l4) fun u63 =>
      g_X7_sort_44 n (g_X7_sort_25 n k18 q) n l0 l1 l2 l3 l4 u63 l4 τ)
noncomputable def g_X7_sort_18 (n : Nat) : Nat → Int → Int → Int → Int → TT → Option TT
  | 0, _, _, _, _, _ => none
  | q + 1, l0, l1, l2, l3, τ =>
    if l3 ≤ 0 then (
      some τ)
    else (
      g_X7_sort_25 n (g_X7_sort_18 n q) n l0 l1 l2 l3 l3 τ)
noncomputable def g_X7_sort_2 (n : Nat) : Nat → Int → Int → Int → Int → TT → Option TT
  | 0, _, _, _, _, _ => none
  | q + 1, l0, l1, l2, l3, τ =>
    if (idivW l1 3) ≤ l3 then (
      g_X7_sort_18 n n l0 l1 l2 l3 τ)
    else (
      gI (3 * l3) <|
      gI ((3 * l3) + 1) <|
      nm ((3 * l3) + 1) fun u75 =>
      g_X7_sort_2 n q l0 l1 l2 u75 τ)
noncomputable def g_X7_sort (n : Nat) (a0 a1 a2 : Int) (τ : TT) : Option TT :=
  g_X7_sort_2 n n a0 a1 a2 1 τ
noncomputable def g_X7_join_86 (n : Nat) (k17 : Int → Int → Int → Int → TT → Option TT) (l0 l1 l2 l3 : Int) (τ : TT) : Option TT :=
  gI (l3 + 1) <|
  nm (l3 + 1) fun u2 =>
  k17 l0 l1 l2 u2 τ
noncomputable def g_X7_join_17 (n : Nat) : Nat → Int → Int → Int → Int → TT → Option TT
  | 0, _, _, _, _, _ => none
  | q + 1, l0, l1, l2, l3, τ =>
    if (τ 1022 38) ≤ l3 then (
      some τ)
    else (
      gI (16 * l1) <|
      gI ((16 * l1) + 8) <|
      gI (((16 * l1) + 8) + l3) <|
      nm (((16 * l1) + 8) + l3) fun u39 =>
      gI (16 * l2) <|
      gI ((16 * l2) + 8) <|
      gI (((16 * l2) + 8) + l3) <|
      nm (((16 * l2) + 8) + l3) fun u44 =>
      t1 (g_X7_compareCells l0 u44 u39 τ) fun v47 τ48 =>
      if 0 ≤ v47 then (
        g_X7_join_86 n (g_X7_join_17 n q) l0 l1 l2 l3 τ48)
      else (
        gd ((0 : Int) ≤ u44 ∧ u44 < 160016) <|
        gd ((0 : Int) ≤ u39 ∧ u39 < 160016) <|
        nm (sa τ48 (1047) u39 (τ48 (1047) u44)) fun τ55 =>
        gd ((0 : Int) ≤ u44 ∧ u44 < 160016) <|
        gd ((0 : Int) ≤ u39 ∧ u39 < 160016) <|
        gd (0 ≤ (τ55 (1048) u44) ∧ (τ55 (1048) u44) ≤ 1) <|
        nm (sa τ55 (1048) u39 (τ55 (1048) u44)) fun τ62 =>
        g_X7_join_86 n (g_X7_join_17 n q) l0 l1 l2 l3 τ62))
noncomputable def g_X7_join (n : Nat) (a0 a1 a2 : Int) (τ : TT) : Option TT :=
  gd ((0 : Int) ≤ a1 ∧ a1 < 10001) <|
  gd ((0 : Int) ≤ a2 ∧ a2 < 10001) <|
  gI ((τ (1049) a1) + (τ (1049) a2)) <|
  gd ((0 : Int) ≤ a1 ∧ a1 < 10001) <|
  nm (sa τ (1049) a1 ((τ (1049) a1) + (τ (1049) a2))) fun τ70 =>
  g_X7_join_17 n n a0 a1 a2 0 τ70
noncomputable def g_X7_group_67 (n : Nat) (k82 : Int → Int → Int → TT → Option (Int × TT)) (l0 l1 l2 : Int) (τ : TT) : Option (Int × TT) :=
  gd ((0 : Int) ≤ l2 ∧ l2 < 10001) <|
  gd ((0 : Int) ≤ l1 ∧ l1 < 10001) <|
  nm (sa τ (1050) l1 (τ (1050) l2)) fun τ5 =>
  gI (l1 + 1) <|
  nm (l1 + 1) fun u8 =>
  k82 l0 u8 l2 τ5
noncomputable def g_X7_group_82 (n : Nat) (k13 : Int → Int → Int → TT → Option (Int × TT)) (l0 l1 l2 : Int) (τ : TT) : Option (Int × TT) :=
  gI (l2 + 1) <|
  nm (l2 + 1) fun u11 =>
  k13 l0 l1 u11 τ
noncomputable def g_X7_group_13 (n : Nat) : Nat → Int → Int → Int → TT → Option (Int × TT)
  | 0, _, _, _, _ => none
  | q + 1, l0, l1, l2, τ =>
    if (τ 1022 53) ≤ l2 then (
      some (l1, τ))
    else (
      if l1 ≤ 0 then (
        g_X7_group_67 n (g_X7_group_82 n (g_X7_group_13 n q)) l0 l1 l2 τ)
      else (
        gI (l1 - 1) <|
        gd ((0 : Int) ≤ (l1 - 1) ∧ (l1 - 1) < 10001) <|
        gd ((0 : Int) ≤ l2 ∧ l2 < 10001) <|
        t1 (g_X7_compareItems n l0 (τ (1050) (l1 - 1)) (τ (1050) l2) τ) fun v44 τ45 =>
        if v44 = 0 then (
          gI (l1 - 1) <|
          gd ((0 : Int) ≤ (l1 - 1) ∧ (l1 - 1) < 10001) <|
          gd ((0 : Int) ≤ l2 ∧ l2 < 10001) <|
          t0 (g_X7_join n l0 (τ45 (1050) (l1 - 1)) (τ45 (1050) l2) τ45) fun τ55 =>
          g_X7_group_82 n (g_X7_group_13 n q) l0 l1 l2 τ55)
        else (
          g_X7_group_67 n (g_X7_group_82 n (g_X7_group_13 n q)) l0 l1 l2 τ45)))
noncomputable def g_X7_group (n : Nat) (a0 : Int) (τ : TT) : Option (Int × TT) :=
  t0 (g_X7_sort n a0 (τ 1022 53) 0 τ) fun τ60 =>
  g_X7_group_13 n n a0 0 0 τ60
noncomputable def g_X7_isBare_31 (n : Nat) (k32 : Int → Int → Int → TT → Option (Int × TT)) (l0 l2 : Int) (τ : TT) : Option (Int × TT) :=
  k32 l0 l2 0 τ
noncomputable def g_X7_isBare_32 (n : Nat) (k4 : Int → Int → Int → TT → Option (Int × TT)) (l0 l2 s0 : Int) (τ : TT) : Option (Int × TT) :=
  gI (l2 + 1) <|
  nm (l2 + 1) fun u2 =>
  k4 l0 s0 u2 τ
noncomputable def g_X7_isBare_4 (n : Nat) : Nat → Int → Int → Int → TT → Option (Int × TT)
  | 0, _, _, _, _ => none
  | q + 1, l0, l1, l2, τ =>
    if (τ 1022 36) ≤ l2 then (
      gd (0 ≤ l1 ∧ l1 ≤ 1) <|
      some (l1, τ))
    else (
      if l1 = 0 then (
        g_X7_isBare_31 n (g_X7_isBare_32 n (g_X7_isBare_4 n q)) l0 l2 τ)
      else (
        gI (4 * l2) <|
        gd ((0 : Int) ≤ (4 * l2) ∧ (4 * l2) < 32) <|
        if (τ (1039) (4 * l2)) = 0 then (
          g_X7_isBare_32 n (g_X7_isBare_4 n q) l0 l2 1 τ)
        else (
          g_X7_isBare_31 n (g_X7_isBare_32 n (g_X7_isBare_4 n q)) l0 l2 τ)))
noncomputable def g_X7_isBare (n : Nat) (a0 : Int) (τ : TT) : Option (Int × TT) :=
  g_X7_isBare_4 n n a0 1 0 τ
noncomputable def g_X7_none_2 (n : Nat) : Nat → Int → Int → TT → Option TT
  | 0, _, _, _ => none
  | q + 1, l0, l1, τ =>
    if 16 ≤ l1 then (
      gd ((0 : Int) ≤ 0 ∧ 0 < 10001) <|
      nm (sa τ (1049) 0 0) fun τ24 =>
      gd ((0 : Int) ≤ 0 ∧ 0 < 10001) <|
      nm (sa τ24 (1050) 0 0) fun τ28 =>
      some τ28)
    else (
      gd ((0 : Int) ≤ l1 ∧ l1 < 160016) <|
      nm (sa τ (1047) l1 0) fun τ32 =>
      gd ((0 : Int) ≤ l1 ∧ l1 < 160016) <|
      nm (sa τ32 (1048) l1 0) fun τ36 =>
      gI (l1 + 1) <|
      nm (l1 + 1) fun u39 =>
      g_X7_none_2 n q l0 u39 τ36)
noncomputable def g_X7_none (n : Nat) (a0 : Int) (τ : TT) : Option TT :=
  g_X7_none_2 n n a0 0 τ
noncomputable def g_X7_tell_49 (n : Nat) (k7 : Int → Int → Int → Int → TT → Option TT) (l0 l1 l2 l3 : Int) (τ : TT) : Option TT :=
  gI (l3 + 1) <|
  nm (l3 + 1) fun u2 =>
  k7 l0 l1 l2 u2 τ
noncomputable def g_X7_tell_105 (n : Nat) (k57 : Int → Int → Int → Int → TT → Option TT) (l0 l1 l2 l3 : Int) (τ : TT) : Option TT :=
  gI (l3 + 1) <|
  nm (l3 + 1) fun u5 =>
  k57 l0 l1 l2 u5 τ
noncomputable def g_X7_tell_57 (n : Nat) : Nat → Int → Int → Int → Int → TT → Option TT
  | 0, _, _, _, _, _ => none
  | q + 1, l0, l1, l2, l3, τ =>
    if (τ 1022 38) ≤ l3 then (
      some τ)
    else (
      gI (4 * l3) <|
      gd ((0 : Int) ≤ (4 * l3) ∧ (4 * l3) < 32) <|
      if (τ (1040) (4 * l3)) = 0 then (
        gI (l2 + 8) <|
        gI ((l2 + 8) + l3) <|
        gd ((0 : Int) ≤ l1 ∧ l1 < 10001) <|
        gd ((0 : Int) ≤ ((l2 + 8) + l3) ∧ ((l2 + 8) + l3) < 160016) <|
        nm (sa τ (1047) ((l2 + 8) + l3) (τ (1049) l1)) fun τ39 =>
        gI (l2 + 8) <|
        gI ((l2 + 8) + l3) <|
        gd ((0 : Int) ≤ ((l2 + 8) + l3) ∧ ((l2 + 8) + l3) < 160016) <|
        nm (sa τ39 (1048) ((l2 + 8) + l3) 1) fun τ45 =>
        g_X7_tell_105 n (g_X7_tell_57 n q) l0 l1 l2 l3 τ45)
      else (
        g_X7_tell_105 n (g_X7_tell_57 n q) l0 l1 l2 l3 τ))
noncomputable def g_X7_tell_7 (n : Nat) : Nat → Int → Int → Int → Int → TT → Option TT
  | 0, _, _, _, _, _ => none
  | q + 1, l0, l1, l2, l3, τ =>
    if (τ 1022 36) ≤ l3 then (
      g_X7_tell_57 n n l0 l1 l2 0 τ)
    else (
      gI (4 * l3) <|
      gd ((0 : Int) ≤ (4 * l3) ∧ (4 * l3) < 32) <|
      if (τ (1039) (4 * l3)) = 0 then (
        gI (l2 + l3) <|
        gd ((0 : Int) ≤ l1 ∧ l1 < 10001) <|
        gd ((0 : Int) ≤ (l2 + l3) ∧ (l2 + l3) < 160016) <|
        nm (sa τ (1047) (l2 + l3) (τ (1049) l1)) fun τ76 =>
        gI (l2 + l3) <|
        gd ((0 : Int) ≤ (l2 + l3) ∧ (l2 + l3) < 160016) <|
        nm (sa τ76 (1048) (l2 + l3) 1) fun τ81 =>
        g_X7_tell_49 n (g_X7_tell_7 n q) l0 l1 l2 l3 τ81)
      else (
        g_X7_tell_49 n (g_X7_tell_7 n q) l0 l1 l2 l3 τ))
noncomputable def g_X7_tell (n : Nat) (a0 a1 : Int) (τ : TT) : Option TT :=
  gI (16 * a1) <|
  nm (16 * a1) fun u84 =>
  g_X7_tell_7 n n a0 a1 u84 0 τ
noncomputable def g_X7_show_42 (n : Nat) (k71 : Int → Int → TT → Option TT) (l0 : Int) (τ : TT) : Option TT :=
  t1 (g_X7_group n l0 τ) fun v2 τ3 =>
  t1 (g_X7_hasCount n l0 τ3) fun v6 τ7 =>
  if v6 = 0 then (
    k71 l0 v2 τ7)
  else (
    t1 (g_X7_isBare n l0 τ7) fun v11 τ12 =>
    if v11 = 0 then (
      k71 l0 v2 τ12)
    else (
      if v2 = 0 then (
        t0 (g_X7_none n l0 τ12) fun τ18 =>
        k71 l0 1 τ18)
      else (
        k71 l0 v2 τ12)))
noncomputable def g_X7_show_143 (n : Nat) (k133 : Int → Int → TT → Option TT) : Nat → Int → Int → Int → TT → Option TT
  | 0, _, _, _, _ => none
  | q + 1, l0, l2, l3, τ =>
    if (τ 1022 60) ≤ l3 then (
      gI (l2 + 1) <|
      nm (l2 + 1) fun u56 =>
      k133 l0 u56 τ)
    else (
      gI (8 * l2) <|
      gI ((8 * l2) + l3) <|
      gd ((0 : Int) ≤ l2 ∧ l2 < 10001) <|
      gI (16 * (τ (1050) l2)) <|
      gI ((16 * (τ (1050) l2)) + l3) <|
      gd ((0 : Int) ≤ ((16 * (τ (1050) l2)) + l3) ∧ ((16 * (τ (1050) l2)) + l3) < 160016) <|
      gd ((0 : Int) ≤ ((8 * l2) + l3) ∧ ((8 * l2) + l3) < 80008) <|
      nm (sa τ (1051) ((8 * l2) + l3) (τ (1047) ((16 * (τ (1050) l2)) + l3))) fun τ68 =>
      gI (8 * l2) <|
      gI ((8 * l2) + l3) <|
      gd ((0 : Int) ≤ l2 ∧ l2 < 10001) <|
      gI (16 * (τ68 (1050) l2)) <|
      gI ((16 * (τ68 (1050) l2)) + l3) <|
      gd ((0 : Int) ≤ ((16 * (τ68 (1050) l2)) + l3) ∧ ((16 * (τ68 (1050) l2)) + l3) < 160016) <|
      gd ((0 : Int) ≤ ((8 * l2) + l3) ∧ ((8 * l2) + l3) < 80008) <|
      gd (0 ≤ (τ68 (1048) ((16 * (τ68 (1050) l2)) + l3)) ∧ (τ68 (1048) ((16 * (τ68 (1050) l2)) + l3)) ≤ 1) <|
      nm (sa τ68 (1052) ((8 * l2) + l3) (τ68 (1048) ((16 * (τ68 (1050) l2)) + l3))) fun τ81 =>
      gI (l3 + 1) <|
      nm (l3 + 1) fun u84 =>
      g_X7_show_143 n k133 q l0 l2 u84 τ81)
noncomputable def g_X7_show_133 (n : Nat) : Nat → Int → Int → TT → Option TT
  | 0, _, _, _ => none
  | q + 1, l0, l2, τ =>
    if (τ 1022 59) ≤ l2 then (
      some τ)
    else (
      g_X7_show_143 n (g_X7_show_133 n q) n l0 l2 0 τ)
noncomputable def g_X7_show_120 (n : Nat) (l0 s0 s1 : Int) (τ : TT) : Option TT :=
  nm (sa τ 1022 59 s1) fun τ91 =>
  nm (sa τ91 1022 60 (τ91 1022 36)) fun τ95 =>
  g_X7_show_133 n n l0 0 τ95
noncomputable def g_X7_show_73 (n : Nat) : Nat → Int → Int → Int → TT → Option TT
  | 0, _, _, _, _ => none
  | q + 1, l0, l1, l2, τ =>
    if l1 ≤ l2 then (
      t0 (g_X7_sort n l0 l1 1 τ) fun τ117 =>
      if (lcmpW l1 (τ117 1022 40)) ≤ 0 then (
        g_X7_show_120 n l0 l0 l1 τ117)
      else (
        g_X7_show_120 n l0 l0 (l2iW (τ117 1022 40)) τ117))
    else (
      gd ((0 : Int) ≤ l2 ∧ l2 < 10001) <|
      t0 (g_X7_tell n l0 (τ (1050) l2) τ) fun τ126 =>
      gI (l2 + 1) <|
      nm (l2 + 1) fun u129 =>
      g_X7_show_73 n q l0 l1 u129 τ126)
noncomputable def g_X7_show_71 (n : Nat) (l0 l1 : Int) (τ : TT) : Option TT :=
  g_X7_show_73 n n l0 l1 0 τ
noncomputable def g_X7_show_2 (n : Nat) : Nat → Int → Int → TT → Option TT
  | 0, _, _, _ => none
  | q + 1, l0, l1, τ =>
    if (τ 1022 53) ≤ l1 then (
      nm (τ 1022 53) fun u153 =>
      t1 (g_X7_hasCount n l0 τ) fun v156 τ157 =>
      if v156 = 0 then (
        if (τ157 1022 39) = 0 then (
          g_X7_show_71 n l0 u153 τ157)
        else (
          g_X7_show_42 n (g_X7_show_71 n) l0 τ157))
      else (
        g_X7_show_42 n (g_X7_show_71 n) l0 τ157))
    else (
      gd ((0 : Int) ≤ l1 ∧ l1 < 10001) <|
      nm (sa τ (1050) l1 l1) fun τ164 =>
      gI (l1 + 1) <|
      nm (l1 + 1) fun u167 =>
      g_X7_show_2 n q l0 u167 τ164)
noncomputable def g_X7_show (n : Nat) (a0 : Int) (τ : TT) : Option TT :=
  g_X7_show_2 n n a0 0 τ
noncomputable def g_X7_ask (n : Nat) (a0 : Int) (τ : TT) : Option (Int × TT) :=
  nm (sa τ 1022 0 0) fun τ2 =>
  nm (τ2 1022 17) fun u5 =>
  t1 (g_X7_question n a0 τ2) fun v8 τ9 =>
  if v8 = 0 then (
    nm (sa τ9 1022 16 0) fun τ32 =>
    gI ((-1) - (τ32 1022 18)) <|
    some (((-1) - (τ32 1022 18)), τ32))
  else (
    t1 (g_X7_isMatched n a0 τ9) fun v13 τ14 =>
    if v13 = 0 then (
      nm (sa τ14 1022 0 1) fun τ26 =>
      nm (sa τ26 1022 17 u5) fun τ29 =>
      some (0, τ29))
    else (
      nm (sa τ14 1022 16 0) fun τ18 =>
      t0 (g_X7_show n a0 τ18) fun τ22 =>
      some ((τ22 1022 59), τ22)))
noncomputable def g_X7_fault (a0 : Int) (τ : TT) : Option (Int × TT) :=
  nm (sa τ 1022 0 0) fun τ2 =>
  some ((τ2 1022 17), τ2)
noncomputable def g_X7_columns (a0 : Int) (τ : TT) : Option (Int × TT) :=
  nm (sa τ 1022 0 0) fun τ2 =>
  some ((τ2 1022 60), τ2)
noncomputable def g_X7_isCell (a0 a1 a2 : Int) (τ : TT) : Option (Int × TT) :=
  if a1 < 0 then (
    some (0, τ))
  else (
    if (τ 1022 59) ≤ a1 then (
      some (0, τ))
    else (
      if a2 < 0 then (
        some (0, τ))
      else (
        if (τ 1022 60) ≤ a2 then (
          some (0, τ))
        else (
          some (1, τ)))))
noncomputable def g_X7_isThere_15 (l0 l1 l2 s0 s1 : Int) (τ : TT) : Option (Int × TT) :=
  nm (sa τ 1022 0 s1) fun τ2 =>
  if (τ2 1022 0) = 0 then (
    gI (8 * l1) <|
    gI ((8 * l1) + l2) <|
    gd ((0 : Int) ≤ ((8 * l1) + l2) ∧ ((8 * l1) + l2) < 80008) <|
    if (τ2 (1052) ((8 * l1) + l2)) = 0 then (
      some (0, τ2))
    else (
      some (1, τ2)))
  else (
    some (0, τ2))
noncomputable def g_X7_isThere (a0 a1 a2 : Int) (τ : TT) : Option (Int × TT) :=
  t1 (g_X7_isCell a0 a1 a2 τ) fun v12 τ13 =>
  if v12 = 0 then (
    g_X7_isThere_15 a0 a1 a2 a0 1 τ13)
  else (
    g_X7_isThere_15 a0 a1 a2 a0 0 τ13)
noncomputable def g_X7_cell_15 (l0 l1 l2 s0 s1 : Int) (τ : TT) : Option (Int × TT) :=
  nm (sa τ 1022 0 s1) fun τ2 =>
  if 0 < (τ2 1022 0) then (
    some (0, τ2))
  else (
    gI (8 * l1) <|
    gI ((8 * l1) + l2) <|
    gd ((0 : Int) ≤ ((8 * l1) + l2) ∧ ((8 * l1) + l2) < 80008) <|
    if (τ2 (1052) ((8 * l1) + l2)) = 0 then (
      some (0, τ2))
    else (
      gI (8 * l1) <|
      gI ((8 * l1) + l2) <|
      gd ((0 : Int) ≤ ((8 * l1) + l2) ∧ ((8 * l1) + l2) < 80008) <|
      some ((τ2 (1051) ((8 * l1) + l2)), τ2)))
noncomputable def g_X7_cell (a0 a1 a2 : Int) (τ : TT) : Option (Int × TT) :=
  t1 (g_X7_isCell a0 a1 a2 τ) fun v16 τ17 =>
  if v16 = 0 then (
    g_X7_cell_15 a0 a1 a2 a0 1 τ17)
  else (
    g_X7_cell_15 a0 a1 a2 a0 0 τ17)
noncomputable def g_X7_count_10 (n : Nat) (k15 : Int → Int → Int → Int → TT → Option (Int × TT)) (l0 l1 s0 : Int) (τ : TT) : Option (Int × TT) :=
  k15 l0 l1 s0 1 τ
noncomputable def g_X7_count_82 (n : Nat) (k31 : Int → Int → Int → Int → TT → Option (Int × TT)) (l0 l1 l3 s0 s1 : Int) (τ : TT) : Option (Int × TT) :=
  gI (s0 + s1) <|
  nm (s0 + s1) fun u2 =>
  gI (l3 + 1) <|
  nm (l3 + 1) fun u5 =>
  k31 l0 l1 u2 u5 τ
noncomputable def g_X7_count_73 (n : Nat) (k31 : Int → Int → Int → Int → TT → Option (Int × TT)) (l0 l1 l3 s0 s1 : Int) (τ : TT) : Option (Int × TT) :=
  if s1 = (-1) then (
    g_X7_count_82 n k31 l0 l1 l3 s0 0 τ)
  else (
    g_X7_count_82 n k31 l0 l1 l3 s0 1 τ)
noncomputable def g_X7_count_90 (n : Nat) (l0 l1 l2 : Int) (τ : TT) : Option (Int × TT) :=
  if 2 ≤ l1 then (
    if l1 = 2 then (
      some ((τ 1022 6), τ))
    else (
      if l1 = 3 then (
        gI ((τ 1022 8) - (τ 1022 9)) <|
        some (((τ 1022 8) - (τ 1022 9)), τ))
      else (
        if l1 = 4 then (
          some ((τ 1022 59), τ))
        else (
          some ((τ 1022 13), τ)))))
  else (
    some (l2, τ))
noncomputable def g_X7_count_45 (n : Nat) (k31 : Int → Int → Int → Int → TT → Option (Int × TT)) (l0 l1 l2 l3 s0 s1 : Int) (τ : TT) : Option (Int × TT) :=
  if s1 ≤ s0 then (
    g_X7_count_90 n l0 l1 l2 τ)
  else (
    if 2 ≤ l1 then (
      g_X7_count_90 n l0 l1 l2 τ)
    else (
      if l1 = 0 then (
        gd ((0 : Int) ≤ l3 ∧ l3 < 400) <|
        g_X7_count_73 n k31 l0 l1 l3 l2 (τ (1023) l3) τ)
      else (
        gd ((0 : Int) ≤ l3 ∧ l3 < 1000) <|
        g_X7_count_73 n k31 l0 l1 l3 l2 (τ (1024) l3) τ)))
noncomputable def g_X7_count_31 (n : Nat) : Nat → Int → Int → Int → Int → TT → Option (Int × TT)
  | 0, _, _, _, _, _ => none
  | q + 1, l0, l1, l2, l3, τ =>
    if l1 = 0 then (
      g_X7_count_45 n (g_X7_count_31 n q) l0 l1 l2 l3 l3 400 τ)
    else (
      g_X7_count_45 n (g_X7_count_31 n q) l0 l1 l2 l3 l3 1000 τ)
noncomputable def g_X7_count_15 (n : Nat) (l0 l1 s0 s1 : Int) (τ : TT) : Option (Int × TT) :=
  nm (sa τ 1022 0 s1) fun τ28 =>
  if (τ28 1022 0) ≤ 0 then (
    g_X7_count_31 n n l0 l1 0 0 τ28)
  else (
    some (0, τ28))
noncomputable def g_X7_count (n : Nat) (a0 a1 : Int) (τ : TT) : Option (Int × TT) :=
  if a1 < 0 then (
    g_X7_count_10 n (g_X7_count_15 n) a0 a1 a0 τ)
  else (
    if a1 ≤ 5 then (
      g_X7_count_15 n a0 a1 a0 0 τ)
    else (
      g_X7_count_10 n (g_X7_count_15 n) a0 a1 a0 τ))
