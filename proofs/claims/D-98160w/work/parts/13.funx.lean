/-! the functions of the component: printed by genx.py -/
/-! TubBites.isIn -/
def wx_X0_isIn : XW := ([], [], [], false, false)
def X_X0_isIn (σ0 : XS) (a0 : Int32) (a1 : Int32) (a2 : Int32) : Option Int32 :=
  if a0 < a1 then
    some (0 : Int32)
  else
    if a2 < a0 then
      some (0 : Int32)
    else
      some (1 : Int32)

/-! java/util/AbstractCollection.<init> -/
def wx_J0_init : XW := ([], [], [], false, false)
def X_J0_init (σ0 : XS) (th : Nat) : Option XS :=
  some σ0

/-! java/util/AbstractList.<init> -/
def wx_J1_init : XW := ([64], [], [], false, false)
def X_J1_init (σ0 : XS) (th : Nat) : Option XS :=
  nnO (some th) fun q1 =>
  bndY (X_J0_init  σ0 q1 ) false wx_J0_init σ0 fun σ2 =>
  sxI σ2 3 64 (some th) (0 : Int32) fun σ3 =>
  some σ3

/-! java/util/ArrayList.<init> -/
def wx_J2_init : XW := ([64], [65], [], false, false)
def X_J2_init (ro : Nat → Nat) (σ0 : XS) (th : Nat) : Option XS :=
  nnO (some th) fun q1 =>
  bndY (X_J1_init  σ0 q1 ) false wx_J1_init σ0 fun σ2 =>
  sxR σ2 3 65 (some th) (some (ro 4)) fun σ3 =>
  some σ3

/-! java/util/ArrayList.clear -/
def wx_J2_clear : XW := ([64, 66], [], [], false, true)
def X_J2_clear_B27 (G : Nat) (th : Nat) (k27 : XS → Option Nat → Int32 → Int32 → Option XS) (σ : XS) (x1 : Option Nat) (x2 : Int32) (x3 : Int32) : Option XS :=
  if x2 ≤ x3 then
    some σ
  else
    wxQ σ x1 x3 none fun σ1 =>
    k27 σ1 x1 x2 (x3 + (1 : Int32))
def X_J2_clear_L27 (G : Nat) (th : Nat)  : Nat → XS → Option Nat → Int32 → Int32 → Option XS
  | 0, _, _, _, _ => none
  | n + 1, σ, x1, x2, x3 => X_J2_clear_B27 G th  (X_J2_clear_L27 G th  n) σ x1 x2 x3
def X_J2_clear (G : Nat) (σ0 : XS) (th : Nat) : Option XS :=
  gxI σ0 3 64 (some th) fun t1 =>
  sxI σ0 3 64 (some th) (t1 + (1 : Int32)) fun σ2 =>
  gxR σ2 3 65 (some th) fun t3 =>
  gxI σ2 3 66 (some th) fun t4 =>
  sxI σ2 3 66 (some th) (0 : Int32) fun σ5 =>
  X_J2_clear_L27 G th  G σ5 t3 t4 (0 : Int32)

/-! TubBites.begin -/
def wx_X0_begin : XW := ([12, 64, 66], [128], [], false, true)
def X_X0_begin_B28 (G : Nat) (th : Nat) (k28 : XS → Int32 → Option XS) (σ : XS) (x1 : Int32) : Option XS :=
  if (3 : Int32) ≤ x1 then
    some σ
  else
    gxR σ 1 15 (some th) fun t1 =>
    rxQ σ t1 x1 fun t2 =>
    sxR σ 5 128 t2 none fun σ3 =>
    k28 σ3 (x1 + (1 : Int32))
def X_X0_begin_L28 (G : Nat) (th : Nat)  : Nat → XS → Int32 → Option XS
  | 0, _, _ => none
  | n + 1, σ, x1 => X_X0_begin_B28 G th  (X_X0_begin_L28 G th  n) σ x1
def X_X0_begin (G : Nat) (σ0 : XS) (th : Nat) : Option XS :=
  gxR σ0 1 6 (some th) fun t1 =>
  nnX σ0 3 t1 fun q2 =>
  bndY (X_J2_clear G σ0 q2 ) false wx_J2_clear σ0 fun σ3 =>
  gxR σ3 1 7 (some th) fun t4 =>
  nnX σ3 3 t4 fun q5 =>
  bndY (X_J2_clear G σ3 q5 ) false wx_J2_clear σ3 fun σ6 =>
  gxR σ6 1 14 (some th) fun t7 =>
  nnX σ6 3 t7 fun q8 =>
  bndY (X_J2_clear G σ6 q8 ) false wx_J2_clear σ6 fun σ9 =>
  sxI σ9 1 12 (some th) (0 : Int32) fun σ10 =>
  X_X0_begin_L28 G th  G σ10 (0 : Int32)

/-! TubBites$Told.<init> -/
def wx_X2_init : XW := ([], [96], [], false, false)
def X_X2_init (TL : Nat) (SL : Nat) (σ0 : XS) (th : Nat) : Option XS :=
  nwA TL SL σ0 100 (10 : Int32) fun q1 σ2 =>
  sxR σ2 4 96 (some th) q1 fun σ3 =>
  some σ3

/-! TubBites$Water.<init> -/
def wx_X1_init : XW := ([37, 64], [41, 42, 43, 44, 45, 65, 96], [], false, false)
def X_X1_init (TL : Nat) (SL : Nat) (ro : Nat → Nat) (σ0 : XS) (th : Nat) : Option XS :=
  sxI σ0 2 37 (some th) (10 : Int32) fun σ1 =>
  nwA TL SL σ1 103 (5 : Int32) fun q2 σ3 =>
  sxR σ3 2 41 (some th) q2 fun σ4 =>
  nwO TL SL σ4 3 3 fun q5 σ6 =>
  nnO q5 fun q7 =>
  bndY (X_J2_init ro σ6 q7 ) false wx_J2_init σ6 fun σ8 =>
  sxR σ8 2 42 (some th) q5 fun σ9 =>
  nwO TL SL σ9 3 3 fun q10 σ11 =>
  nnO q10 fun q12 =>
  bndY (X_J2_init ro σ11 q12 ) false wx_J2_init σ11 fun σ13 =>
  sxR σ13 2 43 (some th) q10 fun σ14 =>
  nwO TL SL σ14 3 3 fun q15 σ16 =>
  nnO q15 fun q17 =>
  bndY (X_J2_init ro σ16 q17 ) false wx_J2_init σ16 fun σ18 =>
  sxR σ18 2 44 (some th) q15 fun σ19 =>
  nwO TL SL σ19 4 1 fun q20 σ21 =>
  nnO q20 fun q22 =>
  bndY (X_X2_init TL SL σ21 q22 ) true wx_X2_init σ21 fun σ23 =>
  sxR σ23 2 45 (some th) q20 fun σ24 =>
  some σ24

/-! TubBites$Kept.<init> -/
def wx_X3_init : XW := ([], [128], [], false, false)
def X_X3_init (σ0 : XS) (th : Nat) (a0 : Option Nat) : Option XS :=
  sxR σ0 5 128 (some th) a0 fun σ1 =>
  some σ1

/-! TubBites.<init> -/
def wx_X0_init : XW := ([5, 12, 37, 64, 66], [0, 1, 6, 7, 10, 11, 13, 14, 15, 41, 42, 43, 44, 45, 65, 96, 128], [], false, true)
def X_X0_init (TL : Nat) (SL : Nat) (ro : Nat → Nat) (G : Nat) (σ0 : XS) (th : Nat) : Option XS :=
  nwO TL SL σ0 2 14 fun q1 σ2 =>
  nnO q1 fun q3 =>
  bndY (X_X1_init TL SL ro σ2 q3 ) true wx_X1_init σ2 fun σ4 =>
  sxR σ4 1 0 (some th) q1 fun σ5 =>
  nwA TL SL σ5 101 (1600 : Int32) fun q6 σ7 =>
  sxR σ7 1 1 (some th) q6 fun σ8 =>
  sxI σ8 1 5 (some th) (-1 : Int32) fun σ9 =>
  nwO TL SL σ9 3 3 fun q10 σ11 =>
  nnO q10 fun q12 =>
  bndY (X_J2_init ro σ11 q12 ) false wx_J2_init σ11 fun σ13 =>
  sxR σ13 1 6 (some th) q10 fun σ14 =>
  nwO TL SL σ14 3 3 fun q15 σ16 =>
  nnO q15 fun q17 =>
  bndY (X_J2_init ro σ16 q17 ) false wx_J2_init σ16 fun σ18 =>
  sxR σ18 1 7 (some th) q15 fun σ19 =>
  nwA TL SL σ19 100 (1230 : Int32) fun q20 σ21 =>
  sxR σ21 1 10 (some th) q20 fun σ22 =>
  nwA TL SL σ22 100 (36 : Int32) fun q23 σ24 =>
  sxR σ24 1 11 (some th) q23 fun σ25 =>
  nwA TL SL σ25 100 (4 : Int32) fun q26 σ27 =>
  sxR σ27 1 13 (some th) q26 fun σ28 =>
  nwO TL SL σ28 3 3 fun q29 σ30 =>
  nnO q29 fun q31 =>
  bndY (X_J2_init ro σ30 q31 ) false wx_J2_init σ30 fun σ32 =>
  sxR σ32 1 14 (some th) q29 fun σ33 =>
  nwA TL SL σ33 104 (3 : Int32) fun q34 σ35 =>
  nwO TL SL σ35 5 1 fun q36 σ37 =>
  nnO q36 fun q38 =>
  bndY (X_X3_init  σ37 q38 none) false wx_X3_init σ37 fun σ39 =>
  wxQ σ39 q34 (0 : Int32) q36 fun σ40 =>
  nwO TL SL σ40 5 1 fun q41 σ42 =>
  nnO q41 fun q43 =>
  bndY (X_X3_init  σ42 q43 none) false wx_X3_init σ42 fun σ44 =>
  wxQ σ44 q34 (1 : Int32) q41 fun σ45 =>
  nwO TL SL σ45 5 1 fun q46 σ47 =>
  nnO q46 fun q48 =>
  bndY (X_X3_init  σ47 q48 none) false wx_X3_init σ47 fun σ49 =>
  wxQ σ49 q34 (2 : Int32) q46 fun σ50 =>
  sxR σ50 1 15 (some th) q34 fun σ51 =>
  nnX σ51 1 (some th) fun q52 =>
  bndY (X_X0_begin G σ51 q52 ) false wx_X0_begin σ51 fun σ53 =>
  some σ53

/-! jdk/internal/util/ArraysSupport.newLength -/
def wx_J10_newLength : XW := ([], [], [], false, false)
def X_J10_newLength_L21 (σ0 : XS)  (x0 : Int32) (x1 : Int32) : Option Int32 :=
  none
def X_J10_newLength (σ0 : XS) (a0 : Int32) (a1 : Int32) (a2 : Int32) : Option Int32 :=
  if (a0 + (mxI a1 a2)) ≤ (0 : Int32) then
    X_J10_newLength_L21 σ0  a0 a1
  else
    if (2147483639 : Int32) < (a0 + (mxI a1 a2)) then
      X_J10_newLength_L21 σ0  a0 a1
    else
      some (a0 + (mxI a1 a2))

/-! java/util/ArrayList.grow -/
def wx_J2_grow_2 : XW := ([], [65], [], false, false)
def X_J2_grow_2_L20 (TL : Nat) (SL : Nat) (ro : Nat → Nat) (th : Nat)  (σ : XS) (x1 : Int32) (x2 : Int32) : Option (Option Nat × XS) :=
  bnd (X_J10_newLength  σ x2 (x1 - x2) (x2 >>> ((1 : Int32) &&& 31))) fun t1 =>
  gxR σ 3 65 (some th) fun t2 =>
  bndX (X_Arrays_copyOf TL SL σ t2 t1) true wx_Arrays_copyOf σ fun t3 σ4 =>
  sxR σ4 3 65 (some th) t3 fun σ5 =>
  some (t3, σ5)
def X_J2_grow_2 (TL : Nat) (SL : Nat) (ro : Nat → Nat) (σ0 : XS) (th : Nat) (a0 : Int32) : Option (Option Nat × XS) :=
  gxR σ0 3 65 (some th) fun t1 =>
  lxA σ0 t1 fun t2 =>
  if 0 < t2 then
    X_J2_grow_2_L20 TL SL ro th  σ0 a0 t2
  else
    gxR σ0 3 65 (some th) fun t3 =>
    if t3 = (some (ro 4)) then
      nwA TL SL σ0 102 (mxI (10 : Int32) a0) fun q4 σ5 =>
      sxR σ5 3 65 (some th) q4 fun σ6 =>
      some (q4, σ6)
    else
      X_J2_grow_2_L20 TL SL ro th  σ0 a0 t2

/-! java/util/ArrayList.grow -/
def wx_J2_grow : XW := ([], [65], [], false, false)
def X_J2_grow (TL : Nat) (SL : Nat) (ro : Nat → Nat) (σ0 : XS) (th : Nat) : Option (Option Nat × XS) :=
  gxI σ0 3 66 (some th) fun t1 =>
  nnX σ0 3 (some th) fun q2 =>
  bndX (X_J2_grow_2 TL SL ro σ0 q2 (t1 + (1 : Int32))) true wx_J2_grow_2 σ0 fun t3 σ4 =>
  some (t3, σ4)

/-! java/util/ArrayList.add -/
def wx_J2_add_2 : XW := ([66], [65], [], false, true)
def X_J2_add_2_L11 (TL : Nat) (SL : Nat) (ro : Nat → Nat) (th : Nat)  (σ : XS) (x1 : Option Nat) (x2 : Option Nat) (x3 : Int32) : Option XS :=
  wxQ σ x2 x3 x1 fun σ1 =>
  sxI σ1 3 66 (some th) (x3 + (1 : Int32)) fun σ2 =>
  some σ2
def X_J2_add_2 (TL : Nat) (SL : Nat) (ro : Nat → Nat) (σ0 : XS) (th : Nat) (a0 : Option Nat) (a1 : Option Nat) (a2 : Int32) : Option XS :=
  lxA σ0 a1 fun t1 =>
  if a2 = t1 then
    nnX σ0 3 (some th) fun q2 =>
    bndX (X_J2_grow TL SL ro σ0 q2 ) true wx_J2_grow σ0 fun t3 σ4 =>
    X_J2_add_2_L11 TL SL ro th  σ4 a0 t3 a2
  else
    X_J2_add_2_L11 TL SL ro th  σ0 a0 a1 a2

/-! java/util/ArrayList.add -/
def wx_J2_add : XW := ([64, 66], [65], [], false, true)
def X_J2_add (TL : Nat) (SL : Nat) (ro : Nat → Nat) (σ0 : XS) (th : Nat) (a0 : Option Nat) : Option (Int32 × XS) :=
  gxI σ0 3 64 (some th) fun t1 =>
  sxI σ0 3 64 (some th) (t1 + (1 : Int32)) fun σ2 =>
  gxR σ2 3 65 (some th) fun t3 =>
  gxI σ2 3 66 (some th) fun t4 =>
  nnX σ2 3 (some th) fun q5 =>
  bndY (X_J2_add_2 TL SL ro σ2 q5 a0 t3 t4) true wx_J2_add_2 σ2 fun σ6 =>
  some ((1 : Int32), σ6)

/-! java/util/ArrayList.fastRemove -/
def wx_J2_fastRemove : XW := ([64, 66], [], [], false, true)
def X_J2_fastRemove_L34 (th : Nat)  (σ : XS) (x1 : Option Nat) (x3 : Int32) : Option XS :=
  sxI σ 3 66 (some th) x3 fun σ1 =>
  wxQ σ1 x1 x3 none fun σ2 =>
  some σ2
def X_J2_fastRemove (σ0 : XS) (th : Nat) (a0 : Option Nat) (a1 : Int32) : Option XS :=
  gxI σ0 3 64 (some th) fun t1 =>
  sxI σ0 3 64 (some th) (t1 + (1 : Int32)) fun σ2 =>
  gxI σ2 3 66 (some th) fun t3 =>
  if (t3 - (1 : Int32)) ≤ a1 then
    X_J2_fastRemove_L34 th  σ2 a0 (t3 - (1 : Int32))
  else
    cpQ σ2 a0 (a1 + (1 : Int32)) a0 a1 ((t3 - (1 : Int32)) - a1) fun σ4 =>
    X_J2_fastRemove_L34 th  σ4 a0 (t3 - (1 : Int32))

/-! jdk/internal/util/Preconditions.checkIndex -/
def wx_J5_checkIndex : XW := ([], [], [], false, false)
def X_J5_checkIndex_L9 (σ0 : XS)  (x0 : Int32) (x1 : Int32) (x2 : Option Nat) : Option Int32 :=
  none
def X_J5_checkIndex (σ0 : XS) (a0 : Int32) (a1 : Int32) (a2 : Option Nat) : Option Int32 :=
  if a0 < 0 then
    X_J5_checkIndex_L9 σ0  a0 a1 a2
  else
    if a0 < a1 then
      some a0
    else
      X_J5_checkIndex_L9 σ0  a0 a1 a2

/-! java/util/Objects.checkIndex -/
def wx_J9_checkIndex : XW := ([], [], [], false, false)
def X_J9_checkIndex (σ0 : XS) (a0 : Int32) (a1 : Int32) : Option Int32 :=
  bnd (X_J5_checkIndex  σ0 a0 a1 none) fun t1 =>
  some t1

/-! java/util/ArrayList.remove -/
def wx_J2_remove : XW := ([64, 66], [], [], false, true)
def X_J2_remove (σ0 : XS) (th : Nat) (a0 : Int32) : Option (Option Nat × XS) :=
  gxI σ0 3 66 (some th) fun t1 =>
  bnd (X_J9_checkIndex  σ0 a0 t1) fun t2 =>
  gxR σ0 3 65 (some th) fun t3 =>
  rxQ σ0 t3 a0 fun t4 =>
  nnX σ0 3 (some th) fun q5 =>
  bndY (X_J2_fastRemove  σ0 q5 t3 a0) false wx_J2_fastRemove σ0 fun σ6 =>
  some (t4, σ6)

/-! java/util/ArrayList.size -/
def wx_J2_size : XW := ([], [], [], false, false)
def X_J2_size (σ0 : XS) (th : Nat) : Option Int32 :=
  gxI σ0 3 66 (some th) fun t1 =>
  some t1

/-! java/util/ArrayList.elementData -/
def wx_J2_elementData : XW := ([], [], [], false, false)
def X_J2_elementData (σ0 : XS) (th : Nat) (a0 : Int32) : Option (Option Nat) :=
  gxR σ0 3 65 (some th) fun t1 =>
  rxQ σ0 t1 a0 fun t2 =>
  some t2

/-! java/util/ArrayList.get -/
def wx_J2_get : XW := ([], [], [], false, false)
def X_J2_get (σ0 : XS) (th : Nat) (a0 : Int32) : Option (Option Nat) :=
  gxI σ0 3 66 (some th) fun t1 =>
  bnd (X_J9_checkIndex  σ0 a0 t1) fun t2 =>
  nnX σ0 3 (some th) fun q3 =>
  bnd (X_J2_elementData  σ0 q3 a0) fun t4 =>
  some t4

/-! TubBites$Water.keepAt -/
def wx_X1_keepAt : XW := ([], [], [], true, false)
def X_X1_keepAt_B111 (G : Nat) (th : Nat) (k111 : XS → Option Nat → Int32 → Int32 → Option XS) (σ : XS) (x1 : Option Nat) (x2 : Int32) (x3 : Int32) : Option XS :=
  gxR σ 2 44 (some th) fun t1 =>
  nnX σ 3 t1 fun q2 =>
  bnd (X_J2_size  σ q2 ) fun t3 =>
  if t3 ≤ x3 then
    some σ
  else
    gxR σ 2 44 (some th) fun t4 =>
    nnX σ 3 t4 fun q5 =>
    bnd (X_J2_get  σ q5 x3) fun t6 =>
    cxC σ 14 t6 <|
    gxI σ 14 423 t6 fun t7 =>
    wxA σ 100 x1 ((x2 + (51 : Int32)) + ((3 : Int32) * x3)) t7 fun σ8 =>
    gxI σ8 14 424 t6 fun t9 =>
    wxA σ8 100 x1 ((x2 + (52 : Int32)) + ((3 : Int32) * x3)) t9 fun σ10 =>
    gxI σ10 14 425 t6 fun t11 =>
    wxA σ10 100 x1 ((x2 + (53 : Int32)) + ((3 : Int32) * x3)) t11 fun σ12 =>
    gxR σ12 14 426 t6 fun t13 =>
    cpA σ12 t13 (0 : Int32) x1 ((x2 + (63 : Int32)) + ((15 : Int32) * x3)) (15 : Int32) fun σ14 =>
    k111 σ14 x1 x2 (x3 + (1 : Int32))
def X_X1_keepAt_L111 (G : Nat) (th : Nat)  : Nat → XS → Option Nat → Int32 → Int32 → Option XS
  | 0, _, _, _, _ => none
  | n + 1, σ, x1, x2, x3 => X_X1_keepAt_B111 G th  (X_X1_keepAt_L111 G th  n) σ x1 x2 x3
def X_X1_keepAt_B9 (G : Nat) (th : Nat) (k9 : XS → Option Nat → Int32 → Int32 → Option XS) (σ : XS) (x1 : Option Nat) (x2 : Int32) (x3 : Int32) : Option XS :=
  gxR σ 2 43 (some th) fun t1 =>
  nnX σ 3 t1 fun q2 =>
  bnd (X_J2_size  σ q2 ) fun t3 =>
  if t3 ≤ x3 then
    X_X1_keepAt_L111 G th  G σ x1 x2 (0 : Int32)
  else
    gxR σ 2 43 (some th) fun t4 =>
    nnX σ 3 t4 fun q5 =>
    bnd (X_J2_get  σ q5 x3) fun t6 =>
    cxC σ 13 t6 <|
    gxI σ 13 391 t6 fun t7 =>
    wxA σ 100 x1 ((x2 + (1 : Int32)) + ((5 : Int32) * x3)) t7 fun σ8 =>
    gxI σ8 13 392 t6 fun t9 =>
    wxA σ8 100 x1 ((x2 + (2 : Int32)) + ((5 : Int32) * x3)) t9 fun σ10 =>
    gxI σ10 13 393 t6 fun t11 =>
    wxA σ10 100 x1 ((x2 + (3 : Int32)) + ((5 : Int32) * x3)) t11 fun σ12 =>
    gxI σ12 13 394 t6 fun t13 =>
    wxA σ12 100 x1 ((x2 + (4 : Int32)) + ((5 : Int32) * x3)) t13 fun σ14 =>
    gxI σ14 13 395 t6 fun t15 =>
    wxA σ14 100 x1 ((x2 + (5 : Int32)) + ((5 : Int32) * x3)) t15 fun σ16 =>
    k9 σ16 x1 x2 (x3 + (1 : Int32))
def X_X1_keepAt_L9 (G : Nat) (th : Nat)  : Nat → XS → Option Nat → Int32 → Int32 → Option XS
  | 0, _, _, _, _ => none
  | n + 1, σ, x1, x2, x3 => X_X1_keepAt_B9 G th  (X_X1_keepAt_L9 G th  n) σ x1 x2 x3
def X_X1_keepAt (G : Nat) (σ0 : XS) (th : Nat) (a0 : Option Nat) (a1 : Int32) : Option XS :=
  gxI σ0 2 35 (some th) fun t1 =>
  wxA σ0 100 a0 a1 t1 fun σ2 =>
  X_X1_keepAt_L9 G th  G σ2 a0 a1 (0 : Int32)

/-! TubBites$Water.keep -/
def wx_X1_keep : XW := ([], [], [], true, false)
def X_X1_keep (TL : Nat) (SL : Nat) (G : Nat) (σ0 : XS) (th : Nat) : Option (Option Nat × XS) :=
  nwA TL SL σ0 100 (123 : Int32) fun q1 σ2 =>
  nnX σ2 2 (some th) fun q3 =>
  bndY (X_X1_keepAt G σ2 q3 q1 (0 : Int32)) false wx_X1_keepAt σ2 fun σ4 =>
  some (q1, σ4)

/-! TubBites.keepAct -/
def wx_X0_keepAct : XW := ([64, 66], [65, 128], [], true, true)
def X_X0_keepAct_L21 (TL : Nat) (SL : Nat) (ro : Nat → Nat) (G : Nat) (th : Nat)  (σ : XS) : Option XS :=
  gxR σ 1 6 (some th) fun t1 =>
  nwO TL SL σ 5 1 fun q2 σ3 =>
  gxR σ3 1 0 (some th) fun t4 =>
  nnX σ3 2 t4 fun q5 =>
  bndX (X_X1_keep TL SL G σ3 q5 ) true wx_X1_keep σ3 fun t6 σ7 =>
  nnO q2 fun q8 =>
  bndY (X_X3_init  σ7 q8 t6) false wx_X3_init σ7 fun σ9 =>
  nnX σ9 3 t1 fun q10 =>
  bndX (X_J2_add TL SL ro σ9 q10 q2) true wx_J2_add σ9 fun t11 σ12 =>
  gxR σ12 1 7 (some th) fun t13 =>
  nnX σ12 3 t13 fun q14 =>
  bndY (X_J2_clear G σ12 q14 ) false wx_J2_clear σ12 fun σ15 =>
  some σ15
def X_X0_keepAct (TL : Nat) (SL : Nat) (ro : Nat → Nat) (G : Nat) (σ0 : XS) (th : Nat) : Option XS :=
  gxR σ0 1 6 (some th) fun t1 =>
  nnX σ0 3 t1 fun q2 =>
  bnd (X_J2_size  σ0 q2 ) fun t3 =>
  if t3 = (40 : Int32) then
    gxR σ0 1 6 (some th) fun t4 =>
    nnX σ0 3 t4 fun q5 =>
    bndX (X_J2_remove  σ0 q5 (0 : Int32)) false wx_J2_remove σ0 fun t6 σ7 =>
    X_X0_keepAct_L21 TL SL ro G th  σ7
  else
    X_X0_keepAct_L21 TL SL ro G th  σ0

/-! TubBites$Water.bringAt -/
def wx_X1_bringAt : XW := ([35, 391, 392, 393, 394, 395, 423, 424, 425], [], [], true, false)
def X_X1_bringAt_B111 (G : Nat) (th : Nat) (k111 : XS → Option Nat → Int32 → Int32 → Option XS) (σ : XS) (x1 : Option Nat) (x2 : Int32) (x3 : Int32) : Option XS :=
  gxR σ 2 44 (some th) fun t1 =>
  nnX σ 3 t1 fun q2 =>
  bnd (X_J2_size  σ q2 ) fun t3 =>
  if t3 ≤ x3 then
    some σ
  else
    gxR σ 2 44 (some th) fun t4 =>
    nnX σ 3 t4 fun q5 =>
    bnd (X_J2_get  σ q5 x3) fun t6 =>
    cxC σ 14 t6 <|
    rxA σ 100 x1 ((x2 + (51 : Int32)) + ((3 : Int32) * x3)) fun t7 =>
    sxI σ 14 423 t6 t7 fun σ8 =>
    rxA σ8 100 x1 ((x2 + (52 : Int32)) + ((3 : Int32) * x3)) fun t9 =>
    sxI σ8 14 424 t6 t9 fun σ10 =>
    rxA σ10 100 x1 ((x2 + (53 : Int32)) + ((3 : Int32) * x3)) fun t11 =>
    sxI σ10 14 425 t6 t11 fun σ12 =>
    gxR σ12 14 426 t6 fun t13 =>
    cpA σ12 x1 ((x2 + (63 : Int32)) + ((15 : Int32) * x3)) t13 (0 : Int32) (15 : Int32) fun σ14 =>
    k111 σ14 x1 x2 (x3 + (1 : Int32))
def X_X1_bringAt_L111 (G : Nat) (th : Nat)  : Nat → XS → Option Nat → Int32 → Int32 → Option XS
  | 0, _, _, _, _ => none
  | n + 1, σ, x1, x2, x3 => X_X1_bringAt_B111 G th  (X_X1_bringAt_L111 G th  n) σ x1 x2 x3
def X_X1_bringAt_B9 (G : Nat) (th : Nat) (k9 : XS → Option Nat → Int32 → Int32 → Option XS) (σ : XS) (x1 : Option Nat) (x2 : Int32) (x3 : Int32) : Option XS :=
  gxR σ 2 43 (some th) fun t1 =>
  nnX σ 3 t1 fun q2 =>
  bnd (X_J2_size  σ q2 ) fun t3 =>
  if t3 ≤ x3 then
    X_X1_bringAt_L111 G th  G σ x1 x2 (0 : Int32)
  else
    gxR σ 2 43 (some th) fun t4 =>
    nnX σ 3 t4 fun q5 =>
    bnd (X_J2_get  σ q5 x3) fun t6 =>
    cxC σ 13 t6 <|
    rxA σ 100 x1 ((x2 + (1 : Int32)) + ((5 : Int32) * x3)) fun t7 =>
    sxI σ 13 391 t6 t7 fun σ8 =>
    rxA σ8 100 x1 ((x2 + (2 : Int32)) + ((5 : Int32) * x3)) fun t9 =>
    sxI σ8 13 392 t6 t9 fun σ10 =>
    rxA σ10 100 x1 ((x2 + (3 : Int32)) + ((5 : Int32) * x3)) fun t11 =>
    sxI σ10 13 393 t6 t11 fun σ12 =>
    rxA σ12 100 x1 ((x2 + (4 : Int32)) + ((5 : Int32) * x3)) fun t13 =>
    sxI σ12 13 394 t6 t13 fun σ14 =>
    rxA σ14 100 x1 ((x2 + (5 : Int32)) + ((5 : Int32) * x3)) fun t15 =>
    sxI σ14 13 395 t6 t15 fun σ16 =>
    k9 σ16 x1 x2 (x3 + (1 : Int32))
def X_X1_bringAt_L9 (G : Nat) (th : Nat)  : Nat → XS → Option Nat → Int32 → Int32 → Option XS
  | 0, _, _, _, _ => none
  | n + 1, σ, x1, x2, x3 => X_X1_bringAt_B9 G th  (X_X1_bringAt_L9 G th  n) σ x1 x2 x3
def X_X1_bringAt (G : Nat) (σ0 : XS) (th : Nat) (a0 : Option Nat) (a1 : Int32) : Option XS :=
  rxA σ0 100 a0 a1 fun t1 =>
  sxI σ0 2 35 (some th) t1 fun σ2 =>
  X_X1_bringAt_L9 G th  G σ2 a0 a1 (0 : Int32)

/-! TubBites$Water.bring -/
def wx_X1_bring : XW := ([35, 391, 392, 393, 394, 395, 423, 424, 425], [], [], true, false)
def X_X1_bring (G : Nat) (σ0 : XS) (th : Nat) (a0 : Option Nat) : Option XS :=
  nnX σ0 2 (some th) fun q1 =>
  bndY (X_X1_bringAt G σ0 q1 a0 (0 : Int32)) false wx_X1_bringAt σ0 fun σ2 =>
  some σ2

/-! TubBites.turned -/
def wx_X0_turned : XW := ([35, 391, 392, 393, 394, 395, 423, 424, 425], [128], [], true, false)
def X_X0_turned (TL : Nat) (SL : Nat) (G : Nat) (σ0 : XS) (th : Nat) (a0 : Option Nat) : Option (Option Nat × XS) :=
  gxR σ0 1 0 (some th) fun t1 =>
  nnX σ0 2 t1 fun q2 =>
  bndX (X_X1_keep TL SL G σ0 q2 ) true wx_X1_keep σ0 fun t3 σ4 =>
  gxR σ4 1 0 (some th) fun t5 =>
  gxR σ4 5 128 a0 fun t6 =>
  nnX σ4 2 t5 fun q7 =>
  bndY (X_X1_bring G σ4 q7 t6) false wx_X1_bring σ4 fun σ8 =>
  sxR σ8 5 128 a0 t3 fun σ9 =>
  some (a0, σ9)

/-! TubBites.isApple -/
def wx_X0_isApple : XW := ([], [], [], false, false)
def X_X0_isApple (σ0 : XS) (th : Nat) (a0 : Int32) : Option Int32 :=
  gxR σ0 1 0 (some th) fun t1 =>
  gxR σ0 2 43 t1 fun t2 =>
  nnX σ0 3 t2 fun q3 =>
  bnd (X_J2_size  σ0 q3 ) fun t4 =>
  bnd (X_X0_isIn  σ0 a0 (0 : Int32) (t4 - (1 : Int32))) fun t5 =>
  bzI t5 <|
  some t5

/-! TubBites.isBobber -/
def wx_X0_isBobber : XW := ([], [], [], false, false)
def X_X0_isBobber (σ0 : XS) (th : Nat) (a0 : Int32) : Option Int32 :=
  gxR σ0 1 0 (some th) fun t1 =>
  gxR σ0 2 44 t1 fun t2 =>
  nnX σ0 3 t2 fun q3 =>
  bnd (X_J2_size  σ0 q3 ) fun t4 =>
  bnd (X_X0_isIn  σ0 a0 (0 : Int32) (t4 - (1 : Int32))) fun t5 =>
  bzI t5 <|
  some t5

/-! TubBites.isRule -/
def wx_X0_isRule : XW := ([], [], [], false, false)
def X_X0_isRule (σ0 : XS) (th : Nat) (a0 : Int32) : Option Int32 :=
  gxR σ0 1 0 (some th) fun t1 =>
  gxR σ0 2 42 t1 fun t2 =>
  nnX σ0 3 t2 fun q3 =>
  bnd (X_J2_size  σ0 q3 ) fun t4 =>
  bnd (X_X0_isIn  σ0 a0 (0 : Int32) (t4 - (1 : Int32))) fun t5 =>
  bzI t5 <|
  some t5

/-! java/util/ArrayList.isEmpty -/
def wx_J2_isEmpty : XW := ([], [], [], false, false)
def X_J2_isEmpty (σ0 : XS) (th : Nat) : Option Int32 :=
  gxI σ0 3 66 (some th) fun t1 =>
  if t1 = 0 then
    some (1 : Int32)
  else
    some (0 : Int32)

/-! TubBites.ruleOf -/
def wx_X0_ruleOf : XW := ([], [], [], false, false)
def X_X0_ruleOf (σ0 : XS) (th : Nat) (a0 : Int32) : Option (Option Nat) :=
  gxR σ0 1 0 (some th) fun t1 =>
  gxR σ0 2 42 t1 fun t2 =>
  nnX σ0 3 t2 fun q3 =>
  bnd (X_J2_isEmpty  σ0 q3 ) fun t4 =>
  if t4 = 0 then
    gxR σ0 1 0 (some th) fun t5 =>
    gxR σ0 2 42 t5 fun t6 =>
    gxR σ0 1 0 (some th) fun t7 =>
    gxR σ0 2 44 t7 fun t8 =>
    nnX σ0 3 t8 fun q9 =>
    bnd (X_J2_get  σ0 q9 a0) fun t10 =>
    cxC σ0 14 t10 <|
    gxI σ0 14 422 t10 fun t11 =>
    nnX σ0 3 t6 fun q12 =>
    bnd (X_J2_get  σ0 q12 t11) fun t13 =>
    cxC σ0 8 t13 <|
    some t13
  else
    some none

/-! TubBites.bytes -/
def wx_X0_bytes : XW := ([2], [], [], true, false)
def X_X0_bytes_B3 (G : Nat) (th : Nat) (k3 : XS → Int32 → Int32 → Option XS) (σ : XS) (x1 : Int32) (x2 : Int32) : Option XS :=
  if x2 < 0 then
    some σ
  else
    gxR σ 1 1 (some th) fun t1 =>
    gxI σ 1 2 (some th) fun t2 =>
    wxA σ 101 t1 t2 (((x1 >>> (x2 &&& 31)).toInt8.toInt32).toInt8.toInt32) fun σ3 =>
    gxI σ3 1 2 (some th) fun t4 =>
    sxI σ3 1 2 (some th) (t4 + (1 : Int32)) fun σ5 =>
    k3 σ5 x1 (x2 + (-8 : Int32))
def X_X0_bytes_L3 (G : Nat) (th : Nat)  : Nat → XS → Int32 → Int32 → Option XS
  | 0, _, _, _ => none
  | n + 1, σ, x1, x2 => X_X0_bytes_B3 G th  (X_X0_bytes_L3 G th  n) σ x1 x2
def X_X0_bytes (G : Nat) (σ0 : XS) (th : Nat) (a0 : Int32) : Option XS :=
  X_X0_bytes_L3 G th  G σ0 a0 (24 : Int32)

/-! TubBites.feed -/
def wx_X0_feed : XW := ([2], [], [], true, false)
def X_X0_feed (G : Nat) (σ0 : XS) (th : Nat) (a0 : Int32) (a1 : Int32) (a2 : Int32) (a3 : Int32) (a4 : Int32) : Option (Int32 × XS) :=
  gxI σ0 1 2 (some th) fun t1 =>
  if (t1 + (20 : Int32)) ≤ (1600 : Int32) then
    nnX σ0 1 (some th) fun q2 =>
    bndY (X_X0_bytes G σ0 q2 a0) false wx_X0_bytes σ0 fun σ3 =>
    nnX σ3 1 (some th) fun q4 =>
    bndY (X_X0_bytes G σ3 q4 a1) false wx_X0_bytes σ3 fun σ5 =>
    nnX σ5 1 (some th) fun q6 =>
    bndY (X_X0_bytes G σ5 q6 a2) false wx_X0_bytes σ5 fun σ7 =>
    nnX σ7 1 (some th) fun q8 =>
    bndY (X_X0_bytes G σ7 q8 a3) false wx_X0_bytes σ7 fun σ9 =>
    nnX σ9 1 (some th) fun q10 =>
    bndY (X_X0_bytes G σ9 q10 a4) false wx_X0_bytes σ9 fun σ11 =>
    gxI σ11 1 2 (some th) fun t12 =>
    some (t12, σ11)
  else
    some ((-1 : Int32), σ0)

/-! TubBites.end -/
def wx_X0_end : XW := ([2], [], [], false, false)
def X_X0_end (σ0 : XS) (th : Nat) (a0 : Int32) : Option (Int32 × XS) :=
  if a0 < 0 then
    some ((-1 : Int32), σ0)
  else
    gxI σ0 1 2 (some th) fun t1 =>
    if a0 ≤ t1 then
      sxI σ0 1 2 (some th) a0 fun σ2 =>
      some (a0, σ2)
    else
      some ((-1 : Int32), σ0)

/-! TubBites.fault -/
def wx_X0_fault : XW := ([], [], [], false, false)
def X_X0_fault (σ0 : XS) (th : Nat) (a0 : Int32) : Option Int32 :=
  if a0 = 0 then
    gxI σ0 1 4 (some th) fun t2 =>
    some t2
  else
    if a0 = (1 : Int32) then
      gxI σ0 1 5 (some th) fun t1 =>
      some t1
    else
      some (-1 : Int32)

/-! TubBites.apple -/
def wx_X0_apple : XW := ([], [], [], false, false)
def X_X0_apple (σ0 : XS) (th : Nat) (a0 : Int32) (a1 : Int32) : Option Int32 :=
  nnX σ0 1 (some th) fun q1 =>
  bnd (X_X0_isApple  σ0 q1 a0) fun t2 =>
  if t2 = 0 then
    some (-2 : Int32)
  else
    gxR σ0 1 0 (some th) fun t3 =>
    gxR σ0 2 43 t3 fun t4 =>
    nnX σ0 3 t4 fun q5 =>
    bnd (X_J2_get  σ0 q5 a0) fun t6 =>
    cxC σ0 13 t6 <|
    if a1 = 0 then
      gxI σ0 13 391 t6 fun t11 =>
      some t11
    else
      if a1 = (1 : Int32) then
        gxI σ0 13 392 t6 fun t10 =>
        some t10
      else
        if a1 = (2 : Int32) then
          gxI σ0 13 393 t6 fun t9 =>
          some t9
        else
          if a1 = (3 : Int32) then
            gxI σ0 13 394 t6 fun t8 =>
            some t8
          else
            if a1 = (4 : Int32) then
              gxI σ0 13 395 t6 fun t7 =>
              some t7
            else
              some (-2 : Int32)

/-! TubBites.bobber -/
def wx_X0_bobber : XW := ([], [], [], false, false)
def X_X0_bobber (σ0 : XS) (th : Nat) (a0 : Int32) (a1 : Int32) : Option Int32 :=
  nnX σ0 1 (some th) fun q1 =>
  bnd (X_X0_isBobber  σ0 q1 a0) fun t2 =>
  if t2 = 0 then
    some (-1 : Int32)
  else
    gxR σ0 1 0 (some th) fun t3 =>
    gxR σ0 2 44 t3 fun t4 =>
    nnX σ0 3 t4 fun q5 =>
    bnd (X_J2_get  σ0 q5 a0) fun t6 =>
    cxC σ0 14 t6 <|
    if a1 = 0 then
      gxI σ0 14 423 t6 fun t9 =>
      some t9
    else
      if a1 = (1 : Int32) then
        gxI σ0 14 424 t6 fun t8 =>
        some t8
      else
        if a1 = (2 : Int32) then
          gxI σ0 14 425 t6 fun t7 =>
          some t7
        else
          some (-1 : Int32)

/-! TubBites$Bobber.far -/
def wx_X14_far : XW := ([], [], [], false, false)
def X_X14_far (σ0 : XS) (th : Nat) (a0 : Option Nat) : Option Int32 :=
  gxI σ0 13 391 a0 fun t1 =>
  gxI σ0 14 417 (some th) fun t2 =>
  gxI σ0 13 392 a0 fun t3 =>
  gxI σ0 14 418 (some th) fun t4 =>
  some (mxI (abI (t1 - t2)) (abI (t3 - t4)))

/-! TubBites$Free.breath -/
def wx_X16_breath : XW := ([], [], [], false, false)
def X_X16_breath (σ0 : XS) (th : Nat) : Option Int32 :=
  some (0 : Int32)

/-! TubBites$Walled.breath -/
def wx_X20_breath : XW := ([], [], [], false, false)
def X_X20_breath (σ0 : XS) (th : Nat) : Option Int32 :=
  some (1 : Int32)

/-! TubBites$Grounded.breath -/
def wx_X17_breath : XW := ([], [], [], false, false)
def X_X17_breath (σ0 : XS) (th : Nat) : Option Int32 :=
  some (3 : Int32)

/-! TubBites$Leaned.breath -/
def wx_X18_breath : XW := ([], [], [], false, false)
def X_X18_breath (σ0 : XS) (th : Nat) : Option Int32 :=
  some (0 : Int32)

def wx_v_Try_breath : XW := ([], [], [], false, false)
def X_v_Try_breath  (σ : XS) (r : Option Nat)  : Option (Int32) :=
  match r with
  | none => none
  | some q =>
    if tg σ q = 50 then X_X16_breath σ q 
    else if tg σ q = 51 then X_X16_breath σ q 
    else if tg σ q = 52 then X_X20_breath σ q 
    else if tg σ q = 53 then X_X17_breath σ q 
    else if tg σ q = 54 then X_X18_breath σ q 
    else none

/-! TubBites$Try.suits -/
def wx_X21_suits : XW := ([], [], [], false, false)
def X_X21_suits (σ0 : XS) (th : Nat) (a0 : Option Nat) (a1 : Option Nat) (a2 : Option Nat) : Option Int32 :=
  some (1 : Int32)

/-! TubBites$Stalked.suits -/
def wx_X19_suits : XW := ([], [], [], false, false)
def X_X19_suits (σ0 : XS) (th : Nat) (a0 : Option Nat) (a1 : Option Nat) (a2 : Option Nat) : Option Int32 :=
  gxI σ0 13 390 a2 fun t1 =>
  bzI t1 <|
  some t1

/-! TubBites$Water.isRim -/
def wx_X1_isRim : XW := ([], [], [], false, false)
def X_X1_isRim (σ0 : XS) (th : Nat) (a0 : Int32) (a1 : Int32) : Option Int32 :=
  if a0 = 0 then
    some (1 : Int32)
  else
    if a1 = 0 then
      some (1 : Int32)
    else
      gxI σ0 2 32 (some th) fun t1 =>
      if a0 = (t1 - (1 : Int32)) then
        some (1 : Int32)
      else
        gxI σ0 2 33 (some th) fun t2 =>
        if a1 = (t2 - (1 : Int32)) then
          some (1 : Int32)
        else
          some (0 : Int32)

/-! TubBites$Walled.suits -/
def wx_X20_suits : XW := ([], [], [], false, false)
def X_X20_suits (σ0 : XS) (th : Nat) (a0 : Option Nat) (a1 : Option Nat) (a2 : Option Nat) : Option Int32 :=
  gxI σ0 13 391 a2 fun t1 =>
  gxI σ0 13 392 a2 fun t2 =>
  nnX σ0 2 a0 fun q3 =>
  bnd (X_X1_isRim  σ0 q3 t1 t2) fun t4 =>
  bzI t4 <|
  some t4

/-! TubBites$Grounded.suits -/
def wx_X17_suits : XW := ([], [], [], false, false)
def X_X17_suits (σ0 : XS) (th : Nat) (a0 : Option Nat) (a1 : Option Nat) (a2 : Option Nat) : Option Int32 :=
  some (1 : Int32)

/-! TubBites$Water.at -/
def wx_X1_at : XW := ([], [], [], false, false)
def X_X1_at_B2 (G : Nat) (σ0 : XS) (th : Nat) (k2 : Int32 → Int32 → Int32 → Option (Option Nat)) (x1 : Int32) (x2 : Int32) (x3 : Int32) : Option (Option Nat) :=
  gxR σ0 2 43 (some th) fun t1 =>
  nnX σ0 3 t1 fun q2 =>
  bnd (X_J2_size  σ0 q2 ) fun t3 =>
  if t3 ≤ x3 then
    some none
  else
    gxR σ0 2 43 (some th) fun t4 =>
    nnX σ0 3 t4 fun q5 =>
    bnd (X_J2_get  σ0 q5 x3) fun t6 =>
    cxC σ0 13 t6 <|
    gxI σ0 13 393 t6 fun t7 =>
    if t7 = (-1 : Int32) then
      gxI σ0 13 391 t6 fun t8 =>
      if t8 = x1 then
        gxI σ0 13 392 t6 fun t9 =>
        if t9 = x2 then
          some t6
        else
          k2 x1 x2 (x3 + (1 : Int32))
      else
        k2 x1 x2 (x3 + (1 : Int32))
    else
      k2 x1 x2 (x3 + (1 : Int32))
def X_X1_at_L2 (G : Nat) (σ0 : XS) (th : Nat)  : Nat → Int32 → Int32 → Int32 → Option (Option Nat)
  | 0, _, _, _ => none
  | n + 1, x1, x2, x3 => X_X1_at_B2 G σ0 th  (X_X1_at_L2 G σ0 th  n) x1 x2 x3
def X_X1_at (G : Nat) (σ0 : XS) (th : Nat) (a0 : Int32) (a1 : Int32) : Option (Option Nat) :=
  X_X1_at_L2 G σ0 th  G a0 a1 (0 : Int32)

/-! java/lang/Integer.signum -/
def wx_J13_signum : XW := ([], [], [], false, false)
def X_J13_signum (σ0 : XS) (a0 : Int32) : Option Int32 :=
  some ((a0 >>> ((31 : Int32) &&& 31)) ||| (((-a0).toUInt32 >>> ((31 : Int32).toUInt32 &&& Int32.toUInt32 31)).toInt32))

/-! TubBites$Water.isAcross -/
def wx_X1_isAcross : XW := ([], [], [], false, false)
def X_X1_isAcross (σ0 : XS) (a0 : Option Nat) (a1 : Option Nat) : Option Int32 :=
  gxI σ0 13 391 a1 fun t1 =>
  gxI σ0 14 417 a0 fun t2 =>
  gxI σ0 13 392 a1 fun t3 =>
  gxI σ0 14 418 a0 fun t4 =>
  if (abI (t1 - t2)) < (abI (t3 - t4)) then
    some (0 : Int32)
  else
    some (1 : Int32)

/-! TubBites$Water.pushX -/
def wx_X1_pushX : XW := ([], [], [], false, false)
def X_X1_pushX (σ0 : XS) (th : Nat) (a0 : Option Nat) (a1 : Option Nat) : Option Int32 :=
  bnd (X_X1_isAcross  σ0 a0 a1) fun t1 =>
  if t1 = 0 then
    some (0 : Int32)
  else
    gxI σ0 13 391 a1 fun t2 =>
    gxI σ0 14 417 a0 fun t3 =>
    bnd (X_J13_signum  σ0 (t2 - t3)) fun t4 =>
    some t4

/-! TubBites$Water.pushY -/
def wx_X1_pushY : XW := ([], [], [], false, false)
def X_X1_pushY (σ0 : XS) (th : Nat) (a0 : Option Nat) (a1 : Option Nat) : Option Int32 :=
  bnd (X_X1_isAcross  σ0 a0 a1) fun t1 =>
  if t1 = 0 then
    gxI σ0 13 392 a1 fun t2 =>
    gxI σ0 14 418 a0 fun t3 =>
    bnd (X_J13_signum  σ0 (t2 - t3)) fun t4 =>
    some t4
  else
    some (0 : Int32)

/-! TubBites$Leaned.suits -/
def wx_X18_suits : XW := ([], [], [], false, false)
def X_X18_suits_L26 (G : Nat) (σ0 : XS) (th : Nat)  (x1 : Option Nat) (x3 : Option Nat) (x4 : Int32) (x5 : Int32) : Option Int32 :=
  gxI σ0 13 391 x3 fun t1 =>
  gxI σ0 13 392 x3 fun t2 =>
  nnX σ0 2 x1 fun q3 =>
  bnd (X_X1_at G σ0 q3 (t1 + x4) (t2 + x5)) fun t4 =>
  if t4 = none then
    some (0 : Int32)
  else
    some (1 : Int32)
def X_X18_suits (G : Nat) (σ0 : XS) (th : Nat) (a0 : Option Nat) (a1 : Option Nat) (a2 : Option Nat) : Option Int32 :=
  nnX σ0 2 a0 fun q1 =>
  bnd (X_X1_pushX  σ0 q1 a1 a2) fun t2 =>
  nnX σ0 2 a0 fun q3 =>
  bnd (X_X1_pushY  σ0 q3 a1 a2) fun t4 =>
  if t2 = 0 then
    if t4 = 0 then
      some (0 : Int32)
    else
      X_X18_suits_L26 G σ0 th  a0 a2 t2 t4
  else
    X_X18_suits_L26 G σ0 th  a0 a2 t2 t4

def wx_v_Try_suits : XW := ([], [], [], false, false)
def X_v_Try_suits (G : Nat) (σ : XS) (r : Option Nat) (a0 : Option Nat) (a1 : Option Nat) (a2 : Option Nat) : Option (Int32) :=
  match r with
  | none => none
  | some q =>
    if tg σ q = 50 then X_X21_suits σ q a0 a1 a2
    else if tg σ q = 51 then X_X19_suits σ q a0 a1 a2
    else if tg σ q = 52 then X_X20_suits σ q a0 a1 a2
    else if tg σ q = 53 then X_X17_suits σ q a0 a1 a2
    else if tg σ q = 54 then X_X18_suits G σ q a0 a1 a2
    else none

/-! TubBites$Water.can -/
def wx_X1_can : XW := ([], [], [], false, false)
def X_X1_can (ro : Nat → Nat) (G : Nat) (σ0 : XS) (th : Nat) (a0 : Option Nat) (a1 : Option Nat) (a2 : Int32) : Option Int32 :=
  gxI σ0 13 393 a1 fun t1 =>
  if t1 = (-1 : Int32) then
    nnX σ0 14 a0 fun q2 =>
    bnd (X_X14_far  σ0 q2 a1) fun t3 =>
    gxI σ0 14 419 a0 fun t4 =>
    if t4 < t3 then
      some (0 : Int32)
    else
      gxI σ0 14 423 a0 fun t5 =>
      rxQ σ0 (some (ro 0)) a2 fun t6 =>
      bnd (X_v_Try_breath σ0 t6 ) fun t7 =>
      if t5 < t7 then
        some (0 : Int32)
      else
        rxQ σ0 (some (ro 0)) a2 fun t8 =>
        bnd (X_v_Try_suits G σ0 t8 (some th) a0 a1) fun t9 =>
        if t9 = 0 then
          some (0 : Int32)
        else
          some (1 : Int32)
  else
    some (0 : Int32)

/-! TubBites.isTry -/
def wx_X0_isTry : XW := ([], [], [], false, false)
def X_X0_isTry (ro : Nat → Nat) (G : Nat) (σ0 : XS) (th : Nat) (a0 : Int32) (a1 : Int32) (a2 : Int32) : Option Int32 :=
  nnX σ0 1 (some th) fun q1 =>
  bnd (X_X0_isBobber  σ0 q1 a0) fun t2 =>
  if t2 = 0 then
    some (0 : Int32)
  else
    nnX σ0 1 (some th) fun q3 =>
    bnd (X_X0_isApple  σ0 q3 a1) fun t4 =>
    if t4 = 0 then
      some (0 : Int32)
    else
      bnd (X_X0_isIn  σ0 a2 (0 : Int32) (4 : Int32)) fun t5 =>
      if t5 = 0 then
        some (0 : Int32)
      else
        gxR σ0 1 0 (some th) fun t6 =>
        gxR σ0 1 0 (some th) fun t7 =>
        gxR σ0 2 44 t7 fun t8 =>
        nnX σ0 3 t8 fun q9 =>
        bnd (X_J2_get  σ0 q9 a0) fun t10 =>
        cxC σ0 14 t10 <|
        gxR σ0 1 0 (some th) fun t11 =>
        gxR σ0 2 43 t11 fun t12 =>
        nnX σ0 3 t12 fun q13 =>
        bnd (X_J2_get  σ0 q13 a1) fun t14 =>
        cxC σ0 13 t14 <|
        nnX σ0 2 t6 fun q15 =>
        bnd (X_X1_can ro G σ0 q15 t10 t14 a2) fun t16 =>
        if t16 = 0 then
          some (0 : Int32)
        else
          some (1 : Int32)

/-! TubBites$Water.tell -/
def wx_X1_tell : XW := ([], [], [], true, false)
def X_X1_tell_L75 (th : Nat)  (σ : XS) (x1 : Option Nat) (x2 : Option Nat) (s0 : Option Nat) (s1 : Int32) (s2 : Int32) : Option XS :=
  wxA σ 100 s0 s1 s2 fun σ1 =>
  gxR σ1 2 45 (some th) fun t2 =>
  gxR σ1 4 96 t2 fun t3 =>
  nnX σ1 14 x1 fun q4 =>
  bnd (X_X14_far  σ1 q4 x2) fun t5 =>
  wxA σ1 100 t3 (4 : Int32) t5 fun σ6 =>
  gxR σ6 2 45 (some th) fun t7 =>
  gxR σ6 4 96 t7 fun t8 =>
  gxI σ6 13 394 x2 fun t9 =>
  wxA σ6 100 t8 (5 : Int32) t9 fun σ10 =>
  gxR σ10 2 45 (some th) fun t11 =>
  gxR σ10 4 96 t11 fun t12 =>
  gxI σ10 14 421 x1 fun t13 =>
  wxA σ10 100 t12 (6 : Int32) t13 fun σ14 =>
  gxR σ14 2 45 (some th) fun t15 =>
  gxR σ14 4 96 t15 fun t16 =>
  gxI σ14 14 423 x1 fun t17 =>
  wxA σ14 100 t16 (7 : Int32) t17 fun σ18 =>
  gxR σ18 2 45 (some th) fun t19 =>
  gxR σ18 4 96 t19 fun t20 =>
  wxA σ18 100 t20 (8 : Int32) (0 : Int32) fun σ21 =>
  gxR σ21 2 45 (some th) fun t22 =>
  gxR σ21 4 96 t22 fun t23 =>
  wxA σ21 100 t23 (9 : Int32) (0 : Int32) fun σ24 =>
  some σ24
def X_X1_tell_L46 (th : Nat)  (σ : XS) (x1 : Option Nat) (x2 : Option Nat) (s0 : Option Nat) (s1 : Int32) (s2 : Int32) : Option XS :=
  wxA σ 100 s0 s1 s2 fun σ1 =>
  gxR σ1 2 45 (some th) fun t2 =>
  gxR σ1 4 96 t2 fun t3 =>
  gxI σ1 13 391 x2 fun t4 =>
  gxI σ1 13 392 x2 fun t5 =>
  nnX σ1 2 (some th) fun q6 =>
  bnd (X_X1_isRim  σ1 q6 t4 t5) fun t7 =>
  if t7 = 0 then
    X_X1_tell_L75 th  σ1 x1 x2 t3 (3 : Int32) (0 : Int32)
  else
    X_X1_tell_L75 th  σ1 x1 x2 t3 (3 : Int32) (1 : Int32)
def X_X1_tell (σ0 : XS) (th : Nat) (a0 : Option Nat) (a1 : Option Nat) : Option XS :=
  gxR σ0 2 45 (some th) fun t1 =>
  gxR σ0 4 96 t1 fun t2 =>
  gxI σ0 13 395 a1 fun t3 =>
  wxA σ0 100 t2 (0 : Int32) t3 fun σ4 =>
  gxR σ4 2 45 (some th) fun t5 =>
  gxR σ4 4 96 t5 fun t6 =>
  gxI σ4 13 388 a1 fun t7 =>
  wxA σ4 100 t6 (1 : Int32) t7 fun σ8 =>
  gxR σ8 2 45 (some th) fun t9 =>
  gxR σ8 4 96 t9 fun t10 =>
  gxI σ8 13 390 a1 fun t11 =>
  if t11 = 0 then
    X_X1_tell_L46 th  σ8 a0 a1 t10 (2 : Int32) (0 : Int32)
  else
    X_X1_tell_L46 th  σ8 a0 a1 t10 (2 : Int32) (1 : Int32)

/-! TubBites$Not.of -/
def wx_X9_of : XW := ([], [], [], false, false)
def X_X9_of (R_of : XS → Option Nat → Option Nat → Option Int32) (σ0 : XS) (th : Nat) (a0 : Option Nat) : Option Int32 :=
  gxR σ0 9 256 (some th) fun t1 =>
  bnd (R_of σ0 t1 a0) fun t2 =>
  if t2 = 0 then
    some (1 : Int32)
  else
    some (0 : Int32)

/-! TubBites$Numeral.of -/
def wx_X10_of : XW := ([], [], [], false, false)
def X_X10_of (σ0 : XS) (th : Nat) (a0 : Option Nat) : Option Int32 :=
  gxI σ0 10 288 (some th) fun t1 =>
  some t1

/-! TubBites$Named.of -/
def wx_X11_of : XW := ([], [], [], false, false)
def X_X11_of (σ0 : XS) (th : Nat) (a0 : Option Nat) : Option Int32 :=
  gxR σ0 4 96 a0 fun t1 =>
  gxI σ0 11 320 (some th) fun t2 =>
  rxA σ0 100 t1 t2 fun t3 =>
  some t3

/-! TubBites$Two.is -/
def wx_X12_is : XW := ([], [], [], false, false)
def X_X12_is (σ0 : XS) (a0 : Int32) : Option Int32 :=
  if a0 = 0 then
    some (0 : Int32)
  else
    some (1 : Int32)

/-! TubBites$Two.of -/
def wx_X12_of : XW := ([], [], [], false, false)
def X_X12_of_L248 (R_of : XS → Option Nat → Option Nat → Option Int32) (σ0 : XS) (th : Nat)  (s0 : Int32) : Option Int32 :=
  bnd (X_X12_is  σ0 s0) fun t1 =>
  some t1
def X_X12_of_L243 (R_of : XS → Option Nat → Option Nat → Option Int32) (σ0 : XS) (th : Nat)   : Option Int32 :=
  X_X12_of_L248 R_of σ0 th  (1 : Int32)
def X_X12_of_L231 (R_of : XS → Option Nat → Option Nat → Option Int32) (σ0 : XS) (th : Nat)  (s0 : Int32) : Option Int32 :=
  bnd (X_X12_is  σ0 s0) fun t1 =>
  some t1
def X_X12_of_L230 (R_of : XS → Option Nat → Option Nat → Option Int32) (σ0 : XS) (th : Nat)   : Option Int32 :=
  X_X12_of_L231 R_of σ0 th  (0 : Int32)
def X_X12_of_L214 (R_of : XS → Option Nat → Option Nat → Option Int32) (σ0 : XS) (th : Nat)  (s0 : Int32) : Option Int32 :=
  bnd (X_X12_is  σ0 s0) fun t1 =>
  some t1
def X_X12_of_L200 (R_of : XS → Option Nat → Option Nat → Option Int32) (σ0 : XS) (th : Nat)  (s0 : Int32) : Option Int32 :=
  bnd (X_X12_is  σ0 s0) fun t1 =>
  some t1
def X_X12_of_L186 (R_of : XS → Option Nat → Option Nat → Option Int32) (σ0 : XS) (th : Nat)  (s0 : Int32) : Option Int32 :=
  bnd (X_X12_is  σ0 s0) fun t1 =>
  some t1
def X_X12_of (R_of : XS → Option Nat → Option Nat → Option Int32) (σ0 : XS) (th : Nat) (a0 : Option Nat) : Option Int32 :=
  gxR σ0 12 353 (some th) fun t1 =>
  bnd (R_of σ0 t1 a0) fun t2 =>
  gxR σ0 12 354 (some th) fun t3 =>
  bnd (R_of σ0 t3 a0) fun t4 =>
  gxI σ0 12 352 (some th) fun t5 =>
  if t5 < 37 then
    if t2 = 0 then
      if t4 = 0 then
        X_X12_of_L248 R_of σ0 th  (0 : Int32)
      else
        X_X12_of_L243 R_of σ0 th  
    else
      X_X12_of_L243 R_of σ0 th  
  else if 62 < t5 then
    if t2 = 0 then
      if t4 = 0 then
        X_X12_of_L248 R_of σ0 th  (0 : Int32)
      else
        X_X12_of_L243 R_of σ0 th  
    else
      X_X12_of_L243 R_of σ0 th  
  else if t5 = 37 then
    if t4 = 0 then
      some (0 : Int32)
    else
      rmI t2 t4 fun t6 =>
      some t6
  else if t5 = 38 then
    if t2 = 0 then
      X_X12_of_L230 R_of σ0 th  
    else
      if t4 = 0 then
        X_X12_of_L230 R_of σ0 th  
      else
        X_X12_of_L231 R_of σ0 th  (1 : Int32)
  else if t5 = 39 then
    if t2 = 0 then
      if t4 = 0 then
        X_X12_of_L248 R_of σ0 th  (0 : Int32)
      else
        X_X12_of_L243 R_of σ0 th  
    else
      X_X12_of_L243 R_of σ0 th  
  else if t5 = 40 then
    if t2 = 0 then
      if t4 = 0 then
        X_X12_of_L248 R_of σ0 th  (0 : Int32)
      else
        X_X12_of_L243 R_of σ0 th  
    else
      X_X12_of_L243 R_of σ0 th  
  else if t5 = 41 then
    if t2 = 0 then
      if t4 = 0 then
        X_X12_of_L248 R_of σ0 th  (0 : Int32)
      else
        X_X12_of_L243 R_of σ0 th  
    else
      X_X12_of_L243 R_of σ0 th  
  else if t5 = 42 then
    some (t2 * t4)
  else if t5 = 43 then
    some (t2 + t4)
  else if t5 = 44 then
    if t2 = 0 then
      if t4 = 0 then
        X_X12_of_L248 R_of σ0 th  (0 : Int32)
      else
        X_X12_of_L243 R_of σ0 th  
    else
      X_X12_of_L243 R_of σ0 th  
  else if t5 = 45 then
    some (t2 - t4)
  else if t5 = 46 then
    if t2 = 0 then
      if t4 = 0 then
        X_X12_of_L248 R_of σ0 th  (0 : Int32)
      else
        X_X12_of_L243 R_of σ0 th  
    else
      X_X12_of_L243 R_of σ0 th  
  else if t5 = 47 then
    if t4 = 0 then
      some (0 : Int32)
    else
      dvI t2 t4 fun t7 =>
      some t7
  else if t5 = 48 then
    if t2 = 0 then
      if t4 = 0 then
        X_X12_of_L248 R_of σ0 th  (0 : Int32)
      else
        X_X12_of_L243 R_of σ0 th  
    else
      X_X12_of_L243 R_of σ0 th  
  else if t5 = 49 then
    if t2 = 0 then
      if t4 = 0 then
        X_X12_of_L248 R_of σ0 th  (0 : Int32)
      else
        X_X12_of_L243 R_of σ0 th  
    else
      X_X12_of_L243 R_of σ0 th  
  else if t5 = 50 then
    if t2 = 0 then
      if t4 = 0 then
        X_X12_of_L248 R_of σ0 th  (0 : Int32)
      else
        X_X12_of_L243 R_of σ0 th  
    else
      X_X12_of_L243 R_of σ0 th  
  else if t5 = 51 then
    if t2 = 0 then
      if t4 = 0 then
        X_X12_of_L248 R_of σ0 th  (0 : Int32)
      else
        X_X12_of_L243 R_of σ0 th  
    else
      X_X12_of_L243 R_of σ0 th  
  else if t5 = 52 then
    if t2 = 0 then
      if t4 = 0 then
        X_X12_of_L248 R_of σ0 th  (0 : Int32)
      else
        X_X12_of_L243 R_of σ0 th  
    else
      X_X12_of_L243 R_of σ0 th  
  else if t5 = 53 then
    if t2 = 0 then
      if t4 = 0 then
        X_X12_of_L248 R_of σ0 th  (0 : Int32)
      else
        X_X12_of_L243 R_of σ0 th  
    else
      X_X12_of_L243 R_of σ0 th  
  else if t5 = 54 then
    if t2 = 0 then
      if t4 = 0 then
        X_X12_of_L248 R_of σ0 th  (0 : Int32)
      else
        X_X12_of_L243 R_of σ0 th  
    else
      X_X12_of_L243 R_of σ0 th  
  else if t5 = 55 then
    if t2 = 0 then
      if t4 = 0 then
        X_X12_of_L248 R_of σ0 th  (0 : Int32)
      else
        X_X12_of_L243 R_of σ0 th  
    else
      X_X12_of_L243 R_of σ0 th  
  else if t5 = 56 then
    if t2 = 0 then
      if t4 = 0 then
        X_X12_of_L248 R_of σ0 th  (0 : Int32)
      else
        X_X12_of_L243 R_of σ0 th  
    else
      X_X12_of_L243 R_of σ0 th  
  else if t5 = 57 then
    if t2 = 0 then
      if t4 = 0 then
        X_X12_of_L248 R_of σ0 th  (0 : Int32)
      else
        X_X12_of_L243 R_of σ0 th  
    else
      X_X12_of_L243 R_of σ0 th  
  else if t5 = 58 then
    if t2 = 0 then
      if t4 = 0 then
        X_X12_of_L248 R_of σ0 th  (0 : Int32)
      else
        X_X12_of_L243 R_of σ0 th  
    else
      X_X12_of_L243 R_of σ0 th  
  else if t5 = 59 then
    if t2 = 0 then
      if t4 = 0 then
        X_X12_of_L248 R_of σ0 th  (0 : Int32)
      else
        X_X12_of_L243 R_of σ0 th  
    else
      X_X12_of_L243 R_of σ0 th  
  else if t5 = 60 then
    if t4 ≤ t2 then
      X_X12_of_L186 R_of σ0 th  (0 : Int32)
    else
      X_X12_of_L186 R_of σ0 th  (1 : Int32)
  else if t5 = 61 then
    if t2 = t4 then
      X_X12_of_L214 R_of σ0 th  (1 : Int32)
    else
      X_X12_of_L214 R_of σ0 th  (0 : Int32)
  else
    if t2 ≤ t4 then
      X_X12_of_L200 R_of σ0 th  (0 : Int32)
    else
      X_X12_of_L200 R_of σ0 th  (1 : Int32)

def wx_v_Part_of : XW := ([], [], [], false, false)
def X_v_Part_of_F (R_of : XS → Option Nat → Option Nat → Option Int32) (σ : XS) (r : Option Nat) (a0 : Option Nat) : Option (Int32) :=
  match r with
  | none => none
  | some q =>
    if tg σ q = 9 then X_X9_of R_of σ q a0
    else if tg σ q = 10 then X_X10_of σ q a0
    else if tg σ q = 11 then X_X11_of σ q a0
    else if tg σ q = 12 then X_X12_of R_of σ q a0
    else none
def X_v_Part_of : Nat → XS → Option Nat → Option Nat → Option Int32
  | 0, _, _, _ => none
  | D + 1, σ, r, a => X_v_Part_of_F (X_v_Part_of D) σ r a

/-! TubBites$Water.odds -/
def wx_X1_odds : XW := ([], [], [], true, false)
def X_X1_odds (σ0 : XS) (th : Nat) (a0 : Option Nat) (a1 : Option Nat) (a2 : Int32) : Option (Int32 × XS) :=
  nnX σ0 2 (some th) fun q1 =>
  bndY (X_X1_tell  σ0 q1 a0 a1) false wx_X1_tell σ0 fun σ2 =>
  gxR σ2 2 41 (some th) fun t3 =>
  rxQ σ2 t3 a2 fun t4 =>
  if t4 = none then
    some ((50 : Int32), σ2)
  else
    gxR σ2 2 41 (some th) fun t5 =>
    rxQ σ2 t5 a2 fun t6 =>
    gxR σ2 2 45 (some th) fun t7 =>
    bnd (X_v_Part_of 64 σ2 t6 t7) fun t8 =>
    some ((mxI (0 : Int32) (mnI (100 : Int32) t8)), σ2)

/-! TubBites.odds -/
def wx_X0_odds : XW := ([], [], [], true, false)
def X_X0_odds (ro : Nat → Nat) (G : Nat) (σ0 : XS) (th : Nat) (a0 : Int32) (a1 : Int32) (a2 : Int32) : Option (Int32 × XS) :=
  nnX σ0 1 (some th) fun q1 =>
  bnd (X_X0_isTry ro G σ0 q1 a0 a1 a2) fun t2 =>
  if t2 = 0 then
    some ((-1 : Int32), σ0)
  else
    gxR σ0 1 0 (some th) fun t3 =>
    gxR σ0 1 0 (some th) fun t4 =>
    gxR σ0 2 44 t4 fun t5 =>
    nnX σ0 3 t5 fun q6 =>
    bnd (X_J2_get  σ0 q6 a0) fun t7 =>
    cxC σ0 14 t7 <|
    gxR σ0 1 0 (some th) fun t8 =>
    gxR σ0 2 43 t8 fun t9 =>
    nnX σ0 3 t9 fun q10 =>
    bnd (X_J2_get  σ0 q10 a1) fun t11 =>
    cxC σ0 13 t11 <|
    nnX σ0 2 t3 fun q12 =>
    bndX (X_X1_odds  σ0 q12 t7 t11 a2) false wx_X1_odds σ0 fun t13 σ14 =>
    some (t13, σ14)

/-! TubBites$Water.value -/
def wx_X1_value : XW := ([], [], [], true, false)
def X_X1_value (σ0 : XS) (th : Nat) (a0 : Option Nat) (a1 : Option Nat) (a2 : Option Nat) (a3 : Int32) : Option (Int32 × XS) :=
  nnX σ0 2 (some th) fun q1 =>
  bndX (X_X1_odds  σ0 q1 a1 a2 a3) false wx_X1_odds σ0 fun t2 σ3 =>
  gxR σ3 2 45 (some th) fun t4 =>
  gxR σ3 4 96 t4 fun t5 =>
  wxA σ3 100 t5 (8 : Int32) a3 fun σ6 =>
  gxR σ6 2 45 (some th) fun t7 =>
  gxR σ6 4 96 t7 fun t8 =>
  wxA σ6 100 t8 (9 : Int32) t2 fun σ9 =>
  gxR σ9 8 225 a0 fun t10 =>
  gxR σ9 2 45 (some th) fun t11 =>
  bnd (X_v_Part_of 64 σ9 t10 t11) fun t12 =>
  some (t12, σ9)

/-! TubBites$Water.chooses -/
def wx_X1_chooses : XW := ([], [], [], true, false)
def X_X1_chooses_L98 (ro : Nat → Nat) (G : Nat) (th : Nat) (k8 : XS → Option Nat → Option Nat → Int32 → Int32 → Int32 → Option (Int32 × XS)) (k23 : XS → Option Nat → Option Nat → Int32 → Int32 → Int32 → Int32 → Option (Int32 × XS)) (σ : XS) (x1 : Option Nat) (x2 : Option Nat) (x5 : Int32) (x6 : Int32) (x7 : Int32) : Option (Int32 × XS) :=
  k23 σ x1 x2 (((10 : Int32) * x5) + x6) x7 x5 (x6 + (1 : Int32))
def X_X1_chooses_L82 (ro : Nat → Nat) (G : Nat) (th : Nat) (k8 : XS → Option Nat → Option Nat → Int32 → Int32 → Int32 → Option (Int32 × XS)) (k23 : XS → Option Nat → Option Nat → Int32 → Int32 → Int32 → Int32 → Option (Int32 × XS)) (σ : XS) (x1 : Option Nat) (x2 : Option Nat) (x3 : Int32) (x4 : Int32) (x5 : Int32) (x6 : Int32) (s0 : Int32) : Option (Int32 × XS) :=
  if x3 < 0 then
    X_X1_chooses_L98 ro G th k8 k23 σ x1 x2 x5 x6 s0
  else
    if x4 < s0 then
      X_X1_chooses_L98 ro G th k8 k23 σ x1 x2 x5 x6 s0
    else
      k23 σ x1 x2 x3 x4 x5 (x6 + (1 : Int32))
def X_X1_chooses_B23 (ro : Nat → Nat) (G : Nat) (th : Nat) (k8 : XS → Option Nat → Option Nat → Int32 → Int32 → Int32 → Option (Int32 × XS)) (k23 : XS → Option Nat → Option Nat → Int32 → Int32 → Int32 → Int32 → Option (Int32 × XS)) (σ : XS) (x1 : Option Nat) (x2 : Option Nat) (x3 : Int32) (x4 : Int32) (x5 : Int32) (x6 : Int32) : Option (Int32 × XS) :=
  if (5 : Int32) ≤ x6 then
    k8 σ x1 x2 x3 x4 (x5 + (1 : Int32))
  else
    gxR σ 2 43 (some th) fun t1 =>
    nnX σ 3 t1 fun q2 =>
    bnd (X_J2_get  σ q2 x5) fun t3 =>
    cxC σ 13 t3 <|
    nnX σ 2 (some th) fun q4 =>
    bnd (X_X1_can ro G σ q4 x2 t3 x6) fun t5 =>
    if t5 = 0 then
      k23 σ x1 x2 x3 x4 x5 (x6 + (1 : Int32))
    else
      if x1 = none then
        X_X1_chooses_L82 ro G th k8 k23 σ x1 x2 x3 x4 x5 x6 (0 : Int32)
      else
        gxR σ 2 43 (some th) fun t6 =>
        nnX σ 3 t6 fun q7 =>
        bnd (X_J2_get  σ q7 x5) fun t8 =>
        cxC σ 13 t8 <|
        nnX σ 2 (some th) fun q9 =>
        bndX (X_X1_value  σ q9 x1 x2 t8 x6) false wx_X1_value σ fun t10 σ11 =>
        X_X1_chooses_L82 ro G th k8 k23 σ11 x1 x2 x3 x4 x5 x6 t10
def X_X1_chooses_L23 (ro : Nat → Nat) (G : Nat) (th : Nat) (k8 : XS → Option Nat → Option Nat → Int32 → Int32 → Int32 → Option (Int32 × XS)) : Nat → XS → Option Nat → Option Nat → Int32 → Int32 → Int32 → Int32 → Option (Int32 × XS)
  | 0, _, _, _, _, _, _, _ => none
  | n + 1, σ, x1, x2, x3, x4, x5, x6 => X_X1_chooses_B23 ro G th k8 (X_X1_chooses_L23 ro G th k8 n) σ x1 x2 x3 x4 x5 x6
def X_X1_chooses_B8 (ro : Nat → Nat) (G : Nat) (th : Nat) (k8 : XS → Option Nat → Option Nat → Int32 → Int32 → Int32 → Option (Int32 × XS)) (σ : XS) (x1 : Option Nat) (x2 : Option Nat) (x3 : Int32) (x4 : Int32) (x5 : Int32) : Option (Int32 × XS) :=
  gxR σ 2 43 (some th) fun t1 =>
  nnX σ 3 t1 fun q2 =>
  bnd (X_J2_size  σ q2 ) fun t3 =>
  if t3 ≤ x5 then
    some (x3, σ)
  else
    X_X1_chooses_L23 ro G th k8 G σ x1 x2 x3 x4 x5 (0 : Int32)
def X_X1_chooses_L8 (ro : Nat → Nat) (G : Nat) (th : Nat)  : Nat → XS → Option Nat → Option Nat → Int32 → Int32 → Int32 → Option (Int32 × XS)
  | 0, _, _, _, _, _, _ => none
  | n + 1, σ, x1, x2, x3, x4, x5 => X_X1_chooses_B8 ro G th  (X_X1_chooses_L8 ro G th  n) σ x1 x2 x3 x4 x5
def X_X1_chooses (ro : Nat → Nat) (G : Nat) (σ0 : XS) (th : Nat) (a0 : Option Nat) (a1 : Option Nat) : Option (Int32 × XS) :=
  X_X1_chooses_L8 ro G th  G σ0 a0 a1 (-1 : Int32) (0 : Int32) (0 : Int32)

/-! TubBites.chooses -/
def wx_X0_chooses : XW := ([], [], [], true, false)
def X_X0_chooses (ro : Nat → Nat) (G : Nat) (σ0 : XS) (th : Nat) (a0 : Int32) : Option (Int32 × XS) :=
  nnX σ0 1 (some th) fun q1 =>
  bnd (X_X0_isBobber  σ0 q1 a0) fun t2 =>
  if t2 = 0 then
    some ((-2 : Int32), σ0)
  else
    gxR σ0 1 0 (some th) fun t3 =>
    nnX σ0 1 (some th) fun q4 =>
    bnd (X_X0_ruleOf  σ0 q4 a0) fun t5 =>
    gxR σ0 1 0 (some th) fun t6 =>
    gxR σ0 2 44 t6 fun t7 =>
    nnX σ0 3 t7 fun q8 =>
    bnd (X_J2_get  σ0 q8 a0) fun t9 =>
    cxC σ0 14 t9 <|
    nnX σ0 2 t3 fun q10 =>
    bndX (X_X1_chooses ro G σ0 q10 t5 t9) false wx_X1_chooses σ0 fun t11 σ12 =>
    some (t11, σ12)

/-! TubBites$Free.seconds -/
def wx_X16_seconds : XW := ([], [], [], false, false)
def X_X16_seconds (σ0 : XS) (th : Nat) : Option Int32 :=
  some (1 : Int32)

/-! TubBites$Walled.seconds -/
def wx_X20_seconds : XW := ([], [], [], false, false)
def X_X20_seconds (σ0 : XS) (th : Nat) : Option Int32 :=
  some (2 : Int32)

/-! TubBites$Grounded.seconds -/
def wx_X17_seconds : XW := ([], [], [], false, false)
def X_X17_seconds (σ0 : XS) (th : Nat) : Option Int32 :=
  nnS σ0 (some th) fun q1 =>
  bnd (X_X20_seconds  σ0 q1 ) fun t2 =>
  some (t2 + (1 : Int32))

/-! TubBites$Leaned.seconds -/
def wx_X18_seconds : XW := ([], [], [], false, false)
def X_X18_seconds (σ0 : XS) (th : Nat) : Option Int32 :=
  some (1 : Int32)

def wx_v_Try_seconds : XW := ([], [], [], false, false)
def X_v_Try_seconds  (σ : XS) (r : Option Nat)  : Option (Int32) :=
  match r with
  | none => none
  | some q =>
    if tg σ q = 50 then X_X16_seconds σ q 
    else if tg σ q = 51 then X_X16_seconds σ q 
    else if tg σ q = 52 then X_X20_seconds σ q 
    else if tg σ q = 53 then X_X17_seconds σ q 
    else if tg σ q = 54 then X_X18_seconds σ q 
    else none

/-! TubBites$Water.takes -/
def wx_X1_takes : XW := ([423, 425], [], [], false, false)
def X_X1_takes (ro : Nat → Nat) (σ0 : XS) (th : Nat) (a0 : Option Nat) (a1 : Int32) : Option XS :=
  gxI σ0 14 425 a0 fun t1 =>
  rxQ σ0 (some (ro 0)) a1 fun t2 =>
  bnd (X_v_Try_seconds σ0 t2 ) fun t3 =>
  sxI σ0 14 425 a0 (t1 + t3) fun σ4 =>
  gxI σ4 14 423 a0 fun t5 =>
  rxQ σ4 (some (ro 0)) a1 fun t6 =>
  bnd (X_v_Try_breath σ4 t6 ) fun t7 =>
  sxI σ4 14 423 a0 (t5 - t7) fun σ8 =>
  some σ8

/-! TubBites$Water.isCell -/
def wx_X1_isCell : XW := ([], [], [], false, false)
def X_X1_isCell (σ0 : XS) (th : Nat) (a0 : Int32) (a1 : Int32) : Option Int32 :=
  gxI σ0 2 32 (some th) fun t1 =>
  bnd (X_X0_isIn  σ0 a0 (0 : Int32) (t1 - (1 : Int32))) fun t2 =>
  if t2 = 0 then
    some (0 : Int32)
  else
    gxI σ0 2 33 (some th) fun t3 =>
    bnd (X_X0_isIn  σ0 a1 (0 : Int32) (t3 - (1 : Int32))) fun t4 =>
    if t4 = 0 then
      some (0 : Int32)
    else
      some (1 : Int32)

/-! TubBites$Water.push -/
def wx_X1_push : XW := ([391, 392], [], [], false, false)
def X_X1_push_L57 (G : Nat) (R_X1_push : XS → Nat → Option Nat → Int32 → Int32 → Option (Int32 × XS)) (th : Nat)  (σ : XS) (x1 : Option Nat) (x2 : Int32) (x3 : Int32) : Option (Int32 × XS) :=
  gxI σ 13 391 x1 fun t1 =>
  sxI σ 13 391 x1 (t1 + x2) fun σ2 =>
  gxI σ2 13 392 x1 fun t3 =>
  sxI σ2 13 392 x1 (t3 + x3) fun σ4 =>
  some ((1 : Int32), σ4)
def X_X1_push_F (G : Nat) (R_X1_push : XS → Nat → Option Nat → Int32 → Int32 → Option (Int32 × XS)) (σ0 : XS) (th : Nat) (a0 : Option Nat) (a1 : Int32) (a2 : Int32) : Option (Int32 × XS) :=
  gxI σ0 13 391 a0 fun t1 =>
  gxI σ0 13 392 a0 fun t2 =>
  nnX σ0 2 (some th) fun q3 =>
  bnd (X_X1_isCell  σ0 q3 (t1 + a1) (t2 + a2)) fun t4 =>
  if t4 = 0 then
    some ((0 : Int32), σ0)
  else
    gxI σ0 13 391 a0 fun t5 =>
    gxI σ0 13 392 a0 fun t6 =>
    nnX σ0 2 (some th) fun q7 =>
    bnd (X_X1_at G σ0 q7 (t5 + a1) (t6 + a2)) fun t8 =>
    if t8 = none then
      X_X1_push_L57 G R_X1_push th  σ0 a0 a1 a2
    else
      nnX σ0 2 (some th) fun q9 =>
      bndX (R_X1_push σ0 q9 t8 a1 a2) false wx_X1_push σ0 fun t10 σ11 =>
      if t10 = 0 then
        some ((0 : Int32), σ11)
      else
        X_X1_push_L57 G R_X1_push th  σ11 a0 a1 a2
def X_X1_push (G : Nat) : Nat → XS → Nat → Option Nat → Int32 → Int32 → Option (Int32 × XS)
  | 0, _, _, _, _, _ => none
  | D + 1, σ, th, a0, a1, a2 => X_X1_push_F G (X_X1_push G D) σ th a0 a1 a2

/-! TubBites$Water.pushFrom -/
def wx_X1_pushFrom : XW := ([391, 392], [], [], false, false)
def X_X1_pushFrom_L24 (G : Nat) (th : Nat)  (σ : XS) (x2 : Option Nat) (x3 : Int32) (x4 : Int32) : Option XS :=
  nnX σ 2 (some th) fun q1 =>
  bndX (X_X1_push G 12 σ q1 x2 x3 x4) false wx_X1_push σ fun t2 σ3 =>
  some σ3
def X_X1_pushFrom (G : Nat) (σ0 : XS) (th : Nat) (a0 : Option Nat) (a1 : Option Nat) : Option XS :=
  nnX σ0 2 (some th) fun q1 =>
  bnd (X_X1_pushX  σ0 q1 a0 a1) fun t2 =>
  nnX σ0 2 (some th) fun q3 =>
  bnd (X_X1_pushY  σ0 q3 a0 a1) fun t4 =>
  if t2 = 0 then
    if t4 = 0 then
      some σ0
    else
      X_X1_pushFrom_L24 G th  σ0 a1 t2 t4
  else
    X_X1_pushFrom_L24 G th  σ0 a1 t2 t4

/-! TubBites$Try.missed -/
def wx_X21_missed : XW := ([394], [], [], false, false)
def X_X21_missed (σ0 : XS) (th : Nat) (a0 : Option Nat) (a1 : Option Nat) (a2 : Option Nat) : Option XS :=
  gxI σ0 13 394 a2 fun t1 =>
  sxI σ0 13 394 a2 (t1 + (1 : Int32)) fun σ2 =>
  some σ2

/-! TubBites$Free.piece -/
def wx_X16_piece : XW := ([393, 395], [], [], false, false)
def X_X16_piece (σ0 : XS) (th : Nat) (a0 : Option Nat) (a1 : Option Nat) (a2 : Option Nat) : Option XS :=
  gxI σ0 13 388 a2 fun t1 =>
  gxI σ0 2 37 a0 fun t2 =>
  if t2 ≤ t1 then
    gxI σ0 13 395 a2 fun t3 =>
    gxI σ0 14 421 a1 fun t4 =>
    sxI σ0 13 395 a2 (mxI (0 : Int32) ((t3 - t4) - (1 : Int32))) fun σ5 =>
    gxI σ5 13 395 a2 fun t6 =>
    if t6 = 0 then
      sxI σ5 13 393 a2 (9 : Int32) fun σ7 =>
      some σ7
    else
      some σ5
  else
    some σ0

/-! TubBites$Stalked.piece -/
def wx_X19_piece : XW := ([], [], [], false, false)
def X_X19_piece (σ0 : XS) (th : Nat) (a0 : Option Nat) (a1 : Option Nat) (a2 : Option Nat) : Option XS :=
  some σ0

def wx_v_Free_piece : XW := ([393, 395], [], [], false, false)
def X_v_Free_piece  (σ : XS) (r : Option Nat) (a0 : Option Nat) (a1 : Option Nat) (a2 : Option Nat) : Option (XS) :=
  match r with
  | none => none
  | some q =>
    if tg σ q = 50 then X_X16_piece σ q a0 a1 a2
    else if tg σ q = 51 then X_X19_piece σ q a0 a1 a2
    else none

/-! TubBites$Free.missed -/
def wx_X16_missed : XW := ([391, 392, 393, 394, 395], [], [], false, false)
def X_X16_missed (G : Nat) (σ0 : XS) (th : Nat) (a0 : Option Nat) (a1 : Option Nat) (a2 : Option Nat) : Option XS :=
  nnS σ0 (some th) fun q1 =>
  bndY (X_X21_missed  σ0 q1 a0 a1 a2) false wx_X21_missed σ0 fun σ2 =>
  bndY (X_v_Free_piece σ2 (some th) a0 a1 a2) false wx_v_Free_piece σ2 fun σ3 =>
  gxI σ3 13 393 a2 fun t4 =>
  if t4 = (-1 : Int32) then
    nnX σ3 2 a0 fun q5 =>
    bndY (X_X1_pushFrom G σ3 q5 a1 a2) false wx_X1_pushFrom σ3 fun σ6 =>
    some σ6
  else
    some σ3

def wx_v_Try_missed : XW := ([391, 392, 393, 394, 395], [], [], false, false)
def X_v_Try_missed (G : Nat) (σ : XS) (r : Option Nat) (a0 : Option Nat) (a1 : Option Nat) (a2 : Option Nat) : Option (XS) :=
  match r with
  | none => none
  | some q =>
    if tg σ q = 50 then X_X16_missed G σ q a0 a1 a2
    else if tg σ q = 51 then X_X16_missed G σ q a0 a1 a2
    else if tg σ q = 52 then X_X21_missed σ q a0 a1 a2
    else if tg σ q = 53 then X_X21_missed σ q a0 a1 a2
    else if tg σ q = 54 then X_X21_missed σ q a0 a1 a2
    else none

/-! TubBites$Water.go -/
def wx_X1_go : XW := ([35, 391, 392, 393, 394, 395, 423, 424, 425], [], [], true, false)
def X_X1_go_L117 (ro : Nat → Nat) (G : Nat) (th : Nat)  (σ : XS) (x1 : Int32) (x3 : Int32) (x4 : Option Nat) (x5 : Option Nat) (x6 : Int32) (x7 : Int32) (s0 : Option Nat) (s1 : Int32) (s2 : Int32) (s3 : Int32) : Option (Int32 × XS) :=
  wxA σ 100 s0 s1 (s2 + s3) fun σ1 =>
  gxR σ1 14 426 x4 fun t2 =>
  rxA σ1 100 t2 (((3 : Int32) * x3) + (2 : Int32)) fun t3 =>
  wxA σ1 100 t2 (((3 : Int32) * x3) + (2 : Int32)) (t3 + x6) fun σ4 =>
  if x7 = 0 then
    rxQ σ4 (some (ro 0)) x3 fun t5 =>
    bndY (X_v_Try_missed G σ4 t5 (some th) x4 x5) false wx_v_Try_missed σ4 fun σ6 =>
    bzI x7 <|
    some (x7, σ6)
  else
    sxI σ4 13 393 x5 x1 fun σ7 =>
    gxI σ7 14 424 x4 fun t8 =>
    sxI σ7 14 424 x4 (t8 + (1 : Int32)) fun σ9 =>
    bzI x7 <|
    some (x7, σ9)
def X_X1_go_L80 (ro : Nat → Nat) (G : Nat) (th : Nat)  (σ : XS) (x1 : Int32) (x3 : Int32) (x4 : Option Nat) (x5 : Option Nat) (x6 : Int32) (s0 : Int32) : Option (Int32 × XS) :=
  gxR σ 14 426 x4 fun t1 =>
  rxA σ 100 t1 ((3 : Int32) * x3) fun t2 =>
  wxA σ 100 t1 ((3 : Int32) * x3) (t2 + (1 : Int32)) fun σ3 =>
  gxR σ3 14 426 x4 fun t4 =>
  rxA σ3 100 t4 (((3 : Int32) * x3) + (1 : Int32)) fun t5 =>
  if s0 = 0 then
    X_X1_go_L117 ro G th  σ3 x1 x3 x4 x5 x6 s0 t4 (((3 : Int32) * x3) + (1 : Int32)) t5 (0 : Int32)
  else
    X_X1_go_L117 ro G th  σ3 x1 x3 x4 x5 x6 s0 t4 (((3 : Int32) * x3) + (1 : Int32)) t5 (1 : Int32)
def X_X1_go (ro : Nat → Nat) (G : Nat) (σ0 : XS) (th : Nat) (a0 : Int32) (a1 : Int32) (a2 : Int32) : Option (Int32 × XS) :=
  gxR σ0 2 44 (some th) fun t1 =>
  nnX σ0 3 t1 fun q2 =>
  bnd (X_J2_get  σ0 q2 a0) fun t3 =>
  cxC σ0 14 t3 <|
  gxR σ0 2 43 (some th) fun t4 =>
  nnX σ0 3 t4 fun q5 =>
  bnd (X_J2_get  σ0 q5 a1) fun t6 =>
  cxC σ0 13 t6 <|
  nnX σ0 2 (some th) fun q7 =>
  bndX (X_X1_odds  σ0 q7 t3 t6 a2) false wx_X1_odds σ0 fun t8 σ9 =>
  gxI σ9 2 35 (some th) fun t10 =>
  rmI ((t10 * (137 : Int32)) + (71 : Int32)) (1000 : Int32) fun t11 =>
  sxI σ9 2 35 (some th) t11 fun σ12 =>
  nnX σ12 2 (some th) fun q13 =>
  bndY (X_X1_takes ro σ12 q13 t3 a2) false wx_X1_takes σ12 fun σ14 =>
  gxI σ14 2 35 (some th) fun t15 =>
  dvI t15 (10 : Int32) fun t16 =>
  if t8 ≤ t16 then
    X_X1_go_L80 ro G th  σ14 a0 a2 t3 t6 t8 (0 : Int32)
  else
    X_X1_go_L80 ro G th  σ14 a0 a2 t3 t6 t8 (1 : Int32)

/-! TubBites.go -/
def wx_X0_go : XW := ([35, 64, 66, 391, 392, 393, 394, 395, 423, 424, 425], [65, 128], [], true, true)
def X_X0_go (TL : Nat) (SL : Nat) (ro : Nat → Nat) (G : Nat) (σ0 : XS) (th : Nat) (a0 : Int32) (a1 : Int32) (a2 : Int32) : Option (Int32 × XS) :=
  nnX σ0 1 (some th) fun q1 =>
  bnd (X_X0_isTry ro G σ0 q1 a0 a1 a2) fun t2 =>
  if t2 = 0 then
    some ((-1 : Int32), σ0)
  else
    nnX σ0 1 (some th) fun q3 =>
    bndY (X_X0_keepAct TL SL ro G σ0 q3 ) true wx_X0_keepAct σ0 fun σ4 =>
    gxR σ4 1 0 (some th) fun t5 =>
    nnX σ4 2 t5 fun q6 =>
    bndX (X_X1_go ro G σ4 q6 a0 a1 a2) false wx_X1_go σ4 fun t7 σ8 =>
    if t7 = 0 then
      some ((0 : Int32), σ8)
    else
      some ((1 : Int32), σ8)

/-! TubBites$Water.breathes -/
def wx_X1_breathes : XW := ([423, 425], [], [], false, false)
def X_X1_breathes (σ0 : XS) (th : Nat) (a0 : Option Nat) : Option XS :=
  gxI σ0 14 425 a0 fun t1 =>
  sxI σ0 14 425 a0 (t1 + (2 : Int32)) fun σ2 =>
  gxI σ2 14 420 a0 fun t3 =>
  sxI σ2 14 423 a0 t3 fun σ4 =>
  some σ4

/-! TubBites.breathe -/
def wx_X0_breathe : XW := ([64, 66, 423, 425], [65, 128], [], true, true)
def X_X0_breathe (TL : Nat) (SL : Nat) (ro : Nat → Nat) (G : Nat) (σ0 : XS) (th : Nat) (a0 : Int32) : Option (Int32 × XS) :=
  nnX σ0 1 (some th) fun q1 =>
  bnd (X_X0_isBobber  σ0 q1 a0) fun t2 =>
  if t2 = 0 then
    some ((-1 : Int32), σ0)
  else
    nnX σ0 1 (some th) fun q3 =>
    bndY (X_X0_keepAct TL SL ro G σ0 q3 ) true wx_X0_keepAct σ0 fun σ4 =>
    gxR σ4 1 0 (some th) fun t5 =>
    gxR σ4 1 0 (some th) fun t6 =>
    gxR σ4 2 44 t6 fun t7 =>
    nnX σ4 3 t7 fun q8 =>
    bnd (X_J2_get  σ4 q8 a0) fun t9 =>
    cxC σ4 14 t9 <|
    nnX σ4 2 t5 fun q10 =>
    bndY (X_X1_breathes  σ4 q10 t9) false wx_X1_breathes σ4 fun σ11 =>
    gxR σ11 1 0 (some th) fun t12 =>
    gxR σ11 2 44 t12 fun t13 =>
    nnX σ11 3 t13 fun q14 =>
    bnd (X_J2_get  σ11 q14 a0) fun t15 =>
    cxC σ11 14 t15 <|
    gxI σ11 14 423 t15 fun t16 =>
    some (t16, σ11)

/-! TubBites$Water.drifts -/
def wx_X1_drifts : XW := ([391, 392], [], [], false, false)
def X_X1_drifts (G : Nat) (σ0 : XS) (th : Nat) (a0 : Option Nat) (a1 : Int32) (a2 : Int32) : Option (Int32 × XS) :=
  gxI σ0 13 391 a0 fun t1 =>
  gxI σ0 13 392 a0 fun t2 =>
  nnX σ0 2 (some th) fun q3 =>
  bnd (X_X1_isCell  σ0 q3 (t1 + a1) (t2 + a2)) fun t4 =>
  if t4 = 0 then
    some ((0 : Int32), σ0)
  else
    gxI σ0 13 391 a0 fun t5 =>
    gxI σ0 13 392 a0 fun t6 =>
    nnX σ0 2 (some th) fun q7 =>
    bnd (X_X1_at G σ0 q7 (t5 + a1) (t6 + a2)) fun t8 =>
    if t8 = none then
      gxI σ0 13 391 a0 fun t9 =>
      sxI σ0 13 391 a0 (t9 + a1) fun σ10 =>
      gxI σ10 13 392 a0 fun t11 =>
      sxI σ10 13 392 a0 (t11 + a2) fun σ12 =>
      some ((1 : Int32), σ12)
    else
      some ((0 : Int32), σ0)

/-! TubBites$Water.wave -/
def wx_X1_wave : XW := ([391, 392], [], [], false, false)
def X_X1_wave_L146 (G : Nat) (th : Nat) (k45 : XS → Int32 → Int32 → Int32 → Int32 → Option (Int32 × XS)) (k68 : XS → Int32 → Int32 → Int32 → Int32 → Int32 → Option (Int32 × XS)) (σ : XS) (x2 : Int32) (x3 : Int32) (x4 : Int32) (x5 : Int32) (x6 : Int32) (s0 : Option Nat) : Option (Int32 × XS) :=
  if s0 = none then
    k68 σ x2 x3 x4 x5 (x6 + (1 : Int32))
  else
    nnX σ 2 (some th) fun q1 =>
    bndX (X_X1_drifts G σ q1 s0 x2 x3) false wx_X1_drifts σ fun t2 σ3 =>
    if t2 = 0 then
      k68 σ3 x2 x3 x4 x5 (x6 + (1 : Int32))
    else
      k68 σ3 x2 x3 (x4 + (1 : Int32)) x5 (x6 + (1 : Int32))
def X_X1_wave_L121 (G : Nat) (th : Nat) (k45 : XS → Int32 → Int32 → Int32 → Int32 → Option (Int32 × XS)) (k68 : XS → Int32 → Int32 → Int32 → Int32 → Int32 → Option (Int32 × XS)) (σ : XS) (x2 : Int32) (x3 : Int32) (x4 : Int32) (x5 : Int32) (x6 : Int32) (s0 : Int32) : Option (Int32 × XS) :=
  if x2 = 0 then
    nnX σ 2 (some th) fun q1 =>
    bnd (X_X1_at G σ q1 x6 s0) fun t2 =>
    X_X1_wave_L146 G th k45 k68 σ x2 x3 x4 x5 x6 t2
  else
    nnX σ 2 (some th) fun q3 =>
    bnd (X_X1_at G σ q3 s0 x6) fun t4 =>
    X_X1_wave_L146 G th k45 k68 σ x2 x3 x4 x5 x6 t4
def X_X1_wave_L111 (G : Nat) (th : Nat) (k45 : XS → Int32 → Int32 → Int32 → Int32 → Option (Int32 × XS)) (k68 : XS → Int32 → Int32 → Int32 → Int32 → Int32 → Option (Int32 × XS)) (σ : XS) (x2 : Int32) (x3 : Int32) (x4 : Int32) (x5 : Int32) (x6 : Int32) (s0 : Int32) : Option (Int32 × XS) :=
  X_X1_wave_L121 G th k45 k68 σ x2 x3 x4 x5 x6 ((s0 - (1 : Int32)) - x5)
def X_X1_wave_L96 (G : Nat) (th : Nat) (k45 : XS → Int32 → Int32 → Int32 → Int32 → Option (Int32 × XS)) (k68 : XS → Int32 → Int32 → Int32 → Int32 → Int32 → Option (Int32 × XS)) (σ : XS) (x2 : Int32) (x3 : Int32) (x4 : Int32) (x5 : Int32) (x6 : Int32) : Option (Int32 × XS) :=
  if x2 = 0 then
    gxI σ 2 33 (some th) fun t1 =>
    X_X1_wave_L111 G th k45 k68 σ x2 x3 x4 x5 x6 t1
  else
    gxI σ 2 32 (some th) fun t2 =>
    X_X1_wave_L111 G th k45 k68 σ x2 x3 x4 x5 x6 t2
def X_X1_wave_L85 (G : Nat) (th : Nat) (k45 : XS → Int32 → Int32 → Int32 → Int32 → Option (Int32 × XS)) (k68 : XS → Int32 → Int32 → Int32 → Int32 → Int32 → Option (Int32 × XS)) (σ : XS) (x2 : Int32) (x3 : Int32) (x4 : Int32) (x5 : Int32) (x6 : Int32) (s0 : Int32) (s1 : Int32) : Option (Int32 × XS) :=
  if s1 ≤ s0 then
    k45 σ x2 x3 x4 (x5 + (1 : Int32))
  else
    if 0 < x2 then
      X_X1_wave_L96 G th k45 k68 σ x2 x3 x4 x5 x6
    else
      if x3 ≤ 0 then
        X_X1_wave_L121 G th k45 k68 σ x2 x3 x4 x5 x6 x5
      else
        X_X1_wave_L96 G th k45 k68 σ x2 x3 x4 x5 x6
def X_X1_wave_B68 (G : Nat) (th : Nat) (k45 : XS → Int32 → Int32 → Int32 → Int32 → Option (Int32 × XS)) (k68 : XS → Int32 → Int32 → Int32 → Int32 → Int32 → Option (Int32 × XS)) (σ : XS) (x2 : Int32) (x3 : Int32) (x4 : Int32) (x5 : Int32) (x6 : Int32) : Option (Int32 × XS) :=
  if x2 = 0 then
    gxI σ 2 32 (some th) fun t1 =>
    X_X1_wave_L85 G th k45 k68 σ x2 x3 x4 x5 x6 x6 t1
  else
    gxI σ 2 33 (some th) fun t2 =>
    X_X1_wave_L85 G th k45 k68 σ x2 x3 x4 x5 x6 x6 t2
def X_X1_wave_L68 (G : Nat) (th : Nat) (k45 : XS → Int32 → Int32 → Int32 → Int32 → Option (Int32 × XS)) : Nat → XS → Int32 → Int32 → Int32 → Int32 → Int32 → Option (Int32 × XS)
  | 0, _, _, _, _, _, _ => none
  | n + 1, σ, x2, x3, x4, x5, x6 => X_X1_wave_B68 G th k45 (X_X1_wave_L68 G th k45 n) σ x2 x3 x4 x5 x6
def X_X1_wave_L62 (G : Nat) (th : Nat) (k45 : XS → Int32 → Int32 → Int32 → Int32 → Option (Int32 × XS)) (σ : XS) (x2 : Int32) (x3 : Int32) (x4 : Int32) (x5 : Int32) (s0 : Int32) (s1 : Int32) : Option (Int32 × XS) :=
  if s1 ≤ s0 then
    some (x4, σ)
  else
    X_X1_wave_L68 G th k45 G σ x2 x3 x4 x5 (0 : Int32)
def X_X1_wave_B45 (G : Nat) (th : Nat) (k45 : XS → Int32 → Int32 → Int32 → Int32 → Option (Int32 × XS)) (σ : XS) (x2 : Int32) (x3 : Int32) (x4 : Int32) (x5 : Int32) : Option (Int32 × XS) :=
  if x2 = 0 then
    gxI σ 2 33 (some th) fun t1 =>
    X_X1_wave_L62 G th k45 σ x2 x3 x4 x5 x5 t1
  else
    gxI σ 2 32 (some th) fun t2 =>
    X_X1_wave_L62 G th k45 σ x2 x3 x4 x5 x5 t2
def X_X1_wave_L45 (G : Nat) (th : Nat)  : Nat → XS → Int32 → Int32 → Int32 → Int32 → Option (Int32 × XS)
  | 0, _, _, _, _, _ => none
  | n + 1, σ, x2, x3, x4, x5 => X_X1_wave_B45 G th  (X_X1_wave_L45 G th  n) σ x2 x3 x4 x5
def X_X1_wave_L18 (G : Nat) (th : Nat)  (σ : XS) (x1 : Int32) (s0 : Int32) : Option (Int32 × XS) :=
  if x1 = (2 : Int32) then
    X_X1_wave_L45 G th  G σ s0 (1 : Int32) (0 : Int32) (0 : Int32)
  else
    if x1 = (3 : Int32) then
      X_X1_wave_L45 G th  G σ s0 (-1 : Int32) (0 : Int32) (0 : Int32)
    else
      X_X1_wave_L45 G th  G σ s0 (0 : Int32) (0 : Int32) (0 : Int32)
def X_X1_wave (G : Nat) (σ0 : XS) (th : Nat) (a0 : Int32) : Option (Int32 × XS) :=
  if a0 = 0 then
    X_X1_wave_L18 G th  σ0 a0 (-1 : Int32)
  else
    if a0 = (1 : Int32) then
      X_X1_wave_L18 G th  σ0 a0 (1 : Int32)
    else
      X_X1_wave_L18 G th  σ0 a0 (0 : Int32)

/-! TubBites.wave -/
def wx_X0_wave : XW := ([64, 66, 391, 392], [65, 128], [], true, true)
def X_X0_wave (TL : Nat) (SL : Nat) (ro : Nat → Nat) (G : Nat) (σ0 : XS) (th : Nat) (a0 : Int32) : Option (Int32 × XS) :=
  bnd (X_X0_isIn  σ0 a0 (0 : Int32) (3 : Int32)) fun t1 =>
  if t1 = 0 then
    some ((-1 : Int32), σ0)
  else
    nnX σ0 1 (some th) fun q2 =>
    bndY (X_X0_keepAct TL SL ro G σ0 q2 ) true wx_X0_keepAct σ0 fun σ3 =>
    gxR σ3 1 0 (some th) fun t4 =>
    nnX σ3 2 t4 fun q5 =>
    bndX (X_X1_wave G σ3 q5 a0) false wx_X1_wave σ3 fun t6 σ7 =>
    some (t6, σ7)

/-! TubBites$Water.turn -/
def wx_X1_turn : XW := ([35, 391, 392, 393, 394, 395, 423, 424, 425], [], [], true, false)
def X_X1_turn_L30 (ro : Nat → Nat) (G : Nat) (th : Nat)  (σ : XS) (x1 : Int32) (x4 : Int32) : Option (Int32 × XS) :=
  if x4 < 0 then
    some ((0 : Int32), σ)
  else
    dvI x4 (10 : Int32) fun t1 =>
    rmI x4 (10 : Int32) fun t2 =>
    nnX σ 2 (some th) fun q3 =>
    bndX (X_X1_go ro G σ q3 x1 t1 t2) false wx_X1_go σ fun t4 σ5 =>
    if t4 = 0 then
      some ((0 : Int32), σ5)
    else
      some ((1 : Int32), σ5)
def X_X1_turn (ro : Nat → Nat) (G : Nat) (σ0 : XS) (th : Nat) (a0 : Int32) (a1 : Option Nat) : Option (Int32 × XS) :=
  gxR σ0 2 44 (some th) fun t1 =>
  nnX σ0 3 t1 fun q2 =>
  bnd (X_J2_get  σ0 q2 a0) fun t3 =>
  cxC σ0 14 t3 <|
  nnX σ0 2 (some th) fun q4 =>
  bndX (X_X1_chooses ro G σ0 q4 a1 t3) false wx_X1_chooses σ0 fun t5 σ6 =>
  if 0 ≤ t5 then
    X_X1_turn_L30 ro G th  σ6 a0 t5
  else
    nnX σ6 2 (some th) fun q7 =>
    bndY (X_X1_breathes  σ6 q7 t3) false wx_X1_breathes σ6 fun σ8 =>
    X_X1_turn_L30 ro G th  σ8 a0 t5

/-! TubBites.party -/
def wx_X0_party : XW := ([35, 64, 66, 391, 392, 393, 394, 395, 423, 424, 425], [65, 128], [], true, true)
def X_X0_party_B28 (TL : Nat) (SL : Nat) (ro : Nat → Nat) (G : Nat) (th : Nat) (k20 : XS → Int32 → Int32 → Int32 → Option (Int32 × XS)) (k28 : XS → Int32 → Int32 → Int32 → Int32 → Option (Int32 × XS)) (σ : XS) (x1 : Int32) (x2 : Int32) (x3 : Int32) (x4 : Int32) : Option (Int32 × XS) :=
  gxR σ 1 0 (some th) fun t1 =>
  gxR σ 2 44 t1 fun t2 =>
  nnX σ 3 t2 fun q3 =>
  bnd (X_J2_size  σ q3 ) fun t4 =>
  if t4 ≤ x4 then
    k20 σ x1 x2 (x3 + (1 : Int32))
  else
    gxR σ 1 0 (some th) fun t5 =>
    nnX σ 1 (some th) fun q6 =>
    bnd (X_X0_ruleOf  σ q6 x4) fun t7 =>
    nnX σ 2 t5 fun q8 =>
    bndX (X_X1_turn ro G σ q8 x4 t7) false wx_X1_turn σ fun t9 σ10 =>
    if t9 = 0 then
      k28 σ10 x1 (x2 + (0 : Int32)) x3 (x4 + (1 : Int32))
    else
      k28 σ10 x1 (x2 + (1 : Int32)) x3 (x4 + (1 : Int32))
def X_X0_party_L28 (TL : Nat) (SL : Nat) (ro : Nat → Nat) (G : Nat) (th : Nat) (k20 : XS → Int32 → Int32 → Int32 → Option (Int32 × XS)) : Nat → XS → Int32 → Int32 → Int32 → Int32 → Option (Int32 × XS)
  | 0, _, _, _, _, _ => none
  | n + 1, σ, x1, x2, x3, x4 => X_X0_party_B28 TL SL ro G th k20 (X_X0_party_L28 TL SL ro G th k20 n) σ x1 x2 x3 x4
def X_X0_party_B20 (TL : Nat) (SL : Nat) (ro : Nat → Nat) (G : Nat) (th : Nat) (k20 : XS → Int32 → Int32 → Int32 → Option (Int32 × XS)) (σ : XS) (x1 : Int32) (x2 : Int32) (x3 : Int32) : Option (Int32 × XS) :=
  if x1 ≤ x3 then
    some (x2, σ)
  else
    X_X0_party_L28 TL SL ro G th k20 G σ x1 x2 x3 (0 : Int32)
def X_X0_party_L20 (TL : Nat) (SL : Nat) (ro : Nat → Nat) (G : Nat) (th : Nat)  : Nat → XS → Int32 → Int32 → Int32 → Option (Int32 × XS)
  | 0, _, _, _, _ => none
  | n + 1, σ, x1, x2, x3 => X_X0_party_B20 TL SL ro G th  (X_X0_party_L20 TL SL ro G th  n) σ x1 x2 x3
def X_X0_party (TL : Nat) (SL : Nat) (ro : Nat → Nat) (G : Nat) (σ0 : XS) (th : Nat) (a0 : Int32) : Option (Int32 × XS) :=
  bnd (X_X0_isIn  σ0 a0 (0 : Int32) (20 : Int32)) fun t1 =>
  if t1 = 0 then
    some ((-1 : Int32), σ0)
  else
    nnX σ0 1 (some th) fun q2 =>
    bndY (X_X0_keepAct TL SL ro G σ0 q2 ) true wx_X0_keepAct σ0 fun σ3 =>
    X_X0_party_L20 TL SL ro G th  G σ3 a0 (0 : Int32) (0 : Int32)

/-! TubBites.undo -/
def wx_X0_undo : XW := ([35, 64, 66, 391, 392, 393, 394, 395, 423, 424, 425], [65, 128], [], true, true)
def X_X0_undo (TL : Nat) (SL : Nat) (ro : Nat → Nat) (G : Nat) (σ0 : XS) (th : Nat) : Option (Int32 × XS) :=
  gxR σ0 1 6 (some th) fun t1 =>
  nnX σ0 3 t1 fun q2 =>
  bnd (X_J2_isEmpty  σ0 q2 ) fun t3 =>
  if t3 = 0 then
    gxR σ0 1 7 (some th) fun t4 =>
    gxR σ0 1 6 (some th) fun t5 =>
    gxR σ0 1 6 (some th) fun t6 =>
    nnX σ0 3 t6 fun q7 =>
    bnd (X_J2_size  σ0 q7 ) fun t8 =>
    nnX σ0 3 t5 fun q9 =>
    bndX (X_J2_remove  σ0 q9 (t8 - (1 : Int32))) false wx_J2_remove σ0 fun t10 σ11 =>
    cxC σ11 5 t10 <|
    nnX σ11 1 (some th) fun q12 =>
    bndX (X_X0_turned TL SL G σ11 q12 t10) true wx_X0_turned σ11 fun t13 σ14 =>
    nnX σ14 3 t4 fun q15 =>
    bndX (X_J2_add TL SL ro σ14 q15 t13) true wx_J2_add σ14 fun t16 σ17 =>
    some ((1 : Int32), σ17)
  else
    some ((0 : Int32), σ0)

/-! TubBites.redo -/
def wx_X0_redo : XW := ([35, 64, 66, 391, 392, 393, 394, 395, 423, 424, 425], [65, 128], [], true, true)
def X_X0_redo (TL : Nat) (SL : Nat) (ro : Nat → Nat) (G : Nat) (σ0 : XS) (th : Nat) : Option (Int32 × XS) :=
  gxR σ0 1 7 (some th) fun t1 =>
  nnX σ0 3 t1 fun q2 =>
  bnd (X_J2_isEmpty  σ0 q2 ) fun t3 =>
  if t3 = 0 then
    gxR σ0 1 6 (some th) fun t4 =>
    gxR σ0 1 7 (some th) fun t5 =>
    gxR σ0 1 7 (some th) fun t6 =>
    nnX σ0 3 t6 fun q7 =>
    bnd (X_J2_size  σ0 q7 ) fun t8 =>
    nnX σ0 3 t5 fun q9 =>
    bndX (X_J2_remove  σ0 q9 (t8 - (1 : Int32))) false wx_J2_remove σ0 fun t10 σ11 =>
    cxC σ11 5 t10 <|
    nnX σ11 1 (some th) fun q12 =>
    bndX (X_X0_turned TL SL G σ11 q12 t10) true wx_X0_turned σ11 fun t13 σ14 =>
    nnX σ14 3 t4 fun q15 =>
    bndX (X_J2_add TL SL ro σ14 q15 t13) true wx_J2_add σ14 fun t16 σ17 =>
    some ((1 : Int32), σ17)
  else
    some ((0 : Int32), σ0)

/-! TubBites.bestOf -/
def wx_X0_bestOf : XW := ([8, 9, 35, 391, 392, 393, 394, 395, 423, 424, 425], [], [], true, false)
def X_X0_bestOf_L392 (ro : Nat → Nat) (G : Nat) (R_X0_bestOf : XS → Nat → Option Nat → Int32 → Int32 → Option (Int32 × XS)) (th : Nat)  (σ : XS) (x4 : Int32) (x6 : Int32) : Option (Int32 × XS) :=
  some ((mxI x4 x6), σ)
def X_X0_bestOf_B65 (ro : Nat → Nat) (G : Nat) (R_X0_bestOf : XS → Nat → Option Nat → Int32 → Int32 → Option (Int32 × XS)) (th : Nat) (k47 : XS → Option Nat → Int32 → Int32 → Int32 → Int32 → Int32 → Option (Int32 × XS)) (k65 : XS → Option Nat → Int32 → Int32 → Int32 → Int32 → Int32 → Int32 → Option (Int32 × XS)) (σ : XS) (x1 : Option Nat) (x2 : Int32) (x3 : Int32) (x4 : Int32) (x5 : Int32) (x6 : Int32) (x7 : Int32) : Option (Int32 × XS) :=
  if (5 : Int32) ≤ x7 then
    k47 σ x1 x2 x3 x4 x5 (x6 + (1 : Int32))
  else
    gxR σ 1 0 (some th) fun t1 =>
    gxR σ 2 43 t1 fun t2 =>
    nnX σ 3 t2 fun q3 =>
    bnd (X_J2_get  σ q3 x6) fun t4 =>
    cxC σ 13 t4 <|
    rxQ σ (some (ro 0)) x7 fun t5 =>
    bnd (X_v_Try_seconds σ t5 ) fun t6 =>
    if x2 < t6 then
      k65 σ x1 x2 x3 x4 x5 x6 (x7 + (1 : Int32))
    else
      gxR σ 1 0 (some th) fun t7 =>
      nnX σ 2 t7 fun q8 =>
      bnd (X_X1_can ro G σ q8 x1 t4 x7) fun t9 =>
      if t9 = 0 then
        k65 σ x1 x2 x3 x4 x5 x6 (x7 + (1 : Int32))
      else
        gxR σ 1 0 (some th) fun t10 =>
        nnX σ 2 t10 fun q11 =>
        bndX (X_X1_odds  σ q11 x1 t4 x7) false wx_X1_odds σ fun t12 σ13 =>
        gxR σ13 1 0 (some th) fun t14 =>
        nnX σ13 2 t14 fun q15 =>
        bndY (X_X1_takes ro σ13 q15 x1 x7) false wx_X1_takes σ13 fun σ16 =>
        sxI σ16 13 393 t4 (0 : Int32) fun σ17 =>
        nnX σ17 1 (some th) fun q18 =>
        bndX (R_X0_bestOf σ17 q18 x1 (x2 - t6) (x3 + (1 : Int32))) false wx_X0_bestOf σ17 fun t19 σ20 =>
        gxR σ20 1 0 (some th) fun t21 =>
        gxR σ20 1 10 (some th) fun t22 =>
        nnX σ20 2 t21 fun q23 =>
        bndY (X_X1_bringAt G σ20 q23 t22 x5) false wx_X1_bringAt σ20 fun σ24 =>
        gxR σ24 1 0 (some th) fun t25 =>
        nnX σ24 2 t25 fun q26 =>
        bndY (X_X1_takes ro σ24 q26 x1 x7) false wx_X1_takes σ24 fun σ27 =>
        rxQ σ27 (some (ro 0)) x7 fun t28 =>
        gxR σ27 1 0 (some th) fun t29 =>
        bndY (X_v_Try_missed G σ27 t28 t29 x1 t4) false wx_v_Try_missed σ27 fun σ30 =>
        nnX σ30 1 (some th) fun q31 =>
        bndX (R_X0_bestOf σ30 q31 x1 (x2 - t6) (x3 + (1 : Int32))) false wx_X0_bestOf σ30 fun t32 σ33 =>
        gxR σ33 1 0 (some th) fun t34 =>
        gxR σ33 1 10 (some th) fun t35 =>
        nnX σ33 2 t34 fun q36 =>
        bndY (X_X1_bringAt G σ33 q36 t35 x5) false wx_X1_bringAt σ33 fun σ37 =>
        if t19 < 0 then
          some ((-1 : Int32), σ37)
        else
          if 0 ≤ t32 then
            dvL (((t12.toInt64) * (((1000000 : Int32) + t19).toInt64)) + ((((100 : Int32) - t12).toInt64) * (t32.toInt64))) (100 : Int64) fun t38 =>
            if x4 < (t38.toInt32) then
              if x3 = 0 then
                sxI σ37 1 9 (some th) (((10 : Int32) * x6) + x7) fun σ39 =>
                k65 σ39 x1 x2 x3 (t38.toInt32) x5 x6 (x7 + (1 : Int32))
              else
                k65 σ37 x1 x2 x3 (t38.toInt32) x5 x6 (x7 + (1 : Int32))
            else
              k65 σ37 x1 x2 x3 x4 x5 x6 (x7 + (1 : Int32))
          else
            some ((-1 : Int32), σ37)
def X_X0_bestOf_L65 (ro : Nat → Nat) (G : Nat) (R_X0_bestOf : XS → Nat → Option Nat → Int32 → Int32 → Option (Int32 × XS)) (th : Nat) (k47 : XS → Option Nat → Int32 → Int32 → Int32 → Int32 → Int32 → Option (Int32 × XS)) : Nat → XS → Option Nat → Int32 → Int32 → Int32 → Int32 → Int32 → Int32 → Option (Int32 × XS)
  | 0, _, _, _, _, _, _, _, _ => none
  | n + 1, σ, x1, x2, x3, x4, x5, x6, x7 => X_X0_bestOf_B65 ro G R_X0_bestOf th k47 (X_X0_bestOf_L65 ro G R_X0_bestOf th k47 n) σ x1 x2 x3 x4 x5 x6 x7
def X_X0_bestOf_B47 (ro : Nat → Nat) (G : Nat) (R_X0_bestOf : XS → Nat → Option Nat → Int32 → Int32 → Option (Int32 × XS)) (th : Nat) (k47 : XS → Option Nat → Int32 → Int32 → Int32 → Int32 → Int32 → Option (Int32 × XS)) (σ : XS) (x1 : Option Nat) (x2 : Int32) (x3 : Int32) (x4 : Int32) (x5 : Int32) (x6 : Int32) : Option (Int32 × XS) :=
  gxR σ 1 0 (some th) fun t1 =>
  gxR σ 2 43 t1 fun t2 =>
  nnX σ 3 t2 fun q3 =>
  bnd (X_J2_size  σ q3 ) fun t4 =>
  if t4 ≤ x6 then
    if x2 < (2 : Int32) then
      some (x4, σ)
    else
      gxI σ 14 423 x1 fun t5 =>
      gxI σ 14 420 x1 fun t6 =>
      if t5 = t6 then
        some (x4, σ)
      else
        gxR σ 1 0 (some th) fun t7 =>
        nnX σ 2 t7 fun q8 =>
        bndY (X_X1_breathes  σ q8 x1) false wx_X1_breathes σ fun σ9 =>
        nnX σ9 1 (some th) fun q10 =>
        bndX (R_X0_bestOf σ9 q10 x1 (x2 - (2 : Int32)) (x3 + (1 : Int32))) false wx_X0_bestOf σ9 fun t11 σ12 =>
        gxR σ12 1 0 (some th) fun t13 =>
        gxR σ12 1 10 (some th) fun t14 =>
        nnX σ12 2 t13 fun q15 =>
        bndY (X_X1_bringAt G σ12 q15 t14 x5) false wx_X1_bringAt σ12 fun σ16 =>
        if 0 ≤ t11 then
          if t11 ≤ x4 then
            X_X0_bestOf_L392 ro G R_X0_bestOf th  σ16 x4 t11
          else
            if x3 = 0 then
              sxI σ16 1 9 (some th) (-2 : Int32) fun σ17 =>
              X_X0_bestOf_L392 ro G R_X0_bestOf th  σ17 x4 t11
            else
              X_X0_bestOf_L392 ro G R_X0_bestOf th  σ16 x4 t11
        else
          some ((-1 : Int32), σ16)
  else
    X_X0_bestOf_L65 ro G R_X0_bestOf th k47 G σ x1 x2 x3 x4 x5 x6 (0 : Int32)
def X_X0_bestOf_L47 (ro : Nat → Nat) (G : Nat) (R_X0_bestOf : XS → Nat → Option Nat → Int32 → Int32 → Option (Int32 × XS)) (th : Nat)  : Nat → XS → Option Nat → Int32 → Int32 → Int32 → Int32 → Int32 → Option (Int32 × XS)
  | 0, _, _, _, _, _, _, _ => none
  | n + 1, σ, x1, x2, x3, x4, x5, x6 => X_X0_bestOf_B47 ro G R_X0_bestOf th  (X_X0_bestOf_L47 ro G R_X0_bestOf th  n) σ x1 x2 x3 x4 x5 x6
def X_X0_bestOf_F (ro : Nat → Nat) (G : Nat) (R_X0_bestOf : XS → Nat → Option Nat → Int32 → Int32 → Option (Int32 × XS)) (σ0 : XS) (th : Nat) (a0 : Option Nat) (a1 : Int32) (a2 : Int32) : Option (Int32 × XS) :=
  gxI σ0 1 8 (some th) fun t1 =>
  sxI σ0 1 8 (some th) (t1 + (1 : Int32)) fun σ2 =>
  gxI σ2 1 8 (some th) fun t3 =>
  if t3 ≤ (20000 : Int32) then
    gxR σ2 1 0 (some th) fun t4 =>
    gxR σ2 1 10 (some th) fun t5 =>
    nnX σ2 2 t4 fun q6 =>
    bndY (X_X1_keepAt G σ2 q6 t5 ((123 : Int32) * a2)) false wx_X1_keepAt σ2 fun σ7 =>
    X_X0_bestOf_L47 ro G R_X0_bestOf th  G σ7 a0 a1 a2 (0 : Int32) ((123 : Int32) * a2) (0 : Int32)
  else
    some ((-1 : Int32), σ2)
def X_X0_bestOf (ro : Nat → Nat) (G : Nat) : Nat → XS → Nat → Option Nat → Int32 → Int32 → Option (Int32 × XS)
  | 0, _, _, _, _, _ => none
  | D + 1, σ, th, a0, a1, a2 => X_X0_bestOf_F ro G (X_X0_bestOf ro G D) σ th a0 a1 a2

/-! TubBites.best -/
def wx_X0_best : XW := ([8, 9, 35, 391, 392, 393, 394, 395, 423, 424, 425], [], [], true, false)
def X_X0_best (TL : Nat) (SL : Nat) (ro : Nat → Nat) (G : Nat) (σ0 : XS) (th : Nat) (a0 : Int32) (a1 : Int32) (a2 : Int32) : Option (Int32 × XS) :=
  nnX σ0 1 (some th) fun q1 =>
  bnd (X_X0_isBobber  σ0 q1 a0) fun t2 =>
  if t2 = 0 then
    some ((-1 : Int32), σ0)
  else
    bnd (X_X0_isIn  σ0 a1 (0 : Int32) (8 : Int32)) fun t3 =>
    if t3 = 0 then
      some ((-1 : Int32), σ0)
    else
      bnd (X_X0_isIn  σ0 a2 (0 : Int32) (2 : Int32)) fun t4 =>
      if t4 = 0 then
        some ((-1 : Int32), σ0)
      else
        sxI σ0 1 8 (some th) (0 : Int32) fun σ5 =>
        sxI σ5 1 9 (some th) (-1 : Int32) fun σ6 =>
        gxR σ6 1 0 (some th) fun t7 =>
        nnX σ6 2 t7 fun q8 =>
        bndX (X_X1_keep TL SL G σ6 q8 ) true wx_X1_keep σ6 fun t9 σ10 =>
        gxR σ10 1 0 (some th) fun t11 =>
        gxR σ10 2 44 t11 fun t12 =>
        nnX σ10 3 t12 fun q13 =>
        bnd (X_J2_get  σ10 q13 a0) fun t14 =>
        cxC σ10 14 t14 <|
        nnX σ10 1 (some th) fun q15 =>
        bndX (X_X0_bestOf ro G 12 σ10 q15 t14 a1 (0 : Int32)) false wx_X0_bestOf σ10 fun t16 σ17 =>
        gxR σ17 1 0 (some th) fun t18 =>
        nnX σ17 2 t18 fun q19 =>
        bndY (X_X1_bring G σ17 q19 t9) false wx_X1_bring σ17 fun σ20 =>
        if 0 ≤ t16 then
          if a2 = 0 then
            some (t16, σ20)
          else
            if a2 = (1 : Int32) then
              gxI σ20 1 9 (some th) fun t22 =>
              some ((mxI (-1 : Int32) t22), σ20)
            else
              gxI σ20 1 9 (some th) fun t21 =>
              if t21 = (-2 : Int32) then
                some ((1 : Int32), σ20)
              else
                some ((0 : Int32), σ20)
        else
          some ((-2 : Int32), σ20)

/-! TubBites.matchOf -/
def wx_X0_matchOf : XW := ([35, 391, 392, 393, 394, 395, 423, 424, 425], [], [], true, false)
def X_X0_matchOf_L88 (ro : Nat → Nat) (G : Nat) (th : Nat) (k17 : XS → Int32 → Int32 → Int32 → Int32 → Option (Int32 × XS)) (σ : XS) (x1 : Int32) (x2 : Int32) (x4 : Int32) (s0 : Int32) (s1 : Int32) : Option (Int32 × XS) :=
  k17 σ x1 x2 (s0 - s1) (x4 + (1 : Int32))
def X_X0_matchOf_L55 (ro : Nat → Nat) (G : Nat) (th : Nat) (k17 : XS → Int32 → Int32 → Int32 → Int32 → Option (Int32 × XS)) (σ : XS) (x1 : Int32) (x2 : Int32) (x4 : Int32) (s0 : Int32) (s1 : Int32) : Option (Int32 × XS) :=
  gxR σ 1 0 (some th) fun t1 =>
  gxR σ 1 0 (some th) fun t2 =>
  gxR σ 2 42 t2 fun t3 =>
  nnX σ 3 t3 fun q4 =>
  bnd (X_J2_get  σ q4 x2) fun t5 =>
  cxC σ 8 t5 <|
  nnX σ 2 t1 fun q6 =>
  bndX (X_X1_turn ro G σ q6 (1 : Int32) t5) false wx_X1_turn σ fun t7 σ8 =>
  if t7 = 0 then
    X_X0_matchOf_L88 ro G th k17 σ8 x1 x2 x4 (s0 + s1) (0 : Int32)
  else
    X_X0_matchOf_L88 ro G th k17 σ8 x1 x2 x4 (s0 + s1) (1 : Int32)
def X_X0_matchOf_B17 (ro : Nat → Nat) (G : Nat) (th : Nat) (k17 : XS → Int32 → Int32 → Int32 → Int32 → Option (Int32 × XS)) (σ : XS) (x1 : Int32) (x2 : Int32) (x3 : Int32) (x4 : Int32) : Option (Int32 × XS) :=
  if (10 : Int32) ≤ x4 then
    gxR σ 1 0 (some th) fun t1 =>
    gxR σ 1 10 (some th) fun t2 =>
    nnX σ 2 t1 fun q3 =>
    bndY (X_X1_bringAt G σ q3 t2 (0 : Int32)) false wx_X1_bringAt σ fun σ4 =>
    some (x3, σ4)
  else
    gxR σ 1 0 (some th) fun t5 =>
    gxR σ 1 0 (some th) fun t6 =>
    gxR σ 2 42 t6 fun t7 =>
    nnX σ 3 t7 fun q8 =>
    bnd (X_J2_get  σ q8 x1) fun t9 =>
    cxC σ 8 t9 <|
    nnX σ 2 t5 fun q10 =>
    bndX (X_X1_turn ro G σ q10 (0 : Int32) t9) false wx_X1_turn σ fun t11 σ12 =>
    if t11 = 0 then
      X_X0_matchOf_L55 ro G th k17 σ12 x1 x2 x4 x3 (0 : Int32)
    else
      X_X0_matchOf_L55 ro G th k17 σ12 x1 x2 x4 x3 (1 : Int32)
def X_X0_matchOf_L17 (ro : Nat → Nat) (G : Nat) (th : Nat)  : Nat → XS → Int32 → Int32 → Int32 → Int32 → Option (Int32 × XS)
  | 0, _, _, _, _, _ => none
  | n + 1, σ, x1, x2, x3, x4 => X_X0_matchOf_B17 ro G th  (X_X0_matchOf_L17 ro G th  n) σ x1 x2 x3 x4
def X_X0_matchOf (ro : Nat → Nat) (G : Nat) (σ0 : XS) (th : Nat) (a0 : Int32) (a1 : Int32) : Option (Int32 × XS) :=
  gxR σ0 1 0 (some th) fun t1 =>
  gxR σ0 1 10 (some th) fun t2 =>
  nnX σ0 2 t1 fun q3 =>
  bndY (X_X1_keepAt G σ0 q3 t2 (0 : Int32)) false wx_X1_keepAt σ0 fun σ4 =>
  X_X0_matchOf_L17 ro G th  G σ4 a0 a1 (0 : Int32) (0 : Int32)

/-! TubBites.canMatch -/
def wx_X0_canMatch : XW := ([], [], [], false, false)
def X_X0_canMatch (σ0 : XS) (th : Nat) : Option Int32 :=
  gxR σ0 1 0 (some th) fun t1 =>
  gxR σ0 2 44 t1 fun t2 =>
  nnX σ0 3 t2 fun q3 =>
  bnd (X_J2_size  σ0 q3 ) fun t4 =>
  if t4 ≤ (1 : Int32) then
    some (0 : Int32)
  else
    some (1 : Int32)

/-! TubBites.match -/
def wx_X0_match : XW := ([35, 391, 392, 393, 394, 395, 423, 424, 425], [], [], true, false)
def X_X0_match_L32 (ro : Nat → Nat) (G : Nat) (th : Nat)  (σ : XS) : Option (Int32 × XS) :=
  some ((-1000000 : Int32), σ)
def X_X0_match (ro : Nat → Nat) (G : Nat) (σ0 : XS) (th : Nat) (a0 : Int32) (a1 : Int32) : Option (Int32 × XS) :=
  nnX σ0 1 (some th) fun q1 =>
  bnd (X_X0_isRule  σ0 q1 a0) fun t2 =>
  if t2 = 0 then
    X_X0_match_L32 ro G th  σ0
  else
    nnX σ0 1 (some th) fun q3 =>
    bnd (X_X0_isRule  σ0 q3 a1) fun t4 =>
    if t4 = 0 then
      X_X0_match_L32 ro G th  σ0
    else
      nnX σ0 1 (some th) fun q5 =>
      bnd (X_X0_canMatch  σ0 q5 ) fun t6 =>
      if t6 = 0 then
        X_X0_match_L32 ro G th  σ0
      else
        nnX σ0 1 (some th) fun q7 =>
        bndX (X_X0_matchOf ro G σ0 q7 a0 a1) false wx_X0_matchOf σ0 fun t8 σ9 =>
        some (t8, σ9)

/-! TubBites.reply -/
def wx_X0_reply : XW := ([35, 391, 392, 393, 394, 395, 423, 424, 425], [], [], true, false)
def X_X0_reply_B21 (ro : Nat → Nat) (G : Nat) (th : Nat) (k21 : XS → Int32 → Int32 → Int32 → Option (Int32 × XS)) (σ : XS) (x1 : Int32) (x2 : Int32) (x3 : Int32) : Option (Int32 × XS) :=
  gxR σ 1 0 (some th) fun t1 =>
  gxR σ 2 42 t1 fun t2 =>
  nnX σ 3 t2 fun q3 =>
  bnd (X_J2_size  σ q3 ) fun t4 =>
  if t4 ≤ x3 then
    some (x2, σ)
  else
    nnX σ 1 (some th) fun q5 =>
    bndX (X_X0_matchOf ro G σ q5 x3 x1) false wx_X0_matchOf σ fun t6 σ7 =>
    nnX σ7 1 (some th) fun q8 =>
    bndX (X_X0_matchOf ro G σ7 q8 x2 x1) false wx_X0_matchOf σ7 fun t9 σ10 =>
    if t6 ≤ t9 then
      k21 σ10 x1 x2 (x3 + (1 : Int32))
    else
      k21 σ10 x1 x3 (x3 + (1 : Int32))
def X_X0_reply_L21 (ro : Nat → Nat) (G : Nat) (th : Nat)  : Nat → XS → Int32 → Int32 → Int32 → Option (Int32 × XS)
  | 0, _, _, _, _ => none
  | n + 1, σ, x1, x2, x3 => X_X0_reply_B21 ro G th  (X_X0_reply_L21 ro G th  n) σ x1 x2 x3
def X_X0_reply (ro : Nat → Nat) (G : Nat) (σ0 : XS) (th : Nat) (a0 : Int32) : Option (Int32 × XS) :=
  nnX σ0 1 (some th) fun q1 =>
  bnd (X_X0_isRule  σ0 q1 a0) fun t2 =>
  if t2 = 0 then
    some ((-1 : Int32), σ0)
  else
    nnX σ0 1 (some th) fun q3 =>
    bnd (X_X0_canMatch  σ0 q3 ) fun t4 =>
    if t4 = 0 then
      some ((-1 : Int32), σ0)
    else
      X_X0_reply_L21 ro G th  G σ0 a0 (0 : Int32) (1 : Int32)

/-! TubBites.lies -/
def wx_X0_lies : XW := ([], [], [], false, false)
def X_X0_lies (σ0 : XS) (th : Nat) (a0 : Int32) : Option Int32 :=
  gxI σ0 1 12 (some th) fun t1 =>
  bnd (X_X0_isIn  σ0 a0 (0 : Int32) (t1 - (1 : Int32))) fun t2 =>
  if t2 = 0 then
    some (-1 : Int32)
  else
    gxR σ0 1 11 (some th) fun t3 =>
    rxA σ0 100 t3 a0 fun t4 =>
    some t4

/-! TubBites.rests -/
def wx_X0_rests : XW := ([12, 35, 391, 392, 393, 394, 395, 423, 424, 425], [], [], true, false)
def X_X0_rests_B73 (TL : Nat) (SL : Nat) (ro : Nat → Nat) (G : Nat) (th : Nat) (k60 : XS → Int32 → Option Nat → Int32 → Option (Int32 × XS)) (k73 : XS → Int32 → Option Nat → Int32 → Int32 → Int32 → Option (Int32 × XS)) (σ : XS) (x1 : Int32) (x2 : Option Nat) (x3 : Int32) (x4 : Int32) (x5 : Int32) : Option (Int32 × XS) :=
  if x1 ≤ x5 then
    if x4 = 0 then
      k60 σ x1 x2 (x3 + (1 : Int32))
    else
      gxR σ 1 11 (some th) fun t1 =>
      gxI σ 1 12 (some th) fun t2 =>
      dvI x3 x1 fun t3 =>
      rmI x3 x1 fun t4 =>
      wxA σ 100 t1 t2 (((10 : Int32) * t3) + t4) fun σ5 =>
      gxI σ5 1 12 (some th) fun t6 =>
      sxI σ5 1 12 (some th) (t6 + (1 : Int32)) fun σ7 =>
      k60 σ7 x1 x2 (x3 + (1 : Int32))
  else
    if x4 = 0 then
      k73 σ x1 x2 x3 (0 : Int32) (x5 + (1 : Int32))
    else
      rmI x3 x1 fun t8 =>
      rxA σ 100 x2 ((x5 * x1) + t8) fun t9 =>
      rxA σ 100 x2 x3 fun t10 =>
      if t10 < t9 then
        k73 σ x1 x2 x3 (0 : Int32) (x5 + (1 : Int32))
      else
        dvI x3 x1 fun t11 =>
        rxA σ 100 x2 ((t11 * x1) + x5) fun t12 =>
        rxA σ 100 x2 x3 fun t13 =>
        if t12 < t13 then
          k73 σ x1 x2 x3 (0 : Int32) (x5 + (1 : Int32))
        else
          k73 σ x1 x2 x3 (1 : Int32) (x5 + (1 : Int32))
def X_X0_rests_L73 (TL : Nat) (SL : Nat) (ro : Nat → Nat) (G : Nat) (th : Nat) (k60 : XS → Int32 → Option Nat → Int32 → Option (Int32 × XS)) : Nat → XS → Int32 → Option Nat → Int32 → Int32 → Int32 → Option (Int32 × XS)
  | 0, _, _, _, _, _, _ => none
  | n + 1, σ, x1, x2, x3, x4, x5 => X_X0_rests_B73 TL SL ro G th k60 (X_X0_rests_L73 TL SL ro G th k60 n) σ x1 x2 x3 x4 x5
def X_X0_rests_B60 (TL : Nat) (SL : Nat) (ro : Nat → Nat) (G : Nat) (th : Nat) (k60 : XS → Int32 → Option Nat → Int32 → Option (Int32 × XS)) (σ : XS) (x1 : Int32) (x2 : Option Nat) (x3 : Int32) : Option (Int32 × XS) :=
  if (x1 * x1) ≤ x3 then
    gxI σ 1 12 (some th) fun t1 =>
    some (t1, σ)
  else
    X_X0_rests_L73 TL SL ro G th k60 G σ x1 x2 x3 (1 : Int32) (0 : Int32)
def X_X0_rests_L60 (TL : Nat) (SL : Nat) (ro : Nat → Nat) (G : Nat) (th : Nat)  : Nat → XS → Int32 → Option Nat → Int32 → Option (Int32 × XS)
  | 0, _, _, _, _ => none
  | n + 1, σ, x1, x2, x3 => X_X0_rests_B60 TL SL ro G th  (X_X0_rests_L60 TL SL ro G th  n) σ x1 x2 x3
def X_X0_rests_B32 (TL : Nat) (SL : Nat) (ro : Nat → Nat) (G : Nat) (th : Nat) (k32 : XS → Int32 → Option Nat → Int32 → Option (Int32 × XS)) (σ : XS) (x1 : Int32) (x2 : Option Nat) (x3 : Int32) : Option (Int32 × XS) :=
  if (x1 * x1) ≤ x3 then
    X_X0_rests_L60 TL SL ro G th  G σ x1 x2 (0 : Int32)
  else
    dvI x3 x1 fun t1 =>
    rmI x3 x1 fun t2 =>
    nnX σ 1 (some th) fun q3 =>
    bndX (X_X0_matchOf ro G σ q3 t1 t2) false wx_X0_matchOf σ fun t4 σ5 =>
    wxA σ5 100 x2 x3 t4 fun σ6 =>
    k32 σ6 x1 x2 (x3 + (1 : Int32))
def X_X0_rests_L32 (TL : Nat) (SL : Nat) (ro : Nat → Nat) (G : Nat) (th : Nat)  : Nat → XS → Int32 → Option Nat → Int32 → Option (Int32 × XS)
  | 0, _, _, _, _ => none
  | n + 1, σ, x1, x2, x3 => X_X0_rests_B32 TL SL ro G th  (X_X0_rests_L32 TL SL ro G th  n) σ x1 x2 x3
def X_X0_rests (TL : Nat) (SL : Nat) (ro : Nat → Nat) (G : Nat) (σ0 : XS) (th : Nat) : Option (Int32 × XS) :=
  sxI σ0 1 12 (some th) (0 : Int32) fun σ1 =>
  gxR σ1 1 0 (some th) fun t2 =>
  gxR σ1 2 42 t2 fun t3 =>
  nnX σ1 3 t3 fun q4 =>
  bnd (X_J2_size  σ1 q4 ) fun t5 =>
  nnX σ1 1 (some th) fun q6 =>
  bnd (X_X0_canMatch  σ1 q6 ) fun t7 =>
  if t7 = 0 then
    some ((0 : Int32), σ1)
  else
    nwA TL SL σ1 100 (36 : Int32) fun q8 σ9 =>
    X_X0_rests_L32 TL SL ro G th  G σ9 t5 q8 (0 : Int32)

/-! TubBites.record -/
def wx_X0_record : XW := ([], [], [], false, false)
def X_X0_record (σ0 : XS) (th : Nat) (a0 : Int32) (a1 : Int32) (a2 : Int32) : Option Int32 :=
  nnX σ0 1 (some th) fun q1 =>
  bnd (X_X0_isBobber  σ0 q1 a0) fun t2 =>
  if t2 = 0 then
    some (-1 : Int32)
  else
    bnd (X_X0_isIn  σ0 a1 (0 : Int32) (4 : Int32)) fun t3 =>
    if t3 = 0 then
      some (-1 : Int32)
    else
      bnd (X_X0_isIn  σ0 a2 (0 : Int32) (2 : Int32)) fun t4 =>
      if t4 = 0 then
        some (-1 : Int32)
      else
        gxR σ0 1 0 (some th) fun t5 =>
        gxR σ0 2 44 t5 fun t6 =>
        nnX σ0 3 t6 fun q7 =>
        bnd (X_J2_get  σ0 q7 a0) fun t8 =>
        cxC σ0 14 t8 <|
        gxR σ0 14 426 t8 fun t9 =>
        rxA σ0 100 t9 (((3 : Int32) * a1) + a2) fun t10 =>
        some t10

/-! TubBites.easier -/
def wx_X0_easier : XW := ([], [], [], true, false)
def X_X0_easier_B26 (ro : Nat → Nat) (G : Nat) (th : Nat) (k26 : XS → Int32 → Int32 → Int32 → Int32 → Option (Int32 × XS)) (σ : XS) (x1 : Int32) (x3 : Int32) (x4 : Int32) (x5 : Int32) : Option (Int32 × XS) :=
  gxR σ 1 0 (some th) fun t1 =>
  gxR σ 2 43 t1 fun t2 =>
  nnX σ 3 t2 fun q3 =>
  bnd (X_J2_size  σ q3 ) fun t4 =>
  if t4 ≤ x5 then
    some (x4, σ)
  else
    nnX σ 1 (some th) fun q5 =>
    bndX (X_X0_odds ro G σ q5 x1 x5 (0 : Int32)) false wx_X0_odds σ fun t6 σ7 =>
    if t6 ≤ x3 then
      k26 σ7 x1 x3 x4 (x5 + (1 : Int32))
    else
      k26 σ7 x1 x3 (x4 + (1 : Int32)) (x5 + (1 : Int32))
def X_X0_easier_L26 (ro : Nat → Nat) (G : Nat) (th : Nat)  : Nat → XS → Int32 → Int32 → Int32 → Int32 → Option (Int32 × XS)
  | 0, _, _, _, _, _ => none
  | n + 1, σ, x1, x3, x4, x5 => X_X0_easier_B26 ro G th  (X_X0_easier_L26 ro G th  n) σ x1 x3 x4 x5
def X_X0_easier (ro : Nat → Nat) (G : Nat) (σ0 : XS) (th : Nat) (a0 : Int32) (a1 : Int32) : Option (Int32 × XS) :=
  nnX σ0 1 (some th) fun q1 =>
  bnd (X_X0_isTry ro G σ0 q1 a0 a1 (0 : Int32)) fun t2 =>
  if t2 = 0 then
    some ((-1 : Int32), σ0)
  else
    nnX σ0 1 (some th) fun q3 =>
    bndX (X_X0_odds ro G σ0 q3 a0 a1 (0 : Int32)) false wx_X0_odds σ0 fun t4 σ5 =>
    X_X0_easier_L26 ro G th  G σ5 a0 t4 (0 : Int32) (0 : Int32)

/-! TubBites.gets -/
def wx_X0_gets : XW := ([35, 391, 392, 393, 394, 395, 423, 424, 425], [], [], true, false)
def X_X0_gets_B5 (ro : Nat → Nat) (G : Nat) (th : Nat) (k5 : XS → Int32 → Int32 → Int32 → Int32 → Option (Int32 × XS)) (σ : XS) (x1 : Int32) (x2 : Int32) (x3 : Int32) (x4 : Int32) : Option (Int32 × XS) :=
  if x2 ≤ x4 then
    some (x3, σ)
  else
    gxR σ 1 0 (some th) fun t1 =>
    nnX σ 1 (some th) fun q2 =>
    bnd (X_X0_ruleOf  σ q2 x1) fun t3 =>
    nnX σ 2 t1 fun q4 =>
    bndX (X_X1_turn ro G σ q4 x1 t3) false wx_X1_turn σ fun t5 σ6 =>
    if t5 = 0 then
      k5 σ6 x1 x2 (x3 + (0 : Int32)) (x4 + (1 : Int32))
    else
      k5 σ6 x1 x2 (x3 + (1 : Int32)) (x4 + (1 : Int32))
def X_X0_gets_L5 (ro : Nat → Nat) (G : Nat) (th : Nat)  : Nat → XS → Int32 → Int32 → Int32 → Int32 → Option (Int32 × XS)
  | 0, _, _, _, _, _ => none
  | n + 1, σ, x1, x2, x3, x4 => X_X0_gets_B5 ro G th  (X_X0_gets_L5 ro G th  n) σ x1 x2 x3 x4
def X_X0_gets (ro : Nat → Nat) (G : Nat) (σ0 : XS) (th : Nat) (a0 : Int32) (a1 : Int32) : Option (Int32 × XS) :=
  X_X0_gets_L5 ro G th  G σ0 a0 a1 (0 : Int32) (0 : Int32)

/-! TubBites.seat -/
def wx_X0_seat : XW := ([35, 391, 392, 393, 394, 395, 417, 418, 423, 424, 425], [], [], true, false)
def X_X0_seat_B77 (TL : Nat) (SL : Nat) (ro : Nat → Nat) (G : Nat) (th : Nat) (k77 : XS → Int32 → Int32 → Int32 → Option Nat → Option Nat → Int32 → Int32 → Int32 → Int32 → Int32 → Option (Int32 × XS)) (σ : XS) (x1 : Int32) (x2 : Int32) (x3 : Int32) (x4 : Option Nat) (x5 : Option Nat) (x6 : Int32) (x7 : Int32) (x8 : Int32) (x9 : Int32) (x10 : Int32) : Option (Int32 × XS) :=
  gxR σ 1 0 (some th) fun t1 =>
  gxI σ 2 32 t1 fun t2 =>
  gxR σ 1 0 (some th) fun t3 =>
  gxI σ 2 33 t3 fun t4 =>
  if (t2 * t4) ≤ x10 then
    sxI σ 14 417 x4 x6 fun σ5 =>
    sxI σ5 14 418 x4 x7 fun σ6 =>
    if x3 = 0 then
      gxR σ6 1 0 (some th) fun t10 =>
      gxI σ6 2 32 t10 fun t11 =>
      rmI x8 t11 fun t12 =>
      some (t12, σ6)
    else
      if x3 = (1 : Int32) then
        gxR σ6 1 0 (some th) fun t7 =>
        gxI σ6 2 32 t7 fun t8 =>
        dvI x8 t8 fun t9 =>
        some (t9, σ6)
      else
        some (x9, σ6)
  else
    gxR σ 1 0 (some th) fun t13 =>
    gxI σ 2 32 t13 fun t14 =>
    rmI x10 t14 fun t15 =>
    sxI σ 14 417 x4 t15 fun σ16 =>
    gxR σ16 1 0 (some th) fun t17 =>
    gxI σ16 2 32 t17 fun t18 =>
    dvI x10 t18 fun t19 =>
    sxI σ16 14 418 x4 t19 fun σ20 =>
    gxR σ20 1 0 (some th) fun t21 =>
    gxI σ20 14 417 x4 fun t22 =>
    gxI σ20 14 418 x4 fun t23 =>
    nnX σ20 2 t21 fun q24 =>
    bnd (X_X1_isRim  σ20 q24 t22 t23) fun t25 =>
    if t25 = 0 then
      k77 σ20 x1 x2 x3 x4 x5 x6 x7 x8 x9 (x10 + (1 : Int32))
    else
      nnX σ20 1 (some th) fun q26 =>
      bndX (X_X0_gets ro G σ20 q26 x1 x2) false wx_X0_gets σ20 fun t27 σ28 =>
      gxR σ28 1 0 (some th) fun t29 =>
      nnX σ28 2 t29 fun q30 =>
      bndY (X_X1_bring G σ28 q30 x5) false wx_X1_bring σ28 fun σ31 =>
      if x9 < t27 then
        k77 σ31 x1 x2 x3 x4 x5 x6 x7 x10 t27 (x10 + (1 : Int32))
      else
        k77 σ31 x1 x2 x3 x4 x5 x6 x7 x8 x9 (x10 + (1 : Int32))
def X_X0_seat_L77 (TL : Nat) (SL : Nat) (ro : Nat → Nat) (G : Nat) (th : Nat)  : Nat → XS → Int32 → Int32 → Int32 → Option Nat → Option Nat → Int32 → Int32 → Int32 → Int32 → Int32 → Option (Int32 × XS)
  | 0, _, _, _, _, _, _, _, _, _, _, _ => none
  | n + 1, σ, x1, x2, x3, x4, x5, x6, x7, x8, x9, x10 => X_X0_seat_B77 TL SL ro G th  (X_X0_seat_L77 TL SL ro G th  n) σ x1 x2 x3 x4 x5 x6 x7 x8 x9 x10
def X_X0_seat (TL : Nat) (SL : Nat) (ro : Nat → Nat) (G : Nat) (σ0 : XS) (th : Nat) (a0 : Int32) (a1 : Int32) (a2 : Int32) : Option (Int32 × XS) :=
  nnX σ0 1 (some th) fun q1 =>
  bnd (X_X0_isBobber  σ0 q1 a0) fun t2 =>
  if t2 = 0 then
    some ((-1 : Int32), σ0)
  else
    bnd (X_X0_isIn  σ0 a1 (1 : Int32) (10 : Int32)) fun t3 =>
    if t3 = 0 then
      some ((-1 : Int32), σ0)
    else
      bnd (X_X0_isIn  σ0 a2 (0 : Int32) (2 : Int32)) fun t4 =>
      if t4 = 0 then
        some ((-1 : Int32), σ0)
      else
        gxR σ0 1 0 (some th) fun t5 =>
        gxR σ0 2 44 t5 fun t6 =>
        nnX σ0 3 t6 fun q7 =>
        bnd (X_J2_get  σ0 q7 a0) fun t8 =>
        cxC σ0 14 t8 <|
        gxR σ0 1 0 (some th) fun t9 =>
        nnX σ0 2 t9 fun q10 =>
        bndX (X_X1_keep TL SL G σ0 q10 ) true wx_X1_keep σ0 fun t11 σ12 =>
        gxI σ12 14 417 t8 fun t13 =>
        gxI σ12 14 418 t8 fun t14 =>
        X_X0_seat_L77 TL SL ro G th  G σ12 a0 a1 a2 t8 t11 t13 t14 (-1 : Int32) (-1 : Int32) (0 : Int32)

/-! TubBites.orders -/
def wx_X0_orders : XW := ([35, 391, 392, 393, 394, 395, 423, 424, 425], [], [], true, false)
def X_X0_orders_B143 (ro : Nat → Nat) (G : Nat) (R_X0_orders : XS → Nat → Int32 → Int32 → Int32 → Int32 → Option (Int32 × XS)) (th : Nat) (k143 : XS → Int32 → Int32 → Int32 → Int32 → Int32 → Option (Int32 × XS)) (σ : XS) (x1 : Int32) (x2 : Int32) (x3 : Int32) (x5 : Int32) (x6 : Int32) : Option (Int32 × XS) :=
  gxR σ 1 0 (some th) fun t1 =>
  gxR σ 2 44 t1 fun t2 =>
  nnX σ 3 t2 fun q3 =>
  bnd (X_J2_size  σ q3 ) fun t4 =>
  if t4 ≤ x6 then
    some (x5, σ)
  else
    if ((x2 >>> (x6 &&& 31)) &&& (1 : Int32)) = (1 : Int32) then
      k143 σ x1 x2 x3 x5 (x6 + (1 : Int32))
    else
      gxR σ 1 13 (some th) fun t5 =>
      wxA σ 100 t5 x1 x6 fun σ6 =>
      nnX σ6 1 (some th) fun q7 =>
      bndX (R_X0_orders σ6 q7 (x1 + (1 : Int32)) (x2 ||| ((1 : Int32) <<< (x6 &&& 31))) x3 x5) false wx_X0_orders σ6 fun t8 σ9 =>
      k143 σ9 x1 x2 x3 t8 (x6 + (1 : Int32))
def X_X0_orders_L143 (ro : Nat → Nat) (G : Nat) (R_X0_orders : XS → Nat → Int32 → Int32 → Int32 → Int32 → Option (Int32 × XS)) (th : Nat)  : Nat → XS → Int32 → Int32 → Int32 → Int32 → Int32 → Option (Int32 × XS)
  | 0, _, _, _, _, _, _ => none
  | n + 1, σ, x1, x2, x3, x5, x6 => X_X0_orders_B143 ro G R_X0_orders th  (X_X0_orders_L143 ro G R_X0_orders th  n) σ x1 x2 x3 x5 x6
def X_X0_orders_B41 (ro : Nat → Nat) (G : Nat) (R_X0_orders : XS → Nat → Int32 → Int32 → Int32 → Int32 → Option (Int32 × XS)) (th : Nat) (k32 : XS → Int32 → Int32 → Int32 → Int32 → Int32 → Option (Int32 × XS)) (k41 : XS → Int32 → Int32 → Int32 → Int32 → Int32 → Int32 → Option (Int32 × XS)) (σ : XS) (x1 : Int32) (x3 : Int32) (x4 : Int32) (x5 : Int32) (x6 : Int32) (x7 : Int32) : Option (Int32 × XS) :=
  if x1 ≤ x7 then
    k32 σ x1 x3 x4 x5 (x6 + (1 : Int32))
  else
    gxR σ 1 0 (some th) fun t1 =>
    gxR σ 1 13 (some th) fun t2 =>
    rxA σ 100 t2 x7 fun t3 =>
    gxR σ 1 13 (some th) fun t4 =>
    rxA σ 100 t4 x7 fun t5 =>
    nnX σ 1 (some th) fun q6 =>
    bnd (X_X0_ruleOf  σ q6 t5) fun t7 =>
    nnX σ 2 t1 fun q8 =>
    bndX (X_X1_turn ro G σ q8 t3 t7) false wx_X1_turn σ fun t9 σ10 =>
    if t9 = 0 then
      k41 σ10 x1 x3 x4 (x5 + (0 : Int32)) x6 (x7 + (1 : Int32))
    else
      k41 σ10 x1 x3 x4 (x5 + (1 : Int32)) x6 (x7 + (1 : Int32))
def X_X0_orders_L41 (ro : Nat → Nat) (G : Nat) (R_X0_orders : XS → Nat → Int32 → Int32 → Int32 → Int32 → Option (Int32 × XS)) (th : Nat) (k32 : XS → Int32 → Int32 → Int32 → Int32 → Int32 → Option (Int32 × XS)) : Nat → XS → Int32 → Int32 → Int32 → Int32 → Int32 → Int32 → Option (Int32 × XS)
  | 0, _, _, _, _, _, _, _ => none
  | n + 1, σ, x1, x3, x4, x5, x6, x7 => X_X0_orders_B41 ro G R_X0_orders th k32 (X_X0_orders_L41 ro G R_X0_orders th k32 n) σ x1 x3 x4 x5 x6 x7
def X_X0_orders_B32 (ro : Nat → Nat) (G : Nat) (R_X0_orders : XS → Nat → Int32 → Int32 → Int32 → Int32 → Option (Int32 × XS)) (th : Nat) (k32 : XS → Int32 → Int32 → Int32 → Int32 → Int32 → Option (Int32 × XS)) (σ : XS) (x1 : Int32) (x3 : Int32) (x4 : Int32) (x5 : Int32) (x6 : Int32) : Option (Int32 × XS) :=
  if x3 ≤ x6 then
    gxR σ 1 0 (some th) fun t1 =>
    gxR σ 1 10 (some th) fun t2 =>
    nnX σ 2 t1 fun q3 =>
    bndY (X_X1_bringAt G σ q3 t2 (0 : Int32)) false wx_X1_bringAt σ fun σ4 =>
    if x4 < x5 then
      gxR σ4 1 13 (some th) fun t5 =>
      gxR σ4 1 11 (some th) fun t6 =>
      cpA σ4 t5 (0 : Int32) t6 (0 : Int32) x1 fun σ7 =>
      some (x5, σ7)
    else
      some (x4, σ4)
  else
    X_X0_orders_L41 ro G R_X0_orders th k32 G σ x1 x3 x4 x5 x6 (0 : Int32)
def X_X0_orders_L32 (ro : Nat → Nat) (G : Nat) (R_X0_orders : XS → Nat → Int32 → Int32 → Int32 → Int32 → Option (Int32 × XS)) (th : Nat)  : Nat → XS → Int32 → Int32 → Int32 → Int32 → Int32 → Option (Int32 × XS)
  | 0, _, _, _, _, _, _ => none
  | n + 1, σ, x1, x3, x4, x5, x6 => X_X0_orders_B32 ro G R_X0_orders th  (X_X0_orders_L32 ro G R_X0_orders th  n) σ x1 x3 x4 x5 x6
def X_X0_orders_F (ro : Nat → Nat) (G : Nat) (R_X0_orders : XS → Nat → Int32 → Int32 → Int32 → Int32 → Option (Int32 × XS)) (σ0 : XS) (th : Nat) (a0 : Int32) (a1 : Int32) (a2 : Int32) (a3 : Int32) : Option (Int32 × XS) :=
  gxR σ0 1 0 (some th) fun t1 =>
  gxR σ0 2 44 t1 fun t2 =>
  nnX σ0 3 t2 fun q3 =>
  bnd (X_J2_size  σ0 q3 ) fun t4 =>
  if a0 = t4 then
    gxR σ0 1 0 (some th) fun t5 =>
    gxR σ0 1 10 (some th) fun t6 =>
    nnX σ0 2 t5 fun q7 =>
    bndY (X_X1_keepAt G σ0 q7 t6 (0 : Int32)) false wx_X1_keepAt σ0 fun σ8 =>
    X_X0_orders_L32 ro G R_X0_orders th  G σ8 a0 a2 a3 (0 : Int32) (0 : Int32)
  else
    X_X0_orders_L143 ro G R_X0_orders th  G σ0 a0 a1 a2 a3 (0 : Int32)
def X_X0_orders (ro : Nat → Nat) (G : Nat) : Nat → XS → Nat → Int32 → Int32 → Int32 → Int32 → Option (Int32 × XS)
  | 0, _, _, _, _, _, _ => none
  | D + 1, σ, th, a0, a1, a2, a3 => X_X0_orders_F ro G (X_X0_orders ro G D) σ th a0 a1 a2 a3

/-! TubBites.order -/
def wx_X0_order : XW := ([12, 35, 391, 392, 393, 394, 395, 423, 424, 425], [], [], true, false)
def X_X0_order (ro : Nat → Nat) (G : Nat) (σ0 : XS) (th : Nat) (a0 : Int32) : Option (Int32 × XS) :=
  sxI σ0 1 12 (some th) (0 : Int32) fun σ1 =>
  bnd (X_X0_isIn  σ1 a0 (1 : Int32) (10 : Int32)) fun t2 =>
  if t2 = 0 then
    some ((-1 : Int32), σ1)
  else
    nnX σ1 1 (some th) fun q3 =>
    bndX (X_X0_orders ro G 8 σ1 q3 (0 : Int32) (0 : Int32) a0 (-1 : Int32)) false wx_X0_orders σ1 fun t4 σ5 =>
    gxR σ5 1 0 (some th) fun t6 =>
    gxR σ5 2 44 t6 fun t7 =>
    nnX σ5 3 t7 fun q8 =>
    bnd (X_J2_size  σ5 q8 ) fun t9 =>
    sxI σ5 1 12 (some th) t9 fun σ10 =>
    some (t4, σ10)

/-! TubBites.driven -/
def wx_X0_driven : XW := ([35, 391, 392, 393, 394, 395, 423, 424, 425], [], [], true, false)
def X_X0_driven_B41 (ro : Nat → Nat) (G : Nat) (R_X0_driven : XS → Nat → Option Nat → Option Nat → Option Nat → Int32 → Int32 → Option (Int32 × XS)) (th : Nat) (k41 : XS → Option Nat → Option Nat → Option Nat → Int32 → Int32 → Int32 → Int32 → Option (Int32 × XS)) (σ : XS) (x1 : Option Nat) (x2 : Option Nat) (x3 : Option Nat) (x4 : Int32) (x5 : Int32) (x6 : Int32) (x7 : Int32) : Option (Int32 × XS) :=
  gxR σ 1 0 (some th) fun t1 =>
  gxR σ 2 43 t1 fun t2 =>
  nnX σ 3 t2 fun q3 =>
  bnd (X_J2_size  σ q3 ) fun t4 =>
  if t4 ≤ x7 then
    some ((0 : Int32), σ)
  else
    gxR σ 1 0 (some th) fun t5 =>
    gxR σ 1 0 (some th) fun t6 =>
    gxR σ 2 43 t6 fun t7 =>
    nnX σ 3 t7 fun q8 =>
    bnd (X_J2_get  σ q8 x7) fun t9 =>
    cxC σ 13 t9 <|
    nnX σ 2 t5 fun q10 =>
    bnd (X_X1_can ro G σ q10 x1 t9 (0 : Int32)) fun t11 =>
    if t11 = 0 then
      k41 σ x1 x2 x3 x4 x5 x6 (x7 + (1 : Int32))
    else
      rxQ σ (some (ro 0)) (0 : Int32) fun t12 =>
      gxR σ 1 0 (some th) fun t13 =>
      gxR σ 1 0 (some th) fun t14 =>
      gxR σ 2 43 t14 fun t15 =>
      nnX σ 3 t15 fun q16 =>
      bnd (X_J2_get  σ q16 x7) fun t17 =>
      cxC σ 13 t17 <|
      bndY (X_v_Try_missed G σ t12 t13 x1 t17) false wx_v_Try_missed σ fun σ18 =>
      gxR σ18 1 11 (some th) fun t19 =>
      wxA σ18 100 t19 x4 x7 fun σ20 =>
      nnX σ20 1 (some th) fun q21 =>
      bndX (R_X0_driven σ20 q21 x1 x2 x3 (x4 + (1 : Int32)) x5) false wx_X0_driven σ20 fun t22 σ23 =>
      gxR σ23 1 0 (some th) fun t24 =>
      gxR σ23 1 10 (some th) fun t25 =>
      nnX σ23 2 t24 fun q26 =>
      bndY (X_X1_bringAt G σ23 q26 t25 x6) false wx_X1_bringAt σ23 fun σ27 =>
      if t22 = 0 then
        k41 σ27 x1 x2 x3 x4 x5 x6 (x7 + (1 : Int32))
      else
        some ((1 : Int32), σ27)
def X_X0_driven_L41 (ro : Nat → Nat) (G : Nat) (R_X0_driven : XS → Nat → Option Nat → Option Nat → Option Nat → Int32 → Int32 → Option (Int32 × XS)) (th : Nat)  : Nat → XS → Option Nat → Option Nat → Option Nat → Int32 → Int32 → Int32 → Int32 → Option (Int32 × XS)
  | 0, _, _, _, _, _, _, _, _ => none
  | n + 1, σ, x1, x2, x3, x4, x5, x6, x7 => X_X0_driven_B41 ro G R_X0_driven th  (X_X0_driven_L41 ro G R_X0_driven th  n) σ x1 x2 x3 x4 x5 x6 x7
def X_X0_driven_F (ro : Nat → Nat) (G : Nat) (R_X0_driven : XS → Nat → Option Nat → Option Nat → Option Nat → Int32 → Int32 → Option (Int32 × XS)) (σ0 : XS) (th : Nat) (a0 : Option Nat) (a1 : Option Nat) (a2 : Option Nat) (a3 : Int32) (a4 : Int32) : Option (Int32 × XS) :=
  if a3 = a4 then
    gxR σ0 1 0 (some th) fun t5 =>
    nnX σ0 2 t5 fun q6 =>
    bnd (X_X1_can ro G σ0 q6 a1 a2 (0 : Int32)) fun t7 =>
    bzI t7 <|
    some (t7, σ0)
  else
    gxR σ0 1 0 (some th) fun t1 =>
    gxR σ0 1 10 (some th) fun t2 =>
    nnX σ0 2 t1 fun q3 =>
    bndY (X_X1_keepAt G σ0 q3 t2 ((123 : Int32) * a3)) false wx_X1_keepAt σ0 fun σ4 =>
    X_X0_driven_L41 ro G R_X0_driven th  G σ4 a0 a1 a2 a3 a4 ((123 : Int32) * a3) (0 : Int32)
def X_X0_driven (ro : Nat → Nat) (G : Nat) : Nat → XS → Nat → Option Nat → Option Nat → Option Nat → Int32 → Int32 → Option (Int32 × XS)
  | 0, _, _, _, _, _, _, _ => none
  | D + 1, σ, th, a0, a1, a2, a3, a4 => X_X0_driven_F ro G (X_X0_driven ro G D) σ th a0 a1 a2 a3 a4

/-! TubBites.drives -/
def wx_X0_drives : XW := ([12, 35, 391, 392, 393, 394, 395, 423, 424, 425], [], [], true, false)
def X_X0_drives_B61 (ro : Nat → Nat) (G : Nat) (th : Nat) (k61 : XS → Int32 → Int32 → Int32 → Int32 → Option (Int32 × XS)) (σ : XS) (x1 : Int32) (x2 : Int32) (x3 : Int32) (x4 : Int32) : Option (Int32 × XS) :=
  if (4 : Int32) < x4 then
    some ((-1 : Int32), σ)
  else
    gxR σ 1 0 (some th) fun t1 =>
    gxR σ 2 44 t1 fun t2 =>
    nnX σ 3 t2 fun q3 =>
    bnd (X_J2_get  σ q3 x1) fun t4 =>
    cxC σ 14 t4 <|
    gxR σ 1 0 (some th) fun t5 =>
    gxR σ 2 44 t5 fun t6 =>
    nnX σ 3 t6 fun q7 =>
    bnd (X_J2_get  σ q7 x2) fun t8 =>
    cxC σ 14 t8 <|
    gxR σ 1 0 (some th) fun t9 =>
    gxR σ 2 43 t9 fun t10 =>
    nnX σ 3 t10 fun q11 =>
    bnd (X_J2_get  σ q11 x3) fun t12 =>
    cxC σ 13 t12 <|
    nnX σ 1 (some th) fun q13 =>
    bndX (X_X0_driven ro G 8 σ q13 t4 t8 t12 (0 : Int32) x4) false wx_X0_driven σ fun t14 σ15 =>
    if t14 = 0 then
      k61 σ15 x1 x2 x3 (x4 + (1 : Int32))
    else
      sxI σ15 1 12 (some th) x4 fun σ16 =>
      some (x4, σ16)
def X_X0_drives_L61 (ro : Nat → Nat) (G : Nat) (th : Nat)  : Nat → XS → Int32 → Int32 → Int32 → Int32 → Option (Int32 × XS)
  | 0, _, _, _, _, _ => none
  | n + 1, σ, x1, x2, x3, x4 => X_X0_drives_B61 ro G th  (X_X0_drives_L61 ro G th  n) σ x1 x2 x3 x4
def X_X0_drives (ro : Nat → Nat) (G : Nat) (σ0 : XS) (th : Nat) (a0 : Int32) (a1 : Int32) (a2 : Int32) : Option (Int32 × XS) :=
  sxI σ0 1 12 (some th) (0 : Int32) fun σ1 =>
  nnX σ1 1 (some th) fun q2 =>
  bnd (X_X0_isBobber  σ1 q2 a0) fun t3 =>
  if t3 = 0 then
    some ((-2 : Int32), σ1)
  else
    nnX σ1 1 (some th) fun q4 =>
    bnd (X_X0_isBobber  σ1 q4 a1) fun t5 =>
    if t5 = 0 then
      some ((-2 : Int32), σ1)
    else
      if a0 = a1 then
        some ((-2 : Int32), σ1)
      else
        nnX σ1 1 (some th) fun q6 =>
        bnd (X_X0_isApple  σ1 q6 a2) fun t7 =>
        if t7 = 0 then
          some ((-2 : Int32), σ1)
        else
          gxR σ1 1 0 (some th) fun t8 =>
          gxR σ1 2 43 t8 fun t9 =>
          nnX σ1 3 t9 fun q10 =>
          bnd (X_J2_get  σ1 q10 a2) fun t11 =>
          cxC σ1 13 t11 <|
          gxI σ1 13 393 t11 fun t12 =>
          if t12 = (-1 : Int32) then
            X_X0_drives_L61 ro G th  G σ1 a0 a1 a2 (0 : Int32)
          else
            some ((-2 : Int32), σ1)

/-! TubBites$Water.left -/
def wx_X1_left : XW := ([], [], [], false, false)
def X_X1_left_B4 (G : Nat) (σ0 : XS) (th : Nat) (k4 : Int32 → Int32 → Option Int32) (x1 : Int32) (x2 : Int32) : Option Int32 :=
  gxR σ0 2 43 (some th) fun t1 =>
  nnX σ0 3 t1 fun q2 =>
  bnd (X_J2_size  σ0 q2 ) fun t3 =>
  if t3 ≤ x2 then
    some x1
  else
    gxR σ0 2 43 (some th) fun t4 =>
    nnX σ0 3 t4 fun q5 =>
    bnd (X_J2_get  σ0 q5 x2) fun t6 =>
    cxC σ0 13 t6 <|
    gxI σ0 13 393 t6 fun t7 =>
    if t7 = (-1 : Int32) then
      k4 (x1 + (1 : Int32)) (x2 + (1 : Int32))
    else
      k4 (x1 + (0 : Int32)) (x2 + (1 : Int32))
def X_X1_left_L4 (G : Nat) (σ0 : XS) (th : Nat)  : Nat → Int32 → Int32 → Option Int32
  | 0, _, _ => none
  | n + 1, x1, x2 => X_X1_left_B4 G σ0 th  (X_X1_left_L4 G σ0 th  n) x1 x2
def X_X1_left (G : Nat) (σ0 : XS) (th : Nat) : Option Int32 :=
  X_X1_left_L4 G σ0 th  G (0 : Int32) (0 : Int32)

/-! TubBites.goneBy -/
def wx_X0_goneBy : XW := ([35, 391, 392, 393, 394, 395, 423, 424, 425], [], [], true, false)
def X_X0_goneBy_L124 (ro : Nat → Nat) (G : Nat) (th : Nat)  (σ : XS) (x3 : Int32) : Option (Int32 × XS) :=
  gxR σ 1 0 (some th) fun t1 =>
  gxR σ 1 10 (some th) fun t2 =>
  nnX σ 2 t1 fun q3 =>
  bndY (X_X1_bringAt G σ q3 t2 (0 : Int32)) false wx_X1_bringAt σ fun σ4 =>
  some (x3, σ4)
def X_X0_goneBy_B84 (ro : Nat → Nat) (G : Nat) (th : Nat) (k63 : XS → Int32 → Int32 → Option (Int32 × XS)) (k84 : XS → Int32 → Int32 → Int32 → Option (Int32 × XS)) (σ : XS) (x2 : Int32) (x3 : Int32) (x4 : Int32) : Option (Int32 × XS) :=
  gxR σ 1 0 (some th) fun t1 =>
  gxR σ 2 44 t1 fun t2 =>
  nnX σ 3 t2 fun q3 =>
  bnd (X_J2_size  σ q3 ) fun t4 =>
  if t4 ≤ x4 then
    k63 σ x2 x3
  else
    gxR σ 1 0 (some th) fun t5 =>
    nnX σ 1 (some th) fun q6 =>
    bnd (X_X0_ruleOf  σ q6 x4) fun t7 =>
    nnX σ 2 t5 fun q8 =>
    bndX (X_X1_turn ro G σ q8 x4 t7) false wx_X1_turn σ fun t9 σ10 =>
    k84 σ10 x2 x3 (x4 + (1 : Int32))
def X_X0_goneBy_L84 (ro : Nat → Nat) (G : Nat) (th : Nat) (k63 : XS → Int32 → Int32 → Option (Int32 × XS)) : Nat → XS → Int32 → Int32 → Int32 → Option (Int32 × XS)
  | 0, _, _, _, _ => none
  | n + 1, σ, x2, x3, x4 => X_X0_goneBy_B84 ro G th k63 (X_X0_goneBy_L84 ro G th k63 n) σ x2 x3 x4
def X_X0_goneBy_B63 (ro : Nat → Nat) (G : Nat) (th : Nat) (k63 : XS → Int32 → Int32 → Option (Int32 × XS)) (σ : XS) (x2 : Int32) (x3 : Int32) : Option (Int32 × XS) :=
  if x2 < x3 then
    X_X0_goneBy_L124 ro G th  σ x3
  else
    gxR σ 1 0 (some th) fun t1 =>
    nnX σ 2 t1 fun q2 =>
    bnd (X_X1_left G σ q2 ) fun t3 =>
    if t3 ≤ 0 then
      X_X0_goneBy_L124 ro G th  σ x3
    else
      X_X0_goneBy_L84 ro G th k63 G σ x2 (x3 + (1 : Int32)) (0 : Int32)
def X_X0_goneBy_L63 (ro : Nat → Nat) (G : Nat) (th : Nat)  : Nat → XS → Int32 → Int32 → Option (Int32 × XS)
  | 0, _, _, _ => none
  | n + 1, σ, x2, x3 => X_X0_goneBy_B63 ro G th  (X_X0_goneBy_L63 ro G th  n) σ x2 x3
def X_X0_goneBy_B14 (ro : Nat → Nat) (G : Nat) (th : Nat) (k14 : XS → Int32 → Int32 → Int32 → Option (Int32 × XS)) (σ : XS) (x1 : Int32) (x2 : Int32) (x3 : Int32) : Option (Int32 × XS) :=
  gxR σ 1 0 (some th) fun t1 =>
  gxR σ 2 43 t1 fun t2 =>
  nnX σ 3 t2 fun q3 =>
  bnd (X_J2_size  σ q3 ) fun t4 =>
  if t4 ≤ x3 then
    X_X0_goneBy_L63 ro G th  G σ x2 (0 : Int32)
  else
    if ((x1 >>> (x3 &&& 31)) &&& (1 : Int32)) = 0 then
      gxR σ 1 0 (some th) fun t5 =>
      gxR σ 2 43 t5 fun t6 =>
      nnX σ 3 t6 fun q7 =>
      bnd (X_J2_get  σ q7 x3) fun t8 =>
      cxC σ 13 t8 <|
      sxI σ 13 393 t8 (9 : Int32) fun σ9 =>
      k14 σ9 x1 x2 (x3 + (1 : Int32))
    else
      k14 σ x1 x2 (x3 + (1 : Int32))
def X_X0_goneBy_L14 (ro : Nat → Nat) (G : Nat) (th : Nat)  : Nat → XS → Int32 → Int32 → Int32 → Option (Int32 × XS)
  | 0, _, _, _, _ => none
  | n + 1, σ, x1, x2, x3 => X_X0_goneBy_B14 ro G th  (X_X0_goneBy_L14 ro G th  n) σ x1 x2 x3
def X_X0_goneBy (ro : Nat → Nat) (G : Nat) (σ0 : XS) (th : Nat) (a0 : Int32) (a1 : Int32) : Option (Int32 × XS) :=
  gxR σ0 1 0 (some th) fun t1 =>
  gxR σ0 1 10 (some th) fun t2 =>
  nnX σ0 2 t1 fun q3 =>
  bndY (X_X1_keepAt G σ0 q3 t2 (0 : Int32)) false wx_X1_keepAt σ0 fun σ4 =>
  X_X0_goneBy_L14 ro G th  G σ4 a0 a1 (0 : Int32)

/-! TubBites.inTub -/
def wx_X0_inTub : XW := ([], [], [], false, false)
def X_X0_inTub_L47 (G : Nat) (σ0 : XS) (th : Nat) (k4 : Int32 → Int32 → Option Int32) (x2 : Int32) (s0 : Int32) (s1 : Int32) : Option Int32 :=
  k4 (s0 ||| s1) (x2 + (1 : Int32))
def X_X0_inTub_B4 (G : Nat) (σ0 : XS) (th : Nat) (k4 : Int32 → Int32 → Option Int32) (x1 : Int32) (x2 : Int32) : Option Int32 :=
  gxR σ0 1 0 (some th) fun t1 =>
  gxR σ0 2 43 t1 fun t2 =>
  nnX σ0 3 t2 fun q3 =>
  bnd (X_J2_size  σ0 q3 ) fun t4 =>
  if t4 ≤ x2 then
    some x1
  else
    gxR σ0 1 0 (some th) fun t5 =>
    gxR σ0 2 43 t5 fun t6 =>
    nnX σ0 3 t6 fun q7 =>
    bnd (X_J2_get  σ0 q7 x2) fun t8 =>
    cxC σ0 13 t8 <|
    gxI σ0 13 393 t8 fun t9 =>
    if t9 = (-1 : Int32) then
      X_X0_inTub_L47 G σ0 th k4 x2 x1 ((1 : Int32) <<< (x2 &&& 31))
    else
      X_X0_inTub_L47 G σ0 th k4 x2 x1 (0 : Int32)
def X_X0_inTub_L4 (G : Nat) (σ0 : XS) (th : Nat)  : Nat → Int32 → Int32 → Option Int32
  | 0, _, _ => none
  | n + 1, x1, x2 => X_X0_inTub_B4 G σ0 th  (X_X0_inTub_L4 G σ0 th  n) x1 x2
def X_X0_inTub (G : Nat) (σ0 : XS) (th : Nat) : Option Int32 :=
  X_X0_inTub_L4 G σ0 th  G (0 : Int32) (0 : Int32)

/-! TubBites.gone -/
def wx_X0_gone : XW := ([35, 391, 392, 393, 394, 395, 423, 424, 425], [], [], true, false)
def X_X0_gone (ro : Nat → Nat) (G : Nat) (σ0 : XS) (th : Nat) (a0 : Int32) : Option (Int32 × XS) :=
  if a0 < 0 then
    some ((-2 : Int32), σ0)
  else
    nnX σ0 1 (some th) fun q1 =>
    bnd (X_X0_inTub G σ0 q1 ) fun t2 =>
    if (a0 &&& (t2 ^^^ (-1 : Int32))) = 0 then
      nnX σ0 1 (some th) fun q3 =>
      bndX (X_X0_goneBy ro G σ0 q3 a0 (60 : Int32)) false wx_X0_goneBy σ0 fun t4 σ5 =>
      if t4 ≤ (60 : Int32) then
        some (t4, σ5)
      else
        some ((-1 : Int32), σ5)
    else
      some ((-2 : Int32), σ0)

/-! java/lang/Integer.bitCount -/
def wx_J13_bitCount : XW := ([], [], [], false, false)
def X_J13_bitCount (σ0 : XS) (a0 : Int32) : Option Int32 :=
  some ((((((((a0 - (((a0.toUInt32 >>> ((1 : Int32).toUInt32 &&& Int32.toUInt32 31)).toInt32) &&& (1431655765 : Int32))) &&& (858993459 : Int32)) + ((((a0 - (((a0.toUInt32 >>> ((1 : Int32).toUInt32 &&& Int32.toUInt32 31)).toInt32) &&& (1431655765 : Int32))).toUInt32 >>> ((2 : Int32).toUInt32 &&& Int32.toUInt32 31)).toInt32) &&& (858993459 : Int32))) + (((((a0 - (((a0.toUInt32 >>> ((1 : Int32).toUInt32 &&& Int32.toUInt32 31)).toInt32) &&& (1431655765 : Int32))) &&& (858993459 : Int32)) + ((((a0 - (((a0.toUInt32 >>> ((1 : Int32).toUInt32 &&& Int32.toUInt32 31)).toInt32) &&& (1431655765 : Int32))).toUInt32 >>> ((2 : Int32).toUInt32 &&& Int32.toUInt32 31)).toInt32) &&& (858993459 : Int32))).toUInt32 >>> ((4 : Int32).toUInt32 &&& Int32.toUInt32 31)).toInt32)) &&& (252645135 : Int32)) + (((((((a0 - (((a0.toUInt32 >>> ((1 : Int32).toUInt32 &&& Int32.toUInt32 31)).toInt32) &&& (1431655765 : Int32))) &&& (858993459 : Int32)) + ((((a0 - (((a0.toUInt32 >>> ((1 : Int32).toUInt32 &&& Int32.toUInt32 31)).toInt32) &&& (1431655765 : Int32))).toUInt32 >>> ((2 : Int32).toUInt32 &&& Int32.toUInt32 31)).toInt32) &&& (858993459 : Int32))) + (((((a0 - (((a0.toUInt32 >>> ((1 : Int32).toUInt32 &&& Int32.toUInt32 31)).toInt32) &&& (1431655765 : Int32))) &&& (858993459 : Int32)) + ((((a0 - (((a0.toUInt32 >>> ((1 : Int32).toUInt32 &&& Int32.toUInt32 31)).toInt32) &&& (1431655765 : Int32))).toUInt32 >>> ((2 : Int32).toUInt32 &&& Int32.toUInt32 31)).toInt32) &&& (858993459 : Int32))).toUInt32 >>> ((4 : Int32).toUInt32 &&& Int32.toUInt32 31)).toInt32)) &&& (252645135 : Int32)).toUInt32 >>> ((8 : Int32).toUInt32 &&& Int32.toUInt32 31)).toInt32)) + ((((((((a0 - (((a0.toUInt32 >>> ((1 : Int32).toUInt32 &&& Int32.toUInt32 31)).toInt32) &&& (1431655765 : Int32))) &&& (858993459 : Int32)) + ((((a0 - (((a0.toUInt32 >>> ((1 : Int32).toUInt32 &&& Int32.toUInt32 31)).toInt32) &&& (1431655765 : Int32))).toUInt32 >>> ((2 : Int32).toUInt32 &&& Int32.toUInt32 31)).toInt32) &&& (858993459 : Int32))) + (((((a0 - (((a0.toUInt32 >>> ((1 : Int32).toUInt32 &&& Int32.toUInt32 31)).toInt32) &&& (1431655765 : Int32))) &&& (858993459 : Int32)) + ((((a0 - (((a0.toUInt32 >>> ((1 : Int32).toUInt32 &&& Int32.toUInt32 31)).toInt32) &&& (1431655765 : Int32))).toUInt32 >>> ((2 : Int32).toUInt32 &&& Int32.toUInt32 31)).toInt32) &&& (858993459 : Int32))).toUInt32 >>> ((4 : Int32).toUInt32 &&& Int32.toUInt32 31)).toInt32)) &&& (252645135 : Int32)) + (((((((a0 - (((a0.toUInt32 >>> ((1 : Int32).toUInt32 &&& Int32.toUInt32 31)).toInt32) &&& (1431655765 : Int32))) &&& (858993459 : Int32)) + ((((a0 - (((a0.toUInt32 >>> ((1 : Int32).toUInt32 &&& Int32.toUInt32 31)).toInt32) &&& (1431655765 : Int32))).toUInt32 >>> ((2 : Int32).toUInt32 &&& Int32.toUInt32 31)).toInt32) &&& (858993459 : Int32))) + (((((a0 - (((a0.toUInt32 >>> ((1 : Int32).toUInt32 &&& Int32.toUInt32 31)).toInt32) &&& (1431655765 : Int32))) &&& (858993459 : Int32)) + ((((a0 - (((a0.toUInt32 >>> ((1 : Int32).toUInt32 &&& Int32.toUInt32 31)).toInt32) &&& (1431655765 : Int32))).toUInt32 >>> ((2 : Int32).toUInt32 &&& Int32.toUInt32 31)).toInt32) &&& (858993459 : Int32))).toUInt32 >>> ((4 : Int32).toUInt32 &&& Int32.toUInt32 31)).toInt32)) &&& (252645135 : Int32)).toUInt32 >>> ((8 : Int32).toUInt32 &&& Int32.toUInt32 31)).toInt32)).toUInt32 >>> ((16 : Int32).toUInt32 &&& Int32.toUInt32 31)).toInt32)) &&& (63 : Int32))

/-! TubBites.provide -/
def wx_X0_provide : XW := ([35, 391, 392, 393, 394, 395, 423, 424, 425], [], [], true, false)
def X_X0_provide_B41 (ro : Nat → Nat) (G : Nat) (th : Nat) (k29 : XS → Int32 → Int32 → Int32 → Int32 → Option (Int32 × XS)) (k41 : XS → Int32 → Int32 → Int32 → Int32 → Int32 → Option (Int32 × XS)) (σ : XS) (x1 : Int32) (x2 : Int32) (x3 : Int32) (x4 : Int32) (x5 : Int32) : Option (Int32 × XS) :=
  if x3 < x5 then
    k29 σ x1 x2 x3 (x4 + (1 : Int32))
  else
    if (x5 &&& (x3 ^^^ (-1 : Int32))) = 0 then
      bnd (X_J13_bitCount  σ x5) fun t1 =>
      if t1 = x4 then
        nnX σ 1 (some th) fun q2 =>
        bndX (X_X0_goneBy ro G σ q2 x5 x1) false wx_X0_goneBy σ fun t3 σ4 =>
        if x1 < t3 then
          if x2 = 0 then
            some (x4, σ4)
          else
            some (x5, σ4)
        else
          k41 σ4 x1 x2 x3 x4 (x5 + (1 : Int32))
      else
        k41 σ x1 x2 x3 x4 (x5 + (1 : Int32))
    else
      k41 σ x1 x2 x3 x4 (x5 + (1 : Int32))
def X_X0_provide_L41 (ro : Nat → Nat) (G : Nat) (th : Nat) (k29 : XS → Int32 → Int32 → Int32 → Int32 → Option (Int32 × XS)) : Nat → XS → Int32 → Int32 → Int32 → Int32 → Int32 → Option (Int32 × XS)
  | 0, _, _, _, _, _, _ => none
  | n + 1, σ, x1, x2, x3, x4, x5 => X_X0_provide_B41 ro G th k29 (X_X0_provide_L41 ro G th k29 n) σ x1 x2 x3 x4 x5
def X_X0_provide_B29 (ro : Nat → Nat) (G : Nat) (th : Nat) (k29 : XS → Int32 → Int32 → Int32 → Int32 → Option (Int32 × XS)) (σ : XS) (x1 : Int32) (x2 : Int32) (x3 : Int32) (x4 : Int32) : Option (Int32 × XS) :=
  bnd (X_J13_bitCount  σ x3) fun t1 =>
  if t1 < x4 then
    some ((-1 : Int32), σ)
  else
    X_X0_provide_L41 ro G th k29 G σ x1 x2 x3 x4 (1 : Int32)
def X_X0_provide_L29 (ro : Nat → Nat) (G : Nat) (th : Nat)  : Nat → XS → Int32 → Int32 → Int32 → Int32 → Option (Int32 × XS)
  | 0, _, _, _, _, _ => none
  | n + 1, σ, x1, x2, x3, x4 => X_X0_provide_B29 ro G th  (X_X0_provide_L29 ro G th  n) σ x1 x2 x3 x4
def X_X0_provide (ro : Nat → Nat) (G : Nat) (σ0 : XS) (th : Nat) (a0 : Int32) (a1 : Int32) : Option (Int32 × XS) :=
  bnd (X_X0_isIn  σ0 a0 (1 : Int32) (60 : Int32)) fun t1 =>
  if t1 = 0 then
    some ((-1 : Int32), σ0)
  else
    bnd (X_X0_isIn  σ0 a1 (0 : Int32) (1 : Int32)) fun t2 =>
    if t2 = 0 then
      some ((-1 : Int32), σ0)
    else
      nnX σ0 1 (some th) fun q3 =>
      bnd (X_X0_inTub G σ0 q3 ) fun t4 =>
      X_X0_provide_L29 ro G th  G σ0 a0 a1 t4 (1 : Int32)

/-! TubBites.waves -/
def wx_X0_waves : XW := ([12, 35, 391, 392, 393, 394, 395, 423, 424, 425], [], [], true, false)
def X_X0_waves_L235 (TL : Nat) (SL : Nat) (G : Nat) (th : Nat)  (σ : XS) (x5 : Int32) : Option (Int32 × XS) :=
  sxI σ 1 12 (some th) (mxI (0 : Int32) x5) fun σ1 =>
  some (x5, σ1)
def X_X0_waves_L223 (TL : Nat) (SL : Nat) (G : Nat) (th : Nat) (k67 : XS → Int32 → Int32 → Int32 → Option Nat → Int32 → Int32 → Int32 → Option (Int32 × XS)) (σ : XS) (x1 : Int32) (x2 : Int32) (x3 : Int32) (x4 : Option Nat) (x5 : Int32) (x6 : Int32) (x7 : Int32) : Option (Int32 × XS) :=
  k67 σ x1 x2 x3 x4 x5 (x6 * (4 : Int32)) (x7 + (1 : Int32))
def X_X0_waves_L208 (TL : Nat) (SL : Nat) (G : Nat) (th : Nat) (k67 : XS → Int32 → Int32 → Int32 → Option Nat → Int32 → Int32 → Int32 → Option (Int32 × XS)) (k82 : XS → Int32 → Int32 → Int32 → Option Nat → Int32 → Int32 → Int32 → Int32 → Option (Int32 × XS)) (σ : XS) (x1 : Int32) (x2 : Int32) (x3 : Int32) (x4 : Option Nat) (x5 : Int32) (x6 : Int32) (x7 : Int32) (x8 : Int32) : Option (Int32 × XS) :=
  gxR σ 1 0 (some th) fun t1 =>
  nnX σ 2 t1 fun q2 =>
  bndY (X_X1_bring G σ q2 x4) false wx_X1_bring σ fun σ3 =>
  k82 σ3 x1 x2 x3 x4 x5 x6 x7 (x8 + (1 : Int32))
def X_X0_waves_B134 (TL : Nat) (SL : Nat) (G : Nat) (th : Nat) (k67 : XS → Int32 → Int32 → Int32 → Option Nat → Int32 → Int32 → Int32 → Option (Int32 × XS)) (k82 : XS → Int32 → Int32 → Int32 → Option Nat → Int32 → Int32 → Int32 → Int32 → Option (Int32 × XS)) (k134 : XS → Int32 → Int32 → Int32 → Option Nat → Int32 → Int32 → Int32 → Int32 → Int32 → Option (Int32 × XS)) (σ : XS) (x1 : Int32) (x2 : Int32) (x3 : Int32) (x4 : Option Nat) (x5 : Int32) (x6 : Int32) (x7 : Int32) (x8 : Int32) (x9 : Int32) : Option (Int32 × XS) :=
  if x7 ≤ x9 then
    gxR σ 1 0 (some th) fun t1 =>
    gxR σ 2 43 t1 fun t2 =>
    nnX σ 3 t2 fun q3 =>
    bnd (X_J2_get  σ q3 x1) fun t4 =>
    cxC σ 13 t4 <|
    gxI σ 13 391 t4 fun t5 =>
    if t5 = x2 then
      gxR σ 1 0 (some th) fun t6 =>
      gxR σ 2 43 t6 fun t7 =>
      nnX σ 3 t7 fun q8 =>
      bnd (X_J2_get  σ q8 x1) fun t9 =>
      cxC σ 13 t9 <|
      gxI σ 13 392 t9 fun t10 =>
      if t10 = x3 then
        X_X0_waves_L208 TL SL G th k67 k82 σ x1 x2 x3 x4 x7 x6 x7 x8
      else
        X_X0_waves_L208 TL SL G th k67 k82 σ x1 x2 x3 x4 x5 x6 x7 x8
    else
      X_X0_waves_L208 TL SL G th k67 k82 σ x1 x2 x3 x4 x5 x6 x7 x8
  else
    gxR σ 1 0 (some th) fun t11 =>
    gxR σ 1 11 (some th) fun t12 =>
    rxA σ 100 t12 x9 fun t13 =>
    nnX σ 2 t11 fun q14 =>
    bndX (X_X1_wave G σ q14 t13) false wx_X1_wave σ fun t15 σ16 =>
    k134 σ16 x1 x2 x3 x4 x5 x6 x7 x8 (x9 + (1 : Int32))
def X_X0_waves_L134 (TL : Nat) (SL : Nat) (G : Nat) (th : Nat) (k67 : XS → Int32 → Int32 → Int32 → Option Nat → Int32 → Int32 → Int32 → Option (Int32 × XS)) (k82 : XS → Int32 → Int32 → Int32 → Option Nat → Int32 → Int32 → Int32 → Int32 → Option (Int32 × XS)) : Nat → XS → Int32 → Int32 → Int32 → Option Nat → Int32 → Int32 → Int32 → Int32 → Int32 → Option (Int32 × XS)
  | 0, _, _, _, _, _, _, _, _, _, _ => none
  | n + 1, σ, x1, x2, x3, x4, x5, x6, x7, x8, x9 => X_X0_waves_B134 TL SL G th k67 k82 (X_X0_waves_L134 TL SL G th k67 k82 n) σ x1 x2 x3 x4 x5 x6 x7 x8 x9
def X_X0_waves_B97 (TL : Nat) (SL : Nat) (G : Nat) (th : Nat) (k67 : XS → Int32 → Int32 → Int32 → Option Nat → Int32 → Int32 → Int32 → Option (Int32 × XS)) (k82 : XS → Int32 → Int32 → Int32 → Option Nat → Int32 → Int32 → Int32 → Int32 → Option (Int32 × XS)) (k97 : XS → Int32 → Int32 → Int32 → Option Nat → Int32 → Int32 → Int32 → Int32 → Int32 → Option (Int32 × XS)) (σ : XS) (x1 : Int32) (x2 : Int32) (x3 : Int32) (x4 : Option Nat) (x5 : Int32) (x6 : Int32) (x7 : Int32) (x8 : Int32) (x9 : Int32) : Option (Int32 × XS) :=
  if x7 ≤ x9 then
    X_X0_waves_L134 TL SL G th k67 k82 G σ x1 x2 x3 x4 x5 x6 x7 x8 (0 : Int32)
  else
    gxR σ 1 11 (some th) fun t1 =>
    wxA σ 100 t1 x9 ((x8 >>> (((2 : Int32) * ((x7 - (1 : Int32)) - x9)) &&& 31)) &&& (3 : Int32)) fun σ2 =>
    k97 σ2 x1 x2 x3 x4 x5 x6 x7 x8 (x9 + (1 : Int32))
def X_X0_waves_L97 (TL : Nat) (SL : Nat) (G : Nat) (th : Nat) (k67 : XS → Int32 → Int32 → Int32 → Option Nat → Int32 → Int32 → Int32 → Option (Int32 × XS)) (k82 : XS → Int32 → Int32 → Int32 → Option Nat → Int32 → Int32 → Int32 → Int32 → Option (Int32 × XS)) : Nat → XS → Int32 → Int32 → Int32 → Option Nat → Int32 → Int32 → Int32 → Int32 → Int32 → Option (Int32 × XS)
  | 0, _, _, _, _, _, _, _, _, _, _ => none
  | n + 1, σ, x1, x2, x3, x4, x5, x6, x7, x8, x9 => X_X0_waves_B97 TL SL G th k67 k82 (X_X0_waves_L97 TL SL G th k67 k82 n) σ x1 x2 x3 x4 x5 x6 x7 x8 x9
def X_X0_waves_B82 (TL : Nat) (SL : Nat) (G : Nat) (th : Nat) (k67 : XS → Int32 → Int32 → Int32 → Option Nat → Int32 → Int32 → Int32 → Option (Int32 × XS)) (k82 : XS → Int32 → Int32 → Int32 → Option Nat → Int32 → Int32 → Int32 → Int32 → Option (Int32 × XS)) (σ : XS) (x1 : Int32) (x2 : Int32) (x3 : Int32) (x4 : Option Nat) (x5 : Int32) (x6 : Int32) (x7 : Int32) (x8 : Int32) : Option (Int32 × XS) :=
  if x6 ≤ x8 then
    X_X0_waves_L223 TL SL G th k67 σ x1 x2 x3 x4 x5 x6 x7
  else
    if 0 ≤ x5 then
      X_X0_waves_L223 TL SL G th k67 σ x1 x2 x3 x4 x5 x6 x7
    else
      X_X0_waves_L97 TL SL G th k67 k82 G σ x1 x2 x3 x4 x5 x6 x7 x8 (0 : Int32)
def X_X0_waves_L82 (TL : Nat) (SL : Nat) (G : Nat) (th : Nat) (k67 : XS → Int32 → Int32 → Int32 → Option Nat → Int32 → Int32 → Int32 → Option (Int32 × XS)) : Nat → XS → Int32 → Int32 → Int32 → Option Nat → Int32 → Int32 → Int32 → Int32 → Option (Int32 × XS)
  | 0, _, _, _, _, _, _, _, _, _ => none
  | n + 1, σ, x1, x2, x3, x4, x5, x6, x7, x8 => X_X0_waves_B82 TL SL G th k67 (X_X0_waves_L82 TL SL G th k67 n) σ x1 x2 x3 x4 x5 x6 x7 x8
def X_X0_waves_B67 (TL : Nat) (SL : Nat) (G : Nat) (th : Nat) (k67 : XS → Int32 → Int32 → Int32 → Option Nat → Int32 → Int32 → Int32 → Option (Int32 × XS)) (σ : XS) (x1 : Int32) (x2 : Int32) (x3 : Int32) (x4 : Option Nat) (x5 : Int32) (x6 : Int32) (x7 : Int32) : Option (Int32 × XS) :=
  if (6 : Int32) < x7 then
    X_X0_waves_L235 TL SL G th  σ x5
  else
    if 0 ≤ x5 then
      X_X0_waves_L235 TL SL G th  σ x5
    else
      X_X0_waves_L82 TL SL G th k67 G σ x1 x2 x3 x4 x5 x6 x7 (0 : Int32)
def X_X0_waves_L67 (TL : Nat) (SL : Nat) (G : Nat) (th : Nat)  : Nat → XS → Int32 → Int32 → Int32 → Option Nat → Int32 → Int32 → Int32 → Option (Int32 × XS)
  | 0, _, _, _, _, _, _, _, _ => none
  | n + 1, σ, x1, x2, x3, x4, x5, x6, x7 => X_X0_waves_B67 TL SL G th  (X_X0_waves_L67 TL SL G th  n) σ x1 x2 x3 x4 x5 x6 x7
def X_X0_waves (TL : Nat) (SL : Nat) (G : Nat) (σ0 : XS) (th : Nat) (a0 : Int32) (a1 : Int32) (a2 : Int32) : Option (Int32 × XS) :=
  sxI σ0 1 12 (some th) (0 : Int32) fun σ1 =>
  nnX σ1 1 (some th) fun q2 =>
  bnd (X_X0_isApple  σ1 q2 a0) fun t3 =>
  if t3 = 0 then
    some ((-2 : Int32), σ1)
  else
    gxR σ1 1 0 (some th) fun t4 =>
    gxR σ1 2 43 t4 fun t5 =>
    nnX σ1 3 t5 fun q6 =>
    bnd (X_J2_get  σ1 q6 a0) fun t7 =>
    cxC σ1 13 t7 <|
    gxI σ1 13 393 t7 fun t8 =>
    if t8 = (-1 : Int32) then
      gxR σ1 1 0 (some th) fun t9 =>
      nnX σ1 2 t9 fun q10 =>
      bnd (X_X1_isCell  σ1 q10 a1 a2) fun t11 =>
      if t11 = 0 then
        some ((-2 : Int32), σ1)
      else
        gxR σ1 1 0 (some th) fun t12 =>
        nnX σ1 2 t12 fun q13 =>
        bndX (X_X1_keep TL SL G σ1 q13 ) true wx_X1_keep σ1 fun t14 σ15 =>
        X_X0_waves_L67 TL SL G th  G σ15 a0 a1 a2 t14 (-1 : Int32) (1 : Int32) (0 : Int32)
    else
      some ((-2 : Int32), σ1)

/-! TubBites.lasts -/
def wx_X0_lasts : XW := ([], [], [], true, false)
def X_X0_lasts (σ0 : XS) (th : Nat) (a0 : Option Nat) (a1 : Option Nat) : Option (Int32 × XS) :=
  gxR σ0 1 0 (some th) fun t1 =>
  nnX σ0 2 t1 fun q2 =>
  bndX (X_X1_odds  σ0 q2 a0 a1 (0 : Int32)) false wx_X1_odds σ0 fun t3 σ4 =>
  if t3 = 0 then
    some ((9999 : Int32), σ4)
  else
    dvI (1000 : Int32) t3 fun t5 =>
    some (t5, σ4)

/-! TubBites.fill -/
def wx_X0_fill : XW := ([], [], [], true, false)
def X_X0_fill_B68 (G : Nat) (th : Nat) (k39 : XS → Int32 → Int32 → Int32 → Int32 → Int32 → Int32 → Option (Int32 × XS)) (k68 : XS → Int32 → Int32 → Int32 → Int32 → Int32 → Int32 → Int32 → Int32 → Int32 → Int32 → Option (Int32 × XS)) (σ : XS) (x1 : Int32) (x2 : Int32) (x3 : Int32) (x4 : Int32) (x5 : Int32) (x6 : Int32) (x7 : Int32) (x8 : Int32) (x9 : Int32) (x10 : Int32) : Option (Int32 × XS) :=
  gxR σ 1 0 (some th) fun t1 =>
  gxR σ 2 43 t1 fun t2 =>
  nnX σ 3 t2 fun q3 =>
  bnd (X_J2_size  σ q3 ) fun t4 =>
  if t4 ≤ x10 then
    if x9 = 0 then
      k39 σ x1 x2 x3 x4 x5 (x6 + (1 : Int32))
    else
      if x2 < x7 then
        k39 σ x1 x2 x3 x4 x5 (x6 + (1 : Int32))
      else
        if x5 < x8 then
          k39 σ x1 x2 x3 x6 x8 (x6 + (1 : Int32))
        else
          k39 σ x1 x2 x3 x4 x5 (x6 + (1 : Int32))
  else
    if ((x6 >>> (x10 &&& 31)) &&& (1 : Int32)) = 0 then
      k68 σ x1 x2 x3 x4 x5 x6 x7 x8 x9 (x10 + (1 : Int32))
    else
      gxR σ 1 0 (some th) fun t5 =>
      gxR σ 2 43 t5 fun t6 =>
      nnX σ 3 t6 fun q7 =>
      bnd (X_J2_get  σ q7 x10) fun t8 =>
      cxC σ 13 t8 <|
      gxI σ 13 395 t8 fun t9 =>
      gxR σ 1 0 (some th) fun t10 =>
      gxR σ 2 44 t10 fun t11 =>
      nnX σ 3 t11 fun q12 =>
      bnd (X_J2_get  σ q12 x1) fun t13 =>
      cxC σ 14 t13 <|
      gxR σ 1 0 (some th) fun t14 =>
      gxR σ 2 43 t14 fun t15 =>
      nnX σ 3 t15 fun q16 =>
      bnd (X_J2_get  σ q16 x10) fun t17 =>
      cxC σ 13 t17 <|
      nnX σ 1 (some th) fun q18 =>
      bndX (X_X0_lasts  σ q18 t13 t17) false wx_X0_lasts σ fun t19 σ20 =>
      if x9 = 0 then
        k68 σ20 x1 x2 x3 x4 x5 x6 (x7 + t9) (x8 + t19) (0 : Int32) (x10 + (1 : Int32))
      else
        gxR σ20 1 0 (some th) fun t21 =>
        gxR σ20 2 43 t21 fun t22 =>
        nnX σ20 3 t22 fun q23 =>
        bnd (X_J2_get  σ20 q23 x10) fun t24 =>
        cxC σ20 13 t24 <|
        gxI σ20 13 393 t24 fun t25 =>
        if t25 = (-1 : Int32) then
          k68 σ20 x1 x2 x3 x4 x5 x6 (x7 + t9) (x8 + t19) (1 : Int32) (x10 + (1 : Int32))
        else
          k68 σ20 x1 x2 x3 x4 x5 x6 (x7 + t9) (x8 + t19) (0 : Int32) (x10 + (1 : Int32))
def X_X0_fill_L68 (G : Nat) (th : Nat) (k39 : XS → Int32 → Int32 → Int32 → Int32 → Int32 → Int32 → Option (Int32 × XS)) : Nat → XS → Int32 → Int32 → Int32 → Int32 → Int32 → Int32 → Int32 → Int32 → Int32 → Int32 → Option (Int32 × XS)
  | 0, _, _, _, _, _, _, _, _, _, _, _ => none
  | n + 1, σ, x1, x2, x3, x4, x5, x6, x7, x8, x9, x10 => X_X0_fill_B68 G th k39 (X_X0_fill_L68 G th k39 n) σ x1 x2 x3 x4 x5 x6 x7 x8 x9 x10
def X_X0_fill_B39 (G : Nat) (th : Nat) (k39 : XS → Int32 → Int32 → Int32 → Int32 → Int32 → Int32 → Option (Int32 × XS)) (σ : XS) (x1 : Int32) (x2 : Int32) (x3 : Int32) (x4 : Int32) (x5 : Int32) (x6 : Int32) : Option (Int32 × XS) :=
  gxR σ 1 0 (some th) fun t1 =>
  gxR σ 2 43 t1 fun t2 =>
  nnX σ 3 t2 fun q3 =>
  bnd (X_J2_size  σ q3 ) fun t4 =>
  if ((1 : Int32) <<< (t4 &&& 31)) ≤ x6 then
    if x3 = 0 then
      some (x4, σ)
    else
      some (x5, σ)
  else
    X_X0_fill_L68 G th k39 G σ x1 x2 x3 x4 x5 x6 (0 : Int32) (0 : Int32) (1 : Int32) (0 : Int32)
def X_X0_fill_L39 (G : Nat) (th : Nat)  : Nat → XS → Int32 → Int32 → Int32 → Int32 → Int32 → Int32 → Option (Int32 × XS)
  | 0, _, _, _, _, _, _, _ => none
  | n + 1, σ, x1, x2, x3, x4, x5, x6 => X_X0_fill_B39 G th  (X_X0_fill_L39 G th  n) σ x1 x2 x3 x4 x5 x6
def X_X0_fill (G : Nat) (σ0 : XS) (th : Nat) (a0 : Int32) (a1 : Int32) (a2 : Int32) : Option (Int32 × XS) :=
  nnX σ0 1 (some th) fun q1 =>
  bnd (X_X0_isBobber  σ0 q1 a0) fun t2 =>
  if t2 = 0 then
    some ((-1 : Int32), σ0)
  else
    bnd (X_X0_isIn  σ0 a1 (0 : Int32) (999 : Int32)) fun t3 =>
    if t3 = 0 then
      some ((-1 : Int32), σ0)
    else
      bnd (X_X0_isIn  σ0 a2 (0 : Int32) (1 : Int32)) fun t4 =>
      if t4 = 0 then
        some ((-1 : Int32), σ0)
      else
        X_X0_fill_L39 G th  G σ0 a0 a1 a2 (0 : Int32) (0 : Int32) (1 : Int32)

/-! TubBites.common -/
def wx_X0_common : XW := ([], [], [], false, false)
def X_X0_common_F (R_X0_common : XS → Int32 → Int32 → Option Int32) (σ0 : XS) (a0 : Int32) (a1 : Int32) : Option Int32 :=
  if a1 = 0 then
    some a0
  else
    rmI a0 a1 fun t1 =>
    bnd (R_X0_common σ0 a1 t1) fun t2 =>
    some t2
def X_X0_common  : Nat → XS → Int32 → Int32 → Option Int32
  | 0, _, _, _ => none
  | D + 1, σ, a0, a1 => X_X0_common_F  (X_X0_common  D) σ a0 a1

/-! TubBites.coin -/
def wx_X0_coin : XW := ([], [], [], false, false)
def X_X0_coin_L153 (G : Nat) (σ0 : XS) (th : Nat)  (x3 : Int32) (x4 : Int32) (s0 : Int32) : Option Int32 :=
  bnd (X_X0_common 40 σ0 x3 x4) fun t1 =>
  dvI s0 t1 fun t2 =>
  some t2
def X_X0_coin_L134 (G : Nat) (σ0 : XS) (th : Nat)  (x2 : Int32) (x3 : Int32) (s0 : Int32) : Option Int32 :=
  if s0 = 0 then
    some x2
  else
    if x2 = 0 then
      X_X0_coin_L153 G σ0 th  x3 s0 s0
    else
      X_X0_coin_L153 G σ0 th  x3 s0 x3
def X_X0_coin_B24 (G : Nat) (σ0 : XS) (th : Nat) (k24 : Int32 → Int32 → Int32 → Int32 → Option Int32) (x1 : Int32) (x2 : Int32) (x3 : Int32) (x4 : Int32) : Option Int32 :=
  gxR σ0 1 0 (some th) fun t1 =>
  gxR σ0 2 43 t1 fun t2 =>
  nnX σ0 3 t2 fun q3 =>
  bnd (X_J2_size  σ0 q3 ) fun t4 =>
  if t4 ≤ x4 then
    gxR σ0 1 0 (some th) fun t5 =>
    gxR σ0 2 43 t5 fun t6 =>
    nnX σ0 3 t6 fun q7 =>
    bnd (X_J2_get  σ0 q7 x1) fun t8 =>
    cxC σ0 13 t8 <|
    gxI σ0 13 393 t8 fun t9 =>
    if t9 = (-1 : Int32) then
      gxR σ0 1 0 (some th) fun t10 =>
      gxR σ0 2 43 t10 fun t11 =>
      nnX σ0 3 t11 fun q12 =>
      bnd (X_J2_get  σ0 q12 x1) fun t13 =>
      cxC σ0 13 t13 <|
      gxI σ0 13 389 t13 fun t14 =>
      X_X0_coin_L134 G σ0 th  x2 x3 t14
    else
      X_X0_coin_L134 G σ0 th  x2 x3 (0 : Int32)
  else
    gxR σ0 1 0 (some th) fun t15 =>
    gxR σ0 2 43 t15 fun t16 =>
    nnX σ0 3 t16 fun q17 =>
    bnd (X_J2_get  σ0 q17 x4) fun t18 =>
    cxC σ0 13 t18 <|
    gxI σ0 13 393 t18 fun t19 =>
    if t19 = (-1 : Int32) then
      gxR σ0 1 0 (some th) fun t20 =>
      gxR σ0 2 43 t20 fun t21 =>
      nnX σ0 3 t21 fun q22 =>
      bnd (X_J2_get  σ0 q22 x4) fun t23 =>
      cxC σ0 13 t23 <|
      gxI σ0 13 389 t23 fun t24 =>
      k24 x1 x2 (x3 + t24) (x4 + (1 : Int32))
    else
      k24 x1 x2 (x3 + (0 : Int32)) (x4 + (1 : Int32))
def X_X0_coin_L24 (G : Nat) (σ0 : XS) (th : Nat)  : Nat → Int32 → Int32 → Int32 → Int32 → Option Int32
  | 0, _, _, _, _ => none
  | n + 1, x1, x2, x3, x4 => X_X0_coin_B24 G σ0 th  (X_X0_coin_L24 G σ0 th  n) x1 x2 x3 x4
def X_X0_coin (G : Nat) (σ0 : XS) (th : Nat) (a0 : Int32) (a1 : Int32) : Option Int32 :=
  nnX σ0 1 (some th) fun q1 =>
  bnd (X_X0_isApple  σ0 q1 a0) fun t2 =>
  if t2 = 0 then
    some (-1 : Int32)
  else
    bnd (X_X0_isIn  σ0 a1 (0 : Int32) (1 : Int32)) fun t3 =>
    if t3 = 0 then
      some (-1 : Int32)
    else
      X_X0_coin_L24 G σ0 th  G a0 a1 (0 : Int32) (0 : Int32)

/-! TubBites$Pick.<init> -/
def wx_X15_init : XW := ([448, 449, 450, 451, 452], [], [], false, false)
def X_X15_init (σ0 : XS) (th : Nat) (a0 : Int32) (a1 : Int32) (a2 : Int32) (a3 : Int32) : Option XS :=
  sxI σ0 15 452 (some th) (-1 : Int32) fun σ1 =>
  sxI σ1 15 448 (some th) a0 fun σ2 =>
  sxI σ2 15 449 (some th) a1 fun σ3 =>
  sxI σ3 15 450 (some th) a2 fun σ4 =>
  sxI σ4 15 451 (some th) a3 fun σ5 =>
  some σ5

/-! TubBites.pick -/
def wx_X0_pick : XW := ([64, 66, 448, 449, 450, 451, 452], [65], [], false, true)
def X_X0_pick (TL : Nat) (SL : Nat) (ro : Nat → Nat) (σ0 : XS) (th : Nat) (a0 : Int32) (a1 : Int32) (a2 : Int32) : Option (Int32 × XS) :=
  nnX σ0 1 (some th) fun q1 =>
  bnd (X_X0_isBobber  σ0 q1 a0) fun t2 =>
  if t2 = 0 then
    some ((-1 : Int32), σ0)
  else
    nnX σ0 1 (some th) fun q3 =>
    bnd (X_X0_isApple  σ0 q3 a2) fun t4 =>
    if t4 = 0 then
      some ((-1 : Int32), σ0)
    else
      if a1 < 0 then
        some ((-1 : Int32), σ0)
      else
        gxR σ0 1 0 (some th) fun t5 =>
        gxR σ0 2 43 t5 fun t6 =>
        nnX σ0 3 t6 fun q7 =>
        bnd (X_J2_size  σ0 q7 ) fun t8 =>
        if ((1 : Int32) <<< (t8 &&& 31)) ≤ a1 then
          some ((-1 : Int32), σ0)
        else
          if ((a1 >>> (a2 &&& 31)) &&& (1 : Int32)) = 0 then
            some ((-1 : Int32), σ0)
          else
            gxR σ0 1 14 (some th) fun t9 =>
            nnX σ0 3 t9 fun q10 =>
            bnd (X_J2_size  σ0 q10 ) fun t11 =>
            if t11 = (30 : Int32) then
              some ((-1 : Int32), σ0)
            else
              gxR σ0 1 14 (some th) fun t12 =>
              nwO TL SL σ0 15 5 fun q13 σ14 =>
              gxI σ14 1 3 (some th) fun t15 =>
              nnO q13 fun q16 =>
              bndY (X_X15_init  σ14 q16 a0 a1 a2 t15) false wx_X15_init σ14 fun σ17 =>
              nnX σ17 3 t12 fun q18 =>
              bndX (X_J2_add TL SL ro σ17 q18 q13) true wx_J2_add σ17 fun t19 σ20 =>
              gxR σ20 1 14 (some th) fun t21 =>
              nnX σ20 3 t21 fun q22 =>
              bnd (X_J2_size  σ20 q22 ) fun t23 =>
              some ((t23 - (1 : Int32)), σ20)

/-! TubBites.untell -/
def wx_X0_untell : XW := ([452], [], [], false, false)
def X_X0_untell (σ0 : XS) (th : Nat) (a0 : Int32) : Option (Int32 × XS) :=
  gxR σ0 1 14 (some th) fun t1 =>
  nnX σ0 3 t1 fun q2 =>
  bnd (X_J2_size  σ0 q2 ) fun t3 =>
  bnd (X_X0_isIn  σ0 a0 (0 : Int32) (t3 - (1 : Int32))) fun t4 =>
  if t4 = 0 then
    some ((0 : Int32), σ0)
  else
    gxR σ0 1 14 (some th) fun t5 =>
    nnX σ0 3 t5 fun q6 =>
    bnd (X_J2_get  σ0 q6 a0) fun t7 =>
    cxC σ0 15 t7 <|
    gxI σ0 15 452 t7 fun t8 =>
    if t8 < 0 then
      gxR σ0 1 14 (some th) fun t9 =>
      nnX σ0 3 t9 fun q10 =>
      bnd (X_J2_get  σ0 q10 a0) fun t11 =>
      cxC σ0 15 t11 <|
      gxI σ0 1 3 (some th) fun t12 =>
      sxI σ0 15 452 t11 t12 fun σ13 =>
      some ((1 : Int32), σ13)
    else
      some ((0 : Int32), σ0)

/-! TubBites.later -/
def wx_X0_later : XW := ([3], [], [], false, false)
def X_X0_later (σ0 : XS) (th : Nat) (a0 : Int32) : Option (Int32 × XS) :=
  if a0 < 0 then
    some ((-1 : Int32), σ0)
  else
    if (1000 : Int32) < a0 then
      some ((-1 : Int32), σ0)
    else
      gxI σ0 1 3 (some th) fun t1 =>
      if (t1 + a0) ≤ (100000 : Int32) then
        gxI σ0 1 3 (some th) fun t2 =>
        sxI σ0 1 3 (some th) (t2 + a0) fun σ3 =>
        gxI σ3 1 3 (some th) fun t4 =>
        some (t4, σ3)
      else
        some ((-1 : Int32), σ0)

/-! TubBites.doesTake -/
def wx_X0_doesTake : XW := ([], [], [], true, false)
def X_X0_doesTake_B27 (G : Nat) (th : Nat) (k27 : XS → Option Nat → Option Nat → Option Nat → Int32 → Int32 → Int32 → Option (Int32 × XS)) (σ : XS) (x1 : Option Nat) (x2 : Option Nat) (x3 : Option Nat) (x4 : Int32) (x5 : Int32) (x6 : Int32) : Option (Int32 × XS) :=
  gxR σ 1 0 (some th) fun t1 =>
  gxR σ 2 43 t1 fun t2 =>
  nnX σ 3 t2 fun q3 =>
  bnd (X_J2_size  σ q3 ) fun t4 =>
  if t4 ≤ x6 then
    gxI σ 15 450 x2 fun t5 =>
    if x4 = t5 then
      some ((1 : Int32), σ)
    else
      some ((0 : Int32), σ)
  else
    gxI σ 15 449 x2 fun t6 =>
    if ((t6 >>> (x6 &&& 31)) &&& (1 : Int32)) = 0 then
      k27 σ x1 x2 x3 x4 x5 (x6 + (1 : Int32))
    else
      gxR σ 1 0 (some th) fun t7 =>
      gxR σ 1 0 (some th) fun t8 =>
      gxR σ 2 43 t8 fun t9 =>
      nnX σ 3 t9 fun q10 =>
      bnd (X_J2_get  σ q10 x6) fun t11 =>
      cxC σ 13 t11 <|
      nnX σ 2 t7 fun q12 =>
      bndX (X_X1_value  σ q12 x1 x3 t11 (0 : Int32)) false wx_X1_value σ fun t13 σ14 =>
      if x4 < 0 then
        k27 σ14 x1 x2 x3 x6 t13 (x6 + (1 : Int32))
      else
        if x5 < t13 then
          k27 σ14 x1 x2 x3 x6 t13 (x6 + (1 : Int32))
        else
          k27 σ14 x1 x2 x3 x4 x5 (x6 + (1 : Int32))
def X_X0_doesTake_L27 (G : Nat) (th : Nat)  : Nat → XS → Option Nat → Option Nat → Option Nat → Int32 → Int32 → Int32 → Option (Int32 × XS)
  | 0, _, _, _, _, _, _, _ => none
  | n + 1, σ, x1, x2, x3, x4, x5, x6 => X_X0_doesTake_B27 G th  (X_X0_doesTake_L27 G th  n) σ x1 x2 x3 x4 x5 x6
def X_X0_doesTake (G : Nat) (σ0 : XS) (th : Nat) (a0 : Option Nat) (a1 : Option Nat) : Option (Int32 × XS) :=
  gxR σ0 1 0 (some th) fun t1 =>
  gxR σ0 2 44 t1 fun t2 =>
  gxI σ0 15 448 a1 fun t3 =>
  nnX σ0 3 t2 fun q4 =>
  bnd (X_J2_get  σ0 q4 t3) fun t5 =>
  cxC σ0 14 t5 <|
  X_X0_doesTake_L27 G th  G σ0 a0 a1 t5 (-1 : Int32) (0 : Int32) (0 : Int32)

/-! TubBites$Pick.counts -/
def wx_X15_counts : XW := ([], [], [], false, false)
def X_X15_counts (σ0 : XS) (th : Nat) (a0 : Int32) : Option Int32 :=
  gxI σ0 15 451 (some th) fun t1 =>
  if a0 < t1 then
    some (0 : Int32)
  else
    gxI σ0 15 452 (some th) fun t2 =>
    if t2 < 0 then
      some (1 : Int32)
    else
      gxI σ0 15 452 (some th) fun t3 =>
      if t3 ≤ a0 then
        some (0 : Int32)
      else
        some (1 : Int32)

/-! TubBites.wrongBy -/
def wx_X0_wrongBy : XW := ([], [], [], true, false)
def X_X0_wrongBy_B5 (G : Nat) (th : Nat) (k5 : XS → Option Nat → Int32 → Int32 → Int32 → Option (Int32 × XS)) (σ : XS) (x1 : Option Nat) (x2 : Int32) (x3 : Int32) (x4 : Int32) : Option (Int32 × XS) :=
  gxR σ 1 14 (some th) fun t1 =>
  nnX σ 3 t1 fun q2 =>
  bnd (X_J2_size  σ q2 ) fun t3 =>
  if t3 ≤ x4 then
    some (x3, σ)
  else
    gxR σ 1 14 (some th) fun t4 =>
    nnX σ 3 t4 fun q5 =>
    bnd (X_J2_get  σ q5 x4) fun t6 =>
    cxC σ 15 t6 <|
    nnX σ 15 t6 fun q7 =>
    bnd (X_X15_counts  σ q7 x2) fun t8 =>
    if t8 = 0 then
      k5 σ x1 x2 x3 (x4 + (1 : Int32))
    else
      gxR σ 1 14 (some th) fun t9 =>
      nnX σ 3 t9 fun q10 =>
      bnd (X_J2_get  σ q10 x4) fun t11 =>
      cxC σ 15 t11 <|
      nnX σ 1 (some th) fun q12 =>
      bndX (X_X0_doesTake G σ q12 x1 t11) false wx_X0_doesTake σ fun t13 σ14 =>
      if t13 = 0 then
        k5 σ14 x1 x2 (x3 + (1 : Int32)) (x4 + (1 : Int32))
      else
        k5 σ14 x1 x2 x3 (x4 + (1 : Int32))
def X_X0_wrongBy_L5 (G : Nat) (th : Nat)  : Nat → XS → Option Nat → Int32 → Int32 → Int32 → Option (Int32 × XS)
  | 0, _, _, _, _, _ => none
  | n + 1, σ, x1, x2, x3, x4 => X_X0_wrongBy_B5 G th  (X_X0_wrongBy_L5 G th  n) σ x1 x2 x3 x4
def X_X0_wrongBy (G : Nat) (σ0 : XS) (th : Nat) (a0 : Option Nat) (a1 : Int32) : Option (Int32 × XS) :=
  X_X0_wrongBy_L5 G th  G σ0 a0 a1 (0 : Int32) (0 : Int32)

/-! TubBites$Apple.begin -/
def wx_X13_begin : XW := ([391, 392, 393, 394, 395], [], [], false, false)
def X_X13_begin (σ0 : XS) (th : Nat) : Option XS :=
  gxI σ0 13 385 (some th) fun t1 =>
  sxI σ0 13 391 (some th) t1 fun σ2 =>
  gxI σ2 13 386 (some th) fun t3 =>
  sxI σ2 13 392 (some th) t3 fun σ4 =>
  sxI σ4 13 393 (some th) (-1 : Int32) fun σ5 =>
  sxI σ5 13 394 (some th) (0 : Int32) fun σ6 =>
  gxI σ6 13 387 (some th) fun t7 =>
  sxI σ6 13 395 (some th) t7 fun σ8 =>
  some σ8

/-! TubBites$Bobber.begin -/
def wx_X14_begin : XW := ([423, 424, 425], [], [], true, false)
def X_X14_begin_B20 (G : Nat) (th : Nat) (k20 : XS → Int32 → Option XS) (σ : XS) (x1 : Int32) : Option XS :=
  gxR σ 14 426 (some th) fun t1 =>
  lxA σ t1 fun t2 =>
  if t2 ≤ x1 then
    some σ
  else
    gxR σ 14 426 (some th) fun t3 =>
    wxA σ 100 t3 x1 (0 : Int32) fun σ4 =>
    k20 σ4 (x1 + (1 : Int32))
def X_X14_begin_L20 (G : Nat) (th : Nat)  : Nat → XS → Int32 → Option XS
  | 0, _, _ => none
  | n + 1, σ, x1 => X_X14_begin_B20 G th  (X_X14_begin_L20 G th  n) σ x1
def X_X14_begin (G : Nat) (σ0 : XS) (th : Nat) : Option XS :=
  gxI σ0 14 420 (some th) fun t1 =>
  sxI σ0 14 423 (some th) t1 fun σ2 =>
  sxI σ2 14 424 (some th) (0 : Int32) fun σ3 =>
  sxI σ3 14 425 (some th) (0 : Int32) fun σ4 =>
  X_X14_begin_L20 G th  G σ4 (0 : Int32)

/-! TubBites$Water.begin -/
def wx_X1_begin : XW := ([35, 391, 392, 393, 394, 395, 423, 424, 425], [], [], true, false)
def X_X1_begin_B35 (G : Nat) (th : Nat) (k35 : XS → Int32 → Option XS) (σ : XS) (x1 : Int32) : Option XS :=
  gxR σ 2 44 (some th) fun t1 =>
  nnX σ 3 t1 fun q2 =>
  bnd (X_J2_size  σ q2 ) fun t3 =>
  if t3 ≤ x1 then
    gxI σ 2 34 (some th) fun t4 =>
    sxI σ 2 35 (some th) t4 fun σ5 =>
    some σ5
  else
    gxR σ 2 44 (some th) fun t6 =>
    nnX σ 3 t6 fun q7 =>
    bnd (X_J2_get  σ q7 x1) fun t8 =>
    cxC σ 14 t8 <|
    nnX σ 14 t8 fun q9 =>
    bndY (X_X14_begin G σ q9 ) false wx_X14_begin σ fun σ10 =>
    k35 σ10 (x1 + (1 : Int32))
def X_X1_begin_L35 (G : Nat) (th : Nat)  : Nat → XS → Int32 → Option XS
  | 0, _, _ => none
  | n + 1, σ, x1 => X_X1_begin_B35 G th  (X_X1_begin_L35 G th  n) σ x1
def X_X1_begin_B2 (G : Nat) (th : Nat) (k2 : XS → Int32 → Option XS) (σ : XS) (x1 : Int32) : Option XS :=
  gxR σ 2 43 (some th) fun t1 =>
  nnX σ 3 t1 fun q2 =>
  bnd (X_J2_size  σ q2 ) fun t3 =>
  if t3 ≤ x1 then
    X_X1_begin_L35 G th  G σ (0 : Int32)
  else
    gxR σ 2 43 (some th) fun t4 =>
    nnX σ 3 t4 fun q5 =>
    bnd (X_J2_get  σ q5 x1) fun t6 =>
    cxC σ 13 t6 <|
    nnX σ 13 t6 fun q7 =>
    bndY (X_X13_begin  σ q7 ) false wx_X13_begin σ fun σ8 =>
    k2 σ8 (x1 + (1 : Int32))
def X_X1_begin_L2 (G : Nat) (th : Nat)  : Nat → XS → Int32 → Option XS
  | 0, _, _ => none
  | n + 1, σ, x1 => X_X1_begin_B2 G th  (X_X1_begin_L2 G th  n) σ x1
def X_X1_begin (G : Nat) (σ0 : XS) (th : Nat) : Option XS :=
  X_X1_begin_L2 G th  G σ0 (0 : Int32)

/-! TubBites.fits -/
def wx_X0_fits : XW := ([35, 391, 392, 393, 394, 395, 423, 424, 425], [], [], true, false)
def X_X0_fits_L67 (TL : Nat) (SL : Nat) (G : Nat) (th : Nat) (k20 : XS → Int32 → Option Nat → Int32 → Int32 → Option (Int32 × XS)) (σ : XS) (x1 : Int32) (x2 : Option Nat) (x4 : Int32) (s0 : Int32) (s1 : Int32) : Option (Int32 × XS) :=
  k20 σ x1 x2 (s0 ||| s1) (x4 + (1 : Int32))
def X_X0_fits_B20 (TL : Nat) (SL : Nat) (G : Nat) (th : Nat) (k20 : XS → Int32 → Option Nat → Int32 → Int32 → Option (Int32 × XS)) (σ : XS) (x1 : Int32) (x2 : Option Nat) (x3 : Int32) (x4 : Int32) : Option (Int32 × XS) :=
  gxR σ 1 0 (some th) fun t1 =>
  gxR σ 2 42 t1 fun t2 =>
  nnX σ 3 t2 fun q3 =>
  bnd (X_J2_size  σ q3 ) fun t4 =>
  if t4 ≤ x4 then
    gxR σ 1 0 (some th) fun t5 =>
    nnX σ 2 t5 fun q6 =>
    bndY (X_X1_bring G σ q6 x2) false wx_X1_bring σ fun σ7 =>
    some (x3, σ7)
  else
    gxR σ 1 0 (some th) fun t8 =>
    gxR σ 2 42 t8 fun t9 =>
    nnX σ 3 t9 fun q10 =>
    bnd (X_J2_get  σ q10 x4) fun t11 =>
    cxC σ 8 t11 <|
    nnX σ 1 (some th) fun q12 =>
    bndX (X_X0_wrongBy G σ q12 t11 x1) false wx_X0_wrongBy σ fun t13 σ14 =>
    if t13 = 0 then
      X_X0_fits_L67 TL SL G th k20 σ14 x1 x2 x4 x3 ((1 : Int32) <<< (x4 &&& 31))
    else
      X_X0_fits_L67 TL SL G th k20 σ14 x1 x2 x4 x3 (0 : Int32)
def X_X0_fits_L20 (TL : Nat) (SL : Nat) (G : Nat) (th : Nat)  : Nat → XS → Int32 → Option Nat → Int32 → Int32 → Option (Int32 × XS)
  | 0, _, _, _, _, _ => none
  | n + 1, σ, x1, x2, x3, x4 => X_X0_fits_B20 TL SL G th  (X_X0_fits_L20 TL SL G th  n) σ x1 x2 x3 x4
def X_X0_fits (TL : Nat) (SL : Nat) (G : Nat) (σ0 : XS) (th : Nat) (a0 : Int32) : Option (Int32 × XS) :=
  gxR σ0 1 0 (some th) fun t1 =>
  nnX σ0 2 t1 fun q2 =>
  bndX (X_X1_keep TL SL G σ0 q2 ) true wx_X1_keep σ0 fun t3 σ4 =>
  gxR σ4 1 0 (some th) fun t5 =>
  nnX σ4 2 t5 fun q6 =>
  bndY (X_X1_begin G σ4 q6 ) false wx_X1_begin σ4 fun σ7 =>
  X_X0_fits_L20 TL SL G th  G σ7 a0 t3 (0 : Int32) (0 : Int32)

/-! TubBites.nearest -/
def wx_X0_nearest : XW := ([35, 391, 392, 393, 394, 395, 423, 424, 425], [], [], true, false)
def X_X0_nearest_B45 (TL : Nat) (SL : Nat) (G : Nat) (th : Nat) (k45 : XS → Int32 → Int32 → Option Nat → Int32 → Int32 → Option (Int32 × XS)) (σ : XS) (x1 : Int32) (x2 : Int32) (x3 : Option Nat) (x4 : Int32) (x5 : Int32) : Option (Int32 × XS) :=
  gxR σ 1 0 (some th) fun t1 =>
  gxR σ 2 42 t1 fun t2 =>
  nnX σ 3 t2 fun q3 =>
  bnd (X_J2_size  σ q3 ) fun t4 =>
  if t4 ≤ x5 then
    gxR σ 1 0 (some th) fun t5 =>
    gxR σ 2 42 t5 fun t6 =>
    nnX σ 3 t6 fun q7 =>
    bnd (X_J2_get  σ q7 x4) fun t8 =>
    cxC σ 8 t8 <|
    nnX σ 1 (some th) fun q9 =>
    bndX (X_X0_wrongBy G σ q9 t8 x2) false wx_X0_wrongBy σ fun t10 σ11 =>
    gxR σ11 1 0 (some th) fun t12 =>
    nnX σ11 2 t12 fun q13 =>
    bndY (X_X1_bring G σ11 q13 x3) false wx_X1_bring σ11 fun σ14 =>
    if x1 = 0 then
      some (x4, σ14)
    else
      some (t10, σ14)
  else
    gxR σ 1 0 (some th) fun t15 =>
    gxR σ 2 42 t15 fun t16 =>
    nnX σ 3 t16 fun q17 =>
    bnd (X_J2_get  σ q17 x5) fun t18 =>
    cxC σ 8 t18 <|
    nnX σ 1 (some th) fun q19 =>
    bndX (X_X0_wrongBy G σ q19 t18 x2) false wx_X0_wrongBy σ fun t20 σ21 =>
    gxR σ21 1 0 (some th) fun t22 =>
    gxR σ21 2 42 t22 fun t23 =>
    nnX σ21 3 t23 fun q24 =>
    bnd (X_J2_get  σ21 q24 x4) fun t25 =>
    cxC σ21 8 t25 <|
    nnX σ21 1 (some th) fun q26 =>
    bndX (X_X0_wrongBy G σ21 q26 t25 x2) false wx_X0_wrongBy σ21 fun t27 σ28 =>
    if t27 ≤ t20 then
      k45 σ28 x1 x2 x3 x4 (x5 + (1 : Int32))
    else
      k45 σ28 x1 x2 x3 x5 (x5 + (1 : Int32))
def X_X0_nearest_L45 (TL : Nat) (SL : Nat) (G : Nat) (th : Nat)  : Nat → XS → Int32 → Int32 → Option Nat → Int32 → Int32 → Option (Int32 × XS)
  | 0, _, _, _, _, _, _ => none
  | n + 1, σ, x1, x2, x3, x4, x5 => X_X0_nearest_B45 TL SL G th  (X_X0_nearest_L45 TL SL G th  n) σ x1 x2 x3 x4 x5
def X_X0_nearest (TL : Nat) (SL : Nat) (G : Nat) (σ0 : XS) (th : Nat) (a0 : Int32) (a1 : Int32) : Option (Int32 × XS) :=
  bnd (X_X0_isIn  σ0 a0 (0 : Int32) (1 : Int32)) fun t1 =>
  if t1 = 0 then
    some ((-1 : Int32), σ0)
  else
    gxR σ0 1 0 (some th) fun t2 =>
    gxR σ0 2 42 t2 fun t3 =>
    nnX σ0 3 t3 fun q4 =>
    bnd (X_J2_isEmpty  σ0 q4 ) fun t5 =>
    if t5 = 0 then
      gxR σ0 1 0 (some th) fun t6 =>
      nnX σ0 2 t6 fun q7 =>
      bndX (X_X1_keep TL SL G σ0 q7 ) true wx_X1_keep σ0 fun t8 σ9 =>
      gxR σ9 1 0 (some th) fun t10 =>
      nnX σ9 2 t10 fun q11 =>
      bndY (X_X1_begin G σ9 q11 ) false wx_X1_begin σ9 fun σ12 =>
      X_X0_nearest_L45 TL SL G th  G σ12 a0 a1 t8 (0 : Int32) (1 : Int32)
    else
      some ((-1 : Int32), σ0)

/-! TubBites.chance -/
def wx_X0_chance : XW := ([], [], [], false, false)
def X_X0_chance_B5 (G : Nat) (σ0 : XS) (th : Nat) (k5 : Int32 → Int64 → Int32 → Option Int64) (x1 : Int32) (x2 : Int64) (x4 : Int32) : Option Int64 :=
  gxR σ0 1 14 (some th) fun t1 =>
  nnX σ0 3 t1 fun q2 =>
  bnd (X_J2_size  σ0 q2 ) fun t3 =>
  if t3 ≤ x4 then
    some x2
  else
    gxR σ0 1 14 (some th) fun t4 =>
    nnX σ0 3 t4 fun q5 =>
    bnd (X_J2_get  σ0 q5 x4) fun t6 =>
    cxC σ0 15 t6 <|
    nnX σ0 15 t6 fun q7 =>
    bnd (X_X15_counts  σ0 q7 x1) fun t8 =>
    if t8 = 0 then
      k5 x1 x2 (x4 + (1 : Int32))
    else
      gxR σ0 1 14 (some th) fun t9 =>
      nnX σ0 3 t9 fun q10 =>
      bnd (X_J2_get  σ0 q10 x4) fun t11 =>
      cxC σ0 15 t11 <|
      gxI σ0 15 449 t11 fun t12 =>
      bnd (X_J13_bitCount  σ0 t12) fun t13 =>
      if (lg_cmp (x2 * (t13.toInt64)) (1000000000000000 : Int64)) ≤ 0 then
        k5 x1 (x2 * (t13.toInt64)) (x4 + (1 : Int32))
      else
        k5 x1 (1000000000000000 : Int64) (x4 + (1 : Int32))
def X_X0_chance_L5 (G : Nat) (σ0 : XS) (th : Nat)  : Nat → Int32 → Int64 → Int32 → Option Int64
  | 0, _, _, _ => none
  | n + 1, x1, x2, x4 => X_X0_chance_B5 G σ0 th  (X_X0_chance_L5 G σ0 th  n) x1 x2 x4
def X_X0_chance (G : Nat) (σ0 : XS) (th : Nat) (a0 : Int32) : Option Int64 :=
  X_X0_chance_L5 G σ0 th  G a0 (1 : Int64) (0 : Int32)

/-! TubBites.image -/
def wx_X0_image : XW := ([], [128], [], true, false)
def X_X0_image (TL : Nat) (SL : Nat) (G : Nat) (σ0 : XS) (th : Nat) (a0 : Int32) : Option (Int32 × XS) :=
  bnd (X_X0_isIn  σ0 a0 (0 : Int32) (2 : Int32)) fun t1 =>
  if t1 = 0 then
    some ((-1 : Int32), σ0)
  else
    gxR σ0 1 15 (some th) fun t2 =>
    rxQ σ0 t2 a0 fun t3 =>
    gxR σ0 1 0 (some th) fun t4 =>
    nnX σ0 2 t4 fun q5 =>
    bndX (X_X1_keep TL SL G σ0 q5 ) true wx_X1_keep σ0 fun t6 σ7 =>
    sxR σ7 5 128 t3 t6 fun σ8 =>
    gxR σ8 1 0 (some th) fun t9 =>
    nnX σ8 2 t9 fun q10 =>
    bnd (X_X1_left G σ8 q10 ) fun t11 =>
    some (t11, σ8)

/-! TubBites.back -/
def wx_X0_back : XW := ([35, 64, 66, 391, 392, 393, 394, 395, 423, 424, 425], [], [], true, true)
def X_X0_back (G : Nat) (σ0 : XS) (th : Nat) (a0 : Int32) : Option (Int32 × XS) :=
  bnd (X_X0_isIn  σ0 a0 (0 : Int32) (2 : Int32)) fun t1 =>
  if t1 = 0 then
    some ((-1 : Int32), σ0)
  else
    gxR σ0 1 15 (some th) fun t2 =>
    rxQ σ0 t2 a0 fun t3 =>
    gxR σ0 5 128 t3 fun t4 =>
    if t4 = none then
      some ((-1 : Int32), σ0)
    else
      gxR σ0 1 0 (some th) fun t5 =>
      gxR σ0 1 15 (some th) fun t6 =>
      rxQ σ0 t6 a0 fun t7 =>
      gxR σ0 5 128 t7 fun t8 =>
      nnX σ0 2 t5 fun q9 =>
      bndY (X_X1_bring G σ0 q9 t8) false wx_X1_bring σ0 fun σ10 =>
      gxR σ10 1 6 (some th) fun t11 =>
      nnX σ10 3 t11 fun q12 =>
      bndY (X_J2_clear G σ10 q12 ) false wx_J2_clear σ10 fun σ13 =>
      gxR σ13 1 7 (some th) fun t14 =>
      nnX σ13 3 t14 fun q15 =>
      bndY (X_J2_clear G σ13 q15 ) false wx_J2_clear σ13 fun σ16 =>
      gxR σ16 1 0 (some th) fun t17 =>
      nnX σ16 2 t17 fun q18 =>
      bnd (X_X1_left G σ16 q18 ) fun t19 =>
      some (t19, σ16)

/-! TubBites.about -/
def wx_X0_about : XW := ([], [], [], false, false)
def X_X0_about (G : Nat) (σ0 : XS) (th : Nat) (a0 : Int32) : Option Int32 :=
  if a0 < 0 then
    some (-1 : Int32)
  else if 13 < a0 then
    some (-1 : Int32)
  else if a0 = 0 then
    gxR σ0 1 0 (some th) fun t1 =>
    gxI σ0 2 32 t1 fun t2 =>
    some t2
  else if a0 = 1 then
    gxR σ0 1 0 (some th) fun t3 =>
    gxI σ0 2 33 t3 fun t4 =>
    some t4
  else if a0 = 2 then
    gxR σ0 1 0 (some th) fun t5 =>
    gxR σ0 2 43 t5 fun t6 =>
    nnX σ0 3 t6 fun q7 =>
    bnd (X_J2_size  σ0 q7 ) fun t8 =>
    some t8
  else if a0 = 3 then
    gxR σ0 1 0 (some th) fun t9 =>
    nnX σ0 2 t9 fun q10 =>
    bnd (X_X1_left G σ0 q10 ) fun t11 =>
    some t11
  else if a0 = 4 then
    gxR σ0 1 0 (some th) fun t12 =>
    gxR σ0 2 44 t12 fun t13 =>
    nnX σ0 3 t13 fun q14 =>
    bnd (X_J2_size  σ0 q14 ) fun t15 =>
    some t15
  else if a0 = 5 then
    gxR σ0 1 0 (some th) fun t16 =>
    gxR σ0 2 42 t16 fun t17 =>
    nnX σ0 3 t17 fun q18 =>
    bnd (X_J2_size  σ0 q18 ) fun t19 =>
    some t19
  else if a0 = 6 then
    gxR σ0 1 0 (some th) fun t20 =>
    gxI σ0 2 35 t20 fun t21 =>
    some t21
  else if a0 = 7 then
    gxR σ0 1 6 (some th) fun t22 =>
    nnX σ0 3 t22 fun q23 =>
    bnd (X_J2_size  σ0 q23 ) fun t24 =>
    some t24
  else if a0 = 8 then
    gxR σ0 1 7 (some th) fun t25 =>
    nnX σ0 3 t25 fun q26 =>
    bnd (X_J2_size  σ0 q26 ) fun t27 =>
    some t27
  else if a0 = 9 then
    gxR σ0 1 14 (some th) fun t28 =>
    nnX σ0 3 t28 fun q29 =>
    bnd (X_J2_size  σ0 q29 ) fun t30 =>
    some t30
  else if a0 = 10 then
    gxI σ0 1 3 (some th) fun t31 =>
    some t31
  else if a0 = 11 then
    gxI σ0 1 2 (some th) fun t32 =>
    some t32
  else if a0 = 12 then
    gxR σ0 1 0 (some th) fun t33 =>
    gxI σ0 2 36 t33 fun t34 =>
    some t34
  else
    gxI σ0 1 12 (some th) fun t35 =>
    some t35

/-! TubBites$Apple.<init> -/
def wx_X13_init : XW := ([389, 393], [], [384], false, false)
def X_X13_init (σ0 : XS) (th : Nat) (a0 : Int64) : Option XS :=
  sxI σ0 13 389 (some th) (1 : Int32) fun σ1 =>
  sxI σ1 13 393 (some th) (-1 : Int32) fun σ2 =>
  sxL σ2 13 384 (some th) a0 fun σ3 =>
  some σ3

/-! TubBites$Bobber.<init> -/
def wx_X14_init : XW := ([], [426], [416], false, false)
def X_X14_init (TL : Nat) (SL : Nat) (σ0 : XS) (th : Nat) (a0 : Int64) : Option XS :=
  nwA TL SL σ0 100 (15 : Int32) fun q1 σ2 =>
  sxR σ2 14 426 (some th) q1 fun σ3 =>
  sxL σ3 14 416 (some th) a0 fun σ4 =>
  some σ4

/-! TubBites$Part.<init> -/
def wx_X8_init : XW := ([], [], [], false, false)
def X_X8_init (σ0 : XS) (th : Nat) : Option XS :=
  some σ0

/-! TubBites$Named.<init> -/
def wx_X11_init : XW := ([320], [], [], false, false)
def X_X11_init (σ0 : XS) (th : Nat) (a0 : Int32) : Option XS :=
  nnO (some th) fun q1 =>
  bndY (X_X8_init  σ0 q1 ) false wx_X8_init σ0 fun σ2 =>
  sxI σ2 11 320 (some th) a0 fun σ3 =>
  some σ3

/-! TubBites$Not.<init> -/
def wx_X9_init : XW := ([], [256], [], false, false)
def X_X9_init (σ0 : XS) (th : Nat) (a0 : Option Nat) : Option XS :=
  nnO (some th) fun q1 =>
  bndY (X_X8_init  σ0 q1 ) false wx_X8_init σ0 fun σ2 =>
  sxR σ2 9 256 (some th) a0 fun σ3 =>
  some σ3

/-! TubBites$Numeral.<init> -/
def wx_X10_init : XW := ([288], [], [], false, false)
def X_X10_init (σ0 : XS) (th : Nat) (a0 : Int32) : Option XS :=
  nnO (some th) fun q1 =>
  bndY (X_X8_init  σ0 q1 ) false wx_X8_init σ0 fun σ2 =>
  sxI σ2 10 288 (some th) a0 fun σ3 =>
  some σ3

/-! TubBites$Rule.<init> -/
def wx_X7_init : XW := ([], [225], [224], false, false)
def X_X7_init (σ0 : XS) (th : Nat) (a0 : Int64) (a1 : Option Nat) : Option XS :=
  sxL σ0 8 224 (some th) a0 fun σ1 =>
  sxR σ1 8 225 (some th) a1 fun σ2 =>
  some σ2

/-! TubBites$Two.<init> -/
def wx_X12_init : XW := ([352], [353, 354], [], false, false)
def X_X12_init (σ0 : XS) (th : Nat) (a0 : Int32) (a1 : Option Nat) (a2 : Option Nat) : Option XS :=
  nnO (some th) fun q1 =>
  bndY (X_X8_init  σ0 q1 ) false wx_X8_init σ0 fun σ2 =>
  sxI σ2 12 352 (some th) a0 fun σ3 =>
  sxR σ3 12 353 (some th) a1 fun σ4 =>
  sxR σ4 12 354 (some th) a2 fun σ5 =>
  some σ5
