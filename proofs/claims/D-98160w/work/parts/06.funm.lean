/-! the functions of the model: printed by genm.py -/
/-! four -/
def wr_four : WS := ([1], [0], [], [])
def M_four_B3 (G : Nat) (k3 : MS → Int32 → Int32 → Option MS) (σ : MS) (x1 : Int32) (x2 : Int32) : Option MS :=
  if x2 < 0 then
    some σ
  else
    wrA σ 0 (gI σ 1) ((x1 >>> (x2 &&& 31)) &&& (255 : Int32)) fun σ1 =>
    vlS (sI σ1 1 ((gI σ1 1) + (1 : Int32))) fun σ2 =>
    k3 σ2 x1 (x2 + (-8 : Int32))
def M_four_L3 (G : Nat)  : Nat → MS → Int32 → Int32 → Option MS
  | 0, _, _, _ => none
  | n + 1, σ, x1, x2 => M_four_B3 G  (M_four_L3 G  n) σ x1 x2
def M_four (G : Nat) (σ0 : MS) (a0 : Int32) : Option MS :=
  M_four_L3 G  G σ0 a0 (24 : Int32)

/-! feed -/
def wr_feed : WS := ([1], [0], [], [])
def M_feed (G : Nat) (σ0 : MS) (a0 : Int32) (a1 : Int32) (a2 : Int32) (a3 : Int32) (a4 : Int32) : Option (Int32 × MS) :=
  if ((gI σ0 1) + (20 : Int32)) ≤ (1600 : Int32) then
    bndV (M_four G σ0 a0) wr_four σ0 fun σ1 =>
    bndV (M_four G σ1 a1) wr_four σ1 fun σ2 =>
    bndV (M_four G σ2 a2) wr_four σ2 fun σ3 =>
    bndV (M_four G σ3 a3) wr_four σ3 fun σ4 =>
    bndV (M_four G σ4 a4) wr_four σ4 fun σ5 =>
    some ((gI σ5 1), σ5)
  else
    some ((-1 : Int32), σ0)

/-! end -/
def wr_end : WS := ([1], [], [], [])
def M_end (σ0 : MS) (a0 : Int32) : Option (Int32 × MS) :=
  if a0 < 0 then
    some ((-1 : Int32), σ0)
  else
    if a0 ≤ (gI σ0 1) then
      vlS (sI σ0 1 a0) fun σ1 =>
      some (a0, σ1)
    else
      some ((-1 : Int32), σ0)

/-! here -/
def wr_here : WS := ([], [], [], [])
def M_here (σ0 : MS) (a0 : Int32) : Option Int32 :=
  if (gI σ0 5) ≤ ((gI σ0 4) + a0) then
    some (-1 : Int32)
  else
    rdA σ0 0 ((gI σ0 4) + a0) fun t1 =>
    some t1

/-! isLetter -/
def wr_isLetter : WS := ([], [], [], [])
def M_isLetter (a0 : Int32) : Option Int32 :=
  if a0 < (97 : Int32) then
    some (0 : Int32)
  else
    if (122 : Int32) < a0 then
      some (0 : Int32)
    else
      some (1 : Int32)

/-! isDigit -/
def wr_isDigit : WS := ([], [], [], [])
def M_isDigit (a0 : Int32) : Option Int32 :=
  if a0 < (48 : Int32) then
    some (0 : Int32)
  else
    if (57 : Int32) < a0 then
      some (0 : Int32)
    else
      some (1 : Int32)

/-! isSign -/
def wr_isSign : WS := ([], [], [], [])
def M_isSign (a0 : Int32) : Option Int32 :=
  if a0 = (59 : Int32) then
    some (1 : Int32)
  else
    if a0 = (40 : Int32) then
      some (1 : Int32)
    else
      if a0 = (41 : Int32) then
        some (1 : Int32)
      else
        if a0 = (60 : Int32) then
          some (1 : Int32)
        else
          if a0 = (62 : Int32) then
            some (1 : Int32)
          else
            if a0 = (61 : Int32) then
              some (1 : Int32)
            else
              if a0 = (43 : Int32) then
                some (1 : Int32)
              else
                if a0 = (45 : Int32) then
                  some (1 : Int32)
                else
                  if a0 = (42 : Int32) then
                    some (1 : Int32)
                  else
                    if a0 = (47 : Int32) then
                      some (1 : Int32)
                    else
                      if a0 = (37 : Int32) then
                        some (1 : Int32)
                      else
                        some (0 : Int32)

/-! token -/
def wr_token : WS := ([4, 6, 7, 8], [], [9], [])
def M_token_L232 (G : Nat)  (σ : MS) (x2 : Int32) : Option MS :=
  if (gI σ 6) = (3 : Int32) then
    some σ
  else
    vlS (sI σ 4 ((gI σ 4) + x2)) fun σ1 =>
    some σ1
def M_token_L229 (G : Nat)  (σ : MS) (x2 : Int32) (s1 : Int32) : Option MS :=
  vlS (sI σ 6 s1) fun σ1 =>
  M_token_L232 G  σ1 x2
def M_token_L208 (G : Nat)  (σ : MS) (x2 : Int32) (s1 : Int32) : Option MS :=
  vlS (sI σ 6 s1) fun σ1 =>
  M_token_L232 G  σ1 x2
def M_token_L203 (G : Nat)  (σ : MS) (x2 : Int32) : Option MS :=
  M_token_L208 G  σ x2 (3 : Int32)
def M_token_B144 (G : Nat) (k144 : MS → Int32 → Option MS) (σ : MS) (x2 : Int32) : Option MS :=
  bnd (M_here σ x2) fun t1 =>
  bnd (M_isDigit t1) fun t2 =>
  if t2 = 0 then
    if (4 : Int32) < x2 then
      M_token_L203 G  σ x2
    else
      bnd (M_here σ x2) fun t3 =>
      bnd (M_isLetter t3) fun t4 =>
      if t4 = 0 then
        M_token_L208 G  σ x2 (2 : Int32)
      else
        M_token_L203 G  σ x2
  else
    if (4 : Int32) ≤ x2 then
      k144 σ (x2 + (1 : Int32))
    else
      bnd (M_here σ x2) fun t5 =>
      vlS (sI σ 8 ((((10 : Int32) * (gI σ 8)) + t5) - (48 : Int32))) fun σ6 =>
      k144 σ6 (x2 + (1 : Int32))
def M_token_L144 (G : Nat)  : Nat → MS → Int32 → Option MS
  | 0, _, _ => none
  | n + 1, σ, x2 => M_token_B144 G  (M_token_L144 G  n) σ x2
def M_token_L131 (G : Nat)  (σ : MS) (x2 : Int32) (s1 : Int32) : Option MS :=
  vlS (sI σ 6 s1) fun σ1 =>
  M_token_L232 G  σ1 x2
def M_token_B78 (G : Nat) (k78 : MS → Int32 → Option MS) (σ : MS) (x2 : Int32) : Option MS :=
  bnd (M_here σ x2) fun t1 =>
  bnd (M_isLetter t1) fun t2 =>
  if t2 = 0 then
    if x2 ≤ (8 : Int32) then
      M_token_L131 G  σ x2 (1 : Int32)
    else
      M_token_L131 G  σ x2 (3 : Int32)
  else
    if (8 : Int32) ≤ x2 then
      k78 σ (x2 + (1 : Int32))
    else
      bnd (M_here σ x2) fun t3 =>
      vlS (sL σ 9 (((gL σ 9) <<< ((8 : Int32).toInt64 &&& 63)) ||| (t3.toInt64))) fun σ4 =>
      k78 σ4 (x2 + (1 : Int32))
def M_token_L78 (G : Nat)  : Nat → MS → Int32 → Option MS
  | 0, _, _ => none
  | n + 1, σ, x2 => M_token_B78 G  (M_token_L78 G  n) σ x2
def M_token_L20 (G : Nat) (k0 : MS → Option MS) (σ : MS) : Option MS :=
  vlS (sI σ 4 ((gI σ 4) + (1 : Int32))) fun σ1 =>
  k0 σ1
def M_token_B0 (G : Nat) (k0 : MS → Option MS) (σ : MS) : Option MS :=
  bnd (M_here σ (0 : Int32)) fun t1 =>
  if t1 = (32 : Int32) then
    M_token_L20 G k0 σ
  else
    bnd (M_here σ (0 : Int32)) fun t2 =>
    if t2 = (10 : Int32) then
      M_token_L20 G k0 σ
    else
      vlS (sI σ 7 (gI σ 4)) fun σ3 =>
      bnd (M_here σ3 (0 : Int32)) fun t4 =>
      vlS (sL σ3 9 (0 : Int64)) fun σ5 =>
      vlS (sI σ5 8 (0 : Int32)) fun σ6 =>
      if 0 ≤ t4 then
        bnd (M_isLetter t4) fun t7 =>
        if t7 = 0 then
          bnd (M_isDigit t4) fun t8 =>
          if t8 = 0 then
            bnd (M_isSign t4) fun t9 =>
            if t9 = 0 then
              M_token_L229 G  σ6 (1 : Int32) (3 : Int32)
            else
              M_token_L229 G  σ6 (1 : Int32) t4
          else
            M_token_L144 G  G σ6 (0 : Int32)
        else
          M_token_L78 G  G σ6 (0 : Int32)
      else
        vlS (sI σ6 6 (0 : Int32)) fun σ10 =>
        M_token_L232 G  σ10 (0 : Int32)
def M_token_L0 (G : Nat)  : Nat → MS → Option MS
  | 0, _ => none
  | n + 1, σ => M_token_B0 G  (M_token_L0 G  n) σ
def M_token (G : Nat) (σ0 : MS) : Option MS :=
  M_token_L0 G  G σ0

/-! wrong -/
def wr_wrong : WS := ([2, 3], [], [], [])
def M_wrong_L22   (σ : MS) (s1 : Int32) : Option MS :=
  vlS (sI σ 2 s1) fun σ1 =>
  vlS (sI σ1 3 (gI σ1 7)) fun σ2 =>
  some σ2
def M_wrong (σ0 : MS) (a0 : Int32) : Option MS :=
  if (gI σ0 2) ≤ 0 then
    if (gI σ0 6) = (3 : Int32) then
      M_wrong_L22   σ0 (1 : Int32)
    else
      M_wrong_L22   σ0 a0
  else
    some σ0

/-! wrongAt -/
def wr_wrongAt : WS := ([2, 3], [], [], [])
def M_wrongAt (σ0 : MS) (a0 : Int32) (a1 : Int32) : Option MS :=
  if (gI σ0 2) ≤ 0 then
    vlS (sI σ0 2 a0) fun σ1 =>
    vlS (sI σ1 3 a1) fun σ2 =>
    some σ2
  else
    some σ0

/-! isWord -/
def wr_isWord : WS := ([], [], [], [])
def M_isWord (σ0 : MS) (a0 : Int64) : Option Int32 :=
  if (gI σ0 6) = (1 : Int32) then
    if (lg_cmp (gL σ0 9) a0) = 0 then
      some (1 : Int32)
    else
      some (0 : Int32)
  else
    some (0 : Int32)

/-! isOwn -/
def wr_isOwn : WS := ([], [], [], [])
def M_isOwn (σ0 : MS) : Option Int32 :=
  if (lg_cmp (gL σ0 9) (7632226 : Int64)) = 0 then
    some (1 : Int32)
  else
    if (lg_cmp (gL σ0 9) (25209 : Int64)) = 0 then
      some (1 : Int32)
    else
      if (lg_cmp (gL σ0 9) (1868850291 : Int64)) = 0 then
        some (1 : Int32)
      else
        if (lg_cmp (gL σ0 9) (1718773093 : Int64)) = 0 then
          some (1 : Int32)
        else
          if (lg_cmp (gL σ0 9) (495873780843 : Int64)) = 0 then
            some (1 : Int32)
          else
            if (lg_cmp (gL σ0 9) (2002873452 : Int64)) = 0 then
              some (1 : Int32)
            else
              if (lg_cmp (gL σ0 9) (113741193899620 : Int64)) = 0 then
                some (1 : Int32)
              else
                if (lg_cmp (gL σ0 9) (1920298085 : Int64)) = 0 then
                  some (1 : Int32)
                else
                  if (lg_cmp (gL σ0 9) (418498243685 : Int64)) = 0 then
                    some (1 : Int32)
                  else
                    if (lg_cmp (gL σ0 9) (24948 : Int64)) = 0 then
                      some (1 : Int32)
                    else
                      if (lg_cmp (gL σ0 9) (1936292453 : Int64)) = 0 then
                        some (1 : Int32)
                      else
                        if (lg_cmp (gL σ0 9) (1936680564 : Int64)) = 0 then
                          some (1 : Int32)
                        else
                          if (lg_cmp (gL σ0 9) (1668245870 : Int64)) = 0 then
                            some (1 : Int32)
                          else
                            if (lg_cmp (gL σ0 9) (108230531507570 : Int64)) = 0 then
                              some (1 : Int32)
                            else
                              if (lg_cmp (gL σ0 9) (491327153000 : Int64)) = 0 then
                                some (1 : Int32)
                              else
                                if (lg_cmp (gL σ0 9) (108243466679400 : Int64)) = 0 then
                                  some (1 : Int32)
                                else
                                  if (lg_cmp (gL σ0 9) (470021403752 : Int64)) = 0 then
                                    some (1 : Int32)
                                  else
                                    if (lg_cmp (gL σ0 9) (1685217655 : Int64)) = 0 then
                                      some (1 : Int32)
                                    else
                                      if (lg_cmp (gL σ0 9) (6709618 : Int64)) = 0 then
                                        some (1 : Int32)
                                      else
                                        if (lg_cmp (gL σ0 9) (500135716211 : Int64)) = 0 then
                                          some (1 : Int32)
                                        else
                                          if (lg_cmp (gL σ0 9) (1802071652 : Int64)) = 0 then
                                            some (1 : Int32)
                                          else
                                            if (lg_cmp (gL σ0 9) (1818583406 : Int64)) = 0 then
                                              some (1 : Int32)
                                            else
                                              if (lg_cmp (gL σ0 9) (1651078245 : Int64)) = 0 then
                                                some (1 : Int32)
                                              else
                                                if (lg_cmp (gL σ0 9) (6385252 : Int64)) = 0 then
                                                  some (1 : Int32)
                                                else
                                                  if (lg_cmp (gL σ0 9) (28530 : Int64)) = 0 then
                                                    some (1 : Int32)
                                                  else
                                                    if (lg_cmp (gL σ0 9) (7237492 : Int64)) = 0 then
                                                      some (1 : Int32)
                                                    else
                                                      some (0 : Int32)

/-! isName -/
def wr_isName : WS := ([], [], [], [])
def M_isName (σ0 : MS) : Option Int32 :=
  if (gI σ0 6) = (1 : Int32) then
    bnd (M_isOwn σ0) fun t1 =>
    if t1 = 0 then
      some (1 : Int32)
    else
      some (0 : Int32)
  else
    some (0 : Int32)

/-! takes -/
def wr_takes : WS := ([4, 6, 7, 8], [], [9], [])
def M_takes_L20 (G : Nat)  (σ : MS) (s0 : Int32) : Option (Int32 × MS) :=
  if s0 = 0 then
    bzI s0 <|
    some (s0, σ)
  else
    bndV (M_token G σ) wr_token σ fun σ1 =>
    bzI s0 <|
    some (s0, σ1)
def M_takes_L19 (G : Nat)  (σ : MS) : Option (Int32 × MS) :=
  M_takes_L20 G  σ (0 : Int32)
def M_takes (G : Nat) (σ0 : MS) (a0 : Int64) : Option (Int32 × MS) :=
  if (gI σ0 2) = 0 then
    bnd (M_isWord σ0 a0) fun t1 =>
    if t1 = 0 then
      M_takes_L19 G  σ0
    else
      M_takes_L20 G  σ0 (1 : Int32)
  else
    M_takes_L19 G  σ0

/-! want -/
def wr_want : WS := ([2, 3, 4, 6, 7, 8], [], [9], [])
def M_want (G : Nat) (σ0 : MS) (a0 : Int64) : Option MS :=
  if (gI σ0 2) ≤ 0 then
    bnd (M_isWord σ0 a0) fun t1 =>
    if t1 = 0 then
      bndV (M_wrong σ0 (2 : Int32)) wr_wrong σ0 fun σ3 =>
      some σ3
    else
      bndV (M_token G σ0) wr_token σ0 fun σ2 =>
      some σ2
  else
    some σ0

/-! toldNumber -/
def wr_toldNumber : WS := ([2, 3, 4, 6, 7, 8], [], [9], [])
def M_toldNumber_L46 (G : Nat)  (σ : MS) : Option (Int32 × MS) :=
  if (gI σ 2) = 0 then
    bndV (M_token G σ) wr_token σ fun σ1 =>
    some ((gI σ 8), σ1)
  else
    some ((gI σ 8), σ)
def M_toldNumber_L41 (G : Nat)  (σ : MS) : Option (Int32 × MS) :=
  bndV (M_wrong σ (4 : Int32)) wr_wrong σ fun σ1 =>
  M_toldNumber_L46 G  σ1
def M_toldNumber (G : Nat) (σ0 : MS) (a0 : Int32) (a1 : Int32) : Option (Int32 × MS) :=
  if (gI σ0 2) ≤ 0 then
    if (gI σ0 6) = (2 : Int32) then
      if (gI σ0 8) < a0 then
        M_toldNumber_L41 G  σ0
      else
        if (gI σ0 8) ≤ a1 then
          M_toldNumber_L46 G  σ0
        else
          M_toldNumber_L41 G  σ0
    else
      bndV (M_wrong σ0 (2 : Int32)) wr_wrong σ0 fun σ1 =>
      M_toldNumber_L46 G  σ1
  else
    some ((0 : Int32), σ0)

/-! told -/
def wr_told : WS := ([2, 3, 4, 6, 7, 8], [], [9], [])
def M_told (G : Nat) (σ0 : MS) (a0 : Int64) (a1 : Int32) (a2 : Int32) : Option (Int32 × MS) :=
  bndV (M_want G σ0 a0) wr_want σ0 fun σ1 =>
  bndW (M_toldNumber G σ1 a1 a2) wr_toldNumber σ1 fun t3 σ2 =>
  some (t3, σ2)

/-! add -/
def wr_add : WS := ([], [10, 11, 12], [], [])
def M_add (σ0 : MS) (a0 : Int32) (a1 : Int32) : Option MS :=
  rdA σ0 12 (gI σ0 18) fun t1 =>
  wrA σ0 10 (((320 : Int32) * (gI σ0 18)) + t1) a0 fun σ2 =>
  rdA σ2 12 (gI σ2 18) fun t3 =>
  wrA σ2 11 (((320 : Int32) * (gI σ2 18)) + t3) a1 fun σ4 =>
  rdA σ4 12 (gI σ4 18) fun t5 =>
  wrA σ4 12 (gI σ4 18) (t5 + (1 : Int32)) fun σ6 =>
  some σ6

/-! tight -/
def wr_tight : WS := ([], [], [], [])
def M_tight (a0 : Int32) : Option Int32 :=
  if a0 = 21 then
    some (3 : Int32)
  else if a0 = 38 then
    some (2 : Int32)
  else if a0 = 43 then
    some (5 : Int32)
  else if a0 = 45 then
    some (5 : Int32)
  else if a0 = 60 then
    some (4 : Int32)
  else if a0 = 61 then
    some (4 : Int32)
  else if a0 = 62 then
    some (4 : Int32)
  else if a0 = 124 then
    some (1 : Int32)
  else
    some (6 : Int32)

/-! close -/
def wr_close : WS := ([19, 23], [10, 11, 12], [], [])
def M_close_B0 (G : Nat) (k0 : MS → Int32 → Option MS) (σ : MS) (x1 : Int32) : Option MS :=
  if (gI σ 19) ≤ 0 then
    some σ
  else
    rdA σ 16 ((gI σ 19) - (1 : Int32)) fun t1 =>
    if t1 = (20 : Int32) then
      some σ
    else
      rdA σ 16 ((gI σ 19) - (1 : Int32)) fun t2 =>
      bnd (M_tight t2) fun t3 =>
      if t3 < x1 then
        some σ
      else
        vlS (sI σ 19 ((gI σ 19) - (1 : Int32))) fun σ4 =>
        rdA σ4 16 (gI σ4 19) fun t5 =>
        if t5 = (21 : Int32) then
          bndV (M_add σ4 (2 : Int32) (0 : Int32)) wr_add σ4 fun σ8 =>
          vlS (sI σ8 23 ((gI σ8 23) - (1 : Int32))) fun σ9 =>
          k0 σ9 x1
        else
          rdA σ4 16 (gI σ4 19) fun t6 =>
          bndV (M_add σ4 (3 : Int32) t6) wr_add σ4 fun σ7 =>
          k0 σ7 x1
def M_close_L0 (G : Nat)  : Nat → MS → Int32 → Option MS
  | 0, _, _ => none
  | n + 1, σ, x1 => M_close_B0 G  (M_close_L0 G  n) σ x1
def M_close (G : Nat) (σ0 : MS) (a0 : Int32) : Option MS :=
  M_close_L0 G  G σ0 a0

/-! hasRelation -/
def wr_hasRelation : WS := ([], [], [], [])
def M_hasRelation_L41 (G : Nat) (σ0 : MS)  (x1 : Int32) : Option Int32 :=
  if x1 < 0 then
    some (0 : Int32)
  else
    rdA σ0 16 x1 fun t1 =>
    if t1 = (20 : Int32) then
      some (0 : Int32)
    else
      rdA σ0 16 x1 fun t2 =>
      bnd (M_tight t2) fun t3 =>
      if t3 = (4 : Int32) then
        some (1 : Int32)
      else
        some (0 : Int32)
def M_hasRelation_B7 (G : Nat) (σ0 : MS) (k7 : Int32 → Option Int32) (x1 : Int32) : Option Int32 :=
  if x1 < 0 then
    M_hasRelation_L41 G σ0  x1
  else
    rdA σ0 16 x1 fun t1 =>
    if t1 = (20 : Int32) then
      M_hasRelation_L41 G σ0  x1
    else
      rdA σ0 16 x1 fun t2 =>
      bnd (M_tight t2) fun t3 =>
      if t3 ≤ (4 : Int32) then
        M_hasRelation_L41 G σ0  x1
      else
        k7 (x1 + (-1 : Int32))
def M_hasRelation_L7 (G : Nat) (σ0 : MS)  : Nat → Int32 → Option Int32
  | 0, _ => none
  | n + 1, x1 => M_hasRelation_B7 G σ0  (M_hasRelation_L7 G σ0  n) x1
def M_hasRelation (G : Nat) (σ0 : MS) : Option Int32 :=
  M_hasRelation_L7 G σ0  G ((gI σ0 19) - (1 : Int32))

/-! mayNot -/
def wr_mayNot : WS := ([], [], [], [])
def M_mayNot (σ0 : MS) : Option Int32 :=
  if (gI σ0 19) = 0 then
    some (1 : Int32)
  else
    rdA σ0 16 ((gI σ0 19) - (1 : Int32)) fun t1 =>
    if t1 = (20 : Int32) then
      some (1 : Int32)
    else
      rdA σ0 16 ((gI σ0 19) - (1 : Int32)) fun t2 =>
      bnd (M_tight t2) fun t3 =>
      if (4 : Int32) ≤ t3 then
        some (0 : Int32)
      else
        some (1 : Int32)

/-! asked -/
def wr_asked : WS := ([], [], [], [])
def M_asked (σ0 : MS) : Option Int32 :=
  if (gI σ0 6) = (1 : Int32) then
    if (lg_cmp (gL σ0 9) (1936292453 : Int64)) = 0 then
      some (0 : Int32)
    else
      if (lg_cmp (gL σ0 9) (1936680564 : Int64)) = 0 then
        some (1 : Int32)
      else
        if (lg_cmp (gL σ0 9) (495873780843 : Int64)) = 0 then
          some (2 : Int32)
        else
          if (lg_cmp (gL σ0 9) (2002873452 : Int64)) = 0 then
            some (3 : Int32)
          else
            if (lg_cmp (gL σ0 9) (6709618 : Int64)) = 0 then
              some (4 : Int32)
            else
              if (lg_cmp (gL σ0 9) (500135716211 : Int64)) = 0 then
                some (5 : Int32)
              else
                if (lg_cmp (gL σ0 9) (470021403752 : Int64)) = 0 then
                  some (6 : Int32)
                else
                  if (lg_cmp (gL σ0 9) (108243466679400 : Int64)) = 0 then
                    some (7 : Int32)
                  else
                    if (lg_cmp (gL σ0 9) (1802071652 : Int64)) = 0 then
                      some (8 : Int32)
                    else
                      if (lg_cmp (gL σ0 9) (1868850291 : Int64)) = 0 then
                        some (9 : Int32)
                      else
                        some (-1 : Int32)
  else
    some (-1 : Int32)

/-! isFull -/
def wr_isFull : WS := ([], [], [], [])
def M_isFull (σ0 : MS) : Option Int32 :=
  if (gI σ0 20) = (90 : Int32) then
    some (1 : Int32)
  else
    if (gI σ0 22) = (30 : Int32) then
      some (1 : Int32)
    else
      some (0 : Int32)

/-! countUnit -/
def wr_countUnit : WS := ([20, 22], [], [], [])
def M_countUnit (σ0 : MS) : Option MS :=
  vlS (sI σ0 20 ((gI σ0 20) + (1 : Int32))) fun σ1 =>
  vlS (sI σ1 22 ((gI σ1 22) + (1 : Int32))) fun σ2 =>
  some σ2

/-! openUp -/
def wr_openUp : WS := ([4, 6, 7, 8, 19, 23], [16], [9], [])
def M_openUp (G : Nat) (σ0 : MS) (a0 : Int32) : Option MS :=
  wrA σ0 16 (gI σ0 19) a0 fun σ1 =>
  vlS (sI σ1 19 ((gI σ1 19) + (1 : Int32))) fun σ2 =>
  vlS (sI σ2 23 ((gI σ2 23) + (1 : Int32))) fun σ3 =>
  if (gI σ3 2) = 0 then
    bndV (M_token G σ3) wr_token σ3 fun σ4 =>
    some σ4
  else
    some σ3

/-! unit -/
def wr_unit : WS := ([2, 3, 4, 6, 7, 8, 19, 20, 22, 23], [10, 11, 12, 16], [9], [])
def M_unit_L172 (G : Nat)  (σ : MS) (s1 : Int32) (s2 : Int32) : Option MS :=
  bndV (M_add σ s1 s2) wr_add σ fun σ1 =>
  bndV (M_token G σ1) wr_token σ1 fun σ2 =>
  some σ2
def M_unit_L160 (G : Nat)  (σ : MS) (x2 : Int32) (s1 : Int32) : Option MS :=
  if 0 ≤ x2 then
    M_unit_L172 G  σ s1 x2
  else
    M_unit_L172 G  σ s1 (gI σ 8)
def M_unit_L138 (G : Nat)  (σ : MS) (x2 : Int32) : Option MS :=
  if (gI σ 2) ≤ 0 then
    bndV (M_countUnit σ) wr_countUnit σ fun σ1 =>
    if 0 ≤ x2 then
      M_unit_L160 G  σ1 x2 (1 : Int32)
    else
      M_unit_L160 G  σ1 x2 (0 : Int32)
  else
    some σ
def M_unit_L133 (G : Nat)  (σ : MS) (x2 : Int32) : Option MS :=
  bndV (M_wrong σ (2 : Int32)) wr_wrong σ fun σ1 =>
  M_unit_L138 G  σ1 x2
def M_unit_L126 (G : Nat)  (σ : MS) (x2 : Int32) : Option MS :=
  bnd (M_isFull σ) fun t1 =>
  if t1 = 0 then
    M_unit_L138 G  σ x2
  else
    M_unit_L133 G  σ x2
def M_unit_L101 (G : Nat)  (σ : MS) : Option MS :=
  if (gI σ 2) ≤ 0 then
    bnd (M_asked σ) fun t1 =>
    if (gI σ 6) = (2 : Int32) then
      M_unit_L126 G  σ t1
    else
      if t1 < 0 then
        M_unit_L133 G  σ t1
      else
        M_unit_L126 G  σ t1
  else
    some σ
def M_unit_L83 (G : Nat) (k2 : MS → Int32 → Option MS) (σ : MS) (x1 : Int32) : Option MS :=
  bndV (M_countUnit σ) wr_countUnit σ fun σ1 =>
  bndV (M_openUp G σ1 (20 : Int32)) wr_openUp σ1 fun σ2 =>
  k2 σ2 x1
def M_unit_L78 (G : Nat) (k2 : MS → Int32 → Option MS) (σ : MS) (x1 : Int32) : Option MS :=
  bndV (M_wrong σ (2 : Int32)) wr_wrong σ fun σ1 =>
  M_unit_L83 G k2 σ1 x1
def M_unit_L53 (G : Nat) (k2 : MS → Int32 → Option MS) (σ : MS) (x1 : Int32) : Option MS :=
  if (gI σ 6) = (40 : Int32) then
    bnd (M_isFull σ) fun t1 =>
    if t1 = 0 then
      if (gI σ 23) ≤ (6 : Int32) then
        M_unit_L83 G k2 σ x1
      else
        M_unit_L78 G k2 σ x1
    else
      M_unit_L78 G k2 σ x1
  else
    k2 σ (0 : Int32)
def M_unit_L44 (G : Nat) (k2 : MS → Int32 → Option MS) (σ : MS) (x1 : Int32) : Option MS :=
  bndV (M_openUp G σ (21 : Int32)) wr_openUp σ fun σ1 =>
  k2 σ1 x1
def M_unit_B2 (G : Nat) (k2 : MS → Int32 → Option MS) (σ : MS) (x1 : Int32) : Option MS :=
  if x1 = 0 then
    M_unit_L101 G  σ
  else
    if (gI σ 2) = 0 then
      bnd (M_isWord σ (7237492 : Int64)) fun t1 =>
      if t1 = 0 then
        M_unit_L53 G k2 σ x1
      else
        bnd (M_mayNot σ) fun t2 =>
        if t2 = 0 then
          M_unit_L53 G k2 σ x1
        else
          if (gI σ 23) ≤ (6 : Int32) then
            M_unit_L44 G k2 σ x1
          else
            bndV (M_wrong σ (2 : Int32)) wr_wrong σ fun σ3 =>
            M_unit_L44 G k2 σ3 x1
    else
      M_unit_L101 G  σ
def M_unit_L2 (G : Nat)  : Nat → MS → Int32 → Option MS
  | 0, _, _ => none
  | n + 1, σ, x1 => M_unit_B2 G  (M_unit_L2 G  n) σ x1
def M_unit (G : Nat) (σ0 : MS) : Option MS :=
  M_unit_L2 G  G σ0 (1 : Int32)

/-! sign -/
def wr_sign : WS := ([], [], [], [])
def M_sign (σ0 : MS) : Option Int32 :=
  bnd (M_isWord σ0 (6385252 : Int64)) fun t1 =>
  if t1 = 0 then
    bnd (M_isWord σ0 (28530 : Int64)) fun t2 =>
    if t2 = 0 then
      if (gI σ0 6) = (60 : Int32) then
        some (gI σ0 6)
      else
        if (gI σ0 6) = (62 : Int32) then
          some (gI σ0 6)
        else
          if (gI σ0 6) = (61 : Int32) then
            some (gI σ0 6)
          else
            if (gI σ0 6) = (43 : Int32) then
              some (gI σ0 6)
            else
              if (gI σ0 6) = (45 : Int32) then
                some (gI σ0 6)
              else
                if (gI σ0 6) = (42 : Int32) then
                  some (gI σ0 6)
                else
                  if (gI σ0 6) = (47 : Int32) then
                    some (gI σ0 6)
                  else
                    if (gI σ0 6) = (37 : Int32) then
                      some (gI σ0 6)
                    else
                      some (0 : Int32)
    else
      some (124 : Int32)
  else
    some (38 : Int32)

/-! hasBracket -/
def wr_hasBracket : WS := ([], [], [], [])
def M_hasBracket_B4 (G : Nat) (σ0 : MS) (k4 : Int32 → Int32 → Option Int32) (x1 : Int32) (x2 : Int32) : Option Int32 :=
  if (gI σ0 19) ≤ x2 then
    bzI x1 <|
    some x1
  else
    if x1 = 0 then
      rdA σ0 16 x2 fun t1 =>
      if t1 = (20 : Int32) then
        k4 (1 : Int32) (x2 + (1 : Int32))
      else
        k4 (0 : Int32) (x2 + (1 : Int32))
    else
      k4 (1 : Int32) (x2 + (1 : Int32))
def M_hasBracket_L4 (G : Nat) (σ0 : MS)  : Nat → Int32 → Int32 → Option Int32
  | 0, _, _ => none
  | n + 1, x1, x2 => M_hasBracket_B4 G σ0  (M_hasBracket_L4 G σ0  n) x1 x2
def M_hasBracket (G : Nat) (σ0 : MS) : Option Int32 :=
  M_hasBracket_L4 G σ0  G (0 : Int32) (0 : Int32)

/-! formula -/
def wr_formula : WS := ([2, 3, 4, 6, 7, 8, 18, 19, 20, 22, 23], [10, 11, 12, 16], [9], [])
def M_formula_L182 (G : Nat)  (σ : MS) : Option MS :=
  if (gI σ 2) = 0 then
    bndV (M_close G σ (0 : Int32)) wr_close σ fun σ1 =>
    some σ1
  else
    some σ
def M_formula_L163 (G : Nat)  (σ : MS) : Option MS :=
  if (gI σ 2) = 0 then
    bnd (M_hasBracket G σ) fun t1 =>
    if t1 = 0 then
      M_formula_L182 G  σ
    else
      bndV (M_wrong σ (2 : Int32)) wr_wrong σ fun σ2 =>
      M_formula_L182 G  σ2
  else
    M_formula_L182 G  σ
def M_formula_L119 (G : Nat) (k36 : MS → Int32 → Option MS) (σ : MS) (x2 : Int32) (x3 : Int32) : Option MS :=
  bnd (M_tight x3) fun t1 =>
  bndV (M_close G σ t1) wr_close σ fun σ2 =>
  wrA σ2 16 (gI σ2 19) x3 fun σ3 =>
  vlS (sI σ3 19 ((gI σ3 19) + (1 : Int32))) fun σ4 =>
  bndV (M_token G σ4) wr_token σ4 fun σ5 =>
  bndV (M_unit G σ5) wr_unit σ5 fun σ6 =>
  k36 σ6 x2
def M_formula_L100 (G : Nat) (k36 : MS → Int32 → Option MS) (σ : MS) (x2 : Int32) (x3 : Int32) : Option MS :=
  if x3 = 0 then
    k36 σ (0 : Int32)
  else
    bnd (M_tight x3) fun t1 =>
    if t1 = (4 : Int32) then
      bnd (M_hasRelation G σ) fun t2 =>
      if t2 = 0 then
        M_formula_L119 G k36 σ x2 x3
      else
        k36 σ (0 : Int32)
    else
      M_formula_L119 G k36 σ x2 x3
def M_formula_B36 (G : Nat) (k36 : MS → Int32 → Option MS) (σ : MS) (x2 : Int32) : Option MS :=
  if x2 = 0 then
    M_formula_L163 G  σ
  else
    if (gI σ 2) = 0 then
      bnd (M_sign σ) fun t1 =>
      if (gI σ 6) = (41 : Int32) then
        bnd (M_hasBracket G σ) fun t2 =>
        if t2 = 0 then
          M_formula_L100 G k36 σ x2 t1
        else
          bndV (M_close G σ (0 : Int32)) wr_close σ fun σ3 =>
          vlS (sI σ3 19 ((gI σ3 19) - (1 : Int32))) fun σ4 =>
          vlS (sI σ4 23 ((gI σ4 23) - (1 : Int32))) fun σ5 =>
          bndV (M_token G σ5) wr_token σ5 fun σ6 =>
          k36 σ6 x2
      else
        M_formula_L100 G k36 σ x2 t1
    else
      M_formula_L163 G  σ
def M_formula_L36 (G : Nat)  : Nat → MS → Int32 → Option MS
  | 0, _, _ => none
  | n + 1, σ, x2 => M_formula_B36 G  (M_formula_L36 G  n) σ x2
def M_formula (G : Nat) (σ0 : MS) (a0 : Int32) : Option MS :=
  vlS (sI σ0 18 a0) fun σ1 =>
  wrA σ1 12 (gI σ1 18) (0 : Int32) fun σ2 =>
  vlS (sI σ2 19 (0 : Int32)) fun σ3 =>
  vlS (sI σ3 23 (0 : Int32)) fun σ4 =>
  vlS (sI σ4 22 (0 : Int32)) fun σ5 =>
  bndV (M_unit G σ5) wr_unit σ5 fun σ6 =>
  M_formula_L36 G  G σ6 (1 : Int32)

/-! truth -/
def wr_truth : WS := ([], [], [], [])
def M_truth (a0 : Int32) : Option Int32 :=
  if a0 = 0 then
    some (0 : Int32)
  else
    some (1 : Int32)

/-! done -/
def wr_done : WS := ([], [], [], [])
def M_done_L228   (s0 : Int32) : Option Int32 :=
  bnd (M_truth s0) fun t1 =>
  some t1
def M_done_L223    : Option Int32 :=
  M_done_L228   (1 : Int32)
def M_done_L211   (s0 : Int32) : Option Int32 :=
  bnd (M_truth s0) fun t1 =>
  some t1
def M_done_L210    : Option Int32 :=
  M_done_L211   (0 : Int32)
def M_done_L194   (s0 : Int32) : Option Int32 :=
  bnd (M_truth s0) fun t1 =>
  some t1
def M_done_L180   (s0 : Int32) : Option Int32 :=
  bnd (M_truth s0) fun t1 =>
  some t1
def M_done_L166   (s0 : Int32) : Option Int32 :=
  bnd (M_truth s0) fun t1 =>
  some t1
def M_done (a0 : Int32) (a1 : Int32) (a2 : Int32) : Option Int32 :=
  if a0 < 37 then
    if a1 = 0 then
      if a2 = 0 then
        M_done_L228   (0 : Int32)
      else
        M_done_L223   
    else
      M_done_L223   
  else if 62 < a0 then
    if a1 = 0 then
      if a2 = 0 then
        M_done_L228   (0 : Int32)
      else
        M_done_L223   
    else
      M_done_L223   
  else if a0 = 37 then
    if a2 = 0 then
      some (0 : Int32)
    else
      rmI a1 a2 fun t1 =>
      some t1
  else if a0 = 38 then
    if a1 = 0 then
      M_done_L210   
    else
      if a2 = 0 then
        M_done_L210   
      else
        M_done_L211   (1 : Int32)
  else if a0 = 39 then
    if a1 = 0 then
      if a2 = 0 then
        M_done_L228   (0 : Int32)
      else
        M_done_L223   
    else
      M_done_L223   
  else if a0 = 40 then
    if a1 = 0 then
      if a2 = 0 then
        M_done_L228   (0 : Int32)
      else
        M_done_L223   
    else
      M_done_L223   
  else if a0 = 41 then
    if a1 = 0 then
      if a2 = 0 then
        M_done_L228   (0 : Int32)
      else
        M_done_L223   
    else
      M_done_L223   
  else if a0 = 42 then
    some (a1 * a2)
  else if a0 = 43 then
    some (a1 + a2)
  else if a0 = 44 then
    if a1 = 0 then
      if a2 = 0 then
        M_done_L228   (0 : Int32)
      else
        M_done_L223   
    else
      M_done_L223   
  else if a0 = 45 then
    some (a1 - a2)
  else if a0 = 46 then
    if a1 = 0 then
      if a2 = 0 then
        M_done_L228   (0 : Int32)
      else
        M_done_L223   
    else
      M_done_L223   
  else if a0 = 47 then
    if a2 = 0 then
      some (0 : Int32)
    else
      dvI a1 a2 fun t2 =>
      some t2
  else if a0 = 48 then
    if a1 = 0 then
      if a2 = 0 then
        M_done_L228   (0 : Int32)
      else
        M_done_L223   
    else
      M_done_L223   
  else if a0 = 49 then
    if a1 = 0 then
      if a2 = 0 then
        M_done_L228   (0 : Int32)
      else
        M_done_L223   
    else
      M_done_L223   
  else if a0 = 50 then
    if a1 = 0 then
      if a2 = 0 then
        M_done_L228   (0 : Int32)
      else
        M_done_L223   
    else
      M_done_L223   
  else if a0 = 51 then
    if a1 = 0 then
      if a2 = 0 then
        M_done_L228   (0 : Int32)
      else
        M_done_L223   
    else
      M_done_L223   
  else if a0 = 52 then
    if a1 = 0 then
      if a2 = 0 then
        M_done_L228   (0 : Int32)
      else
        M_done_L223   
    else
      M_done_L223   
  else if a0 = 53 then
    if a1 = 0 then
      if a2 = 0 then
        M_done_L228   (0 : Int32)
      else
        M_done_L223   
    else
      M_done_L223   
  else if a0 = 54 then
    if a1 = 0 then
      if a2 = 0 then
        M_done_L228   (0 : Int32)
      else
        M_done_L223   
    else
      M_done_L223   
  else if a0 = 55 then
    if a1 = 0 then
      if a2 = 0 then
        M_done_L228   (0 : Int32)
      else
        M_done_L223   
    else
      M_done_L223   
  else if a0 = 56 then
    if a1 = 0 then
      if a2 = 0 then
        M_done_L228   (0 : Int32)
      else
        M_done_L223   
    else
      M_done_L223   
  else if a0 = 57 then
    if a1 = 0 then
      if a2 = 0 then
        M_done_L228   (0 : Int32)
      else
        M_done_L223   
    else
      M_done_L223   
  else if a0 = 58 then
    if a1 = 0 then
      if a2 = 0 then
        M_done_L228   (0 : Int32)
      else
        M_done_L223   
    else
      M_done_L223   
  else if a0 = 59 then
    if a1 = 0 then
      if a2 = 0 then
        M_done_L228   (0 : Int32)
      else
        M_done_L223   
    else
      M_done_L223   
  else if a0 = 60 then
    if a2 ≤ a1 then
      M_done_L166   (0 : Int32)
    else
      M_done_L166   (1 : Int32)
  else if a0 = 61 then
    if a1 = a2 then
      M_done_L194   (1 : Int32)
    else
      M_done_L194   (0 : Int32)
  else
    if a1 ≤ a2 then
      M_done_L180   (0 : Int32)
    else
      M_done_L180   (1 : Int32)

/-! amount -/
def wr_amount : WS := ([], [], [], [])
def M_amount (a0 : Int32) : Option Int32 :=
  if 0 ≤ a0 then
    some a0
  else
    some (-a0)

/-! far -/
def wr_far : WS := ([], [], [], [])
def M_far (σ0 : MS) (a0 : Int32) (a1 : Int32) : Option Int32 :=
  rdA σ0 66 ((5 : Int32) * a1) fun t1 =>
  rdA σ0 42 a0 fun t2 =>
  bnd (M_amount (t1 - t2)) fun t3 =>
  rdA σ0 66 (((5 : Int32) * a1) + (1 : Int32)) fun t4 =>
  rdA σ0 43 a0 fun t5 =>
  bnd (M_amount (t4 - t5)) fun t6 =>
  if t3 ≤ t6 then
    some t6
  else
    some t3

/-! isRim -/
def wr_isRim : WS := ([], [], [], [])
def M_isRim (σ0 : MS) (a0 : Int32) : Option Int32 :=
  rdA σ0 66 ((5 : Int32) * a0) fun t1 =>
  if t1 = 0 then
    some (1 : Int32)
  else
    rdA σ0 66 ((5 : Int32) * a0) fun t2 =>
    if t2 = ((gI σ0 56) - (1 : Int32)) then
      some (1 : Int32)
    else
      rdA σ0 66 (((5 : Int32) * a0) + (1 : Int32)) fun t3 =>
      if t3 = 0 then
        some (1 : Int32)
      else
        rdA σ0 66 (((5 : Int32) * a0) + (1 : Int32)) fun t4 =>
        if t4 = ((gI σ0 57) - (1 : Int32)) then
          some (1 : Int32)
        else
          some (0 : Int32)

/-! askOf -/
def wr_askOf : WS := ([], [], [], [])
def M_askOf (σ0 : MS) (a0 : Int32) (a1 : Int32) (a2 : Int32) (a3 : Int32) (a4 : Int32) : Option Int32 :=
  if a0 < 0 then
    some a4
  else if 8 < a0 then
    some a4
  else if a0 = 0 then
    rdA σ0 66 (((5 : Int32) * a2) + (4 : Int32)) fun t1 =>
    some t1
  else if a0 = 1 then
    rdA σ0 38 a2 fun t2 =>
    some t2
  else if a0 = 2 then
    rdA σ0 48 a2 fun t3 =>
    bnd (M_truth t3) fun t4 =>
    some t4
  else if a0 = 3 then
    bnd (M_isRim σ0 a2) fun t5 =>
    bnd (M_truth t5) fun t6 =>
    some t6
  else if a0 = 4 then
    bnd (M_far σ0 a1 a2) fun t7 =>
    some t7
  else if a0 = 5 then
    rdA σ0 66 (((5 : Int32) * a2) + (3 : Int32)) fun t8 =>
    some t8
  else if a0 = 6 then
    rdA σ0 46 a1 fun t9 =>
    some t9
  else if a0 = 7 then
    rdA σ0 66 ((50 : Int32) + ((3 : Int32) * a1)) fun t10 =>
    some t10
  else
    some a3

/-! worked -/
def wr_worked : WS := ([], [17], [], [])
def M_worked_L134 (G : Nat) (k10 : MS → Int32 → Int32 → Int32 → Int32 → Int32 → Int32 → Int32 → Option (Int32 × MS)) (σ : MS) (x1 : Int32) (x2 : Int32) (x3 : Int32) (x4 : Int32) (x5 : Int32) (x6 : Int32) (x7 : Int32) (s1 : Int32) (s2 : Int32) : Option (Int32 × MS) :=
  bnd (M_truth s2) fun t1 =>
  wrA σ 17 s1 t1 fun σ2 =>
  k10 σ2 x1 x2 x3 x4 x5 x6 (x7 + (1 : Int32))
def M_worked_L91 (G : Nat) (k10 : MS → Int32 → Int32 → Int32 → Int32 → Int32 → Int32 → Int32 → Option (Int32 × MS)) (σ : MS) (x1 : Int32) (x2 : Int32) (x3 : Int32) (x4 : Int32) (x5 : Int32) (x6 : Int32) (x7 : Int32) (s1 : Int32) (s2 : Int32) : Option (Int32 × MS) :=
  wrA σ 17 s1 s2 fun σ1 =>
  k10 σ1 x1 x2 x3 x4 x5 (x6 + (1 : Int32)) (x7 + (1 : Int32))
def M_worked_L48 (G : Nat) (k10 : MS → Int32 → Int32 → Int32 → Int32 → Int32 → Int32 → Int32 → Option (Int32 × MS)) (σ : MS) (x1 : Int32) (x2 : Int32) (x3 : Int32) (x4 : Int32) (x5 : Int32) (x6 : Int32) (x7 : Int32) : Option (Int32 × MS) :=
  rdA σ 13 x7 fun t1 =>
  if t1 = 0 then
    rdA σ 14 x7 fun t4 =>
    M_worked_L91 G k10 σ x1 x2 x3 x4 x5 x6 x7 x6 t4
  else
    rdA σ 14 x7 fun t2 =>
    bnd (M_askOf σ t2 x2 x3 x4 x5) fun t3 =>
    M_worked_L91 G k10 σ x1 x2 x3 x4 x5 x6 x7 x6 t3
def M_worked_B10 (G : Nat) (k10 : MS → Int32 → Int32 → Int32 → Int32 → Int32 → Int32 → Int32 → Option (Int32 × MS)) (σ : MS) (x1 : Int32) (x2 : Int32) (x3 : Int32) (x4 : Int32) (x5 : Int32) (x6 : Int32) (x7 : Int32) : Option (Int32 × MS) :=
  rdA σ 15 x1 fun t1 =>
  if (((320 : Int32) * x1) + t1) ≤ x7 then
    rdA σ 17 (0 : Int32) fun t2 =>
    some (t2, σ)
  else
    rdA σ 13 x7 fun t3 =>
    if t3 = 0 then
      M_worked_L48 G k10 σ x1 x2 x3 x4 x5 x6 x7
    else
      rdA σ 13 x7 fun t4 =>
      if t4 = (1 : Int32) then
        M_worked_L48 G k10 σ x1 x2 x3 x4 x5 x6 x7
      else
        rdA σ 13 x7 fun t5 =>
        if t5 = (2 : Int32) then
          rdA σ 17 (x6 - (1 : Int32)) fun t11 =>
          if t11 = 0 then
            M_worked_L134 G k10 σ x1 x2 x3 x4 x5 x6 x7 (x6 - (1 : Int32)) (1 : Int32)
          else
            M_worked_L134 G k10 σ x1 x2 x3 x4 x5 x6 x7 (x6 - (1 : Int32)) (0 : Int32)
        else
          rdA σ 14 x7 fun t6 =>
          rdA σ 17 ((x6 + (-1 : Int32)) - (1 : Int32)) fun t7 =>
          rdA σ 17 (x6 + (-1 : Int32)) fun t8 =>
          bnd (M_done t6 t7 t8) fun t9 =>
          wrA σ 17 ((x6 + (-1 : Int32)) - (1 : Int32)) t9 fun σ10 =>
          k10 σ10 x1 x2 x3 x4 x5 (x6 + (-1 : Int32)) (x7 + (1 : Int32))
def M_worked_L10 (G : Nat)  : Nat → MS → Int32 → Int32 → Int32 → Int32 → Int32 → Int32 → Int32 → Option (Int32 × MS)
  | 0, _, _, _, _, _, _, _, _ => none
  | n + 1, σ, x1, x2, x3, x4, x5, x6, x7 => M_worked_B10 G  (M_worked_L10 G  n) σ x1 x2 x3 x4 x5 x6 x7
def M_worked (G : Nat) (σ0 : MS) (a0 : Int32) (a1 : Int32) (a2 : Int32) (a3 : Int32) (a4 : Int32) : Option (Int32 × MS) :=
  M_worked_L10 G  G σ0 a0 a1 a2 a3 a4 (0 : Int32) ((320 : Int32) * a0)

/-! find -/
def wr_find : WS := ([], [], [], [])
def M_find_B5 (G : Nat) (σ0 : MS) (k5 : Int32 → Int32 → Int32 → Int32 → Option Int32) (x1 : Int32) (x2 : Int32) (x3 : Int32) (x4 : Int32) : Option Int32 :=
  if x2 ≤ x4 then
    some x3
  else
    rdB σ0 24 (x1 + x4) fun t1 =>
    if (lg_cmp t1 (gL σ0 9)) = 0 then
      k5 x1 x2 x4 (x4 + (1 : Int32))
    else
      k5 x1 x2 x3 (x4 + (1 : Int32))
def M_find_L5 (G : Nat) (σ0 : MS)  : Nat → Int32 → Int32 → Int32 → Int32 → Option Int32
  | 0, _, _, _, _ => none
  | n + 1, x1, x2, x3, x4 => M_find_B5 G σ0  (M_find_L5 G σ0  n) x1 x2 x3 x4
def M_find (G : Nat) (σ0 : MS) (a0 : Int32) (a1 : Int32) : Option Int32 :=
  M_find_L5 G σ0  G a0 a1 (-1 : Int32) (0 : Int32)

/-! newName -/
def wr_newName : WS := ([2, 3, 4, 6, 7, 8], [], [9], [24])
def M_newName_L33 (G : Nat)  (σ : MS) (x1 : Int32) (x2 : Int32) : Option MS :=
  if (gI σ 2) ≤ 0 then
    wrB σ 24 (x1 + x2) (gL σ 9) fun σ1 =>
    bndV (M_token G σ1) wr_token σ1 fun σ2 =>
    some σ2
  else
    some σ
def M_newName (G : Nat) (σ0 : MS) (a0 : Int32) (a1 : Int32) : Option MS :=
  bndV (M_token G σ0) wr_token σ0 fun σ1 =>
  bnd (M_isName σ1) fun t2 =>
  if t2 = 0 then
    bndV (M_wrong σ1 (2 : Int32)) wr_wrong σ1 fun σ5 =>
    M_newName_L33 G  σ5 a0 a1
  else
    bnd (M_find G σ1 a0 a1) fun t3 =>
    if t3 < 0 then
      M_newName_L33 G  σ1 a0 a1
    else
      bndV (M_wrong σ1 (3 : Int32)) wr_wrong σ1 fun σ4 =>
      M_newName_L33 G  σ4 a0 a1

/-! readTub -/
def wr_readTub : WS := ([2, 3, 4, 6, 7, 8, 49, 50], [], [9], [])
def M_readTub (G : Nat) (σ0 : MS) : Option MS :=
  bndW (M_told G σ0 (7632226 : Int64) (1 : Int32) (6 : Int32)) wr_told σ0 fun t2 σ1 =>
  vlS (sI σ1 49 t2) fun σ3 =>
  bndW (M_told G σ3 (25209 : Int64) (1 : Int32) (6 : Int32)) wr_told σ3 fun t5 σ4 =>
  vlS (sI σ4 50 t5) fun σ6 =>
  some σ6

/-! readOdds -/
def wr_readOdds : WS := ([2, 3, 4, 6, 7, 8, 18, 19, 20, 22, 23, 51], [10, 11, 12, 16], [9], [])
def M_readOdds_L97 (G : Nat)  (σ : MS) (x1 : Int32) : Option MS :=
  if (gI σ 2) ≤ 0 then
    vlS (sI σ 51 ((gI σ 51) ||| ((1 : Int32) <<< (x1 &&& 31)))) fun σ1 =>
    bndV (M_token G σ1) wr_token σ1 fun σ2 =>
    bndV (M_formula G σ2 x1) wr_formula σ2 fun σ3 =>
    some σ3
  else
    some σ
def M_readOdds_L92 (G : Nat)  (σ : MS) (x1 : Int32) : Option MS :=
  bndV (M_wrong σ (2 : Int32)) wr_wrong σ fun σ1 =>
  M_readOdds_L97 G  σ1 x1
def M_readOdds_L75 (G : Nat)  (σ : MS) (s0 : Int32) : Option MS :=
  if s0 < 0 then
    M_readOdds_L92 G  σ s0
  else
    if (((gI σ 51) >>> (s0 &&& 31)) &&& (1 : Int32)) = (1 : Int32) then
      M_readOdds_L92 G  σ s0
    else
      M_readOdds_L97 G  σ s0
def M_readOdds (G : Nat) (σ0 : MS) : Option MS :=
  bndV (M_token G σ0) wr_token σ0 fun σ1 =>
  bnd (M_isWord σ1 (1718773093 : Int64)) fun t2 =>
  if t2 = 0 then
    bnd (M_isWord σ1 (495873780843 : Int64)) fun t3 =>
    if t3 = 0 then
      bnd (M_isWord σ1 (2002873452 : Int64)) fun t4 =>
      if t4 = 0 then
        bnd (M_isWord σ1 (113741193899620 : Int64)) fun t5 =>
        if t5 = 0 then
          bnd (M_isWord σ1 (1818583406 : Int64)) fun t6 =>
          if t6 = 0 then
            M_readOdds_L75 G  σ1 (-1 : Int32)
          else
            M_readOdds_L75 G  σ1 (4 : Int32)
        else
          M_readOdds_L75 G  σ1 (3 : Int32)
      else
        M_readOdds_L75 G  σ1 (2 : Int32)
    else
      M_readOdds_L75 G  σ1 (1 : Int32)
  else
    M_readOdds_L75 G  σ1 (0 : Int32)

/-! readRule -/
def wr_readRule : WS := ([2, 3, 4, 6, 7, 8, 18, 19, 20, 22, 23, 52], [10, 11, 12, 16], [9], [24])
def M_readRule (G : Nat) (σ0 : MS) : Option MS :=
  bndV (M_newName G σ0 (0 : Int32) (gI σ0 52)) wr_newName σ0 fun σ1 =>
  if (gI σ1 2) ≤ 0 then
    bndV (M_formula G σ1 ((5 : Int32) + (gI σ1 52))) wr_formula σ1 fun σ2 =>
    if (gI σ2 2) = 0 then
      vlS (sI σ2 52 ((gI σ2 52) + (1 : Int32))) fun σ3 =>
      some σ3
    else
      some σ2
  else
    some σ1

/-! readApple -/
def wr_readApple : WS := ([2, 3, 4, 6, 7, 8, 53], [25, 26, 27, 28, 29, 36], [9], [24])
def M_readApple_L210 (G : Nat)  (σ : MS) (s1 : Int32) (s2 : Int32) : Option MS :=
  wrA σ 29 s1 s2 fun σ1 =>
  if (gI σ1 2) = 0 then
    vlS (sI σ1 53 ((gI σ1 53) + (1 : Int32))) fun σ2 =>
    some σ2
  else
    some σ1
def M_readApple_B64 (G : Nat) (k64 : MS → Int32 → Int32 → Option MS) (σ : MS) (x1 : Int32) (x2 : Int32) : Option MS :=
  if (gI σ 53) ≤ x2 then
    bndW (M_told G σ (1936292453 : Int64) (1 : Int32) (99 : Int32)) wr_told σ fun t2 σ1 =>
    wrA σ1 25 (gI σ 53) t2 fun σ3 =>
    bndW (M_told G σ3 (1936680564 : Int64) (0 : Int32) (9 : Int32)) wr_told σ3 fun t5 σ4 =>
    wrA σ4 26 (gI σ3 53) t5 fun σ6 =>
    bndW (M_takes G σ6 (495873780843 : Int64)) wr_takes σ6 fun t8 σ7 =>
    bzI t8 <|
    wrA σ7 36 (gI σ6 53) t8 fun σ9 =>
    bndW (M_takes G σ9 (1668245870 : Int64)) wr_takes σ9 fun t11 σ10 =>
    if t11 = 0 then
      M_readApple_L210 G  σ10 (gI σ9 53) (1 : Int32)
    else
      bndW (M_toldNumber G σ10 (0 : Int32) (99 : Int32)) wr_toldNumber σ10 fun t13 σ12 =>
      M_readApple_L210 G  σ12 (gI σ9 53) t13
  else
    if (gI σ 2) = 0 then
      rdA σ 27 x2 fun t14 =>
      rdA σ 27 (gI σ 53) fun t15 =>
      if t14 = t15 then
        rdA σ 28 x2 fun t16 =>
        rdA σ 28 (gI σ 53) fun t17 =>
        if t16 = t17 then
          bndV (M_wrongAt σ (3 : Int32) x1) wr_wrongAt σ fun σ18 =>
          k64 σ18 x1 (x2 + (1 : Int32))
        else
          k64 σ x1 (x2 + (1 : Int32))
      else
        k64 σ x1 (x2 + (1 : Int32))
    else
      k64 σ x1 (x2 + (1 : Int32))
def M_readApple_L64 (G : Nat)  : Nat → MS → Int32 → Int32 → Option MS
  | 0, _, _, _ => none
  | n + 1, σ, x1, x2 => M_readApple_B64 G  (M_readApple_L64 G  n) σ x1 x2
def M_readApple (G : Nat) (σ0 : MS) : Option MS :=
  bndV (M_newName G σ0 (6 : Int32) (gI σ0 53)) wr_newName σ0 fun σ1 =>
  bndV (M_want G σ1 (24948 : Int64)) wr_want σ1 fun σ2 =>
  bndW (M_toldNumber G σ2 (0 : Int32) ((gI σ2 49) - (1 : Int32))) wr_toldNumber σ2 fun t4 σ3 =>
  wrA σ3 27 (gI σ2 53) t4 fun σ5 =>
  bndW (M_toldNumber G σ5 (0 : Int32) ((gI σ5 50) - (1 : Int32))) wr_toldNumber σ5 fun t7 σ6 =>
  wrA σ6 28 (gI σ5 53) t7 fun σ8 =>
  M_readApple_L64 G  G σ8 (gI σ5 7) (0 : Int32)

/-! readBy -/
def wr_readBy : WS := ([2, 3, 4, 6, 7, 8], [35], [9], [])
def M_readBy_L32 (G : Nat)  (σ : MS) : Option MS :=
  if (gI σ 2) ≤ 0 then
    bnd (M_find G σ (0 : Int32) (gI σ 52)) fun t1 =>
    wrA σ 35 (gI σ 54) t1 fun σ2 =>
    bndV (M_token G σ2) wr_token σ2 fun σ3 =>
    some σ3
  else
    some σ
def M_readBy (G : Nat) (σ0 : MS) : Option MS :=
  bnd (M_isName σ0) fun t1 =>
  if t1 = 0 then
    bndV (M_wrong σ0 (2 : Int32)) wr_wrong σ0 fun σ4 =>
    M_readBy_L32 G  σ4
  else
    bnd (M_find G σ0 (0 : Int32) (gI σ0 52)) fun t2 =>
    if 0 ≤ t2 then
      M_readBy_L32 G  σ0
    else
      bndV (M_wrong σ0 (5 : Int32)) wr_wrong σ0 fun σ3 =>
      M_readBy_L32 G  σ3

/-! readBobber -/
def wr_readBobber : WS := ([2, 3, 4, 6, 7, 8, 54], [30, 31, 32, 33, 34, 35], [9], [24])
def M_readBobber_L137 (G : Nat)  (σ : MS) : Option MS :=
  if (gI σ 2) = 0 then
    vlS (sI σ 54 ((gI σ 54) + (1 : Int32))) fun σ1 =>
    some σ1
  else
    some σ
def M_readBobber (G : Nat) (σ0 : MS) : Option MS :=
  bndV (M_newName G σ0 (16 : Int32) (gI σ0 54)) wr_newName σ0 fun σ1 =>
  bndV (M_want G σ1 (24948 : Int64)) wr_want σ1 fun σ2 =>
  bndW (M_toldNumber G σ2 (0 : Int32) ((gI σ2 49) - (1 : Int32))) wr_toldNumber σ2 fun t4 σ3 =>
  wrA σ3 30 (gI σ2 54) t4 fun σ5 =>
  bndW (M_toldNumber G σ5 (0 : Int32) ((gI σ5 50) - (1 : Int32))) wr_toldNumber σ5 fun t7 σ6 =>
  wrA σ6 31 (gI σ5 54) t7 fun σ8 =>
  bndW (M_told G σ8 (491327153000 : Int64) (0 : Int32) (5 : Int32)) wr_told σ8 fun t10 σ9 =>
  wrA σ9 32 (gI σ8 54) t10 fun σ11 =>
  bndW (M_told G σ11 (108243466679400 : Int64) (0 : Int32) (20 : Int32)) wr_told σ11 fun t13 σ12 =>
  wrA σ12 33 (gI σ11 54) t13 fun σ14 =>
  bndW (M_told G σ14 (470021403752 : Int64) (0 : Int32) (9 : Int32)) wr_told σ14 fun t16 σ15 =>
  wrA σ15 34 (gI σ14 54) t16 fun σ17 =>
  wrA σ17 35 (gI σ17 54) (0 : Int32) fun σ18 =>
  bndW (M_takes G σ18 (25209 : Int64)) wr_takes σ18 fun t20 σ19 =>
  if t20 = 0 then
    M_readBobber_L137 G  σ19
  else
    bndV (M_readBy G σ19) wr_readBy σ19 fun σ21 =>
    M_readBobber_L137 G  σ21

/-! readDraw -/
def wr_readDraw : WS := ([2, 3, 4, 6, 7, 8, 55, 62], [], [9], [])
def M_readDraw (G : Nat) (σ0 : MS) : Option MS :=
  vlS (sI σ0 62 (1 : Int32)) fun σ1 =>
  bndW (M_told G σ1 (1685217655 : Int64) (0 : Int32) (999 : Int32)) wr_told σ1 fun t3 σ2 =>
  vlS (sI σ2 55 t3) fun σ4 =>
  some σ4

/-! readBite -/
def wr_readBite : WS := ([2, 3, 4, 6, 7, 8, 63, 64], [], [9], [])
def M_readBite (G : Nat) (σ0 : MS) : Option MS :=
  vlS (sI σ0 63 (1 : Int32)) fun σ1 =>
  bndW (M_told G σ1 (1651078245 : Int64) (0 : Int32) (9 : Int32)) wr_told σ1 fun t3 σ2 =>
  vlS (sI σ2 64 t3) fun σ4 =>
  some σ4

/-! readLine -/
def wr_readLine : WS := ([2, 3, 4, 6, 7, 8, 18, 19, 20, 22, 23, 49, 50, 51, 52, 53, 54, 55, 62, 63, 64], [10, 11, 12, 16, 25, 26, 27, 28, 29, 30, 31, 32, 33, 34, 35, 36], [9], [24])
def M_readLine_L207 (G : Nat)  (σ : MS) : Option MS :=
  if (gI σ 2) = 0 then
    bndV (M_token G σ) wr_token σ fun σ1 =>
    some σ1
  else
    some σ
def M_readLine_L186 (G : Nat)  (σ : MS) : Option MS :=
  if (gI σ 2) = 0 then
    if (gI σ 6) = (59 : Int32) then
      M_readLine_L207 G  σ
    else
      bndV (M_wrong σ (2 : Int32)) wr_wrong σ fun σ1 =>
      M_readLine_L207 G  σ1
  else
    M_readLine_L207 G  σ
def M_readLine_L181 (G : Nat)  (σ : MS) : Option MS :=
  bndV (M_wrong σ (2 : Int32)) wr_wrong σ fun σ1 =>
  M_readLine_L186 G  σ1
def M_readLine_L157 (G : Nat)  (σ : MS) : Option MS :=
  bnd (M_isWord σ (1651078245 : Int64)) fun t1 =>
  if t1 = 0 then
    M_readLine_L181 G  σ
  else
    if (gI σ 63) = 0 then
      bndV (M_readBite G σ) wr_readBite σ fun σ2 =>
      M_readLine_L186 G  σ2
    else
      M_readLine_L181 G  σ
def M_readLine_L133 (G : Nat)  (σ : MS) : Option MS :=
  bnd (M_isWord σ (1685217655 : Int64)) fun t1 =>
  if t1 = 0 then
    M_readLine_L157 G  σ
  else
    if (gI σ 62) = 0 then
      bndV (M_readDraw G σ) wr_readDraw σ fun σ2 =>
      M_readLine_L186 G  σ2
    else
      M_readLine_L157 G  σ
def M_readLine_L108 (G : Nat)  (σ : MS) : Option MS :=
  bnd (M_isWord σ (108230531507570 : Int64)) fun t1 =>
  if t1 = 0 then
    M_readLine_L133 G  σ
  else
    if (4 : Int32) ≤ (gI σ 54) then
      M_readLine_L133 G  σ
    else
      bndV (M_readBobber G σ) wr_readBobber σ fun σ2 =>
      M_readLine_L186 G  σ2
def M_readLine_L82 (G : Nat)  (σ : MS) : Option MS :=
  bnd (M_isWord σ (418498243685 : Int64)) fun t1 =>
  if t1 = 0 then
    M_readLine_L108 G  σ
  else
    if (10 : Int32) ≤ (gI σ 53) then
      M_readLine_L108 G  σ
    else
      bndV (M_readApple G σ) wr_readApple σ fun σ2 =>
      M_readLine_L186 G  σ2
def M_readLine_L24 (G : Nat)  (σ : MS) : Option MS :=
  if (gI σ 49) = 0 then
    bndV (M_wrong σ (2 : Int32)) wr_wrong σ fun σ5 =>
    M_readLine_L186 G  σ5
  else
    bnd (M_isWord σ (1868850291 : Int64)) fun t1 =>
    if t1 = 0 then
      bnd (M_isWord σ (1920298085 : Int64)) fun t2 =>
      if t2 = 0 then
        M_readLine_L82 G  σ
      else
        if (6 : Int32) ≤ (gI σ 52) then
          M_readLine_L82 G  σ
        else
          bndV (M_readRule G σ) wr_readRule σ fun σ3 =>
          M_readLine_L186 G  σ3
    else
      bndV (M_readOdds G σ) wr_readOdds σ fun σ4 =>
      M_readLine_L186 G  σ4
def M_readLine (G : Nat) (σ0 : MS) : Option MS :=
  bnd (M_isWord σ0 (7632226 : Int64)) fun t1 =>
  if t1 = 0 then
    M_readLine_L24 G  σ0
  else
    if (gI σ0 49) = 0 then
      bndV (M_readTub G σ0) wr_readTub σ0 fun σ2 =>
      M_readLine_L186 G  σ2
    else
      M_readLine_L24 G  σ0

/-! readAll -/
def wr_readAll : WS := ([1, 2, 3, 4, 5, 6, 7, 8, 18, 19, 20, 22, 23, 49, 50, 51, 52, 53, 54, 55, 62, 63, 64], [10, 11, 12, 16, 25, 26, 27, 28, 29, 30, 31, 32, 33, 34, 35, 36], [9], [24])
def M_readAll_B88 (G : Nat) (k88 : MS → Option MS) (σ : MS) : Option MS :=
  if (gI σ 2) = 0 then
    if (gI σ 6) = 0 then
      some σ
    else
      bndV (M_readLine G σ) wr_readLine σ fun σ1 =>
      k88 σ1
  else
    some σ
def M_readAll_L88 (G : Nat)  : Nat → MS → Option MS
  | 0, _ => none
  | n + 1, σ => M_readAll_B88 G  (M_readAll_L88 G  n) σ
def M_readAll (G : Nat) (σ0 : MS) : Option MS :=
  vlS (sI σ0 5 (gI σ0 1)) fun σ1 =>
  vlS (sI σ1 1 (0 : Int32)) fun σ2 =>
  vlS (sI σ2 4 (0 : Int32)) fun σ3 =>
  vlS (sI σ3 2 (0 : Int32)) fun σ4 =>
  vlS (sI σ4 3 (-1 : Int32)) fun σ5 =>
  vlS (sI σ5 49 (0 : Int32)) fun σ6 =>
  vlS (sI σ6 50 (0 : Int32)) fun σ7 =>
  vlS (sI σ7 51 (0 : Int32)) fun σ8 =>
  vlS (sI σ8 52 (0 : Int32)) fun σ9 =>
  vlS (sI σ9 53 (0 : Int32)) fun σ10 =>
  vlS (sI σ10 54 (0 : Int32)) fun σ11 =>
  vlS (sI σ11 55 (0 : Int32)) fun σ12 =>
  vlS (sI σ12 62 (0 : Int32)) fun σ13 =>
  vlS (sI σ13 64 (10 : Int32)) fun σ14 =>
  vlS (sI σ14 63 (0 : Int32)) fun σ15 =>
  vlS (sI σ15 20 (0 : Int32)) fun σ16 =>
  bndV (M_token G σ16) wr_token σ16 fun σ17 =>
  M_readAll_L88 G  G σ17

/-! keep -/
def wr_keep : WS := ([], [67], [], [])
def M_keep_B2 (G : Nat) (k2 : MS → Int32 → Option MS) (σ : MS) (x1 : Int32) : Option MS :=
  if (123 : Int32) ≤ x1 then
    some σ
  else
    rdA σ 66 x1 fun t1 =>
    wrA σ 67 x1 t1 fun σ2 =>
    k2 σ2 (x1 + (1 : Int32))
def M_keep_L2 (G : Nat)  : Nat → MS → Int32 → Option MS
  | 0, _, _ => none
  | n + 1, σ, x1 => M_keep_B2 G  (M_keep_L2 G  n) σ x1
def M_keep (G : Nat) (σ0 : MS) : Option MS :=
  M_keep_L2 G  G σ0 (0 : Int32)

/-! layTold -/
def wr_layTold : WS := ([], [66], [], [])
def M_layTold_B84 (G : Nat) (k84 : MS → Int32 → Option MS) (σ : MS) (x1 : Int32) : Option MS :=
  if (4 : Int32) ≤ x1 then
    some σ
  else
    rdA σ 45 x1 fun t1 =>
    wrA σ 66 ((50 : Int32) + ((3 : Int32) * x1)) t1 fun σ2 =>
    wrA σ2 66 ((51 : Int32) + ((3 : Int32) * x1)) (0 : Int32) fun σ3 =>
    wrA σ3 66 ((52 : Int32) + ((3 : Int32) * x1)) (0 : Int32) fun σ4 =>
    k84 σ4 (x1 + (1 : Int32))
def M_layTold_L84 (G : Nat)  : Nat → MS → Int32 → Option MS
  | 0, _, _ => none
  | n + 1, σ, x1 => M_layTold_B84 G  (M_layTold_L84 G  n) σ x1
def M_layTold_B2 (G : Nat) (k2 : MS → Int32 → Option MS) (σ : MS) (x1 : Int32) : Option MS :=
  if (10 : Int32) ≤ x1 then
    M_layTold_L84 G  G σ (0 : Int32)
  else
    rdA σ 39 x1 fun t1 =>
    wrA σ 66 ((5 : Int32) * x1) t1 fun σ2 =>
    rdA σ2 40 x1 fun t3 =>
    wrA σ2 66 (((5 : Int32) * x1) + (1 : Int32)) t3 fun σ4 =>
    wrA σ4 66 (((5 : Int32) * x1) + (2 : Int32)) (-1 : Int32) fun σ5 =>
    wrA σ5 66 (((5 : Int32) * x1) + (3 : Int32)) (0 : Int32) fun σ6 =>
    rdA σ6 37 x1 fun t7 =>
    wrA σ6 66 (((5 : Int32) * x1) + (4 : Int32)) t7 fun σ8 =>
    k2 σ8 (x1 + (1 : Int32))
def M_layTold_L2 (G : Nat)  : Nat → MS → Int32 → Option MS
  | 0, _, _ => none
  | n + 1, σ, x1 => M_layTold_B2 G  (M_layTold_L2 G  n) σ x1
def M_layTold (G : Nat) (σ0 : MS) : Option MS :=
  M_layTold_L2 G  G σ0 (0 : Int32)

/-! tub -/
def wr_tub : WS := ([1, 2, 3, 4, 5, 6, 7, 8, 18, 19, 20, 21, 22, 23, 49, 50, 51, 52, 53, 54, 55, 56, 57, 58, 59, 60, 61, 62, 63, 64, 65, 71, 72, 85, 91], [10, 11, 12, 13, 14, 15, 16, 25, 26, 27, 28, 29, 30, 31, 32, 33, 34, 35, 36, 37, 38, 39, 40, 41, 42, 43, 44, 45, 46, 47, 48, 66, 67, 93], [9], [24])
def M_tub_B389 (G : Nat) (k389 : MS → Int32 → Option (Int32 × MS)) (σ : MS) (x1 : Int32) : Option (Int32 × MS) :=
  if (3 : Int32) ≤ x1 then
    some ((gI σ 60), σ)
  else
    wrA σ 93 x1 (0 : Int32) fun σ1 =>
    k389 σ1 (x1 + (1 : Int32))
def M_tub_L389 (G : Nat)  : Nat → MS → Int32 → Option (Int32 × MS)
  | 0, _, _ => none
  | n + 1, σ, x1 => M_tub_B389 G  (M_tub_L389 G  n) σ x1
def M_tub_B344 (G : Nat) (k344 : MS → Int32 → Option (Int32 × MS)) (σ : MS) (x1 : Int32) : Option (Int32 × MS) :=
  if (123 : Int32) ≤ x1 then
    bndV (M_keep G σ) wr_keep σ fun σ1 =>
    vlS (sI σ1 71 (0 : Int32)) fun σ2 =>
    vlS (sI σ2 72 (0 : Int32)) fun σ3 =>
    vlS (sI σ3 91 (0 : Int32)) fun σ4 =>
    vlS (sI σ4 85 (0 : Int32)) fun σ5 =>
    M_tub_L389 G  G σ5 (0 : Int32)
  else
    wrA σ 66 x1 (0 : Int32) fun σ6 =>
    k344 σ6 (x1 + (1 : Int32))
def M_tub_L344 (G : Nat)  : Nat → MS → Int32 → Option (Int32 × MS)
  | 0, _, _ => none
  | n + 1, σ, x1 => M_tub_B344 G  (M_tub_L344 G  n) σ x1
def M_tub_B243 (G : Nat) (k243 : MS → Int32 → Option (Int32 × MS)) (σ : MS) (x1 : Int32) : Option (Int32 × MS) :=
  if (4 : Int32) ≤ x1 then
    bndV (M_layTold G σ) wr_layTold σ fun σ1 =>
    wrA σ1 66 (62 : Int32) (gI σ1 55) fun σ2 =>
    M_tub_L344 G  G σ2 (63 : Int32)
  else
    rdA σ 30 x1 fun t3 =>
    wrA σ 42 x1 t3 fun σ4 =>
    rdA σ4 31 x1 fun t5 =>
    wrA σ4 43 x1 t5 fun σ6 =>
    rdA σ6 32 x1 fun t7 =>
    wrA σ6 44 x1 t7 fun σ8 =>
    rdA σ8 33 x1 fun t9 =>
    wrA σ8 45 x1 t9 fun σ10 =>
    rdA σ10 34 x1 fun t11 =>
    wrA σ10 46 x1 t11 fun σ12 =>
    rdA σ12 35 x1 fun t13 =>
    wrA σ12 47 x1 t13 fun σ14 =>
    k243 σ14 (x1 + (1 : Int32))
def M_tub_L243 (G : Nat)  : Nat → MS → Int32 → Option (Int32 × MS)
  | 0, _, _ => none
  | n + 1, σ, x1 => M_tub_B243 G  (M_tub_L243 G  n) σ x1
def M_tub_B157 (G : Nat) (k157 : MS → Int32 → Option (Int32 × MS)) (σ : MS) (x1 : Int32) : Option (Int32 × MS) :=
  if (10 : Int32) ≤ x1 then
    M_tub_L243 G  G σ (0 : Int32)
  else
    rdA σ 25 x1 fun t1 =>
    wrA σ 37 x1 t1 fun σ2 =>
    rdA σ2 26 x1 fun t3 =>
    wrA σ2 38 x1 t3 fun σ4 =>
    rdA σ4 27 x1 fun t5 =>
    wrA σ4 39 x1 t5 fun σ6 =>
    rdA σ6 28 x1 fun t7 =>
    wrA σ6 40 x1 t7 fun σ8 =>
    rdA σ8 29 x1 fun t9 =>
    wrA σ8 41 x1 t9 fun σ10 =>
    rdA σ10 36 x1 fun t11 =>
    bzI t11 <|
    wrA σ10 48 x1 t11 fun σ12 =>
    k157 σ12 (x1 + (1 : Int32))
def M_tub_L157 (G : Nat)  : Nat → MS → Int32 → Option (Int32 × MS)
  | 0, _, _ => none
  | n + 1, σ, x1 => M_tub_B157 G  (M_tub_L157 G  n) σ x1
def M_tub_B103 (G : Nat) (k79 : MS → Int32 → Option (Int32 × MS)) (k103 : MS → Int32 → Int32 → Option (Int32 × MS)) (σ : MS) (x1 : Int32) (x2 : Int32) : Option (Int32 × MS) :=
  rdA σ 15 x1 fun t1 =>
  if (((320 : Int32) * x1) + t1) ≤ x2 then
    k79 σ (x1 + (1 : Int32))
  else
    rdA σ 10 x2 fun t2 =>
    wrA σ 13 x2 t2 fun σ3 =>
    rdA σ3 11 x2 fun t4 =>
    wrA σ3 14 x2 t4 fun σ5 =>
    k103 σ5 x1 (x2 + (1 : Int32))
def M_tub_L103 (G : Nat) (k79 : MS → Int32 → Option (Int32 × MS)) : Nat → MS → Int32 → Int32 → Option (Int32 × MS)
  | 0, _, _, _ => none
  | n + 1, σ, x1, x2 => M_tub_B103 G k79 (M_tub_L103 G k79 n) σ x1 x2
def M_tub_B79 (G : Nat) (k79 : MS → Int32 → Option (Int32 × MS)) (σ : MS) (x1 : Int32) : Option (Int32 × MS) :=
  if (11 : Int32) ≤ x1 then
    M_tub_L157 G  G σ (0 : Int32)
  else
    rdA σ 12 x1 fun t1 =>
    wrA σ 15 x1 t1 fun σ2 =>
    M_tub_L103 G k79 G σ2 x1 ((320 : Int32) * x1)
def M_tub_L79 (G : Nat)  : Nat → MS → Int32 → Option (Int32 × MS)
  | 0, _, _ => none
  | n + 1, σ, x1 => M_tub_B79 G  (M_tub_L79 G  n) σ x1
def M_tub (G : Nat) (σ0 : MS) : Option (Int32 × MS) :=
  bndV (M_readAll G σ0) wr_readAll σ0 fun σ1 =>
  if (gI σ1 2) ≤ 0 then
    vlS (sI σ1 56 (gI σ1 49)) fun σ2 =>
    vlS (sI σ2 57 (gI σ2 50)) fun σ3 =>
    vlS (sI σ3 58 (gI σ3 51)) fun σ4 =>
    vlS (sI σ4 59 (gI σ4 52)) fun σ5 =>
    vlS (sI σ5 60 (gI σ5 53)) fun σ6 =>
    vlS (sI σ6 61 (gI σ6 54)) fun σ7 =>
    vlS (sI σ7 65 (gI σ7 64)) fun σ8 =>
    vlS (sI σ8 21 (gI σ8 20)) fun σ9 =>
    M_tub_L79 G  G σ9 (0 : Int32)
  else
    some ((-1 : Int32), σ1)

/-! fault -/
def wr_fault : WS := ([], [], [], [])
def M_fault (σ0 : MS) (a0 : Int32) : Option Int32 :=
  if a0 = 0 then
    some (gI σ0 2)
  else
    if a0 = (1 : Int32) then
      some (gI σ0 3)
    else
      some (-1 : Int32)

/-! isIn -/
def wr_isIn : WS := ([], [], [], [])
def M_isIn (a0 : Int32) (a1 : Int32) (a2 : Int32) : Option Int32 :=
  if a0 < a1 then
    some (0 : Int32)
  else
    if a2 < a0 then
      some (0 : Int32)
    else
      some (1 : Int32)

/-! isApple -/
def wr_isApple : WS := ([], [], [], [])
def M_isApple (σ0 : MS) (a0 : Int32) : Option Int32 :=
  bnd (M_isIn a0 (0 : Int32) ((gI σ0 60) - (1 : Int32))) fun t1 =>
  bzI t1 <|
  some t1

/-! isBobber -/
def wr_isBobber : WS := ([], [], [], [])
def M_isBobber (σ0 : MS) (a0 : Int32) : Option Int32 :=
  bnd (M_isIn a0 (0 : Int32) ((gI σ0 61) - (1 : Int32))) fun t1 =>
  bzI t1 <|
  some t1

/-! isRule -/
def wr_isRule : WS := ([], [], [], [])
def M_isRule (σ0 : MS) (a0 : Int32) : Option Int32 :=
  bnd (M_isIn a0 (0 : Int32) ((gI σ0 59) - (1 : Int32))) fun t1 =>
  bzI t1 <|
  some t1

/-! isCell -/
def wr_isCell : WS := ([], [], [], [])
def M_isCell (σ0 : MS) (a0 : Int32) (a1 : Int32) : Option Int32 :=
  bnd (M_isIn a0 (0 : Int32) ((gI σ0 56) - (1 : Int32))) fun t1 =>
  if t1 = 0 then
    some (0 : Int32)
  else
    bnd (M_isIn a1 (0 : Int32) ((gI σ0 57) - (1 : Int32))) fun t2 =>
    if t2 = 0 then
      some (0 : Int32)
    else
      some (1 : Int32)

/-! load -/
def wr_load : WS := ([], [66], [], [])
def M_load_B2 (G : Nat) (k2 : MS → Int32 → Option MS) (σ : MS) (x1 : Int32) : Option MS :=
  if (123 : Int32) ≤ x1 then
    some σ
  else
    rdA σ 67 x1 fun t1 =>
    wrA σ 66 x1 t1 fun σ2 =>
    k2 σ2 (x1 + (1 : Int32))
def M_load_L2 (G : Nat)  : Nat → MS → Int32 → Option MS
  | 0, _, _ => none
  | n + 1, σ, x1 => M_load_B2 G  (M_load_L2 G  n) σ x1
def M_load (G : Nat) (σ0 : MS) : Option MS :=
  M_load_L2 G  G σ0 (0 : Int32)

/-! isAfloat -/
def wr_isAfloat : WS := ([], [], [], [])
def M_isAfloat (σ0 : MS) (a0 : Int32) : Option Int32 :=
  rdA σ0 66 (((5 : Int32) * a0) + (2 : Int32)) fun t1 =>
  if 0 ≤ t1 then
    some (0 : Int32)
  else
    some (1 : Int32)

/-! afloat -/
def wr_afloat : WS := ([], [], [], [])
def M_afloat_B5 (G : Nat) (σ0 : MS) (k5 : Int32 → Int32 → Int32 → Int32 → Option Int32) (x1 : Int32) (x2 : Int32) (x3 : Int32) (x4 : Int32) : Option Int32 :=
  if (gI σ0 60) ≤ x4 then
    some x3
  else
    bnd (M_isAfloat σ0 x4) fun t1 =>
    if t1 = 0 then
      k5 x1 x2 x3 (x4 + (1 : Int32))
    else
      rdA σ0 66 ((5 : Int32) * x4) fun t2 =>
      if t2 = x1 then
        rdA σ0 66 (((5 : Int32) * x4) + (1 : Int32)) fun t3 =>
        if t3 = x2 then
          k5 x1 x2 x4 (x4 + (1 : Int32))
        else
          k5 x1 x2 x3 (x4 + (1 : Int32))
      else
        k5 x1 x2 x3 (x4 + (1 : Int32))
def M_afloat_L5 (G : Nat) (σ0 : MS)  : Nat → Int32 → Int32 → Int32 → Int32 → Option Int32
  | 0, _, _, _, _ => none
  | n + 1, x1, x2, x3, x4 => M_afloat_B5 G σ0  (M_afloat_L5 G σ0  n) x1 x2 x3 x4
def M_afloat (G : Nat) (σ0 : MS) (a0 : Int32) (a1 : Int32) : Option Int32 :=
  M_afloat_L5 G σ0  G a0 a1 (-1 : Int32) (0 : Int32)

/-! seconds -/
def wr_seconds : WS := ([], [], [], [])
def M_seconds (a0 : Int32) : Option Int32 :=
  if a0 = (2 : Int32) then
    some a0
  else
    if a0 = (3 : Int32) then
      some a0
    else
      some (1 : Int32)

/-! takesBreath -/
def wr_takesBreath : WS := ([], [], [], [])
def M_takesBreath (a0 : Int32) : Option Int32 :=
  if a0 = (2 : Int32) then
    some (1 : Int32)
  else
    if a0 = (3 : Int32) then
      some (3 : Int32)
    else
      some (0 : Int32)

/-! layWay -/
def wr_layWay : WS := ([68, 69], [], [], [])
def M_layWay_L100   (σ : MS) (x3 : Int32) (x4 : Int32) (s1 : Int32) : Option (Int32 × MS) :=
  vlS (sI σ 69 s1) fun σ1 =>
  if x3 = 0 then
    if x4 = 0 then
      some ((0 : Int32), σ1)
    else
      some ((1 : Int32), σ1)
  else
    some ((1 : Int32), σ1)
def M_layWay_L77   (σ : MS) (x3 : Int32) (x4 : Int32) (x5 : Int32) (s1 : Int32) : Option (Int32 × MS) :=
  vlS (sI σ 68 s1) fun σ1 =>
  if x5 = 0 then
    if 0 ≤ x4 then
      M_layWay_L100   σ1 x3 x4 (1 : Int32)
    else
      M_layWay_L100   σ1 x3 x4 (-1 : Int32)
  else
    M_layWay_L100   σ1 x3 x4 (0 : Int32)
def M_layWay_L64   (σ : MS) (x3 : Int32) (x4 : Int32) (x5 : Int32) : Option (Int32 × MS) :=
  M_layWay_L77   σ x3 x4 x5 (0 : Int32)
def M_layWay_L52   (σ : MS) (x3 : Int32) (x4 : Int32) (s0 : Int32) : Option (Int32 × MS) :=
  if s0 = 0 then
    M_layWay_L64   σ x3 x4 s0
  else
    if x3 = 0 then
      M_layWay_L64   σ x3 x4 s0
    else
      if 0 ≤ x3 then
        M_layWay_L77   σ x3 x4 s0 (1 : Int32)
      else
        M_layWay_L77   σ x3 x4 s0 (-1 : Int32)
def M_layWay (σ0 : MS) (a0 : Int32) (a1 : Int32) : Option (Int32 × MS) :=
  rdA σ0 66 ((5 : Int32) * a1) fun t1 =>
  rdA σ0 42 a0 fun t2 =>
  rdA σ0 66 (((5 : Int32) * a1) + (1 : Int32)) fun t3 =>
  rdA σ0 43 a0 fun t4 =>
  bnd (M_amount (t1 - t2)) fun t5 =>
  bnd (M_amount (t3 - t4)) fun t6 =>
  if t5 < t6 then
    M_layWay_L52   σ0 (t1 - t2) (t3 - t4) (0 : Int32)
  else
    M_layWay_L52   σ0 (t1 - t2) (t3 - t4) (1 : Int32)

/-! leans -/
def wr_leans : WS := ([68, 69], [], [], [])
def M_leans (G : Nat) (σ0 : MS) (a0 : Int32) (a1 : Int32) : Option (Int32 × MS) :=
  bndW (M_layWay σ0 a0 a1) wr_layWay σ0 fun t2 σ1 =>
  if t2 = 0 then
    some ((0 : Int32), σ1)
  else
    rdA σ1 66 ((5 : Int32) * a1) fun t3 =>
    rdA σ1 66 (((5 : Int32) * a1) + (1 : Int32)) fun t4 =>
    bnd (M_afloat G σ1 (t3 + (gI σ1 68)) (t4 + (gI σ1 69))) fun t5 =>
    if t5 < 0 then
      some ((0 : Int32), σ1)
    else
      some ((1 : Int32), σ1)

/-! canTry -/
def wr_canTry : WS := ([68, 69], [], [], [])
def M_canTry_L68 (G : Nat)  (σ : MS) (x1 : Int32) (x2 : Int32) (x3 : Int32) : Option (Int32 × MS) :=
  if x3 = (4 : Int32) then
    bndW (M_leans G σ x1 x2) wr_leans σ fun t2 σ1 =>
    if t2 = 0 then
      some ((0 : Int32), σ1)
    else
      some ((1 : Int32), σ1)
  else
    some ((1 : Int32), σ)
def M_canTry_L55 (G : Nat)  (σ : MS) (x1 : Int32) (x2 : Int32) (x3 : Int32) : Option (Int32 × MS) :=
  if x3 = (2 : Int32) then
    bnd (M_isRim σ x2) fun t1 =>
    if t1 = 0 then
      some ((0 : Int32), σ)
    else
      M_canTry_L68 G  σ x1 x2 x3
  else
    M_canTry_L68 G  σ x1 x2 x3
def M_canTry (G : Nat) (σ0 : MS) (a0 : Int32) (a1 : Int32) (a2 : Int32) : Option (Int32 × MS) :=
  bnd (M_isAfloat σ0 a1) fun t1 =>
  if t1 = 0 then
    some ((0 : Int32), σ0)
  else
    bnd (M_far σ0 a0 a1) fun t2 =>
    rdA σ0 44 a0 fun t3 =>
    if t3 < t2 then
      some ((0 : Int32), σ0)
    else
      rdA σ0 66 ((50 : Int32) + ((3 : Int32) * a0)) fun t4 =>
      bnd (M_takesBreath a2) fun t5 =>
      if t4 < t5 then
        some ((0 : Int32), σ0)
      else
        if a2 = (1 : Int32) then
          rdA σ0 48 a1 fun t6 =>
          if t6 = 0 then
            some ((0 : Int32), σ0)
          else
            M_canTry_L55 G  σ0 a0 a1 a2
        else
          M_canTry_L55 G  σ0 a0 a1 a2

/-! oddsOf -/
def wr_oddsOf : WS := ([], [17], [], [])
def M_oddsOf_L26 (G : Nat)  (σ : MS) (s0 : Int32) : Option (Int32 × MS) :=
  if 0 ≤ s0 then
    if s0 ≤ (100 : Int32) then
      some (s0, σ)
    else
      some ((100 : Int32), σ)
  else
    some ((0 : Int32), σ)
def M_oddsOf (G : Nat) (σ0 : MS) (a0 : Int32) (a1 : Int32) (a2 : Int32) : Option (Int32 × MS) :=
  if (((gI σ0 58) >>> (a2 &&& 31)) &&& (1 : Int32)) = (1 : Int32) then
    bndW (M_worked G σ0 a2 a0 a1 (0 : Int32) (0 : Int32)) wr_worked σ0 fun t2 σ1 =>
    M_oddsOf_L26 G  σ1 t2
  else
    M_oddsOf_L26 G  σ0 (50 : Int32)

/-! push -/
def wr_push : WS := ([68, 69], [66], [], [])
def M_push_B90 (G : Nat) (k90 : MS → Int32 → Int32 → Int32 → Int32 → Option MS) (σ : MS) (x3 : Int32) (x4 : Int32) (x5 : Int32) (x6 : Int32) : Option MS :=
  if x5 ≤ x6 then
    some σ
  else
    bnd (M_afloat G σ (x3 - (gI σ 68)) (x4 - (gI σ 69))) fun t1 =>
    wrA σ 66 ((5 : Int32) * t1) x3 fun σ2 =>
    wrA σ2 66 (((5 : Int32) * t1) + (1 : Int32)) x4 fun σ3 =>
    k90 σ3 (x3 - (gI σ3 68)) (x4 - (gI σ3 69)) x5 (x6 + (1 : Int32))
def M_push_L90 (G : Nat)  : Nat → MS → Int32 → Int32 → Int32 → Int32 → Option MS
  | 0, _, _, _, _, _ => none
  | n + 1, σ, x3, x4, x5, x6 => M_push_B90 G  (M_push_L90 G  n) σ x3 x4 x5 x6
def M_push_L76 (G : Nat)  (σ : MS) (x3 : Int32) (x4 : Int32) (x5 : Int32) : Option MS :=
  bnd (M_isCell σ x3 x4) fun t1 =>
  if t1 = 0 then
    some σ
  else
    M_push_L90 G  G σ x3 x4 x5 (0 : Int32)
def M_push_B34 (G : Nat) (k34 : MS → Int32 → Int32 → Int32 → Option MS) (σ : MS) (x3 : Int32) (x4 : Int32) (x5 : Int32) : Option MS :=
  bnd (M_isCell σ x3 x4) fun t1 =>
  if t1 = 0 then
    M_push_L76 G  σ x3 x4 x5
  else
    bnd (M_afloat G σ x3 x4) fun t2 =>
    if t2 < 0 then
      M_push_L76 G  σ x3 x4 x5
    else
      k34 σ (x3 + (gI σ 68)) (x4 + (gI σ 69)) (x5 + (1 : Int32))
def M_push_L34 (G : Nat)  : Nat → MS → Int32 → Int32 → Int32 → Option MS
  | 0, _, _, _, _ => none
  | n + 1, σ, x3, x4, x5 => M_push_B34 G  (M_push_L34 G  n) σ x3 x4 x5
def M_push (G : Nat) (σ0 : MS) (a0 : Int32) (a1 : Int32) : Option MS :=
  bndW (M_layWay σ0 a0 a1) wr_layWay σ0 fun t2 σ1 =>
  if t2 = 0 then
    some σ1
  else
    rdA σ1 66 ((5 : Int32) * a1) fun t3 =>
    rdA σ1 66 (((5 : Int32) * a1) + (1 : Int32)) fun t4 =>
    M_push_L34 G  G σ1 t3 t4 (0 : Int32)

/-! spend -/
def wr_spend : WS := ([], [66], [], [])
def M_spend (σ0 : MS) (a0 : Int32) (a1 : Int32) : Option MS :=
  rdA σ0 66 ((50 : Int32) + ((3 : Int32) * a0)) fun t1 =>
  bnd (M_takesBreath a1) fun t2 =>
  wrA σ0 66 ((50 : Int32) + ((3 : Int32) * a0)) (t1 - t2) fun σ3 =>
  rdA σ3 66 ((52 : Int32) + ((3 : Int32) * a0)) fun t4 =>
  bnd (M_seconds a1) fun t5 =>
  wrA σ3 66 ((52 : Int32) + ((3 : Int32) * a0)) (t4 + t5) fun σ6 =>
  some σ6

/-! get -/
def wr_get : WS := ([], [66], [], [])
def M_get (σ0 : MS) (a0 : Int32) (a1 : Int32) (a2 : Int32) : Option MS :=
  bndV (M_spend σ0 a0 a2) wr_spend σ0 fun σ1 =>
  wrA σ1 66 (((5 : Int32) * a1) + (2 : Int32)) a0 fun σ2 =>
  rdA σ2 66 ((51 : Int32) + ((3 : Int32) * a0)) fun t3 =>
  wrA σ2 66 ((51 : Int32) + ((3 : Int32) * a0)) (t3 + (1 : Int32)) fun σ4 =>
  some σ4

/-! miss -/
def wr_miss : WS := ([68, 69], [66], [], [])
def M_miss_L94 (G : Nat)  (σ : MS) (x1 : Int32) (x2 : Int32) (x3 : Int32) : Option MS :=
  if (2 : Int32) ≤ x3 then
    some σ
  else
    bnd (M_isAfloat σ x2) fun t1 =>
    if t1 = 0 then
      some σ
    else
      bndV (M_push G σ x1 x2) wr_push σ fun σ2 =>
      some σ2
def M_miss_L58 (G : Nat)  (σ : MS) (x1 : Int32) (x2 : Int32) (x3 : Int32) : Option MS :=
  rdA σ 66 (((5 : Int32) * x2) + (4 : Int32)) fun t1 =>
  if 0 < t1 then
    M_miss_L94 G  σ x1 x2 x3
  else
    wrA σ 66 (((5 : Int32) * x2) + (4 : Int32)) (0 : Int32) fun σ2 =>
    wrA σ2 66 (((5 : Int32) * x2) + (2 : Int32)) (9 : Int32) fun σ3 =>
    M_miss_L94 G  σ3 x1 x2 x3
def M_miss (G : Nat) (σ0 : MS) (a0 : Int32) (a1 : Int32) (a2 : Int32) : Option MS :=
  bndV (M_spend σ0 a0 a2) wr_spend σ0 fun σ1 =>
  rdA σ1 66 (((5 : Int32) * a1) + (3 : Int32)) fun t2 =>
  wrA σ1 66 (((5 : Int32) * a1) + (3 : Int32)) (t2 + (1 : Int32)) fun σ3 =>
  if a2 = 0 then
    rdA σ3 38 a1 fun t4 =>
    if t4 < (gI σ3 65) then
      M_miss_L58 G  σ3 a0 a1 a2
    else
      rdA σ3 66 (((5 : Int32) * a1) + (4 : Int32)) fun t5 =>
      rdA σ3 46 a0 fun t6 =>
      wrA σ3 66 (((5 : Int32) * a1) + (4 : Int32)) (t5 - (t6 + (1 : Int32))) fun σ7 =>
      M_miss_L58 G  σ7 a0 a1 a2
  else
    M_miss_L58 G  σ3 a0 a1 a2

/-! tries -/
def wr_tries : WS := ([68, 69], [17, 66], [], [])
def M_tries_L100 (G : Nat)  (σ : MS) (x1 : Int32) (x2 : Int32) (x3 : Int32) (x4 : Int32) (x5 : Int32) (x6 : Int32) (s1 : Int32) (s2 : Int32) (s3 : Int32) : Option (Int32 × MS) :=
  wrA σ 66 s1 (s2 + s3) fun σ1 =>
  rdA σ1 66 (x6 + (2 : Int32)) fun t2 =>
  wrA σ1 66 (x6 + (2 : Int32)) (t2 + x4) fun σ3 =>
  if x5 = 0 then
    bndV (M_miss G σ3 x1 x2 x3) wr_miss σ3 fun σ4 =>
    bzI x5 <|
    some (x5, σ4)
  else
    bndV (M_get σ3 x1 x2 x3) wr_get σ3 fun σ5 =>
    bzI x5 <|
    some (x5, σ5)
def M_tries_L54 (G : Nat)  (σ : MS) (x1 : Int32) (x2 : Int32) (x3 : Int32) (x4 : Int32) (s0 : Int32) : Option (Int32 × MS) :=
  rdA σ 66 (((63 : Int32) + ((15 : Int32) * x1)) + ((3 : Int32) * x3)) fun t1 =>
  wrA σ 66 (((63 : Int32) + ((15 : Int32) * x1)) + ((3 : Int32) * x3)) (t1 + (1 : Int32)) fun σ2 =>
  rdA σ2 66 ((((63 : Int32) + ((15 : Int32) * x1)) + ((3 : Int32) * x3)) + (1 : Int32)) fun t3 =>
  if s0 = 0 then
    M_tries_L100 G  σ2 x1 x2 x3 x4 s0 (((63 : Int32) + ((15 : Int32) * x1)) + ((3 : Int32) * x3)) ((((63 : Int32) + ((15 : Int32) * x1)) + ((3 : Int32) * x3)) + (1 : Int32)) t3 (0 : Int32)
  else
    M_tries_L100 G  σ2 x1 x2 x3 x4 s0 (((63 : Int32) + ((15 : Int32) * x1)) + ((3 : Int32) * x3)) ((((63 : Int32) + ((15 : Int32) * x1)) + ((3 : Int32) * x3)) + (1 : Int32)) t3 (1 : Int32)
def M_tries (G : Nat) (σ0 : MS) (a0 : Int32) (a1 : Int32) (a2 : Int32) : Option (Int32 × MS) :=
  bndW (M_oddsOf G σ0 a0 a1 a2) wr_oddsOf σ0 fun t2 σ1 =>
  rdA σ1 66 (62 : Int32) fun t3 =>
  rmI ((t3 * (137 : Int32)) + (71 : Int32)) (1000 : Int32) fun t4 =>
  wrA σ1 66 (62 : Int32) t4 fun σ5 =>
  rdA σ5 66 (62 : Int32) fun t6 =>
  dvI t6 (10 : Int32) fun t7 =>
  if t2 ≤ t7 then
    M_tries_L54 G  σ5 a0 a1 a2 t2 (0 : Int32)
  else
    M_tries_L54 G  σ5 a0 a1 a2 t2 (1 : Int32)

/-! breathes -/
def wr_breathes : WS := ([], [66], [], [])
def M_breathes (σ0 : MS) (a0 : Int32) : Option MS :=
  rdA σ0 45 a0 fun t1 =>
  wrA σ0 66 ((50 : Int32) + ((3 : Int32) * a0)) t1 fun σ2 =>
  rdA σ2 66 ((52 : Int32) + ((3 : Int32) * a0)) fun t3 =>
  wrA σ2 66 ((52 : Int32) + ((3 : Int32) * a0)) (t3 + (2 : Int32)) fun σ4 =>
  some σ4

/-! choice -/
def wr_choice : WS := ([68, 69], [17], [], [])
def M_choice_L78 (G : Nat) (k8 : MS → Int32 → Int32 → Int32 → Int32 → Int32 → Option (Int32 × MS)) (σ : MS) (x1 : Int32) (x2 : Int32) (x3 : Int32) (x4 : Int32) (x5 : Int32) (s0 : Int32) : Option (Int32 × MS) :=
  if x3 < 0 then
    k8 σ x1 x2 x5 s0 (x5 + (1 : Int32))
  else
    if x4 < s0 then
      k8 σ x1 x2 x5 s0 (x5 + (1 : Int32))
    else
      k8 σ x1 x2 x3 x4 (x5 + (1 : Int32))
def M_choice_B8 (G : Nat) (k8 : MS → Int32 → Int32 → Int32 → Int32 → Int32 → Option (Int32 × MS)) (σ : MS) (x1 : Int32) (x2 : Int32) (x3 : Int32) (x4 : Int32) (x5 : Int32) : Option (Int32 × MS) :=
  if ((5 : Int32) * (gI σ 60)) ≤ x5 then
    some (x3, σ)
  else
    dvI x5 (5 : Int32) fun t1 =>
    rmI x5 (5 : Int32) fun t2 =>
    bndW (M_canTry G σ x1 t1 t2) wr_canTry σ fun t4 σ3 =>
    if t4 = 0 then
      k8 σ3 x1 x2 x3 x4 (x5 + (1 : Int32))
    else
      if (gI σ3 59) = 0 then
        M_choice_L78 G k8 σ3 x1 x2 x3 x4 x5 (0 : Int32)
      else
        dvI x5 (5 : Int32) fun t5 =>
        rmI x5 (5 : Int32) fun t6 =>
        dvI x5 (5 : Int32) fun t7 =>
        rmI x5 (5 : Int32) fun t8 =>
        bndW (M_oddsOf G σ3 x1 t7 t8) wr_oddsOf σ3 fun t10 σ9 =>
        bndW (M_worked G σ9 ((5 : Int32) + x2) x1 t5 t6 t10) wr_worked σ9 fun t12 σ11 =>
        M_choice_L78 G k8 σ11 x1 x2 x3 x4 x5 t12
def M_choice_L8 (G : Nat)  : Nat → MS → Int32 → Int32 → Int32 → Int32 → Int32 → Option (Int32 × MS)
  | 0, _, _, _, _, _, _ => none
  | n + 1, σ, x1, x2, x3, x4, x5 => M_choice_B8 G  (M_choice_L8 G  n) σ x1 x2 x3 x4 x5
def M_choice (G : Nat) (σ0 : MS) (a0 : Int32) (a1 : Int32) : Option (Int32 × MS) :=
  M_choice_L8 G  G σ0 a0 a1 (-1 : Int32) (0 : Int32) (0 : Int32)

/-! actsBy -/
def wr_actsBy : WS := ([68, 69], [17, 66], [], [])
def M_actsBy (G : Nat) (σ0 : MS) (a0 : Int32) (a1 : Int32) : Option (Int32 × MS) :=
  bndW (M_choice G σ0 a0 a1) wr_choice σ0 fun t2 σ1 =>
  if t2 < 0 then
    bndV (M_breathes σ1 a0) wr_breathes σ1 fun σ3 =>
    some ((0 : Int32), σ3)
  else
    dvI t2 (5 : Int32) fun t4 =>
    rmI t2 (5 : Int32) fun t5 =>
    bndW (M_tries G σ1 a0 t4 t5) wr_tries σ1 fun t7 σ6 =>
    bzI t7 <|
    some (t7, σ6)

/-! afloatAll -/
def wr_afloatAll : WS := ([], [], [], [])
def M_afloatAll_B4 (G : Nat) (σ0 : MS) (k4 : Int32 → Int32 → Option Int32) (x1 : Int32) (x2 : Int32) : Option Int32 :=
  if (gI σ0 60) ≤ x2 then
    some x1
  else
    bnd (M_isAfloat σ0 x2) fun t1 =>
    if t1 = 0 then
      k4 (x1 + (0 : Int32)) (x2 + (1 : Int32))
    else
      k4 (x1 + (1 : Int32)) (x2 + (1 : Int32))
def M_afloatAll_L4 (G : Nat) (σ0 : MS)  : Nat → Int32 → Int32 → Option Int32
  | 0, _, _ => none
  | n + 1, x1, x2 => M_afloatAll_B4 G σ0  (M_afloatAll_L4 G σ0  n) x1 x2
def M_afloatAll (G : Nat) (σ0 : MS) : Option Int32 :=
  M_afloatAll_L4 G σ0  G (0 : Int32) (0 : Int32)

/-! apple -/
def wr_apple : WS := ([], [], [], [])
def M_apple (σ0 : MS) (a0 : Int32) (a1 : Int32) : Option Int32 :=
  bnd (M_isApple σ0 a0) fun t1 =>
  if t1 = 0 then
    some (-2 : Int32)
  else
    bnd (M_isIn a1 (0 : Int32) (4 : Int32)) fun t2 =>
    if t2 = 0 then
      some (-2 : Int32)
    else
      rdA σ0 67 (((5 : Int32) * a0) + a1) fun t3 =>
      some t3

/-! bobber -/
def wr_bobber : WS := ([], [], [], [])
def M_bobber (σ0 : MS) (a0 : Int32) (a1 : Int32) : Option Int32 :=
  bnd (M_isBobber σ0 a0) fun t1 =>
  if t1 = 0 then
    some (-1 : Int32)
  else
    bnd (M_isIn a1 (0 : Int32) (2 : Int32)) fun t2 =>
    if t2 = 0 then
      some (-1 : Int32)
    else
      rdA σ0 67 (((50 : Int32) + ((3 : Int32) * a0)) + a1) fun t3 =>
      some t3

/-! mayTry -/
def wr_mayTry : WS := ([68, 69], [66], [], [])
def M_mayTry (G : Nat) (σ0 : MS) (a0 : Int32) (a1 : Int32) (a2 : Int32) : Option (Int32 × MS) :=
  bndV (M_load G σ0) wr_load σ0 fun σ1 =>
  bnd (M_isBobber σ1 a0) fun t2 =>
  if t2 = 0 then
    some ((0 : Int32), σ1)
  else
    bnd (M_isApple σ1 a1) fun t3 =>
    if t3 = 0 then
      some ((0 : Int32), σ1)
    else
      bnd (M_isIn a2 (0 : Int32) (4 : Int32)) fun t4 =>
      if t4 = 0 then
        some ((0 : Int32), σ1)
      else
        bndW (M_canTry G σ1 a0 a1 a2) wr_canTry σ1 fun t6 σ5 =>
        if t6 = 0 then
          some ((0 : Int32), σ5)
        else
          some ((1 : Int32), σ5)

/-! odds -/
def wr_odds : WS := ([68, 69], [17, 66], [], [])
def M_odds (G : Nat) (σ0 : MS) (a0 : Int32) (a1 : Int32) (a2 : Int32) : Option (Int32 × MS) :=
  bndW (M_mayTry G σ0 a0 a1 a2) wr_mayTry σ0 fun t2 σ1 =>
  if t2 = 0 then
    some ((-1 : Int32), σ1)
  else
    bndW (M_oddsOf G σ1 a0 a1 a2) wr_oddsOf σ1 fun t4 σ3 =>
    some (t4, σ3)

/-! told10 -/
def wr_told10 : WS := ([], [], [], [])
def M_told10 (a0 : Int32) : Option Int32 :=
  if 0 ≤ a0 then
    dvI a0 (5 : Int32) fun t1 =>
    rmI a0 (5 : Int32) fun t2 =>
    some (((10 : Int32) * t1) + t2)
  else
    some (-1 : Int32)

/-! chooses -/
def wr_chooses : WS := ([68, 69], [17, 66], [], [])
def M_chooses (G : Nat) (σ0 : MS) (a0 : Int32) : Option (Int32 × MS) :=
  bnd (M_isBobber σ0 a0) fun t1 =>
  if t1 = 0 then
    some ((-2 : Int32), σ0)
  else
    bndV (M_load G σ0) wr_load σ0 fun σ2 =>
    rdA σ2 47 a0 fun t3 =>
    bndW (M_choice G σ2 a0 t3) wr_choice σ2 fun t5 σ4 =>
    bnd (M_told10 t5) fun t6 =>
    some (t6, σ4)

/-! act -/
def wr_act : WS := ([71, 72], [70], [], [])
def M_act_B52 (G : Nat) (k52 : MS → Int32 → Option MS) (σ : MS) (x1 : Int32) : Option MS :=
  if (123 : Int32) ≤ x1 then
    vlS (sI σ 71 ((gI σ 71) + (1 : Int32))) fun σ1 =>
    vlS (sI σ1 72 (0 : Int32)) fun σ2 =>
    some σ2
  else
    rdA σ 67 x1 fun t3 =>
    wrA σ 70 (((128 : Int32) * (gI σ 71)) + x1) t3 fun σ4 =>
    k52 σ4 (x1 + (1 : Int32))
def M_act_L52 (G : Nat)  : Nat → MS → Int32 → Option MS
  | 0, _, _ => none
  | n + 1, σ, x1 => M_act_B52 G  (M_act_L52 G  n) σ x1
def M_act_B11 (G : Nat) (k11 : MS → Int32 → Option MS) (σ : MS) (x1 : Int32) : Option MS :=
  if (4992 : Int32) ≤ x1 then
    vlS (sI σ 71 ((gI σ 71) - (1 : Int32))) fun σ1 =>
    M_act_L52 G  G σ1 (0 : Int32)
  else
    rdA σ 70 ((128 : Int32) + x1) fun t2 =>
    wrA σ 70 x1 t2 fun σ3 =>
    k11 σ3 (x1 + (1 : Int32))
def M_act_L11 (G : Nat)  : Nat → MS → Int32 → Option MS
  | 0, _, _ => none
  | n + 1, σ, x1 => M_act_B11 G  (M_act_L11 G  n) σ x1
def M_act (G : Nat) (σ0 : MS) : Option MS :=
  if (gI σ0 71) = (40 : Int32) then
    M_act_L11 G  G σ0 (0 : Int32)
  else
    M_act_L52 G  G σ0 (0 : Int32)

/-! exchange -/
def wr_exchange : WS := ([], [67, 70], [], [])
def M_exchange_B2 (G : Nat) (k2 : MS → Int32 → Int32 → Option MS) (σ : MS) (x1 : Int32) (x2 : Int32) : Option MS :=
  if (123 : Int32) ≤ x2 then
    some σ
  else
    rdA σ 70 (x1 + x2) fun t1 =>
    rdA σ 67 x2 fun t2 =>
    wrA σ 70 (x1 + x2) t2 fun σ3 =>
    wrA σ3 67 x2 t1 fun σ4 =>
    k2 σ4 x1 (x2 + (1 : Int32))
def M_exchange_L2 (G : Nat)  : Nat → MS → Int32 → Int32 → Option MS
  | 0, _, _, _ => none
  | n + 1, σ, x1, x2 => M_exchange_B2 G  (M_exchange_L2 G  n) σ x1 x2
def M_exchange (G : Nat) (σ0 : MS) (a0 : Int32) : Option MS :=
  M_exchange_L2 G  G σ0 a0 (0 : Int32)

/-! go -/
def wr_go : WS := ([68, 69, 71, 72], [17, 66, 67, 70], [], [])
def M_go (G : Nat) (σ0 : MS) (a0 : Int32) (a1 : Int32) (a2 : Int32) : Option (Int32 × MS) :=
  bndW (M_mayTry G σ0 a0 a1 a2) wr_mayTry σ0 fun t2 σ1 =>
  if t2 = 0 then
    some ((-1 : Int32), σ1)
  else
    bndV (M_act G σ1) wr_act σ1 fun σ3 =>
    bndW (M_tries G σ3 a0 a1 a2) wr_tries σ3 fun t5 σ4 =>
    bndV (M_keep G σ4) wr_keep σ4 fun σ6 =>
    if t5 = 0 then
      some ((0 : Int32), σ6)
    else
      some ((1 : Int32), σ6)

/-! breathe -/
def wr_breathe : WS := ([71, 72], [66, 67, 70], [], [])
def M_breathe (G : Nat) (σ0 : MS) (a0 : Int32) : Option (Int32 × MS) :=
  bnd (M_isBobber σ0 a0) fun t1 =>
  if t1 = 0 then
    some ((-1 : Int32), σ0)
  else
    bndV (M_act G σ0) wr_act σ0 fun σ2 =>
    bndV (M_load G σ2) wr_load σ2 fun σ3 =>
    bndV (M_breathes σ3 a0) wr_breathes σ3 fun σ4 =>
    bndV (M_keep G σ4) wr_keep σ4 fun σ5 =>
    rdA σ5 45 a0 fun t6 =>
    some (t6, σ5)

/-! goesOn -/
def wr_goesOn : WS := ([], [66], [], [])
def M_goesOn_L55 (G : Nat)  (σ : MS) (x4 : Int32) (x5 : Int32) (s0 : Int32) : Option (Int32 × MS) :=
  if x4 < 0 then
    some ((0 : Int32), σ)
  else
    bnd (M_isCell σ x5 s0) fun t1 =>
    if t1 = 0 then
      some ((0 : Int32), σ)
    else
      bnd (M_afloat G σ x5 s0) fun t2 =>
      if t2 < 0 then
        wrA σ 66 ((5 : Int32) * x4) x5 fun σ3 =>
        wrA σ3 66 (((5 : Int32) * x4) + (1 : Int32)) s0 fun σ4 =>
        some ((1 : Int32), σ4)
      else
        some ((0 : Int32), σ)
def M_goesOn_L30 (G : Nat)  (σ : MS) (x2 : Int32) (x3 : Int32) (x4 : Int32) (s0 : Int32) : Option (Int32 × MS) :=
  if x3 = (2 : Int32) then
    M_goesOn_L55 G  σ x4 s0 (x2 + (1 : Int32))
  else
    if x3 = (3 : Int32) then
      M_goesOn_L55 G  σ x4 s0 (x2 - (1 : Int32))
    else
      M_goesOn_L55 G  σ x4 s0 x2
def M_goesOn (G : Nat) (σ0 : MS) (a0 : Int32) (a1 : Int32) (a2 : Int32) : Option (Int32 × MS) :=
  bnd (M_afloat G σ0 a0 a1) fun t1 =>
  if a2 = 0 then
    M_goesOn_L30 G  σ0 a1 a2 t1 (a0 - (1 : Int32))
  else
    if a2 = (1 : Int32) then
      M_goesOn_L30 G  σ0 a1 a2 t1 (a0 + (1 : Int32))
    else
      M_goesOn_L30 G  σ0 a1 a2 t1 a0

/-! wavesTo -/
def wr_wavesTo : WS := ([], [66], [], [])
def M_wavesTo_L105 (G : Nat) (k40 : MS → Int32 → Int32 → Int32 → Int32 → Int32 → Option (Int32 × MS)) (k49 : MS → Int32 → Int32 → Int32 → Int32 → Int32 → Int32 → Option (Int32 × MS)) (σ : MS) (x1 : Int32) (x3 : Int32) (x4 : Int32) (x5 : Int32) (x6 : Int32) (s0 : Int32) (s2 : Int32) (s3 : Int32) : Option (Int32 × MS) :=
  bndW (M_goesOn G σ s2 s3 x1) wr_goesOn σ fun t2 σ1 =>
  if t2 = 0 then
    k49 σ1 x1 (s0 + (0 : Int32)) x3 x4 x5 (x6 + (1 : Int32))
  else
    k49 σ1 x1 (s0 + (1 : Int32)) x3 x4 x5 (x6 + (1 : Int32))
def M_wavesTo_L93 (G : Nat) (k40 : MS → Int32 → Int32 → Int32 → Int32 → Int32 → Option (Int32 × MS)) (k49 : MS → Int32 → Int32 → Int32 → Int32 → Int32 → Int32 → Option (Int32 × MS)) (σ : MS) (x1 : Int32) (x3 : Int32) (x4 : Int32) (x5 : Int32) (x6 : Int32) (x7 : Int32) (s0 : Int32) (s2 : Int32) : Option (Int32 × MS) :=
  if (2 : Int32) ≤ x1 then
    M_wavesTo_L105 G k40 k49 σ x1 x3 x4 x5 x6 s0 s2 x7
  else
    M_wavesTo_L105 G k40 k49 σ x1 x3 x4 x5 x6 s0 s2 x6
def M_wavesTo_L77 (G : Nat) (k40 : MS → Int32 → Int32 → Int32 → Int32 → Int32 → Option (Int32 × MS)) (k49 : MS → Int32 → Int32 → Int32 → Int32 → Int32 → Int32 → Option (Int32 × MS)) (σ : MS) (x1 : Int32) (x2 : Int32) (x3 : Int32) (x4 : Int32) (x5 : Int32) (x6 : Int32) (s0 : Int32) : Option (Int32 × MS) :=
  if (2 : Int32) ≤ x1 then
    M_wavesTo_L93 G k40 k49 σ x1 x3 x4 x5 x6 s0 x2 x6
  else
    M_wavesTo_L93 G k40 k49 σ x1 x3 x4 x5 x6 s0 x2 s0
def M_wavesTo_L66 (G : Nat) (k40 : MS → Int32 → Int32 → Int32 → Int32 → Int32 → Option (Int32 × MS)) (k49 : MS → Int32 → Int32 → Int32 → Int32 → Int32 → Int32 → Option (Int32 × MS)) (σ : MS) (x1 : Int32) (x2 : Int32) (x3 : Int32) (x4 : Int32) (x5 : Int32) (x6 : Int32) : Option (Int32 × MS) :=
  M_wavesTo_L77 G k40 k49 σ x1 x2 x3 x4 x5 x6 ((x3 - (1 : Int32)) - x5)
def M_wavesTo_B49 (G : Nat) (k40 : MS → Int32 → Int32 → Int32 → Int32 → Int32 → Option (Int32 × MS)) (k49 : MS → Int32 → Int32 → Int32 → Int32 → Int32 → Int32 → Option (Int32 × MS)) (σ : MS) (x1 : Int32) (x2 : Int32) (x3 : Int32) (x4 : Int32) (x5 : Int32) (x6 : Int32) : Option (Int32 × MS) :=
  if x4 ≤ x6 then
    k40 σ x1 x2 x3 x4 (x5 + (1 : Int32))
  else
    if x1 = (1 : Int32) then
      M_wavesTo_L66 G k40 k49 σ x1 x2 x3 x4 x5 x6
    else
      if x1 = (2 : Int32) then
        M_wavesTo_L66 G k40 k49 σ x1 x2 x3 x4 x5 x6
      else
        M_wavesTo_L77 G k40 k49 σ x1 x2 x3 x4 x5 x6 x5
def M_wavesTo_L49 (G : Nat) (k40 : MS → Int32 → Int32 → Int32 → Int32 → Int32 → Option (Int32 × MS)) : Nat → MS → Int32 → Int32 → Int32 → Int32 → Int32 → Int32 → Option (Int32 × MS)
  | 0, _, _, _, _, _, _, _ => none
  | n + 1, σ, x1, x2, x3, x4, x5, x6 => M_wavesTo_B49 G k40 (M_wavesTo_L49 G k40 n) σ x1 x2 x3 x4 x5 x6
def M_wavesTo_B40 (G : Nat) (k40 : MS → Int32 → Int32 → Int32 → Int32 → Int32 → Option (Int32 × MS)) (σ : MS) (x1 : Int32) (x2 : Int32) (x3 : Int32) (x4 : Int32) (x5 : Int32) : Option (Int32 × MS) :=
  if x3 ≤ x5 then
    some (x2, σ)
  else
    M_wavesTo_L49 G k40 G σ x1 x2 x3 x4 x5 (0 : Int32)
def M_wavesTo_L40 (G : Nat)  : Nat → MS → Int32 → Int32 → Int32 → Int32 → Int32 → Option (Int32 × MS)
  | 0, _, _, _, _, _, _ => none
  | n + 1, σ, x1, x2, x3, x4, x5 => M_wavesTo_B40 G  (M_wavesTo_L40 G  n) σ x1 x2 x3 x4 x5
def M_wavesTo_L18 (G : Nat)  (σ : MS) (x1 : Int32) (x2 : Int32) (s0 : Int32) : Option (Int32 × MS) :=
  if (2 : Int32) ≤ x1 then
    M_wavesTo_L40 G  G σ x1 x2 s0 (gI σ 56) (0 : Int32)
  else
    M_wavesTo_L40 G  G σ x1 x2 s0 (gI σ 57) (0 : Int32)
def M_wavesTo (G : Nat) (σ0 : MS) (a0 : Int32) : Option (Int32 × MS) :=
  if (2 : Int32) ≤ a0 then
    M_wavesTo_L18 G  σ0 a0 (0 : Int32) (gI σ0 57)
  else
    M_wavesTo_L18 G  σ0 a0 (0 : Int32) (gI σ0 56)

/-! wave -/
def wr_wave : WS := ([71, 72], [66, 67, 70], [], [])
def M_wave (G : Nat) (σ0 : MS) (a0 : Int32) : Option (Int32 × MS) :=
  bnd (M_isIn a0 (0 : Int32) (3 : Int32)) fun t1 =>
  if t1 = 0 then
    some ((-1 : Int32), σ0)
  else
    bndV (M_act G σ0) wr_act σ0 fun σ2 =>
    bndV (M_load G σ2) wr_load σ2 fun σ3 =>
    bndW (M_wavesTo G σ3 a0) wr_wavesTo σ3 fun t5 σ4 =>
    bndV (M_keep G σ4) wr_keep σ4 fun σ6 =>
    some (t5, σ6)

/-! party -/
def wr_party : WS := ([68, 69, 71, 72], [17, 66, 67, 70], [], [])
def M_party_B32 (G : Nat) (k24 : MS → Int32 → Int32 → Int32 → Option (Int32 × MS)) (k32 : MS → Int32 → Int32 → Int32 → Int32 → Option (Int32 × MS)) (σ : MS) (x1 : Int32) (x2 : Int32) (x3 : Int32) (x4 : Int32) : Option (Int32 × MS) :=
  if (gI σ 61) ≤ x4 then
    k24 σ x1 x2 (x3 + (1 : Int32))
  else
    rdA σ 47 x4 fun t1 =>
    bndW (M_actsBy G σ x4 t1) wr_actsBy σ fun t3 σ2 =>
    if t3 = 0 then
      k32 σ2 x1 (x2 + (0 : Int32)) x3 (x4 + (1 : Int32))
    else
      k32 σ2 x1 (x2 + (1 : Int32)) x3 (x4 + (1 : Int32))
def M_party_L32 (G : Nat) (k24 : MS → Int32 → Int32 → Int32 → Option (Int32 × MS)) : Nat → MS → Int32 → Int32 → Int32 → Int32 → Option (Int32 × MS)
  | 0, _, _, _, _, _ => none
  | n + 1, σ, x1, x2, x3, x4 => M_party_B32 G k24 (M_party_L32 G k24 n) σ x1 x2 x3 x4
def M_party_B24 (G : Nat) (k24 : MS → Int32 → Int32 → Int32 → Option (Int32 × MS)) (σ : MS) (x1 : Int32) (x2 : Int32) (x3 : Int32) : Option (Int32 × MS) :=
  if x1 ≤ x3 then
    bndV (M_keep G σ) wr_keep σ fun σ1 =>
    some (x2, σ1)
  else
    M_party_L32 G k24 G σ x1 x2 x3 (0 : Int32)
def M_party_L24 (G : Nat)  : Nat → MS → Int32 → Int32 → Int32 → Option (Int32 × MS)
  | 0, _, _, _, _ => none
  | n + 1, σ, x1, x2, x3 => M_party_B24 G  (M_party_L24 G  n) σ x1 x2 x3
def M_party (G : Nat) (σ0 : MS) (a0 : Int32) : Option (Int32 × MS) :=
  bnd (M_isIn a0 (0 : Int32) (20 : Int32)) fun t1 =>
  if t1 = 0 then
    some ((-1 : Int32), σ0)
  else
    bndV (M_act G σ0) wr_act σ0 fun σ2 =>
    bndV (M_load G σ2) wr_load σ2 fun σ3 =>
    M_party_L24 G  G σ3 a0 (0 : Int32) (0 : Int32)

/-! undo -/
def wr_undo : WS := ([71, 72], [67, 70], [], [])
def M_undo (G : Nat) (σ0 : MS) : Option (Int32 × MS) :=
  if (gI σ0 71) = 0 then
    some ((0 : Int32), σ0)
  else
    vlS (sI σ0 71 ((gI σ0 71) - (1 : Int32))) fun σ1 =>
    vlS (sI σ1 72 ((gI σ1 72) + (1 : Int32))) fun σ2 =>
    bndV (M_exchange G σ2 ((128 : Int32) * (gI σ2 71))) wr_exchange σ2 fun σ3 =>
    some ((1 : Int32), σ3)

/-! redo -/
def wr_redo : WS := ([71, 72], [67, 70], [], [])
def M_redo (G : Nat) (σ0 : MS) : Option (Int32 × MS) :=
  if (gI σ0 72) = 0 then
    some ((0 : Int32), σ0)
  else
    bndV (M_exchange G σ0 ((128 : Int32) * (gI σ0 71))) wr_exchange σ0 fun σ1 =>
    vlS (sI σ1 71 ((gI σ1 71) + (1 : Int32))) fun σ2 =>
    vlS (sI σ2 72 ((gI σ2 72) - (1 : Int32))) fun σ3 =>
    some ((1 : Int32), σ3)

/-! loadRow -/
def wr_loadRow : WS := ([], [66], [], [])
def M_loadRow_B2 (G : Nat) (k2 : MS → Int32 → Int32 → Option MS) (σ : MS) (x1 : Int32) (x2 : Int32) : Option MS :=
  if (123 : Int32) ≤ x2 then
    some σ
  else
    rdA σ 73 (((128 : Int32) * x1) + x2) fun t1 =>
    wrA σ 66 x2 t1 fun σ2 =>
    k2 σ2 x1 (x2 + (1 : Int32))
def M_loadRow_L2 (G : Nat)  : Nat → MS → Int32 → Int32 → Option MS
  | 0, _, _, _ => none
  | n + 1, σ, x1, x2 => M_loadRow_B2 G  (M_loadRow_L2 G  n) σ x1 x2
def M_loadRow (G : Nat) (σ0 : MS) (a0 : Int32) : Option MS :=
  M_loadRow_L2 G  G σ0 a0 (0 : Int32)

/-! goDeeper -/
def wr_goDeeper : WS := ([80], [73, 74, 75, 76, 78, 79], [], [])
def M_goDeeper_B2 (G : Nat) (k2 : MS → Int32 → Int32 → Int32 → Option MS) (σ : MS) (x1 : Int32) (x2 : Int32) (x3 : Int32) : Option MS :=
  if (123 : Int32) ≤ x3 then
    wrA σ 74 x1 x2 fun σ1 =>
    wrA σ1 75 x1 (-1 : Int32) fun σ2 =>
    wrA σ2 76 x1 (0 : Int32) fun σ3 =>
    wrA σ3 78 x1 (0 : Int32) fun σ4 =>
    wrA σ4 79 x1 (-1 : Int32) fun σ5 =>
    vlS (sI σ5 80 ((gI σ5 80) + (1 : Int32))) fun σ6 =>
    some σ6
  else
    rdA σ 66 x3 fun t7 =>
    wrA σ 73 (((128 : Int32) * x1) + x3) t7 fun σ8 =>
    k2 σ8 x1 x2 (x3 + (1 : Int32))
def M_goDeeper_L2 (G : Nat)  : Nat → MS → Int32 → Int32 → Int32 → Option MS
  | 0, _, _, _, _ => none
  | n + 1, σ, x1, x2, x3 => M_goDeeper_B2 G  (M_goDeeper_L2 G  n) σ x1 x2 x3
def M_goDeeper (G : Nat) (σ0 : MS) (a0 : Int32) (a1 : Int32) : Option MS :=
  M_goDeeper_L2 G  G σ0 a0 a1 (0 : Int32)

/-! mayGo -/
def wr_mayGo : WS := ([68, 69], [], [], [])
def M_mayGo (G : Nat) (σ0 : MS) (a0 : Int32) (a1 : Int32) (a2 : Int32) : Option (Int32 × MS) :=
  if a2 = (50 : Int32) then
    rdA σ0 74 a1 fun t9 =>
    if t9 < (2 : Int32) then
      some ((0 : Int32), σ0)
    else
      rdA σ0 66 ((50 : Int32) + ((3 : Int32) * a0)) fun t10 =>
      rdA σ0 45 a0 fun t11 =>
      if t11 ≤ t10 then
        some ((0 : Int32), σ0)
      else
        some ((1 : Int32), σ0)
  else
    dvI a2 (5 : Int32) fun t1 =>
    if (gI σ0 60) ≤ t1 then
      some ((0 : Int32), σ0)
    else
      rdA σ0 74 a1 fun t2 =>
      rmI a2 (5 : Int32) fun t3 =>
      bnd (M_seconds t3) fun t4 =>
      if t2 < t4 then
        some ((0 : Int32), σ0)
      else
        dvI a2 (5 : Int32) fun t5 =>
        rmI a2 (5 : Int32) fun t6 =>
        bndW (M_canTry G σ0 a0 t5 t6) wr_canTry σ0 fun t8 σ7 =>
        if t8 = 0 then
          some ((0 : Int32), σ7)
        else
          some ((1 : Int32), σ7)

/-! weigh -/
def wr_weigh : WS := ([], [78, 79], [], [])
def M_weigh (σ0 : MS) (a0 : Int32) (a1 : Int32) : Option MS :=
  rdA σ0 78 a0 fun t1 =>
  if t1 < a1 then
    wrA σ0 78 a0 a1 fun σ2 =>
    rdA σ2 75 a0 fun t3 =>
    wrA σ2 79 a0 t3 fun σ4 =>
    some σ4
  else
    some σ0

/-! layBest -/
def wr_layBest : WS := ([68, 69, 80], [17, 66, 73, 74, 75, 76, 77, 78, 79], [], [])
def M_layBest_L348 (G : Nat)  (σ : MS) : Option (Int32 × MS) :=
  if (20000 : Int32) < (gI σ 80) then
    some ((0 : Int32), σ)
  else
    some ((1 : Int32), σ)
def M_layBest_L335 (G : Nat) (k20 : MS → Int32 → Int32 → Int32 → Option (Int32 × MS)) (σ : MS) (x1 : Int32) (x3 : Int32) (x4 : Int32) (s1 : Int32) (s2 : Int32) : Option (Int32 × MS) :=
  bndV (M_weigh σ s1 s2) wr_weigh σ fun σ1 =>
  wrA σ1 76 x3 (0 : Int32) fun σ2 =>
  k20 σ2 x1 x3 x4
def M_layBest_L291 (G : Nat) (k20 : MS → Int32 → Int32 → Int32 → Option (Int32 × MS)) (σ : MS) (x1 : Int32) (x3 : Int32) (x4 : Int32) (s0 : Int32) : Option (Int32 × MS) :=
  rdA σ 76 x3 fun t1 =>
  if t1 = (2 : Int32) then
    rdA σ 77 x3 fun t2 =>
    dvI ((s0 * ((1000000 : Int32) + t2)) + (((100 : Int32) - s0) * x4)) (100 : Int32) fun t3 =>
    M_layBest_L335 G k20 σ x1 x3 x4 x3 t3
  else
    M_layBest_L335 G k20 σ x1 x3 x4 x3 x4
def M_layBest_L148 (G : Nat) (k20 : MS → Int32 → Int32 → Int32 → Option (Int32 × MS)) (σ : MS) (x1 : Int32) (x3 : Int32) (x4 : Int32) (x5 : Int32) : Option (Int32 × MS) :=
  wrA σ 75 x3 x5 fun σ1 =>
  if x5 ≤ (50 : Int32) then
    if x5 = (50 : Int32) then
      wrA σ1 76 x3 (3 : Int32) fun σ10 =>
      bndV (M_breathes σ10 x1) wr_breathes σ10 fun σ11 =>
      rdA σ11 74 x3 fun t12 =>
      bndV (M_goDeeper G σ11 (x3 + (1 : Int32)) (t12 - (2 : Int32))) wr_goDeeper σ11 fun σ13 =>
      k20 σ13 x1 (x3 + (1 : Int32)) x4
    else
      wrA σ1 76 x3 (1 : Int32) fun σ2 =>
      dvI x5 (5 : Int32) fun t3 =>
      rmI x5 (5 : Int32) fun t4 =>
      bndV (M_get σ2 x1 t3 t4) wr_get σ2 fun σ5 =>
      rdA σ5 74 x3 fun t6 =>
      rmI x5 (5 : Int32) fun t7 =>
      bnd (M_seconds t7) fun t8 =>
      bndV (M_goDeeper G σ5 (x3 + (1 : Int32)) (t6 - t8)) wr_goDeeper σ5 fun σ9 =>
      k20 σ9 x1 (x3 + (1 : Int32)) x4
  else
    rdA σ1 78 x3 fun t14 =>
    k20 σ1 x1 (x3 + (-1 : Int32)) t14
def M_layBest_B124 (G : Nat) (k20 : MS → Int32 → Int32 → Int32 → Option (Int32 × MS)) (k124 : MS → Int32 → Int32 → Int32 → Int32 → Option (Int32 × MS)) (σ : MS) (x1 : Int32) (x3 : Int32) (x4 : Int32) (x5 : Int32) : Option (Int32 × MS) :=
  if (50 : Int32) < x5 then
    M_layBest_L148 G k20 σ x1 x3 x4 x5
  else
    bndW (M_mayGo G σ x1 x3 x5) wr_mayGo σ fun t2 σ1 =>
    if t2 = 0 then
      k124 σ1 x1 x3 x4 (x5 + (1 : Int32))
    else
      M_layBest_L148 G k20 σ1 x1 x3 x4 x5
def M_layBest_L124 (G : Nat) (k20 : MS → Int32 → Int32 → Int32 → Option (Int32 × MS)) : Nat → MS → Int32 → Int32 → Int32 → Int32 → Option (Int32 × MS)
  | 0, _, _, _, _, _ => none
  | n + 1, σ, x1, x3, x4, x5 => M_layBest_B124 G k20 (M_layBest_L124 G k20 n) σ x1 x3 x4 x5
def M_layBest_B20 (G : Nat) (k20 : MS → Int32 → Int32 → Int32 → Option (Int32 × MS)) (σ : MS) (x1 : Int32) (x3 : Int32) (x4 : Int32) : Option (Int32 × MS) :=
  if x3 < 0 then
    M_layBest_L348 G  σ
  else
    if (20000 : Int32) < (gI σ 80) then
      M_layBest_L348 G  σ
    else
      bndV (M_loadRow G σ x3) wr_loadRow σ fun σ1 =>
      rdA σ1 75 x3 fun t2 =>
      rdA σ1 76 x3 fun t3 =>
      if t3 = (1 : Int32) then
        wrA σ1 77 x3 x4 fun σ10 =>
        wrA σ10 76 x3 (2 : Int32) fun σ11 =>
        dvI t2 (5 : Int32) fun t12 =>
        rmI t2 (5 : Int32) fun t13 =>
        bndV (M_miss G σ11 x1 t12 t13) wr_miss σ11 fun σ14 =>
        rdA σ14 74 x3 fun t15 =>
        rmI t2 (5 : Int32) fun t16 =>
        bnd (M_seconds t16) fun t17 =>
        bndV (M_goDeeper G σ14 (x3 + (1 : Int32)) (t15 - t17)) wr_goDeeper σ14 fun σ18 =>
        k20 σ18 x1 (x3 + (1 : Int32)) x4
      else
        rdA σ1 76 x3 fun t4 =>
        if t4 = 0 then
          M_layBest_L124 G k20 G σ1 x1 x3 x4 (t2 + (1 : Int32))
        else
          rdA σ1 76 x3 fun t5 =>
          if t5 = (2 : Int32) then
            dvI t2 (5 : Int32) fun t6 =>
            rmI t2 (5 : Int32) fun t7 =>
            bndW (M_oddsOf G σ1 x1 t6 t7) wr_oddsOf σ1 fun t9 σ8 =>
            M_layBest_L291 G k20 σ8 x1 x3 x4 t9
          else
            M_layBest_L291 G k20 σ1 x1 x3 x4 (0 : Int32)
def M_layBest_L20 (G : Nat)  : Nat → MS → Int32 → Int32 → Int32 → Option (Int32 × MS)
  | 0, _, _, _, _ => none
  | n + 1, σ, x1, x3, x4 => M_layBest_B20 G  (M_layBest_L20 G  n) σ x1 x3 x4
def M_layBest (G : Nat) (σ0 : MS) (a0 : Int32) (a1 : Int32) : Option (Int32 × MS) :=
  vlS (sI σ0 80 (0 : Int32)) fun σ1 =>
  bndV (M_load G σ1) wr_load σ1 fun σ2 =>
  bndV (M_goDeeper G σ2 (0 : Int32) a1) wr_goDeeper σ2 fun σ3 =>
  M_layBest_L20 G  G σ3 a0 (0 : Int32) (0 : Int32)

/-! best -/
def wr_best : WS := ([68, 69, 80], [17, 66, 73, 74, 75, 76, 77, 78, 79], [], [])
def M_best_L102 (G : Nat)  (σ : MS) (s0 : Int32) : Option (Int32 × MS) :=
  bnd (M_truth s0) fun t1 =>
  some (t1, σ)
def M_best (G : Nat) (σ0 : MS) (a0 : Int32) (a1 : Int32) (a2 : Int32) : Option (Int32 × MS) :=
  bnd (M_isBobber σ0 a0) fun t1 =>
  if t1 = 0 then
    some ((-1 : Int32), σ0)
  else
    bnd (M_isIn a1 (0 : Int32) (8 : Int32)) fun t2 =>
    if t2 = 0 then
      some ((-1 : Int32), σ0)
    else
      bnd (M_isIn a2 (0 : Int32) (2 : Int32)) fun t3 =>
      if t3 = 0 then
        some ((-1 : Int32), σ0)
      else
        bndW (M_layBest G σ0 a0 a1) wr_layBest σ0 fun t5 σ4 =>
        if t5 = 0 then
          some ((-2 : Int32), σ4)
        else
          if a2 = 0 then
            rdA σ4 78 (0 : Int32) fun t10 =>
            some (t10, σ4)
          else
            if a2 = (1 : Int32) then
              rdA σ4 79 (0 : Int32) fun t7 =>
              if t7 = (50 : Int32) then
                some ((-1 : Int32), σ4)
              else
                rdA σ4 79 (0 : Int32) fun t8 =>
                bnd (M_told10 t8) fun t9 =>
                some (t9, σ4)
            else
              rdA σ4 79 (0 : Int32) fun t6 =>
              if t6 = (50 : Int32) then
                M_best_L102 G  σ4 (1 : Int32)
              else
                M_best_L102 G  σ4 (0 : Int32)

/-! record -/
def wr_record : WS := ([], [], [], [])
def M_record (σ0 : MS) (a0 : Int32) (a1 : Int32) (a2 : Int32) : Option Int32 :=
  bnd (M_isBobber σ0 a0) fun t1 =>
  if t1 = 0 then
    some (-1 : Int32)
  else
    bnd (M_isIn a1 (0 : Int32) (4 : Int32)) fun t2 =>
    if t2 = 0 then
      some (-1 : Int32)
    else
      bnd (M_isIn a2 (0 : Int32) (2 : Int32)) fun t3 =>
      if t3 = 0 then
        some (-1 : Int32)
      else
        rdA σ0 67 ((((63 : Int32) + ((15 : Int32) * a0)) + ((3 : Int32) * a1)) + a2) fun t4 =>
        some t4

/-! easier -/
def wr_easier : WS := ([68, 69], [17, 66], [], [])
def M_easier_B17 (G : Nat) (k17 : MS → Int32 → Int32 → Int32 → Int32 → Option (Int32 × MS)) (σ : MS) (x1 : Int32) (x2 : Int32) (x3 : Int32) (x4 : Int32) : Option (Int32 × MS) :=
  if (gI σ 60) ≤ x4 then
    some (x3, σ)
  else
    bndW (M_canTry G σ x1 x4 (0 : Int32)) wr_canTry σ fun t2 σ1 =>
    if t2 = 0 then
      k17 σ1 x1 x2 (x3 + (0 : Int32)) (x4 + (1 : Int32))
    else
      bndW (M_oddsOf G σ1 x1 x4 (0 : Int32)) wr_oddsOf σ1 fun t4 σ3 =>
      bndW (M_oddsOf G σ3 x1 x2 (0 : Int32)) wr_oddsOf σ3 fun t6 σ5 =>
      if t4 ≤ t6 then
        k17 σ5 x1 x2 (x3 + (0 : Int32)) (x4 + (1 : Int32))
      else
        k17 σ5 x1 x2 (x3 + (1 : Int32)) (x4 + (1 : Int32))
def M_easier_L17 (G : Nat)  : Nat → MS → Int32 → Int32 → Int32 → Int32 → Option (Int32 × MS)
  | 0, _, _, _, _, _ => none
  | n + 1, σ, x1, x2, x3, x4 => M_easier_B17 G  (M_easier_L17 G  n) σ x1 x2 x3 x4
def M_easier (G : Nat) (σ0 : MS) (a0 : Int32) (a1 : Int32) : Option (Int32 × MS) :=
  bndW (M_mayTry G σ0 a0 a1 (0 : Int32)) wr_mayTry σ0 fun t2 σ1 =>
  if t2 = 0 then
    some ((-1 : Int32), σ1)
  else
    M_easier_L17 G  G σ1 a0 a1 (0 : Int32) (0 : Int32)

/-! getsAlone -/
def wr_getsAlone : WS := ([68, 69], [17, 66], [], [])
def M_getsAlone_B9 (G : Nat) (k9 : MS → Int32 → Int32 → Int32 → Int32 → Option (Int32 × MS)) (σ : MS) (x1 : Int32) (x2 : Int32) (x3 : Int32) (x4 : Int32) : Option (Int32 × MS) :=
  if x2 ≤ x4 then
    some (x3, σ)
  else
    rdA σ 47 x1 fun t1 =>
    bndW (M_actsBy G σ x1 t1) wr_actsBy σ fun t3 σ2 =>
    if t3 = 0 then
      k9 σ2 x1 x2 (x3 + (0 : Int32)) (x4 + (1 : Int32))
    else
      k9 σ2 x1 x2 (x3 + (1 : Int32)) (x4 + (1 : Int32))
def M_getsAlone_L9 (G : Nat)  : Nat → MS → Int32 → Int32 → Int32 → Int32 → Option (Int32 × MS)
  | 0, _, _, _, _, _ => none
  | n + 1, σ, x1, x2, x3, x4 => M_getsAlone_B9 G  (M_getsAlone_L9 G  n) σ x1 x2 x3 x4
def M_getsAlone (G : Nat) (σ0 : MS) (a0 : Int32) (a1 : Int32) : Option (Int32 × MS) :=
  bndV (M_load G σ0) wr_load σ0 fun σ1 =>
  M_getsAlone_L9 G  G σ1 a0 a1 (0 : Int32) (0 : Int32)

/-! seat -/
def wr_seat : WS := ([68, 69], [17, 42, 43, 66], [], [])
def M_seat_L121 (G : Nat) (k54 : MS → Int32 → Int32 → Int32 → Int32 → Int32 → Int32 → Int32 → Int32 → Option (Int32 × MS)) (σ : MS) (x1 : Int32) (x2 : Int32) (x3 : Int32) (x4 : Int32) (x5 : Int32) (x6 : Int32) (x7 : Int32) (x8 : Int32) (x9 : Int32) (x10 : Int32) : Option (Int32 × MS) :=
  wrA σ 42 x1 x9 fun σ1 =>
  wrA σ1 43 x1 x10 fun σ2 =>
  bndW (M_getsAlone G σ2 x1 x2) wr_getsAlone σ2 fun t4 σ3 =>
  if x7 < t4 then
    k54 σ3 x1 x2 x3 x4 x5 x8 t4 (x8 + (1 : Int32))
  else
    k54 σ3 x1 x2 x3 x4 x5 x6 x7 (x8 + (1 : Int32))
def M_seat_B54 (G : Nat) (k54 : MS → Int32 → Int32 → Int32 → Int32 → Int32 → Int32 → Int32 → Int32 → Option (Int32 × MS)) (σ : MS) (x1 : Int32) (x2 : Int32) (x3 : Int32) (x4 : Int32) (x5 : Int32) (x6 : Int32) (x7 : Int32) (x8 : Int32) : Option (Int32 × MS) :=
  if ((gI σ 56) * (gI σ 57)) ≤ x8 then
    wrA σ 42 x1 x4 fun σ1 =>
    wrA σ1 43 x1 x5 fun σ2 =>
    if x3 = 0 then
      rmI x6 (gI σ2 56) fun t4 =>
      some (t4, σ2)
    else
      if x3 = (1 : Int32) then
        dvI x6 (gI σ2 56) fun t3 =>
        some (t3, σ2)
      else
        some (x7, σ2)
  else
    rmI x8 (gI σ 56) fun t5 =>
    dvI x8 (gI σ 56) fun t6 =>
    if t5 ≤ 0 then
      M_seat_L121 G k54 σ x1 x2 x3 x4 x5 x6 x7 x8 t5 t6
    else
      if ((gI σ 56) - (1 : Int32)) ≤ t5 then
        M_seat_L121 G k54 σ x1 x2 x3 x4 x5 x6 x7 x8 t5 t6
      else
        if t6 ≤ 0 then
          M_seat_L121 G k54 σ x1 x2 x3 x4 x5 x6 x7 x8 t5 t6
        else
          if ((gI σ 57) - (1 : Int32)) ≤ t6 then
            M_seat_L121 G k54 σ x1 x2 x3 x4 x5 x6 x7 x8 t5 t6
          else
            k54 σ x1 x2 x3 x4 x5 x6 x7 (x8 + (1 : Int32))
def M_seat_L54 (G : Nat)  : Nat → MS → Int32 → Int32 → Int32 → Int32 → Int32 → Int32 → Int32 → Int32 → Option (Int32 × MS)
  | 0, _, _, _, _, _, _, _, _, _ => none
  | n + 1, σ, x1, x2, x3, x4, x5, x6, x7, x8 => M_seat_B54 G  (M_seat_L54 G  n) σ x1 x2 x3 x4 x5 x6 x7 x8
def M_seat (G : Nat) (σ0 : MS) (a0 : Int32) (a1 : Int32) (a2 : Int32) : Option (Int32 × MS) :=
  bnd (M_isBobber σ0 a0) fun t1 =>
  if t1 = 0 then
    some ((-1 : Int32), σ0)
  else
    bnd (M_isIn a1 (1 : Int32) (10 : Int32)) fun t2 =>
    if t2 = 0 then
      some ((-1 : Int32), σ0)
    else
      bnd (M_isIn a2 (0 : Int32) (2 : Int32)) fun t3 =>
      if t3 = 0 then
        some ((-1 : Int32), σ0)
      else
        rdA σ0 42 a0 fun t4 =>
        rdA σ0 43 a0 fun t5 =>
        M_seat_L54 G  G σ0 a0 a1 a2 t4 t5 (-1 : Int32) (-1 : Int32) (0 : Int32)

/-! layTurn -/
def wr_layTurn : WS := ([], [81], [], [])
def M_layTurn_B9 (G : Nat) (k9 : MS → Int32 → Int32 → Int32 → Option (Int32 × MS)) (σ : MS) (x1 : Int32) (x2 : Int32) (x3 : Int32) : Option (Int32 × MS) :=
  if x3 < 0 then
    if x2 = (((1 : Int32) <<< ((gI σ 61) &&& 31)) - (1 : Int32)) then
      some ((1 : Int32), σ)
    else
      some ((0 : Int32), σ)
  else
    wrA σ 81 x3 ((x1 >>> (((2 : Int32) * (((gI σ 61) - (1 : Int32)) - x3)) &&& 31)) &&& (3 : Int32)) fun σ1 =>
    rdA σ1 81 x3 fun t2 =>
    k9 σ1 x1 (x2 ||| ((1 : Int32) <<< (t2 &&& 31))) (x3 + (-1 : Int32))
def M_layTurn_L9 (G : Nat)  : Nat → MS → Int32 → Int32 → Int32 → Option (Int32 × MS)
  | 0, _, _, _, _ => none
  | n + 1, σ, x1, x2, x3 => M_layTurn_B9 G  (M_layTurn_L9 G  n) σ x1 x2 x3
def M_layTurn (G : Nat) (σ0 : MS) (a0 : Int32) : Option (Int32 × MS) :=
  M_layTurn_L9 G  G σ0 a0 (0 : Int32) ((gI σ0 61) - (1 : Int32))

/-! order -/
def wr_order : WS := ([68, 69, 85], [17, 66, 81, 83], [], [])
def M_order_B135 (G : Nat) (k21 : MS → Int32 → Int32 → Int32 → Option (Int32 × MS)) (k135 : MS → Int32 → Int32 → Int32 → Int32 → Option (Int32 × MS)) (σ : MS) (x1 : Int32) (x2 : Int32) (x3 : Int32) (x5 : Int32) : Option (Int32 × MS) :=
  if (gI σ 61) ≤ x5 then
    vlS (sI σ 85 (gI σ 61)) fun σ1 =>
    k21 σ1 x1 x2 (x3 + (1 : Int32))
  else
    rdA σ 81 x5 fun t2 =>
    wrA σ 83 x5 t2 fun σ3 =>
    k135 σ3 x1 x2 x3 (x5 + (1 : Int32))
def M_order_L135 (G : Nat) (k21 : MS → Int32 → Int32 → Int32 → Option (Int32 × MS)) : Nat → MS → Int32 → Int32 → Int32 → Int32 → Option (Int32 × MS)
  | 0, _, _, _, _, _ => none
  | n + 1, σ, x1, x2, x3, x5 => M_order_B135 G k21 (M_order_L135 G k21 n) σ x1 x2 x3 x5
def M_order_B63 (G : Nat) (k21 : MS → Int32 → Int32 → Int32 → Option (Int32 × MS)) (k54 : MS → Int32 → Int32 → Int32 → Int32 → Int32 → Option (Int32 × MS)) (k63 : MS → Int32 → Int32 → Int32 → Int32 → Int32 → Int32 → Option (Int32 × MS)) (σ : MS) (x1 : Int32) (x2 : Int32) (x3 : Int32) (x4 : Int32) (x5 : Int32) (x6 : Int32) : Option (Int32 × MS) :=
  if (gI σ 61) ≤ x6 then
    k54 σ x1 x2 x3 x4 (x5 + (1 : Int32))
  else
    rdA σ 81 x6 fun t1 =>
    rdA σ 81 x6 fun t2 =>
    rdA σ 47 t2 fun t3 =>
    bndW (M_actsBy G σ t1 t3) wr_actsBy σ fun t5 σ4 =>
    if t5 = 0 then
      k63 σ4 x1 x2 x3 (x4 + (0 : Int32)) x5 (x6 + (1 : Int32))
    else
      k63 σ4 x1 x2 x3 (x4 + (1 : Int32)) x5 (x6 + (1 : Int32))
def M_order_L63 (G : Nat) (k21 : MS → Int32 → Int32 → Int32 → Option (Int32 × MS)) (k54 : MS → Int32 → Int32 → Int32 → Int32 → Int32 → Option (Int32 × MS)) : Nat → MS → Int32 → Int32 → Int32 → Int32 → Int32 → Int32 → Option (Int32 × MS)
  | 0, _, _, _, _, _, _, _ => none
  | n + 1, σ, x1, x2, x3, x4, x5, x6 => M_order_B63 G k21 k54 (M_order_L63 G k21 k54 n) σ x1 x2 x3 x4 x5 x6
def M_order_B54 (G : Nat) (k21 : MS → Int32 → Int32 → Int32 → Option (Int32 × MS)) (k54 : MS → Int32 → Int32 → Int32 → Int32 → Int32 → Option (Int32 × MS)) (σ : MS) (x1 : Int32) (x2 : Int32) (x3 : Int32) (x4 : Int32) (x5 : Int32) : Option (Int32 × MS) :=
  if x1 ≤ x5 then
    if x2 < x4 then
      M_order_L135 G k21 G σ x1 x4 x3 (0 : Int32)
    else
      k21 σ x1 x2 (x3 + (1 : Int32))
  else
    M_order_L63 G k21 k54 G σ x1 x2 x3 x4 x5 (0 : Int32)
def M_order_L54 (G : Nat) (k21 : MS → Int32 → Int32 → Int32 → Option (Int32 × MS)) : Nat → MS → Int32 → Int32 → Int32 → Int32 → Int32 → Option (Int32 × MS)
  | 0, _, _, _, _, _, _ => none
  | n + 1, σ, x1, x2, x3, x4, x5 => M_order_B54 G k21 (M_order_L54 G k21 n) σ x1 x2 x3 x4 x5
def M_order_B21 (G : Nat) (k21 : MS → Int32 → Int32 → Int32 → Option (Int32 × MS)) (σ : MS) (x1 : Int32) (x2 : Int32) (x3 : Int32) : Option (Int32 × MS) :=
  if ((1 : Int32) <<< (((2 : Int32) * (gI σ 61)) &&& 31)) ≤ x3 then
    some (x2, σ)
  else
    bndW (M_layTurn G σ x3) wr_layTurn σ fun t2 σ1 =>
    if t2 = 0 then
      k21 σ1 x1 x2 (x3 + (1 : Int32))
    else
      bndV (M_load G σ1) wr_load σ1 fun σ3 =>
      M_order_L54 G k21 G σ3 x1 x2 x3 (0 : Int32) (0 : Int32)
def M_order_L21 (G : Nat)  : Nat → MS → Int32 → Int32 → Int32 → Option (Int32 × MS)
  | 0, _, _, _, _ => none
  | n + 1, σ, x1, x2, x3 => M_order_B21 G  (M_order_L21 G  n) σ x1 x2 x3
def M_order (G : Nat) (σ0 : MS) (a0 : Int32) : Option (Int32 × MS) :=
  vlS (sI σ0 85 (0 : Int32)) fun σ1 =>
  bnd (M_isIn a0 (1 : Int32) (10 : Int32)) fun t2 =>
  if t2 = 0 then
    some ((-1 : Int32), σ1)
  else
    M_order_L21 G  G σ1 a0 (-1 : Int32) (0 : Int32)

/-! doesDrive -/
def wr_doesDrive : WS := ([68, 69], [66, 82], [], [])
def M_doesDrive_B51 (G : Nat) (k51 : MS → Int32 → Int32 → Int32 → Int32 → Int32 → Option (Int32 × MS)) (σ : MS) (x1 : Int32) (x2 : Int32) (x3 : Int32) (x4 : Int32) (x7 : Int32) : Option (Int32 × MS) :=
  if x4 ≤ x7 then
    bndW (M_canTry G σ x2 x3 (0 : Int32)) wr_canTry σ fun t2 σ1 =>
    bzI t2 <|
    some (t2, σ1)
  else
    rdA σ 82 x7 fun t3 =>
    bndW (M_canTry G σ x1 t3 (0 : Int32)) wr_canTry σ fun t5 σ4 =>
    if t5 = 0 then
      some ((0 : Int32), σ4)
    else
      rdA σ4 82 x7 fun t6 =>
      bndV (M_miss G σ4 x1 t6 (0 : Int32)) wr_miss σ4 fun σ7 =>
      k51 σ7 x1 x2 x3 x4 (x7 + (1 : Int32))
def M_doesDrive_L51 (G : Nat)  : Nat → MS → Int32 → Int32 → Int32 → Int32 → Int32 → Option (Int32 × MS)
  | 0, _, _, _, _, _, _ => none
  | n + 1, σ, x1, x2, x3, x4, x7 => M_doesDrive_B51 G  (M_doesDrive_L51 G  n) σ x1 x2 x3 x4 x7
def M_doesDrive_B14 (G : Nat) (k14 : MS → Int32 → Int32 → Int32 → Int32 → Int32 → Int32 → Option (Int32 × MS)) (σ : MS) (x1 : Int32) (x2 : Int32) (x3 : Int32) (x4 : Int32) (x6 : Int32) (x7 : Int32) : Option (Int32 × MS) :=
  if x7 < 0 then
    M_doesDrive_L51 G  G σ x1 x2 x3 x4 (0 : Int32)
  else
    rmI x6 (gI σ 60) fun t1 =>
    wrA σ 82 x7 t1 fun σ2 =>
    dvI x6 (gI σ2 60) fun t3 =>
    k14 σ2 x1 x2 x3 x4 t3 (x7 + (-1 : Int32))
def M_doesDrive_L14 (G : Nat)  : Nat → MS → Int32 → Int32 → Int32 → Int32 → Int32 → Int32 → Option (Int32 × MS)
  | 0, _, _, _, _, _, _, _ => none
  | n + 1, σ, x1, x2, x3, x4, x6, x7 => M_doesDrive_B14 G  (M_doesDrive_L14 G  n) σ x1 x2 x3 x4 x6 x7
def M_doesDrive (G : Nat) (σ0 : MS) (a0 : Int32) (a1 : Int32) (a2 : Int32) (a3 : Int32) (a4 : Int32) : Option (Int32 × MS) :=
  bndV (M_load G σ0) wr_load σ0 fun σ1 =>
  M_doesDrive_L14 G  G σ1 a0 a1 a2 a3 a4 (a3 - (1 : Int32))

/-! drives -/
def wr_drives : WS := ([68, 69, 85], [66, 82, 83], [], [])
def M_drives_B91 (G : Nat) (k91 : MS → Int32 → Int32 → Option (Int32 × MS)) (σ : MS) (x5 : Int32) (x7 : Int32) : Option (Int32 × MS) :=
  if x5 ≤ x7 then
    vlS (sI σ 85 x5) fun σ1 =>
    some (x5, σ1)
  else
    rdA σ 82 x7 fun t2 =>
    wrA σ 83 x7 t2 fun σ3 =>
    k91 σ3 x5 (x7 + (1 : Int32))
def M_drives_L91 (G : Nat)  : Nat → MS → Int32 → Int32 → Option (Int32 × MS)
  | 0, _, _, _ => none
  | n + 1, σ, x5, x7 => M_drives_B91 G  (M_drives_L91 G  n) σ x5 x7
def M_drives_B64 (G : Nat) (k55 : MS → Int32 → Int32 → Int32 → Int32 → Int32 → Option (Int32 × MS)) (k64 : MS → Int32 → Int32 → Int32 → Int32 → Int32 → Int32 → Option (Int32 × MS)) (σ : MS) (x1 : Int32) (x2 : Int32) (x3 : Int32) (x4 : Int32) (x5 : Int32) (x6 : Int32) : Option (Int32 × MS) :=
  if x4 ≤ x6 then
    k55 σ x1 x2 x3 (x4 * (gI σ 60)) (x5 + (1 : Int32))
  else
    bndW (M_doesDrive G σ x1 x2 x3 x5 x6) wr_doesDrive σ fun t2 σ1 =>
    if t2 = 0 then
      k64 σ1 x1 x2 x3 x4 x5 (x6 + (1 : Int32))
    else
      M_drives_L91 G  G σ1 x5 (0 : Int32)
def M_drives_L64 (G : Nat) (k55 : MS → Int32 → Int32 → Int32 → Int32 → Int32 → Option (Int32 × MS)) : Nat → MS → Int32 → Int32 → Int32 → Int32 → Int32 → Int32 → Option (Int32 × MS)
  | 0, _, _, _, _, _, _, _ => none
  | n + 1, σ, x1, x2, x3, x4, x5, x6 => M_drives_B64 G k55 (M_drives_L64 G k55 n) σ x1 x2 x3 x4 x5 x6
def M_drives_B55 (G : Nat) (k55 : MS → Int32 → Int32 → Int32 → Int32 → Int32 → Option (Int32 × MS)) (σ : MS) (x1 : Int32) (x2 : Int32) (x3 : Int32) (x4 : Int32) (x5 : Int32) : Option (Int32 × MS) :=
  if (4 : Int32) < x5 then
    some ((-1 : Int32), σ)
  else
    M_drives_L64 G k55 G σ x1 x2 x3 x4 x5 (0 : Int32)
def M_drives_L55 (G : Nat)  : Nat → MS → Int32 → Int32 → Int32 → Int32 → Int32 → Option (Int32 × MS)
  | 0, _, _, _, _, _, _ => none
  | n + 1, σ, x1, x2, x3, x4, x5 => M_drives_B55 G  (M_drives_L55 G  n) σ x1 x2 x3 x4 x5
def M_drives (G : Nat) (σ0 : MS) (a0 : Int32) (a1 : Int32) (a2 : Int32) : Option (Int32 × MS) :=
  vlS (sI σ0 85 (0 : Int32)) fun σ1 =>
  bndV (M_load G σ1) wr_load σ1 fun σ2 =>
  bnd (M_isBobber σ2 a0) fun t3 =>
  if t3 = 0 then
    some ((-2 : Int32), σ2)
  else
    bnd (M_isBobber σ2 a1) fun t4 =>
    if t4 = 0 then
      some ((-2 : Int32), σ2)
    else
      if a0 = a1 then
        some ((-2 : Int32), σ2)
      else
        bnd (M_isApple σ2 a2) fun t5 =>
        if t5 = 0 then
          some ((-2 : Int32), σ2)
        else
          bnd (M_isAfloat σ2 a2) fun t6 =>
          if t6 = 0 then
            some ((-2 : Int32), σ2)
          else
            M_drives_L55 G  G σ2 a0 a1 a2 (1 : Int32) (0 : Int32)

/-! goneOf -/
def wr_goneOf : WS := ([68, 69], [17, 66], [], [])
def M_goneOf_B67 (G : Nat) (k59 : MS → Int32 → Option (Int32 × MS)) (k67 : MS → Int32 → Int32 → Option (Int32 × MS)) (σ : MS) (x2 : Int32) (x3 : Int32) : Option (Int32 × MS) :=
  if (gI σ 61) ≤ x3 then
    bnd (M_afloatAll G σ) fun t1 =>
    if t1 = 0 then
      some (x2, σ)
    else
      k59 σ (x2 + (1 : Int32))
  else
    rdA σ 47 x3 fun t2 =>
    bndW (M_actsBy G σ x3 t2) wr_actsBy σ fun t4 σ3 =>
    k67 σ3 x2 (x3 + (1 : Int32))
def M_goneOf_L67 (G : Nat) (k59 : MS → Int32 → Option (Int32 × MS)) : Nat → MS → Int32 → Int32 → Option (Int32 × MS)
  | 0, _, _, _ => none
  | n + 1, σ, x2, x3 => M_goneOf_B67 G k59 (M_goneOf_L67 G k59 n) σ x2 x3
def M_goneOf_B59 (G : Nat) (k59 : MS → Int32 → Option (Int32 × MS)) (σ : MS) (x2 : Int32) : Option (Int32 × MS) :=
  if (60 : Int32) < x2 then
    some ((-1 : Int32), σ)
  else
    M_goneOf_L67 G k59 G σ x2 (0 : Int32)
def M_goneOf_L59 (G : Nat)  : Nat → MS → Int32 → Option (Int32 × MS)
  | 0, _, _ => none
  | n + 1, σ, x2 => M_goneOf_B59 G  (M_goneOf_L59 G  n) σ x2
def M_goneOf_B6 (G : Nat) (k6 : MS → Int32 → Int32 → Option (Int32 × MS)) (σ : MS) (x1 : Int32) (x2 : Int32) : Option (Int32 × MS) :=
  if (gI σ 60) ≤ x2 then
    bnd (M_afloatAll G σ) fun t1 =>
    if t1 = 0 then
      some ((0 : Int32), σ)
    else
      M_goneOf_L59 G  G σ (1 : Int32)
  else
    if ((x1 >>> (x2 &&& 31)) &&& (1 : Int32)) = 0 then
      bnd (M_isAfloat σ x2) fun t2 =>
      if t2 = 0 then
        k6 σ x1 (x2 + (1 : Int32))
      else
        wrA σ 66 (((5 : Int32) * x2) + (2 : Int32)) (8 : Int32) fun σ3 =>
        k6 σ3 x1 (x2 + (1 : Int32))
    else
      k6 σ x1 (x2 + (1 : Int32))
def M_goneOf_L6 (G : Nat)  : Nat → MS → Int32 → Int32 → Option (Int32 × MS)
  | 0, _, _, _ => none
  | n + 1, σ, x1, x2 => M_goneOf_B6 G  (M_goneOf_L6 G  n) σ x1 x2
def M_goneOf (G : Nat) (σ0 : MS) (a0 : Int32) : Option (Int32 × MS) :=
  bndV (M_load G σ0) wr_load σ0 fun σ1 =>
  M_goneOf_L6 G  G σ1 a0 (0 : Int32)

/-! afloatSet -/
def wr_afloatSet : WS := ([], [66], [], [])
def M_afloatSet_B8 (G : Nat) (k8 : MS → Int32 → Int32 → Option (Int32 × MS)) (σ : MS) (x1 : Int32) (x2 : Int32) : Option (Int32 × MS) :=
  if (gI σ 60) ≤ x2 then
    some (x1, σ)
  else
    bnd (M_isAfloat σ x2) fun t1 =>
    if t1 = 0 then
      k8 σ (x1 ||| (0 : Int32)) (x2 + (1 : Int32))
    else
      k8 σ (x1 ||| ((1 : Int32) <<< (x2 &&& 31))) (x2 + (1 : Int32))
def M_afloatSet_L8 (G : Nat)  : Nat → MS → Int32 → Int32 → Option (Int32 × MS)
  | 0, _, _, _ => none
  | n + 1, σ, x1, x2 => M_afloatSet_B8 G  (M_afloatSet_L8 G  n) σ x1 x2
def M_afloatSet (G : Nat) (σ0 : MS) : Option (Int32 × MS) :=
  bndV (M_load G σ0) wr_load σ0 fun σ1 =>
  M_afloatSet_L8 G  G σ1 (0 : Int32) (0 : Int32)

/-! gone -/
def wr_gone : WS := ([68, 69], [17, 66], [], [])
def M_gone (G : Nat) (σ0 : MS) (a0 : Int32) : Option (Int32 × MS) :=
  if a0 < 0 then
    some ((-2 : Int32), σ0)
  else
    bndW (M_afloatSet G σ0) wr_afloatSet σ0 fun t2 σ1 =>
    if (a0 &&& (t2 ^^^ (-1 : Int32))) = 0 then
      bndW (M_goneOf G σ1 a0) wr_goneOf σ1 fun t4 σ3 =>
      some (t4, σ3)
    else
      some ((-2 : Int32), σ1)

/-! members -/
def wr_members : WS := ([], [], [], [])
def M_members_B4 (G : Nat) (k4 : Int32 → Int32 → Int32 → Option Int32) (x0 : Int32) (x1 : Int32) (x2 : Int32) : Option Int32 :=
  if (10 : Int32) ≤ x2 then
    some x1
  else
    k4 x0 (x1 + ((x0 >>> (x2 &&& 31)) &&& (1 : Int32))) (x2 + (1 : Int32))
def M_members_L4 (G : Nat)  : Nat → Int32 → Int32 → Int32 → Option Int32
  | 0, _, _, _ => none
  | n + 1, x0, x1, x2 => M_members_B4 G  (M_members_L4 G  n) x0 x1 x2
def M_members (G : Nat) (a0 : Int32) : Option Int32 :=
  M_members_L4 G  G a0 (0 : Int32) (0 : Int32)

/-! provide -/
def wr_provide : WS := ([68, 69], [17, 66], [], [])
def M_provide_L73 (G : Nat) (k32 : MS → Int32 → Int32 → Int32 → Int32 → Int32 → Option (Int32 × MS)) (σ : MS) (x1 : Int32) (x2 : Int32) (x3 : Int32) (x4 : Int32) (x5 : Int32) : Option (Int32 × MS) :=
  bndW (M_goneOf G σ x5) wr_goneOf σ fun t2 σ1 =>
  if t2 < 0 then
    k32 σ1 x1 x2 x3 x5 (x5 + (1 : Int32))
  else
    if t2 ≤ x1 then
      k32 σ1 x1 x2 x3 x4 (x5 + (1 : Int32))
    else
      k32 σ1 x1 x2 x3 x5 (x5 + (1 : Int32))
def M_provide_B32 (G : Nat) (k32 : MS → Int32 → Int32 → Int32 → Int32 → Int32 → Option (Int32 × MS)) (σ : MS) (x1 : Int32) (x2 : Int32) (x3 : Int32) (x4 : Int32) (x5 : Int32) : Option (Int32 × MS) :=
  if ((1 : Int32) <<< ((gI σ 60) &&& 31)) ≤ x5 then
    if 0 ≤ x4 then
      if x2 = 0 then
        bnd (M_members G x4) fun t1 =>
        some (t1, σ)
      else
        some (x4, σ)
    else
      some ((-1 : Int32), σ)
  else
    if (x5 &&& (x3 ^^^ (-1 : Int32))) = 0 then
      if x4 < 0 then
        M_provide_L73 G k32 σ x1 x2 x3 x4 x5
      else
        bnd (M_members G x5) fun t2 =>
        bnd (M_members G x4) fun t3 =>
        if t2 < t3 then
          M_provide_L73 G k32 σ x1 x2 x3 x4 x5
        else
          k32 σ x1 x2 x3 x4 (x5 + (1 : Int32))
    else
      k32 σ x1 x2 x3 x4 (x5 + (1 : Int32))
def M_provide_L32 (G : Nat)  : Nat → MS → Int32 → Int32 → Int32 → Int32 → Int32 → Option (Int32 × MS)
  | 0, _, _, _, _, _, _ => none
  | n + 1, σ, x1, x2, x3, x4, x5 => M_provide_B32 G  (M_provide_L32 G  n) σ x1 x2 x3 x4 x5
def M_provide (G : Nat) (σ0 : MS) (a0 : Int32) (a1 : Int32) : Option (Int32 × MS) :=
  bnd (M_isIn a0 (1 : Int32) (60 : Int32)) fun t1 =>
  if t1 = 0 then
    some ((-1 : Int32), σ0)
  else
    bnd (M_isIn a1 (0 : Int32) (1 : Int32)) fun t2 =>
    if t2 = 0 then
      some ((-1 : Int32), σ0)
    else
      bndW (M_afloatSet G σ0) wr_afloatSet σ0 fun t4 σ3 =>
      M_provide_L32 G  G σ3 a0 a1 t4 (-1 : Int32) (1 : Int32)

/-! matchOf -/
def wr_matchOf : WS := ([68, 69], [17, 66], [], [])
def M_matchOf_L31 (G : Nat) (k9 : MS → Int32 → Int32 → Int32 → Int32 → Option (Int32 × MS)) (σ : MS) (x1 : Int32) (x2 : Int32) (x4 : Int32) (s0 : Int32) (s1 : Int32) : Option (Int32 × MS) :=
  bndW (M_actsBy G σ (1 : Int32) x2) wr_actsBy σ fun t2 σ1 =>
  if t2 = 0 then
    k9 σ1 x1 x2 ((s0 + s1) - (0 : Int32)) (x4 + (1 : Int32))
  else
    k9 σ1 x1 x2 ((s0 + s1) - (1 : Int32)) (x4 + (1 : Int32))
def M_matchOf_B9 (G : Nat) (k9 : MS → Int32 → Int32 → Int32 → Int32 → Option (Int32 × MS)) (σ : MS) (x1 : Int32) (x2 : Int32) (x3 : Int32) (x4 : Int32) : Option (Int32 × MS) :=
  if (10 : Int32) ≤ x4 then
    some (x3, σ)
  else
    bndW (M_actsBy G σ (0 : Int32) x1) wr_actsBy σ fun t2 σ1 =>
    if t2 = 0 then
      M_matchOf_L31 G k9 σ1 x1 x2 x4 x3 (0 : Int32)
    else
      M_matchOf_L31 G k9 σ1 x1 x2 x4 x3 (1 : Int32)
def M_matchOf_L9 (G : Nat)  : Nat → MS → Int32 → Int32 → Int32 → Int32 → Option (Int32 × MS)
  | 0, _, _, _, _, _ => none
  | n + 1, σ, x1, x2, x3, x4 => M_matchOf_B9 G  (M_matchOf_L9 G  n) σ x1 x2 x3 x4
def M_matchOf (G : Nat) (σ0 : MS) (a0 : Int32) (a1 : Int32) : Option (Int32 × MS) :=
  bndV (M_load G σ0) wr_load σ0 fun σ1 =>
  M_matchOf_L9 G  G σ1 a0 a1 (0 : Int32) (0 : Int32)

/-! match -/
def wr_match : WS := ([68, 69], [17, 66], [], [])
def M_match (G : Nat) (σ0 : MS) (a0 : Int32) (a1 : Int32) : Option (Int32 × MS) :=
  bnd (M_isRule σ0 a0) fun t1 =>
  if t1 = 0 then
    some ((-1000000 : Int32), σ0)
  else
    bnd (M_isRule σ0 a1) fun t2 =>
    if t2 = 0 then
      some ((-1000000 : Int32), σ0)
    else
      if (gI σ0 61) ≤ (1 : Int32) then
        some ((-1000000 : Int32), σ0)
      else
        bndW (M_matchOf G σ0 a0 a1) wr_matchOf σ0 fun t4 σ3 =>
        some (t4, σ3)

/-! reply -/
def wr_reply : WS := ([68, 69], [17, 66], [], [])
def M_reply_B30 (G : Nat) (k30 : MS → Int32 → Int32 → Int32 → Int32 → Option (Int32 × MS)) (σ : MS) (x1 : Int32) (x2 : Int32) (x3 : Int32) (x4 : Int32) : Option (Int32 × MS) :=
  if (gI σ 59) ≤ x4 then
    some (x2, σ)
  else
    bndW (M_matchOf G σ x4 x1) wr_matchOf σ fun t2 σ1 =>
    if x3 < t2 then
      k30 σ1 x1 x4 t2 (x4 + (1 : Int32))
    else
      k30 σ1 x1 x2 x3 (x4 + (1 : Int32))
def M_reply_L30 (G : Nat)  : Nat → MS → Int32 → Int32 → Int32 → Int32 → Option (Int32 × MS)
  | 0, _, _, _, _, _ => none
  | n + 1, σ, x1, x2, x3, x4 => M_reply_B30 G  (M_reply_L30 G  n) σ x1 x2 x3 x4
def M_reply (G : Nat) (σ0 : MS) (a0 : Int32) : Option (Int32 × MS) :=
  bnd (M_isRule σ0 a0) fun t1 =>
  if t1 = 0 then
    some ((-1 : Int32), σ0)
  else
    if (2 : Int32) ≤ (gI σ0 61) then
      bndW (M_matchOf G σ0 (0 : Int32) a0) wr_matchOf σ0 fun t3 σ2 =>
      M_reply_L30 G  G σ2 a0 (0 : Int32) t3 (1 : Int32)
    else
      some ((-1 : Int32), σ0)

/-! doesRest -/
def wr_doesRest : WS := ([], [], [], [])
def M_doesRest_B5 (G : Nat) (σ0 : MS) (k5 : Int32 → Int32 → Int32 → Int32 → Option Int32) (x1 : Int32) (x2 : Int32) (x3 : Int32) (x4 : Int32) : Option Int32 :=
  if (gI σ0 59) ≤ x4 then
    bzI x3 <|
    some x3
  else
    if x3 = 0 then
      k5 x1 x2 (0 : Int32) (x4 + (1 : Int32))
    else
      rdA σ0 84 (((6 : Int32) * x4) + x2) fun t1 =>
      rdA σ0 84 (((6 : Int32) * x1) + x2) fun t2 =>
      if t2 < t1 then
        k5 x1 x2 (0 : Int32) (x4 + (1 : Int32))
      else
        rdA σ0 84 (((6 : Int32) * x1) + x4) fun t3 =>
        rdA σ0 84 (((6 : Int32) * x1) + x2) fun t4 =>
        if t3 < t4 then
          k5 x1 x2 (0 : Int32) (x4 + (1 : Int32))
        else
          k5 x1 x2 (1 : Int32) (x4 + (1 : Int32))
def M_doesRest_L5 (G : Nat) (σ0 : MS)  : Nat → Int32 → Int32 → Int32 → Int32 → Option Int32
  | 0, _, _, _, _ => none
  | n + 1, x1, x2, x3, x4 => M_doesRest_B5 G σ0  (M_doesRest_L5 G σ0  n) x1 x2 x3 x4
def M_doesRest (G : Nat) (σ0 : MS) (a0 : Int32) (a1 : Int32) : Option Int32 :=
  M_doesRest_L5 G σ0  G a0 a1 (1 : Int32) (0 : Int32)

/-! rests -/
def wr_rests : WS := ([68, 69, 85], [17, 66, 83, 84], [], [])
def M_rests_B76 (G : Nat) (k66 : MS → Int32 → Option (Int32 × MS)) (k76 : MS → Int32 → Int32 → Option (Int32 × MS)) (σ : MS) (x1 : Int32) (x2 : Int32) : Option (Int32 × MS) :=
  if (gI σ 59) ≤ x2 then
    k66 σ (x1 + (1 : Int32))
  else
    bnd (M_doesRest G σ x1 x2) fun t1 =>
    if t1 = 0 then
      k76 σ x1 (x2 + (1 : Int32))
    else
      wrA σ 83 (gI σ 85) (((10 : Int32) * x1) + x2) fun σ2 =>
      vlS (sI σ2 85 ((gI σ2 85) + (1 : Int32))) fun σ3 =>
      k76 σ3 x1 (x2 + (1 : Int32))
def M_rests_L76 (G : Nat) (k66 : MS → Int32 → Option (Int32 × MS)) : Nat → MS → Int32 → Int32 → Option (Int32 × MS)
  | 0, _, _, _ => none
  | n + 1, σ, x1, x2 => M_rests_B76 G k66 (M_rests_L76 G k66 n) σ x1 x2
def M_rests_B66 (G : Nat) (k66 : MS → Int32 → Option (Int32 × MS)) (σ : MS) (x1 : Int32) : Option (Int32 × MS) :=
  if (gI σ 59) ≤ x1 then
    some ((gI σ 85), σ)
  else
    M_rests_L76 G k66 G σ x1 (0 : Int32)
def M_rests_L66 (G : Nat)  : Nat → MS → Int32 → Option (Int32 × MS)
  | 0, _, _ => none
  | n + 1, σ, x1 => M_rests_B66 G  (M_rests_L66 G  n) σ x1
def M_rests_B27 (G : Nat) (k17 : MS → Int32 → Option (Int32 × MS)) (k27 : MS → Int32 → Int32 → Option (Int32 × MS)) (σ : MS) (x1 : Int32) (x2 : Int32) : Option (Int32 × MS) :=
  if (gI σ 59) ≤ x2 then
    k17 σ (x1 + (1 : Int32))
  else
    bndW (M_matchOf G σ x1 x2) wr_matchOf σ fun t2 σ1 =>
    wrA σ1 84 (((6 : Int32) * x1) + x2) t2 fun σ3 =>
    k27 σ3 x1 (x2 + (1 : Int32))
def M_rests_L27 (G : Nat) (k17 : MS → Int32 → Option (Int32 × MS)) : Nat → MS → Int32 → Int32 → Option (Int32 × MS)
  | 0, _, _, _ => none
  | n + 1, σ, x1, x2 => M_rests_B27 G k17 (M_rests_L27 G k17 n) σ x1 x2
def M_rests_B17 (G : Nat) (k17 : MS → Int32 → Option (Int32 × MS)) (σ : MS) (x1 : Int32) : Option (Int32 × MS) :=
  if (gI σ 59) ≤ x1 then
    M_rests_L66 G  G σ (0 : Int32)
  else
    M_rests_L27 G k17 G σ x1 (0 : Int32)
def M_rests_L17 (G : Nat)  : Nat → MS → Int32 → Option (Int32 × MS)
  | 0, _, _ => none
  | n + 1, σ, x1 => M_rests_B17 G  (M_rests_L17 G  n) σ x1
def M_rests (G : Nat) (σ0 : MS) : Option (Int32 × MS) :=
  vlS (sI σ0 85 (0 : Int32)) fun σ1 =>
  if (2 : Int32) ≤ (gI σ1 61) then
    M_rests_L17 G  G σ1 (0 : Int32)
  else
    some ((0 : Int32), σ1)

/-! comes -/
def wr_comes : WS := ([], [66], [], [])
def M_comes_B10 (G : Nat) (k10 : MS → Int32 → Int32 → Int32 → Int32 → Int32 → Option (Int32 × MS)) (σ : MS) (x1 : Int32) (x2 : Int32) (x3 : Int32) (x5 : Int32) (x6 : Int32) : Option (Int32 × MS) :=
  if x6 < 0 then
    rdA σ 66 ((5 : Int32) * x1) fun t1 =>
    if t1 = x2 then
      rdA σ 66 (((5 : Int32) * x1) + (1 : Int32)) fun t2 =>
      if t2 = x3 then
        some ((1 : Int32), σ)
      else
        some ((0 : Int32), σ)
    else
      some ((0 : Int32), σ)
  else
    bndW (M_wavesTo G σ ((x5 >>> (((2 : Int32) * x6) &&& 31)) &&& (3 : Int32))) wr_wavesTo σ fun t4 σ3 =>
    k10 σ3 x1 x2 x3 x5 (x6 + (-1 : Int32))
def M_comes_L10 (G : Nat)  : Nat → MS → Int32 → Int32 → Int32 → Int32 → Int32 → Option (Int32 × MS)
  | 0, _, _, _, _, _, _ => none
  | n + 1, σ, x1, x2, x3, x5, x6 => M_comes_B10 G  (M_comes_L10 G  n) σ x1 x2 x3 x5 x6
def M_comes (G : Nat) (σ0 : MS) (a0 : Int32) (a1 : Int32) (a2 : Int32) (a3 : Int32) (a4 : Int32) : Option (Int32 × MS) :=
  bndV (M_load G σ0) wr_load σ0 fun σ1 =>
  M_comes_L10 G  G σ1 a0 a1 a2 a4 (a3 - (1 : Int32))

/-! waves -/
def wr_waves : WS := ([85], [66, 83], [], [])
def M_waves_B81 (G : Nat) (k81 : MS → Int32 → Int32 → Int32 → Option (Int32 × MS)) (σ : MS) (x4 : Int32) (x5 : Int32) (x6 : Int32) : Option (Int32 × MS) :=
  if x4 ≤ x6 then
    vlS (sI σ 85 x4) fun σ1 =>
    some (x4, σ1)
  else
    wrA σ 83 x6 ((x5 >>> (((2 : Int32) * ((x4 - (1 : Int32)) - x6)) &&& 31)) &&& (3 : Int32)) fun σ2 =>
    k81 σ2 x4 x5 (x6 + (1 : Int32))
def M_waves_L81 (G : Nat)  : Nat → MS → Int32 → Int32 → Int32 → Option (Int32 × MS)
  | 0, _, _, _, _ => none
  | n + 1, σ, x4, x5, x6 => M_waves_B81 G  (M_waves_L81 G  n) σ x4 x5 x6
def M_waves_B50 (G : Nat) (k40 : MS → Int32 → Int32 → Int32 → Int32 → Option (Int32 × MS)) (k50 : MS → Int32 → Int32 → Int32 → Int32 → Int32 → Option (Int32 × MS)) (σ : MS) (x1 : Int32) (x2 : Int32) (x3 : Int32) (x4 : Int32) (x5 : Int32) : Option (Int32 × MS) :=
  if ((1 : Int32) <<< (((2 : Int32) * x4) &&& 31)) ≤ x5 then
    k40 σ x1 x2 x3 (x4 + (1 : Int32))
  else
    bndW (M_comes G σ x1 x2 x3 x4 x5) wr_comes σ fun t2 σ1 =>
    if t2 = 0 then
      k50 σ1 x1 x2 x3 x4 (x5 + (1 : Int32))
    else
      M_waves_L81 G  G σ1 x4 x5 (0 : Int32)
def M_waves_L50 (G : Nat) (k40 : MS → Int32 → Int32 → Int32 → Int32 → Option (Int32 × MS)) : Nat → MS → Int32 → Int32 → Int32 → Int32 → Int32 → Option (Int32 × MS)
  | 0, _, _, _, _, _, _ => none
  | n + 1, σ, x1, x2, x3, x4, x5 => M_waves_B50 G k40 (M_waves_L50 G k40 n) σ x1 x2 x3 x4 x5
def M_waves_B40 (G : Nat) (k40 : MS → Int32 → Int32 → Int32 → Int32 → Option (Int32 × MS)) (σ : MS) (x1 : Int32) (x2 : Int32) (x3 : Int32) (x4 : Int32) : Option (Int32 × MS) :=
  if (6 : Int32) < x4 then
    some ((-1 : Int32), σ)
  else
    M_waves_L50 G k40 G σ x1 x2 x3 x4 (0 : Int32)
def M_waves_L40 (G : Nat)  : Nat → MS → Int32 → Int32 → Int32 → Int32 → Option (Int32 × MS)
  | 0, _, _, _, _, _ => none
  | n + 1, σ, x1, x2, x3, x4 => M_waves_B40 G  (M_waves_L40 G  n) σ x1 x2 x3 x4
def M_waves (G : Nat) (σ0 : MS) (a0 : Int32) (a1 : Int32) (a2 : Int32) : Option (Int32 × MS) :=
  vlS (sI σ0 85 (0 : Int32)) fun σ1 =>
  bndV (M_load G σ1) wr_load σ1 fun σ2 =>
  bnd (M_isApple σ2 a0) fun t3 =>
  if t3 = 0 then
    some ((-2 : Int32), σ2)
  else
    bnd (M_isCell σ2 a1 a2) fun t4 =>
    if t4 = 0 then
      some ((-2 : Int32), σ2)
    else
      bnd (M_isAfloat σ2 a0) fun t5 =>
      if t5 = 0 then
        some ((-2 : Int32), σ2)
      else
        M_waves_L40 G  G σ2 a0 a1 a2 (0 : Int32)

/-! lasts -/
def wr_lasts : WS := ([], [17], [], [])
def M_lasts (G : Nat) (σ0 : MS) (a0 : Int32) (a1 : Int32) : Option (Int32 × MS) :=
  bndW (M_oddsOf G σ0 a0 a1 (0 : Int32)) wr_oddsOf σ0 fun t2 σ1 =>
  if t2 = 0 then
    some ((9999 : Int32), σ1)
  else
    dvI (1000 : Int32) t2 fun t3 =>
    some (t3, σ1)

/-! fill -/
def wr_fill : WS := ([], [17, 66], [], [])
def M_fill_L113 (G : Nat) (k43 : MS → Int32 → Int32 → Int32 → Int32 → Int32 → Int32 → Option (Int32 × MS)) (k63 : MS → Int32 → Int32 → Int32 → Int32 → Int32 → Int32 → Int32 → Int32 → Int32 → Option (Int32 × MS)) (σ : MS) (x1 : Int32) (x2 : Int32) (x3 : Int32) (x4 : Int32) (x5 : Int32) (x6 : Int32) (x8 : Int32) (x9 : Int32) (s0 : Int32) (s1 : Int32) : Option (Int32 × MS) :=
  bndW (M_lasts G σ x1 x9) wr_lasts σ fun t2 σ1 =>
  k63 σ1 x1 x2 x3 x4 x5 x6 (s0 + s1) (x8 + t2) (x9 + (1 : Int32))
def M_fill_B63 (G : Nat) (k43 : MS → Int32 → Int32 → Int32 → Int32 → Int32 → Int32 → Option (Int32 × MS)) (k63 : MS → Int32 → Int32 → Int32 → Int32 → Int32 → Int32 → Int32 → Int32 → Int32 → Option (Int32 × MS)) (σ : MS) (x1 : Int32) (x2 : Int32) (x3 : Int32) (x4 : Int32) (x5 : Int32) (x6 : Int32) (x7 : Int32) (x8 : Int32) (x9 : Int32) : Option (Int32 × MS) :=
  if (gI σ 60) ≤ x9 then
    if x2 < x7 then
      k43 σ x1 x2 x3 x4 x5 (x6 + (1 : Int32))
    else
      if x5 < x8 then
        k43 σ x1 x2 x3 x6 x8 (x6 + (1 : Int32))
      else
        k43 σ x1 x2 x3 x4 x5 (x6 + (1 : Int32))
  else
    if ((x6 >>> (x9 &&& 31)) &&& (1 : Int32)) = 0 then
      k63 σ x1 x2 x3 x4 x5 x6 x7 x8 (x9 + (1 : Int32))
    else
      bnd (M_isAfloat σ x9) fun t1 =>
      if t1 = 0 then
        M_fill_L113 G k43 k63 σ x1 x2 x3 x4 x5 x6 x8 x9 x7 (1000 : Int32)
      else
        rdA σ 66 (((5 : Int32) * x9) + (4 : Int32)) fun t2 =>
        M_fill_L113 G k43 k63 σ x1 x2 x3 x4 x5 x6 x8 x9 x7 t2
def M_fill_L63 (G : Nat) (k43 : MS → Int32 → Int32 → Int32 → Int32 → Int32 → Int32 → Option (Int32 × MS)) : Nat → MS → Int32 → Int32 → Int32 → Int32 → Int32 → Int32 → Int32 → Int32 → Int32 → Option (Int32 × MS)
  | 0, _, _, _, _, _, _, _, _, _, _ => none
  | n + 1, σ, x1, x2, x3, x4, x5, x6, x7, x8, x9 => M_fill_B63 G k43 (M_fill_L63 G k43 n) σ x1 x2 x3 x4 x5 x6 x7 x8 x9
def M_fill_B43 (G : Nat) (k43 : MS → Int32 → Int32 → Int32 → Int32 → Int32 → Int32 → Option (Int32 × MS)) (σ : MS) (x1 : Int32) (x2 : Int32) (x3 : Int32) (x4 : Int32) (x5 : Int32) (x6 : Int32) : Option (Int32 × MS) :=
  if ((1 : Int32) <<< ((gI σ 60) &&& 31)) ≤ x6 then
    if x3 = 0 then
      some (x4, σ)
    else
      some (x5, σ)
  else
    M_fill_L63 G k43 G σ x1 x2 x3 x4 x5 x6 (0 : Int32) (0 : Int32) (0 : Int32)
def M_fill_L43 (G : Nat)  : Nat → MS → Int32 → Int32 → Int32 → Int32 → Int32 → Int32 → Option (Int32 × MS)
  | 0, _, _, _, _, _, _, _ => none
  | n + 1, σ, x1, x2, x3, x4, x5, x6 => M_fill_B43 G  (M_fill_L43 G  n) σ x1 x2 x3 x4 x5 x6
def M_fill (G : Nat) (σ0 : MS) (a0 : Int32) (a1 : Int32) (a2 : Int32) : Option (Int32 × MS) :=
  bnd (M_isBobber σ0 a0) fun t1 =>
  if t1 = 0 then
    some ((-1 : Int32), σ0)
  else
    bnd (M_isIn a1 (0 : Int32) (999 : Int32)) fun t2 =>
    if t2 = 0 then
      some ((-1 : Int32), σ0)
    else
      bnd (M_isIn a2 (0 : Int32) (1 : Int32)) fun t3 =>
      if t3 = 0 then
        some ((-1 : Int32), σ0)
      else
        bndV (M_load G σ0) wr_load σ0 fun σ4 =>
        M_fill_L43 G  G σ4 a0 a1 a2 (0 : Int32) (0 : Int32) (1 : Int32)

/-! common -/
def wr_common : WS := ([], [], [], [])
def M_common_B4 (G : Nat) (k4 : Int32 → Int32 → Option Int32) (x2 : Int32) (x3 : Int32) : Option Int32 :=
  if x3 ≤ 0 then
    some x2
  else
    rmI x2 x3 fun t1 =>
    k4 x3 t1
def M_common_L4 (G : Nat)  : Nat → Int32 → Int32 → Option Int32
  | 0, _, _ => none
  | n + 1, x2, x3 => M_common_B4 G  (M_common_L4 G  n) x2 x3
def M_common (G : Nat) (a0 : Int32) (a1 : Int32) : Option Int32 :=
  M_common_L4 G  G a0 a1

/-! coin -/
def wr_coin : WS := ([], [66], [], [])
def M_coin_B28 (G : Nat) (k28 : MS → Int32 → Int32 → Int32 → Int32 → Option (Int32 × MS)) (σ : MS) (x1 : Int32) (x2 : Int32) (x3 : Int32) (x4 : Int32) : Option (Int32 × MS) :=
  if (gI σ 60) ≤ x4 then
    bnd (M_isAfloat σ x1) fun t1 =>
    if t1 = 0 then
      some (x2, σ)
    else
      if x3 = 0 then
        some (x2, σ)
      else
        rdA σ 41 x1 fun t2 =>
        bnd (M_common G t2 x3) fun t3 =>
        if x2 = 0 then
          rdA σ 41 x1 fun t5 =>
          dvI t5 t3 fun t6 =>
          some (t6, σ)
        else
          dvI x3 t3 fun t4 =>
          some (t4, σ)
  else
    bnd (M_isAfloat σ x4) fun t7 =>
    if t7 = 0 then
      k28 σ x1 x2 (x3 + (0 : Int32)) (x4 + (1 : Int32))
    else
      rdA σ 41 x4 fun t8 =>
      k28 σ x1 x2 (x3 + t8) (x4 + (1 : Int32))
def M_coin_L28 (G : Nat)  : Nat → MS → Int32 → Int32 → Int32 → Int32 → Option (Int32 × MS)
  | 0, _, _, _, _, _ => none
  | n + 1, σ, x1, x2, x3, x4 => M_coin_B28 G  (M_coin_L28 G  n) σ x1 x2 x3 x4
def M_coin (G : Nat) (σ0 : MS) (a0 : Int32) (a1 : Int32) : Option (Int32 × MS) :=
  bnd (M_isApple σ0 a0) fun t1 =>
  if t1 = 0 then
    some ((-1 : Int32), σ0)
  else
    bnd (M_isIn a1 (0 : Int32) (1 : Int32)) fun t2 =>
    if t2 = 0 then
      some ((-1 : Int32), σ0)
    else
      bndV (M_load G σ0) wr_load σ0 fun σ3 =>
      M_coin_L28 G  G σ3 a0 a1 (0 : Int32) (0 : Int32)

/-! lies -/
def wr_lies : WS := ([], [], [], [])
def M_lies (σ0 : MS) (a0 : Int32) : Option Int32 :=
  bnd (M_isIn a0 (0 : Int32) ((gI σ0 85) - (1 : Int32))) fun t1 =>
  if t1 = 0 then
    some (-1 : Int32)
  else
    rdA σ0 83 a0 fun t2 =>
    some t2

/-! pick -/
def wr_pick : WS := ([91], [86, 87, 88, 89, 90], [], [])
def M_pick (σ0 : MS) (a0 : Int32) (a1 : Int32) (a2 : Int32) : Option (Int32 × MS) :=
  bnd (M_isBobber σ0 a0) fun t1 =>
  if t1 = 0 then
    some ((-1 : Int32), σ0)
  else
    bnd (M_isIn a1 (1 : Int32) (((1 : Int32) <<< ((gI σ0 60) &&& 31)) - (1 : Int32))) fun t2 =>
    if t2 = 0 then
      some ((-1 : Int32), σ0)
    else
      bnd (M_isApple σ0 a2) fun t3 =>
      if t3 = 0 then
        some ((-1 : Int32), σ0)
      else
        if ((a1 >>> (a2 &&& 31)) &&& (1 : Int32)) = 0 then
          some ((-1 : Int32), σ0)
        else
          if (gI σ0 91) = (30 : Int32) then
            some ((-1 : Int32), σ0)
          else
            wrA σ0 86 (gI σ0 91) a0 fun σ4 =>
            wrA σ4 87 (gI σ4 91) a1 fun σ5 =>
            wrA σ5 88 (gI σ5 91) a2 fun σ6 =>
            wrA σ6 89 (gI σ6 91) (gI σ6 92) fun σ7 =>
            wrA σ7 90 (gI σ7 91) (-1 : Int32) fun σ8 =>
            vlS (sI σ8 91 ((gI σ8 91) + (1 : Int32))) fun σ9 =>
            some (((gI σ9 91) - (1 : Int32)), σ9)

/-! untell -/
def wr_untell : WS := ([], [90], [], [])
def M_untell (σ0 : MS) (a0 : Int32) : Option (Int32 × MS) :=
  bnd (M_isIn a0 (0 : Int32) ((gI σ0 91) - (1 : Int32))) fun t1 =>
  if t1 = 0 then
    some ((0 : Int32), σ0)
  else
    rdA σ0 90 a0 fun t2 =>
    if t2 < 0 then
      wrA σ0 90 a0 (gI σ0 92) fun σ3 =>
      some ((1 : Int32), σ3)
    else
      some ((0 : Int32), σ0)

/-! later -/
def wr_later : WS := ([92], [], [], [])
def M_later (σ0 : MS) (a0 : Int32) : Option (Int32 × MS) :=
  if a0 < 0 then
    some ((-1 : Int32), σ0)
  else
    if (1000 : Int32) < a0 then
      some ((-1 : Int32), σ0)
    else
      if ((gI σ0 92) + a0) ≤ (100000 : Int32) then
        vlS (sI σ0 92 ((gI σ0 92) + a0)) fun σ1 =>
        some ((gI σ1 92), σ1)
      else
        some ((-1 : Int32), σ0)

/-! counts -/
def wr_counts : WS := ([], [], [], [])
def M_counts (σ0 : MS) (a0 : Int32) (a1 : Int32) : Option Int32 :=
  rdA σ0 89 a0 fun t1 =>
  if a1 < t1 then
    some (0 : Int32)
  else
    rdA σ0 90 a0 fun t2 =>
    if t2 < 0 then
      some (1 : Int32)
    else
      rdA σ0 90 a0 fun t3 =>
      if t3 ≤ a1 then
        some (0 : Int32)
      else
        some (1 : Int32)

/-! takenBy -/
def wr_takenBy : WS := ([], [17], [], [])
def M_takenBy_B8 (G : Nat) (k8 : MS → Int32 → Int32 → Int32 → Int32 → Int32 → Option (Int32 × MS)) (σ : MS) (x1 : Int32) (x2 : Int32) (x3 : Int32) (x4 : Int32) (x5 : Int32) : Option (Int32 × MS) :=
  if (gI σ 60) ≤ x5 then
    some (x3, σ)
  else
    rdA σ 87 x2 fun t1 =>
    if ((t1 >>> (x5 &&& 31)) &&& (1 : Int32)) = 0 then
      k8 σ x1 x2 x3 x4 (x5 + (1 : Int32))
    else
      rdA σ 86 x2 fun t2 =>
      rdA σ 86 x2 fun t3 =>
      bndW (M_oddsOf G σ t3 x5 (0 : Int32)) wr_oddsOf σ fun t5 σ4 =>
      bndW (M_worked G σ4 ((5 : Int32) + x1) t2 x5 (0 : Int32) t5) wr_worked σ4 fun t7 σ6 =>
      if x3 < 0 then
        k8 σ6 x1 x2 x5 t7 (x5 + (1 : Int32))
      else
        if x4 < t7 then
          k8 σ6 x1 x2 x5 t7 (x5 + (1 : Int32))
        else
          k8 σ6 x1 x2 x3 x4 (x5 + (1 : Int32))
def M_takenBy_L8 (G : Nat)  : Nat → MS → Int32 → Int32 → Int32 → Int32 → Int32 → Option (Int32 × MS)
  | 0, _, _, _, _, _, _ => none
  | n + 1, σ, x1, x2, x3, x4, x5 => M_takenBy_B8 G  (M_takenBy_L8 G  n) σ x1 x2 x3 x4 x5
def M_takenBy (G : Nat) (σ0 : MS) (a0 : Int32) (a1 : Int32) : Option (Int32 × MS) :=
  M_takenBy_L8 G  G σ0 a0 a1 (-1 : Int32) (0 : Int32) (0 : Int32)

/-! fits -/
def wr_fits : WS := ([], [17, 66], [], [])
def M_fits_B22 (G : Nat) (k8 : MS → Int32 → Int32 → Int32 → Option (Int32 × MS)) (k22 : MS → Int32 → Int32 → Int32 → Int32 → Int32 → Option (Int32 × MS)) (σ : MS) (x1 : Int32) (x2 : Int32) (x3 : Int32) (x4 : Int32) (x5 : Int32) : Option (Int32 × MS) :=
  if (gI σ 91) ≤ x5 then
    if x4 = 0 then
      k8 σ x1 (x2 ||| (0 : Int32)) (x3 + (1 : Int32))
    else
      k8 σ x1 (x2 ||| ((1 : Int32) <<< (x3 &&& 31))) (x3 + (1 : Int32))
  else
    if x4 = 0 then
      k22 σ x1 x2 x3 (0 : Int32) (x5 + (1 : Int32))
    else
      bnd (M_counts σ x5 x1) fun t1 =>
      if t1 = 0 then
        k22 σ x1 x2 x3 (1 : Int32) (x5 + (1 : Int32))
      else
        bndW (M_takenBy G σ x3 x5) wr_takenBy σ fun t3 σ2 =>
        rdA σ2 88 x5 fun t4 =>
        if t3 = t4 then
          k22 σ2 x1 x2 x3 (1 : Int32) (x5 + (1 : Int32))
        else
          k22 σ2 x1 x2 x3 (0 : Int32) (x5 + (1 : Int32))
def M_fits_L22 (G : Nat) (k8 : MS → Int32 → Int32 → Int32 → Option (Int32 × MS)) : Nat → MS → Int32 → Int32 → Int32 → Int32 → Int32 → Option (Int32 × MS)
  | 0, _, _, _, _, _, _ => none
  | n + 1, σ, x1, x2, x3, x4, x5 => M_fits_B22 G k8 (M_fits_L22 G k8 n) σ x1 x2 x3 x4 x5
def M_fits_B8 (G : Nat) (k8 : MS → Int32 → Int32 → Int32 → Option (Int32 × MS)) (σ : MS) (x1 : Int32) (x2 : Int32) (x3 : Int32) : Option (Int32 × MS) :=
  if (gI σ 59) ≤ x3 then
    some (x2, σ)
  else
    M_fits_L22 G k8 G σ x1 x2 x3 (1 : Int32) (0 : Int32)
def M_fits_L8 (G : Nat)  : Nat → MS → Int32 → Int32 → Int32 → Option (Int32 × MS)
  | 0, _, _, _, _ => none
  | n + 1, σ, x1, x2, x3 => M_fits_B8 G  (M_fits_L8 G  n) σ x1 x2 x3
def M_fits (G : Nat) (σ0 : MS) (a0 : Int32) : Option (Int32 × MS) :=
  bndV (M_layTold G σ0) wr_layTold σ0 fun σ1 =>
  M_fits_L8 G  G σ1 a0 (0 : Int32) (0 : Int32)

/-! falseBy -/
def wr_falseBy : WS := ([], [17], [], [])
def M_falseBy_B5 (G : Nat) (k5 : MS → Int32 → Int32 → Int32 → Int32 → Option (Int32 × MS)) (σ : MS) (x1 : Int32) (x2 : Int32) (x3 : Int32) (x4 : Int32) : Option (Int32 × MS) :=
  if (gI σ 91) ≤ x4 then
    some (x3, σ)
  else
    bnd (M_counts σ x4 x2) fun t1 =>
    if t1 = 0 then
      k5 σ x1 x2 (x3 + (0 : Int32)) (x4 + (1 : Int32))
    else
      bndW (M_takenBy G σ x1 x4) wr_takenBy σ fun t3 σ2 =>
      rdA σ2 88 x4 fun t4 =>
      if t3 = t4 then
        k5 σ2 x1 x2 (x3 + (0 : Int32)) (x4 + (1 : Int32))
      else
        k5 σ2 x1 x2 (x3 + (1 : Int32)) (x4 + (1 : Int32))
def M_falseBy_L5 (G : Nat)  : Nat → MS → Int32 → Int32 → Int32 → Int32 → Option (Int32 × MS)
  | 0, _, _, _, _, _ => none
  | n + 1, σ, x1, x2, x3, x4 => M_falseBy_B5 G  (M_falseBy_L5 G  n) σ x1 x2 x3 x4
def M_falseBy (G : Nat) (σ0 : MS) (a0 : Int32) (a1 : Int32) : Option (Int32 × MS) :=
  M_falseBy_L5 G  G σ0 a0 a1 (0 : Int32) (0 : Int32)

/-! nearest -/
def wr_nearest : WS := ([], [17, 66], [], [])
def M_nearest_B27 (G : Nat) (k27 : MS → Int32 → Int32 → Int32 → Int32 → Option (Int32 × MS)) (σ : MS) (x1 : Int32) (x2 : Int32) (x3 : Int32) (x4 : Int32) : Option (Int32 × MS) :=
  if (gI σ 59) ≤ x4 then
    if x1 = 0 then
      some (x3, σ)
    else
      bndW (M_falseBy G σ x3 x2) wr_falseBy σ fun t2 σ1 =>
      some (t2, σ1)
  else
    bndW (M_falseBy G σ x4 x2) wr_falseBy σ fun t4 σ3 =>
    bndW (M_falseBy G σ3 x3 x2) wr_falseBy σ3 fun t6 σ5 =>
    if t6 ≤ t4 then
      k27 σ5 x1 x2 x3 (x4 + (1 : Int32))
    else
      k27 σ5 x1 x2 x4 (x4 + (1 : Int32))
def M_nearest_L27 (G : Nat)  : Nat → MS → Int32 → Int32 → Int32 → Int32 → Option (Int32 × MS)
  | 0, _, _, _, _, _ => none
  | n + 1, σ, x1, x2, x3, x4 => M_nearest_B27 G  (M_nearest_L27 G  n) σ x1 x2 x3 x4
def M_nearest (G : Nat) (σ0 : MS) (a0 : Int32) (a1 : Int32) : Option (Int32 × MS) :=
  if (gI σ0 59) = 0 then
    some ((-1 : Int32), σ0)
  else
    bnd (M_isIn a0 (0 : Int32) (1 : Int32)) fun t1 =>
    if t1 = 0 then
      some ((-1 : Int32), σ0)
    else
      bndV (M_layTold G σ0) wr_layTold σ0 fun σ2 =>
      M_nearest_L27 G  G σ2 a0 a1 (0 : Int32) (1 : Int32)

/-! chance -/
def wr_chance : WS := ([], [], [], [])
def M_chance_B5 (G : Nat) (σ0 : MS) (k5 : Int32 → Int64 → Int32 → Option Int64) (x1 : Int32) (x2 : Int64) (x4 : Int32) : Option Int64 :=
  if (gI σ0 91) ≤ x4 then
    some x2
  else
    bnd (M_counts σ0 x4 x1) fun t1 =>
    if t1 = 0 then
      k5 x1 x2 (x4 + (1 : Int32))
    else
      rdA σ0 87 x4 fun t2 =>
      bnd (M_members G t2) fun t3 =>
      if (lg_cmp (x2 * (t3.toInt64)) (1000000000000000 : Int64)) ≤ 0 then
        k5 x1 (x2 * (t3.toInt64)) (x4 + (1 : Int32))
      else
        k5 x1 (1000000000000000 : Int64) (x4 + (1 : Int32))
def M_chance_L5 (G : Nat) (σ0 : MS)  : Nat → Int32 → Int64 → Int32 → Option Int64
  | 0, _, _, _ => none
  | n + 1, x1, x2, x4 => M_chance_B5 G σ0  (M_chance_L5 G σ0  n) x1 x2 x4
def M_chance (G : Nat) (σ0 : MS) (a0 : Int32) : Option Int64 :=
  M_chance_L5 G σ0  G a0 (1 : Int64) (0 : Int32)

/-! isBox -/
def wr_isBox : WS := ([], [], [], [])
def M_isBox (a0 : Int32) : Option Int32 :=
  if a0 < 0 then
    some (0 : Int32)
  else
    if (3 : Int32) ≤ a0 then
      some (0 : Int32)
    else
      some (1 : Int32)

/-! image -/
def wr_image : WS := ([], [66, 93, 94], [], [])
def M_image_B22 (G : Nat) (k22 : MS → Int32 → Int32 → Option (Int32 × MS)) (σ : MS) (x1 : Int32) (x2 : Int32) : Option (Int32 × MS) :=
  if (123 : Int32) ≤ x2 then
    bnd (M_afloatAll G σ) fun t1 =>
    some (t1, σ)
  else
    rdA σ 66 x2 fun t2 =>
    wrA σ 94 (((128 : Int32) * x1) + x2) t2 fun σ3 =>
    k22 σ3 x1 (x2 + (1 : Int32))
def M_image_L22 (G : Nat)  : Nat → MS → Int32 → Int32 → Option (Int32 × MS)
  | 0, _, _, _ => none
  | n + 1, σ, x1, x2 => M_image_B22 G  (M_image_L22 G  n) σ x1 x2
def M_image (G : Nat) (σ0 : MS) (a0 : Int32) : Option (Int32 × MS) :=
  bnd (M_isBox a0) fun t1 =>
  if t1 = 0 then
    some ((-1 : Int32), σ0)
  else
    wrA σ0 93 a0 (1 : Int32) fun σ2 =>
    bndV (M_load G σ2) wr_load σ2 fun σ3 =>
    M_image_L22 G  G σ3 a0 (0 : Int32)

/-! back -/
def wr_back : WS := ([71, 72], [66, 67], [], [])
def M_back_B20 (G : Nat) (k20 : MS → Int32 → Int32 → Option (Int32 × MS)) (σ : MS) (x1 : Int32) (x2 : Int32) : Option (Int32 × MS) :=
  if (123 : Int32) ≤ x2 then
    vlS (sI σ 71 (0 : Int32)) fun σ1 =>
    vlS (sI σ1 72 (0 : Int32)) fun σ2 =>
    bndV (M_load G σ2) wr_load σ2 fun σ3 =>
    bnd (M_afloatAll G σ3) fun t4 =>
    some (t4, σ3)
  else
    rdA σ 94 (((128 : Int32) * x1) + x2) fun t5 =>
    wrA σ 67 x2 t5 fun σ6 =>
    k20 σ6 x1 (x2 + (1 : Int32))
def M_back_L20 (G : Nat)  : Nat → MS → Int32 → Int32 → Option (Int32 × MS)
  | 0, _, _, _ => none
  | n + 1, σ, x1, x2 => M_back_B20 G  (M_back_L20 G  n) σ x1 x2
def M_back (G : Nat) (σ0 : MS) (a0 : Int32) : Option (Int32 × MS) :=
  bnd (M_isBox a0) fun t1 =>
  if t1 = 0 then
    some ((-1 : Int32), σ0)
  else
    rdA σ0 93 a0 fun t2 =>
    if t2 = 0 then
      some ((-1 : Int32), σ0)
    else
      M_back_L20 G  G σ0 a0 (0 : Int32)

/-! about -/
def wr_about : WS := ([], [66], [], [])
def M_about (G : Nat) (σ0 : MS) (a0 : Int32) : Option (Int32 × MS) :=
  bndV (M_load G σ0) wr_load σ0 fun σ1 =>
  if a0 < 0 then
    some ((-1 : Int32), σ1)
  else if 13 < a0 then
    some ((-1 : Int32), σ1)
  else if a0 = 0 then
    some ((gI σ1 56), σ1)
  else if a0 = 1 then
    some ((gI σ1 57), σ1)
  else if a0 = 2 then
    some ((gI σ1 60), σ1)
  else if a0 = 3 then
    bnd (M_afloatAll G σ1) fun t2 =>
    some (t2, σ1)
  else if a0 = 4 then
    some ((gI σ1 61), σ1)
  else if a0 = 5 then
    some ((gI σ1 59), σ1)
  else if a0 = 6 then
    rdA σ1 67 (62 : Int32) fun t3 =>
    some (t3, σ1)
  else if a0 = 7 then
    some ((gI σ1 71), σ1)
  else if a0 = 8 then
    some ((gI σ1 72), σ1)
  else if a0 = 9 then
    some ((gI σ1 91), σ1)
  else if a0 = 10 then
    some ((gI σ1 92), σ1)
  else if a0 = 11 then
    some ((gI σ1 1), σ1)
  else if a0 = 12 then
    some ((gI σ1 21), σ1)
  else
    some ((gI σ1 85), σ1)
