/-! what the methods compute -/
set_option maxRecDepth 100000
def f_X7_goat_b23 (N : Nat)  (a0 : Nat) (σ : Mem) : Option (Int32 × Mem) :=
  ob (o_at σ [26] (some a0)) fun a3 =>
  bd (f_X7_refused N a3 (1 : Int32) σ) fun x1 σ2 =>
  some (x1, σ2)
def f_X7_goat_b66 (N : Nat) (K34 : Nat → Int32 → Int32 → Int32 → Int32 → Mem → Option (Int32 × Mem)) (a0 : Nat) (l1 : Int32) (l2 : Int32) (l4 : Int32) (t0 : Int32) (t1 : Int32) (σ : Mem) : Option (Int32 × Mem) :=
  K34 a0 l1 l2 (t0 + t1) (l4 + (1 : Int32)) σ
def f_X7_goat_b34B (N : Nat)  (K34 : Nat → Int32 → Int32 → Int32 → Int32 → Mem → Option (Int32 × Mem)) (a0 : Nat) (l1 : Int32) (l2 : Int32) (l3 : Int32) (l4 : Int32) (σ : Mem) : Option (Int32 × Mem) :=
  ob (o_gR σ [26] 3 (some a0)) fun x1 =>
  ob (o_gI σ [40] 7 x1) fun x2 =>
  if x2 ≤ l4 then
    if l2 = (0 : Int32) then
      ob (o_gR σ [26] 3 (some a0)) fun x3 =>
      ob (o_gR σ [40] 21 x3) fun x4 =>
      ob (o_aI σ 1 x4 l1) fun x5 =>
      ob (o_at σ [26] (some a0)) fun a8 =>
      bd (f_X7_good N a8 x5 σ) fun x6 σ7 =>
      some (x6, σ7)
    else if l2 = (1 : Int32) then
      ob (o_gR σ [26] 3 (some a0)) fun x9 =>
      ob (o_gR σ [40] 22 x9) fun x10 =>
      ob (o_aI σ 1 x10 l1) fun x11 =>
      ob (o_at σ [26] (some a0)) fun a14 =>
      bd (f_X7_good N a14 x11 σ) fun x12 σ13 =>
      some (x12, σ13)
    else if l2 = (2 : Int32) then
      ob (o_gR σ [26] 3 (some a0)) fun x15 =>
      ob (o_gR σ [40] 25 x15) fun x16 =>
      ob (o_aI σ 1 x16 l1) fun x17 =>
      ob (o_at σ [26] (some a0)) fun a20 =>
      bd (f_X7_good N a20 x17 σ) fun x18 σ19 =>
      some (x18, σ19)
    else if l2 = (3 : Int32) then
      ob (o_gR σ [26] 3 (some a0)) fun x21 =>
      ob (o_gR σ [40] 26 x21) fun x22 =>
      ob (o_aI σ 1 x22 l1) fun x23 =>
      ob (o_at σ [26] (some a0)) fun a26 =>
      bd (f_X7_good N a26 x23 σ) fun x24 σ25 =>
      some (x24, σ25)
    else if l2 = (4 : Int32) then
      ob (o_gR σ [26] 3 (some a0)) fun x27 =>
      ob (o_gR σ [40] 27 x27) fun x28 =>
      ob (o_aI σ 1 x28 l1) fun x29 =>
      ob (o_at σ [26] (some a0)) fun a32 =>
      bd (f_X7_good N a32 x29 σ) fun x30 σ31 =>
      some (x30, σ31)
    else if l2 = (5 : Int32) then
      ob (o_at σ [26] (some a0)) fun a35 =>
      bd (f_X7_good N a35 l3 σ) fun x33 σ34 =>
      some (x33, σ34)
    else
      ob (o_at σ [26] (some a0)) fun a38 =>
      bd (f_X7_isHeard N a38 l1 σ) fun x36 σ37 =>
      if x36 = 0 then
        ob (o_at σ37 [26] (some a0)) fun a41 =>
        bd (f_X7_good N a41 (0 : Int32) σ37) fun x39 σ40 =>
        some (x39, σ40)
      else
        ob (o_at σ37 [26] (some a0)) fun a44 =>
        bd (f_X7_good N a44 (1 : Int32) σ37) fun x42 σ43 =>
        some (x42, σ43)
  else
    ob (o_gR σ [26] 3 (some a0)) fun x45 =>
    ob (o_gR σ [40] 29 x45) fun x46 =>
    ob (o_aI σ 1 x46 l4) fun x47 =>
    if x47 = l1 then
      f_X7_goat_b66 N K34 a0 l1 l2 l4 l3 (1 : Int32) σ
    else
      f_X7_goat_b66 N K34 a0 l1 l2 l4 l3 (0 : Int32) σ
def f_X7_goat_b34 (N : Nat)  : Nat → Nat → Int32 → Int32 → Int32 → Int32 → Mem → Option (Int32 × Mem)
  | 0, _, _, _, _, _, _ => none
  | n + 1, a0, l1, l2, l3, l4, σ => f_X7_goat_b34B N  (f_X7_goat_b34 N  n) a0 l1 l2 l3 l4 σ
def f_X7_goat (N : Nat) (a0 : Nat) (i1 : Int32) (i2 : Int32) (σ : Mem) : Option (Int32 × Mem) :=
  ob (o_pI σ 0 [26] 0 (some a0) (0 : Int32)) fun σ1 =>
  ob (o_at σ1 [26] (some a0)) fun a4 =>
  bd (f_X7_isGoat N a4 i1 σ1) fun x2 σ3 =>
  if x2 = 0 then
    f_X7_goat_b23 N  a0 σ3
  else
    bd (f_X7_within N i2 (0 : Int32) (6 : Int32) σ3) fun x5 σ6 =>
    if x5 = 0 then
      f_X7_goat_b23 N  a0 σ6
    else
      f_X7_goat_b34 N  N a0 i1 i2 (0 : Int32) (0 : Int32) σ6
def f_X1_likes_b51 (N : Nat)  (a0 : Nat) (σ : Mem) : Option (Int32 × Mem) :=
  ob (o_at σ [20] (some a0)) fun a3 =>
  bd (f_X1_no N a3 (1 : Int32) σ) fun x1 σ2 =>
  some (x1, σ2)
def f_X1_likes (N : Nat) (a0 : Nat) (i1 : Int32) (i2 : Int32) (σ : Mem) : Option (Int32 × Mem) :=
  ob (o_at σ [20] (some a0)) fun a3 =>
  bd (f_X1_anew N a3  σ) fun _ σ2 =>
  ob (o_at σ2 [20] (some a0)) fun a6 =>
  bd (f_X1_isGoat N a6 i1 σ2) fun x4 σ5 =>
  if x4 = 0 then
    f_X1_likes_b51 N  a0 σ5
  else
    ob (o_gR σ5 [20] 3 (some a0)) fun x7 =>
    ob (o_gR σ5 [27] 6 x7) fun x8 =>
    ob (o_aR σ5 8 x8 i1) fun x9 =>
    ob (o_gI σ5 [30, 31, 32, 33] 103 x9) fun x10 =>
    bd (f_X1_in N i2 (0 : Int32) (x10 - (1 : Int32)) σ5) fun x11 σ12 =>
    if x11 = 0 then
      f_X1_likes_b51 N  a0 σ12
    else
      ob (o_gR σ12 [20] 3 (some a0)) fun x13 =>
      ob (o_gR σ12 [27] 6 x13) fun x14 =>
      ob (o_aR σ12 8 x14 i1) fun x15 =>
      ob (o_gR σ12 [30, 31, 32, 33] 102 x15) fun x16 =>
      ob (o_aI σ12 1 x16 i2) fun x17 =>
      some (x17, σ12)
def f_X7_likes_b50 (N : Nat)  (a0 : Nat) (σ : Mem) : Option (Int32 × Mem) :=
  ob (o_at σ [26] (some a0)) fun a3 =>
  bd (f_X7_refused N a3 (1 : Int32) σ) fun x1 σ2 =>
  some (x1, σ2)
def f_X7_likes (N : Nat) (a0 : Nat) (i1 : Int32) (i2 : Int32) (σ : Mem) : Option (Int32 × Mem) :=
  ob (o_pI σ 0 [26] 0 (some a0) (0 : Int32)) fun σ1 =>
  ob (o_at σ1 [26] (some a0)) fun a4 =>
  bd (f_X7_isGoat N a4 i1 σ1) fun x2 σ3 =>
  if x2 = 0 then
    f_X7_likes_b50 N  a0 σ3
  else
    if i2 < 0 then
      f_X7_likes_b50 N  a0 σ3
    else
      ob (o_gR σ3 [26] 3 (some a0)) fun x5 =>
      ob (o_gR σ3 [40] 23 x5) fun x6 =>
      ob (o_aI σ3 1 x6 i1) fun x7 =>
      if x7 ≤ i2 then
        f_X7_likes_b50 N  a0 σ3
      else
        ob (o_gR σ3 [26] 3 (some a0)) fun x8 =>
        ob (o_gR σ3 [40] 24 x8) fun x9 =>
        ob (o_aI σ3 1 x9 (((4 : Int32) * i1) + i2)) fun x10 =>
        ob (o_at σ3 [26] (some a0)) fun a13 =>
        bd (f_X7_good N a13 x10 σ3) fun x11 σ12 =>
        some (x11, σ12)
def f_X1_isClue_b28 (N : Nat)   (σ : Mem) : Option (Int32 × Mem) :=
  ob (o_nr 1 (0 : Int32)) fun _ => some ((0 : Int32), σ)
def f_X1_isClue (N : Nat) (a0 : Nat) (i1 : Int32) (σ : Mem) : Option (Int32 × Mem) :=
  ob (o_gR σ [20] 3 (some a0)) fun x1 =>
  if x1 = none then
    f_X1_isClue_b28 N   σ
  else
    ob (o_gR σ [20] 3 (some a0)) fun x2 =>
    ob (o_gI σ [27] 18 x2) fun x3 =>
    bd (f_X1_in N i1 (0 : Int32) (x3 - (1 : Int32)) σ) fun x4 σ5 =>
    if x4 = 0 then
      f_X1_isClue_b28 N   σ5
    else
      ob (o_nr 1 (1 : Int32)) fun _ => some ((1 : Int32), σ5)
def f_X18_sort (N : Nat) (a0 : Nat) (σ : Mem) : Option (Int32 × Mem) :=
  some ((0 : Int32), σ)
def f_X19_sort (N : Nat) (a0 : Nat) (σ : Mem) : Option (Int32 × Mem) :=
  some ((1 : Int32), σ)
def f_X20_sort (N : Nat) (a0 : Nat) (σ : Mem) : Option (Int32 × Mem) :=
  some ((2 : Int32), σ)
def f_X1_clue (N : Nat) (a0 : Nat) (i1 : Int32) (i2 : Int32) (σ : Mem) : Option (Int32 × Mem) :=
  ob (o_at σ [20] (some a0)) fun a3 =>
  bd (f_X1_anew N a3  σ) fun _ σ2 =>
  ob (o_at σ2 [20] (some a0)) fun a6 =>
  bd (f_X1_isClue N a6 i1 σ2) fun x4 σ5 =>
  if x4 = 0 then
    ob (o_at σ5 [20] (some a0)) fun a21 =>
    bd (f_X1_no N a21 (1 : Int32) σ5) fun x19 σ20 =>
    some (x19, σ20)
  else
    ob (o_gR σ5 [20] 3 (some a0)) fun x7 =>
    ob (o_gR σ5 [27] 7 x7) fun x8 =>
    ob (o_aR σ5 9 x8 i1) fun x9 =>
    if i2 = (0 : Int32) then
      ob (o_at σ5 [34, 35, 36] x9) fun a12 =>
      bd (if (m_T σ5 a12).1 = 34 then f_X18_sort N a12  σ5 else if (m_T σ5 a12).1 = 35 then f_X19_sort N a12  σ5 else f_X20_sort N a12  σ5) fun x10 σ11 =>
      some (x10, σ11)
    else if i2 = (1 : Int32) then
      ob (o_gI σ5 [34, 35, 36] 107 x9) fun x13 =>
      some (x13, σ5)
    else if i2 = (2 : Int32) then
      ob (o_gI σ5 [34, 35, 36] 108 x9) fun x14 =>
      some (x14, σ5)
    else if i2 = (3 : Int32) then
      ob (o_gI σ5 [34, 35, 36] 109 x9) fun x15 =>
      some (x15, σ5)
    else
      ob (o_at σ5 [20] (some a0)) fun a18 =>
      bd (f_X1_no N a18 (1 : Int32) σ5) fun x16 σ17 =>
      some (x16, σ17)
def f_X7_isClue_b26 (N : Nat)   (σ : Mem) : Option (Int32 × Mem) :=
  ob (o_nr 1 (0 : Int32)) fun _ => some ((0 : Int32), σ)
def f_X7_isClue (N : Nat) (a0 : Nat) (i1 : Int32) (σ : Mem) : Option (Int32 × Mem) :=
  ob (o_gR σ [26] 3 (some a0)) fun x1 =>
  if x1 = none then
    f_X7_isClue_b26 N   σ
  else
    if i1 < 0 then
      f_X7_isClue_b26 N   σ
    else
      ob (o_gR σ [26] 3 (some a0)) fun x2 =>
      ob (o_gI σ [40] 7 x2) fun x3 =>
      if x3 ≤ i1 then
        f_X7_isClue_b26 N   σ
      else
        ob (o_nr 1 (1 : Int32)) fun _ => some ((1 : Int32), σ)
def f_X7_clue_b22 (N : Nat)  (a0 : Nat) (σ : Mem) : Option (Int32 × Mem) :=
  ob (o_at σ [26] (some a0)) fun a3 =>
  bd (f_X7_refused N a3 (1 : Int32) σ) fun x1 σ2 =>
  some (x1, σ2)
def f_X7_clue (N : Nat) (a0 : Nat) (i1 : Int32) (i2 : Int32) (σ : Mem) : Option (Int32 × Mem) :=
  ob (o_pI σ 0 [26] 0 (some a0) (0 : Int32)) fun σ1 =>
  ob (o_at σ1 [26] (some a0)) fun a4 =>
  bd (f_X7_isClue N a4 i1 σ1) fun x2 σ3 =>
  if x2 = 0 then
    f_X7_clue_b22 N  a0 σ3
  else
    bd (f_X7_within N i2 (0 : Int32) (3 : Int32) σ3) fun x5 σ6 =>
    if x5 = 0 then
      f_X7_clue_b22 N  a0 σ6
    else
      if i2 = 0 then
        ob (o_gR σ6 [26] 3 (some a0)) fun x25 =>
        ob (o_gR σ6 [40] 28 x25) fun x26 =>
        ob (o_aI σ6 1 x26 i1) fun x27 =>
        ob (o_at σ6 [26] (some a0)) fun a30 =>
        bd (f_X7_good N a30 x27 σ6) fun x28 σ29 =>
        some (x28, σ29)
      else
        if i2 = (1 : Int32) then
          ob (o_gR σ6 [26] 3 (some a0)) fun x19 =>
          ob (o_gR σ6 [40] 29 x19) fun x20 =>
          ob (o_aI σ6 1 x20 i1) fun x21 =>
          ob (o_at σ6 [26] (some a0)) fun a24 =>
          bd (f_X7_good N a24 x21 σ6) fun x22 σ23 =>
          some (x22, σ23)
        else
          if i2 = (2 : Int32) then
            ob (o_gR σ6 [26] 3 (some a0)) fun x13 =>
            ob (o_gR σ6 [40] 30 x13) fun x14 =>
            ob (o_aI σ6 1 x14 i1) fun x15 =>
            ob (o_at σ6 [26] (some a0)) fun a18 =>
            bd (f_X7_good N a18 x15 σ6) fun x16 σ17 =>
            some (x16, σ17)
          else
            ob (o_gR σ6 [26] 3 (some a0)) fun x7 =>
            ob (o_gR σ6 [40] 31 x7) fun x8 =>
            ob (o_aI σ6 1 x8 i1) fun x9 =>
            ob (o_at σ6 [26] (some a0)) fun a12 =>
            bd (f_X7_good N a12 x9 σ6) fun x10 σ11 =>
            some (x10, σ11)
def f_X1_isPerson_b28 (N : Nat)   (σ : Mem) : Option (Int32 × Mem) :=
  ob (o_nr 1 (0 : Int32)) fun _ => some ((0 : Int32), σ)
def f_X1_isPerson (N : Nat) (a0 : Nat) (i1 : Int32) (σ : Mem) : Option (Int32 × Mem) :=
  ob (o_gR σ [20] 3 (some a0)) fun x1 =>
  if x1 = none then
    f_X1_isPerson_b28 N   σ
  else
    ob (o_gR σ [20] 3 (some a0)) fun x2 =>
    ob (o_gI σ [27] 15 x2) fun x3 =>
    bd (f_X1_in N i1 (0 : Int32) (x3 - (1 : Int32)) σ) fun x4 σ5 =>
    if x4 = 0 then
      f_X1_isPerson_b28 N   σ5
    else
      ob (o_nr 1 (1 : Int32)) fun _ => some ((1 : Int32), σ5)
def f_X1_isHour (N : Nat) (a0 : Nat) (i1 : Int32) (σ : Mem) : Option (Int32 × Mem) :=
  ob (o_gR σ [20] 3 (some a0)) fun x1 =>
  ob (o_gI σ [27] 11 x1) fun x2 =>
  bd (f_X1_in N i1 (0 : Int32) (x2 - (1 : Int32)) σ) fun x3 σ4 =>
  ob (o_nr 1 x3) fun _ => some (x3, σ4)
def f_X11_at (N : Nat) (a0 : Nat) (i1 : Int32) (i2 : Int32) (σ : Mem) : Option (Int32 × Mem) :=
  ob (o_gR σ [29] 0 (some a0)) fun x1 =>
  ob (o_gR σ [29] 1 (some a0)) fun x2 =>
  ob (o_aI σ 1 x2 i1) fun x3 =>
  ob (o_aI σ 1 x1 (((12 : Int32) * i1) + (if (x3 - (1 : Int32)) < i2 then (x3 - (1 : Int32)) else i2))) fun x4 =>
  some (x4, σ)
def f_X1_story_b34 (N : Nat)  (a0 : Nat) (σ : Mem) : Option (Int32 × Mem) :=
  ob (o_at σ [20] (some a0)) fun a3 =>
  bd (f_X1_no N a3 (1 : Int32) σ) fun x1 σ2 =>
  some (x1, σ2)
def f_X1_story (N : Nat) (a0 : Nat) (i1 : Int32) (i2 : Int32) (i3 : Int32) (σ : Mem) : Option (Int32 × Mem) :=
  ob (o_at σ [20] (some a0)) fun a3 =>
  bd (f_X1_anew N a3  σ) fun _ σ2 =>
  ob (o_at σ2 [20] (some a0)) fun a6 =>
  bd (f_X1_isPerson N a6 i1 σ2) fun x4 σ5 =>
  if x4 = 0 then
    f_X1_story_b34 N  a0 σ5
  else
    ob (o_gR σ5 [20] 3 (some a0)) fun x7 =>
    ob (o_gR σ5 [27] 5 x7) fun x8 =>
    ob (o_aR σ5 7 x8 i1) fun x9 =>
    ob (o_gI σ5 [29] 2 x9) fun x10 =>
    bd (f_X1_in N i2 (0 : Int32) (x10 - (1 : Int32)) σ5) fun x11 σ12 =>
    if x11 = 0 then
      f_X1_story_b34 N  a0 σ12
    else
      ob (o_at σ12 [20] (some a0)) fun a15 =>
      bd (f_X1_isHour N a15 i3 σ12) fun x13 σ14 =>
      if x13 = 0 then
        ob (o_at σ14 [20] (some a0)) fun a18 =>
        bd (f_X1_no N a18 (2 : Int32) σ14) fun x16 σ17 =>
        some (x16, σ17)
      else
        ob (o_gR σ14 [20] 3 (some a0)) fun x19 =>
        ob (o_gR σ14 [27] 5 x19) fun x20 =>
        ob (o_aR σ14 7 x20 i1) fun x21 =>
        ob (o_at σ14 [29] x21) fun a24 =>
        bd (f_X11_at N a24 i2 i3 σ14) fun x22 σ23 =>
        some (x22, σ23)
def f_X7_isPerson_b26 (N : Nat)   (σ : Mem) : Option (Int32 × Mem) :=
  ob (o_nr 1 (0 : Int32)) fun _ => some ((0 : Int32), σ)
def f_X7_isPerson (N : Nat) (a0 : Nat) (i1 : Int32) (σ : Mem) : Option (Int32 × Mem) :=
  ob (o_gR σ [26] 3 (some a0)) fun x1 =>
  if x1 = none then
    f_X7_isPerson_b26 N   σ
  else
    if i1 < 0 then
      f_X7_isPerson_b26 N   σ
    else
      ob (o_gR σ [26] 3 (some a0)) fun x2 =>
      ob (o_gI σ [40] 4 x2) fun x3 =>
      if x3 ≤ i1 then
        f_X7_isPerson_b26 N   σ
      else
        ob (o_nr 1 (1 : Int32)) fun _ => some ((1 : Int32), σ)
def f_X7_isHour_b19 (N : Nat)   (σ : Mem) : Option (Int32 × Mem) :=
  ob (o_nr 1 (0 : Int32)) fun _ => some ((0 : Int32), σ)
def f_X7_isHour (N : Nat) (a0 : Nat) (i1 : Int32) (σ : Mem) : Option (Int32 × Mem) :=
  if i1 < 0 then
    f_X7_isHour_b19 N   σ
  else
    ob (o_gR σ [26] 3 (some a0)) fun x1 =>
    ob (o_gI σ [40] 0 x1) fun x2 =>
    if x2 ≤ i1 then
      f_X7_isHour_b19 N   σ
    else
      ob (o_nr 1 (1 : Int32)) fun _ => some ((1 : Int32), σ)
def f_X24_place (N : Nat) (a0 : Nat) (i1 : Int32) (i2 : Int32) (i3 : Int32) (σ : Mem) : Option (Int32 × Mem) :=
  ob (o_gR σ [40] 20 (some a0)) fun x1 =>
  ob (o_aI σ 1 x1 (((((3 : Int32) * i1) + i2) * (12 : Int32)) + i3)) fun x2 =>
  some (x2, σ)
def f_X7_story_b30 (N : Nat)  (a0 : Nat) (σ : Mem) : Option (Int32 × Mem) :=
  ob (o_at σ [26] (some a0)) fun a3 =>
  bd (f_X7_refused N a3 (1 : Int32) σ) fun x1 σ2 =>
  some (x1, σ2)
def f_X7_story (N : Nat) (a0 : Nat) (i1 : Int32) (i2 : Int32) (i3 : Int32) (σ : Mem) : Option (Int32 × Mem) :=
  ob (o_pI σ 0 [26] 0 (some a0) (0 : Int32)) fun σ1 =>
  ob (o_at σ1 [26] (some a0)) fun a4 =>
  bd (f_X7_isPerson N a4 i1 σ1) fun x2 σ3 =>
  if x2 = 0 then
    f_X7_story_b30 N  a0 σ3
  else
    if i2 < 0 then
      f_X7_story_b30 N  a0 σ3
    else
      ob (o_gR σ3 [26] 3 (some a0)) fun x5 =>
      ob (o_gR σ3 [40] 19 x5) fun x6 =>
      ob (o_aI σ3 1 x6 i1) fun x7 =>
      if i2 < x7 then
        ob (o_at σ3 [26] (some a0)) fun a10 =>
        bd (f_X7_isHour N a10 i3 σ3) fun x8 σ9 =>
        if x8 = 0 then
          ob (o_at σ9 [26] (some a0)) fun a13 =>
          bd (f_X7_refused N a13 (2 : Int32) σ9) fun x11 σ12 =>
          some (x11, σ12)
        else
          ob (o_gR σ9 [26] 3 (some a0)) fun x14 =>
          ob (o_at σ9 [40] x14) fun a17 =>
          bd (f_X24_place N a17 i1 i2 i3 σ9) fun x15 σ16 =>
          ob (o_at σ16 [26] (some a0)) fun a20 =>
          bd (f_X7_good N a20 x15 σ16) fun x18 σ19 =>
          some (x18, σ19)
      else
        f_X7_story_b30 N  a0 σ3
def f_X1_stories (N : Nat) (a0 : Nat) (i1 : Int32) (σ : Mem) : Option (Int32 × Mem) :=
  ob (o_at σ [20] (some a0)) fun a3 =>
  bd (f_X1_anew N a3  σ) fun _ σ2 =>
  ob (o_at σ2 [20] (some a0)) fun a6 =>
  bd (f_X1_isPerson N a6 i1 σ2) fun x4 σ5 =>
  if x4 = 0 then
    ob (o_at σ5 [20] (some a0)) fun a9 =>
    bd (f_X1_no N a9 (1 : Int32) σ5) fun x7 σ8 =>
    some (x7, σ8)
  else
    ob (o_gR σ5 [20] 3 (some a0)) fun x10 =>
    ob (o_gR σ5 [27] 5 x10) fun x11 =>
    ob (o_aR σ5 7 x11 i1) fun x12 =>
    ob (o_gI σ5 [29] 2 x12) fun x13 =>
    some (x13, σ5)
def f_X7_stories (N : Nat) (a0 : Nat) (i1 : Int32) (σ : Mem) : Option (Int32 × Mem) :=
  ob (o_pI σ 0 [26] 0 (some a0) (0 : Int32)) fun σ1 =>
  ob (o_at σ1 [26] (some a0)) fun a4 =>
  bd (f_X7_isPerson N a4 i1 σ1) fun x2 σ3 =>
  if x2 = 0 then
    ob (o_at σ3 [26] (some a0)) fun a7 =>
    bd (f_X7_refused N a7 (1 : Int32) σ3) fun x5 σ6 =>
    some (x5, σ6)
  else
    ob (o_gR σ3 [26] 3 (some a0)) fun x8 =>
    ob (o_gR σ3 [40] 19 x8) fun x9 =>
    ob (o_aI σ3 1 x9 i1) fun x10 =>
    ob (o_at σ3 [26] (some a0)) fun a13 =>
    bd (f_X7_good N a13 x10 σ3) fun x11 σ12 =>
    some (x11, σ12)
def f_X1_isCase_b28 (N : Nat)   (σ : Mem) : Option (Int32 × Mem) :=
  ob (o_nr 1 (0 : Int32)) fun _ => some ((0 : Int32), σ)
def f_X1_isCase (N : Nat) (a0 : Nat) (i1 : Int32) (σ : Mem) : Option (Int32 × Mem) :=
  ob (o_gR σ [20] 3 (some a0)) fun x1 =>
  if x1 = none then
    f_X1_isCase_b28 N   σ
  else
    ob (o_gR σ [20] 3 (some a0)) fun x2 =>
    ob (o_at σ [27] x2) fun a5 =>
    bd (f_X8_cases N a5  σ) fun x3 σ4 =>
    bd (f_X1_in N i1 (0 : Int32) (x3 - (1 : Int32)) σ4) fun x6 σ7 =>
    if x6 = 0 then
      f_X1_isCase_b28 N   σ7
    else
      ob (o_nr 1 (1 : Int32)) fun _ => some ((1 : Int32), σ7)
def f_X8_storyOf_b10B (N : Nat)  (K10 : Nat → Int32 → Int32 → Int32 → Mem → Option (Int32 × Mem)) (a0 : Nat) (l2 : Int32) (l3 : Int32) (l4 : Int32) (σ : Mem) : Option (Int32 × Mem) :=
  if l4 ≤ l2 then
    ob (o_gR σ [27] 5 (some a0)) fun x1 =>
    ob (o_aR σ 7 x1 l2) fun x2 =>
    ob (o_gI σ [29] 2 x2) fun x3 =>
    if x3 = 0 then
      some ((-2 : Int32), σ)
    else
      ob (o_gR σ [27] 5 (some a0)) fun x4 =>
      ob (o_aR σ 7 x4 l2) fun x5 =>
      ob (o_gI σ [29] 2 x5) fun x6 =>
      ob (o_rem l3 x6) fun x7 =>
      some (x7, σ)
  else
    ob (o_gR σ [27] 5 (some a0)) fun x8 =>
    ob (o_aR σ 7 x8 l4) fun x9 =>
    ob (o_gI σ [29] 2 x9) fun x10 =>
    ob (o_div l3 (if (1 : Int32) < x10 then x10 else (1 : Int32))) fun x11 =>
    K10 a0 l2 x11 (l4 + (-1 : Int32)) σ
def f_X8_storyOf_b10 (N : Nat)  : Nat → Nat → Int32 → Int32 → Int32 → Mem → Option (Int32 × Mem)
  | 0, _, _, _, _, _ => none
  | n + 1, a0, l2, l3, l4, σ => f_X8_storyOf_b10B N  (f_X8_storyOf_b10 N  n) a0 l2 l3 l4 σ
def f_X8_storyOf (N : Nat) (a0 : Nat) (i1 : Int32) (i2 : Int32) (σ : Mem) : Option (Int32 × Mem) :=
  ob (o_gI σ [27] 15 (some a0)) fun x1 =>
  f_X8_storyOf_b10 N  N a0 i2 i1 (x1 - (1 : Int32)) σ
def f_X1_caseOf_b32 (N : Nat)  (a0 : Nat) (σ : Mem) : Option (Int32 × Mem) :=
  ob (o_at σ [20] (some a0)) fun a3 =>
  bd (f_X1_no N a3 (1 : Int32) σ) fun x1 σ2 =>
  some (x1, σ2)
def f_X1_caseOf (N : Nat) (a0 : Nat) (i1 : Int32) (i2 : Int32) (σ : Mem) : Option (Int32 × Mem) :=
  ob (o_at σ [20] (some a0)) fun a3 =>
  bd (f_X1_anew N a3  σ) fun _ σ2 =>
  ob (o_at σ2 [20] (some a0)) fun a6 =>
  bd (f_X1_isCase N a6 i1 σ2) fun x4 σ5 =>
  if x4 = 0 then
    f_X1_caseOf_b32 N  a0 σ5
  else
    ob (o_at σ5 [20] (some a0)) fun a9 =>
    bd (f_X1_isPerson N a9 i2 σ5) fun x7 σ8 =>
    if x7 = 0 then
      f_X1_caseOf_b32 N  a0 σ8
    else
      ob (o_gR σ8 [20] 3 (some a0)) fun x10 =>
      ob (o_at σ8 [27] x10) fun a13 =>
      bd (f_X8_storyOf N a13 i1 i2 σ8) fun x11 σ12 =>
      some (x11, σ12)
def f_X7_isCase_b26 (N : Nat)   (σ : Mem) : Option (Int32 × Mem) :=
  ob (o_nr 1 (0 : Int32)) fun _ => some ((0 : Int32), σ)
def f_X7_isCase (N : Nat) (a0 : Nat) (i1 : Int32) (σ : Mem) : Option (Int32 × Mem) :=
  ob (o_gR σ [26] 3 (some a0)) fun x1 =>
  if x1 = none then
    f_X7_isCase_b26 N   σ
  else
    if i1 < 0 then
      f_X7_isCase_b26 N   σ
    else
      ob (o_gR σ [26] 3 (some a0)) fun x2 =>
      ob (o_at σ [40] x2) fun a5 =>
      bd (f_X24_cases N a5  σ) fun x3 σ4 =>
      if x3 ≤ i1 then
        f_X7_isCase_b26 N   σ4
      else
        ob (o_nr 1 (1 : Int32)) fun _ => some ((1 : Int32), σ4)
def f_X24_storyOf_b50 (N : Nat) (K19 : Nat → Int32 → Int32 → Int32 → Int32 → Mem → Option (Int32 × Mem)) (a0 : Nat) (l1 : Int32) (l2 : Int32) (l4 : Int32) (t0 : Int32) (t1 : Int32) (σ : Mem) : Option (Int32 × Mem) :=
  K19 a0 l1 l2 (t0 * t1) (l4 + (1 : Int32)) σ
def f_X24_storyOf_b19B (N : Nat)  (K19 : Nat → Int32 → Int32 → Int32 → Int32 → Mem → Option (Int32 × Mem)) (a0 : Nat) (l1 : Int32) (l2 : Int32) (l3 : Int32) (l4 : Int32) (σ : Mem) : Option (Int32 × Mem) :=
  ob (o_gI σ [40] 4 (some a0)) fun x1 =>
  if x1 ≤ l4 then
    ob (o_div l1 l3) fun x2 =>
    ob (o_gR σ [40] 19 (some a0)) fun x3 =>
    ob (o_aI σ 1 x3 l2) fun x4 =>
    ob (o_rem x2 x4) fun x5 =>
    some (x5, σ)
  else
    ob (o_gR σ [40] 19 (some a0)) fun x6 =>
    ob (o_aI σ 1 x6 l4) fun x7 =>
    if x7 ≤ 0 then
      f_X24_storyOf_b50 N K19 a0 l1 l2 l4 l3 (1 : Int32) σ
    else
      ob (o_gR σ [40] 19 (some a0)) fun x8 =>
      ob (o_aI σ 1 x8 l4) fun x9 =>
      f_X24_storyOf_b50 N K19 a0 l1 l2 l4 l3 x9 σ
def f_X24_storyOf_b19 (N : Nat)  : Nat → Nat → Int32 → Int32 → Int32 → Int32 → Mem → Option (Int32 × Mem)
  | 0, _, _, _, _, _, _ => none
  | n + 1, a0, l1, l2, l3, l4, σ => f_X24_storyOf_b19B N  (f_X24_storyOf_b19 N  n) a0 l1 l2 l3 l4 σ
def f_X24_storyOf (N : Nat) (a0 : Nat) (i1 : Int32) (i2 : Int32) (σ : Mem) : Option (Int32 × Mem) :=
  ob (o_gR σ [40] 19 (some a0)) fun x1 =>
  ob (o_aI σ 1 x1 i2) fun x2 =>
  if x2 = 0 then
    some ((-2 : Int32), σ)
  else
    f_X24_storyOf_b19 N  N a0 i1 i2 (1 : Int32) (i2 + (1 : Int32)) σ
def f_X7_caseOf_b37 (N : Nat)  (a0 : Nat) (σ : Mem) : Option (Int32 × Mem) :=
  ob (o_at σ [26] (some a0)) fun a3 =>
  bd (f_X7_refused N a3 (1 : Int32) σ) fun x1 σ2 =>
  some (x1, σ2)
def f_X7_caseOf (N : Nat) (a0 : Nat) (i1 : Int32) (i2 : Int32) (σ : Mem) : Option (Int32 × Mem) :=
  ob (o_pI σ 0 [26] 0 (some a0) (0 : Int32)) fun σ1 =>
  ob (o_at σ1 [26] (some a0)) fun a4 =>
  bd (f_X7_isCase N a4 i1 σ1) fun x2 σ3 =>
  if x2 = 0 then
    f_X7_caseOf_b37 N  a0 σ3
  else
    ob (o_at σ3 [26] (some a0)) fun a7 =>
    bd (f_X7_isPerson N a7 i2 σ3) fun x5 σ6 =>
    if x5 = 0 then
      f_X7_caseOf_b37 N  a0 σ6
    else
      ob (o_gR σ6 [26] 3 (some a0)) fun x8 =>
      ob (o_at σ6 [40] x8) fun a11 =>
      bd (f_X24_storyOf N a11 i1 i2 σ6) fun x9 σ10 =>
      ob (o_at σ10 [26] (some a0)) fun a14 =>
      bd (f_X7_good N a14 x9 σ10) fun x12 σ13 =>
      some (x12, σ13)
def f_X5_layPeople_b83 (N : Nat) (K28 : Nat → Int32 → Int32 → Mem → Option (Unit × Mem)) (a0 : Nat) (l1 : Int32) (l2 : Int32) (σ : Mem) : Option (Unit × Mem) :=
  K28 a0 l1 (l2 + (1 : Int32)) σ
def f_X5_layPeople_b28B (N : Nat)  (K28 : Nat → Int32 → Int32 → Mem → Option (Unit × Mem)) (a0 : Nat) (l1 : Int32) (l2 : Int32) (σ : Mem) : Option (Unit × Mem) :=
  ob (o_gR σ [24] 7 (some a0)) fun x1 =>
  ob (o_gI σ [27] 15 x1) fun x2 =>
  if x2 ≤ l2 then
    some ((), σ)
  else
    ob (o_gR σ [24] 7 (some a0)) fun x3 =>
    ob (o_at σ [27] x3) fun a6 =>
    bd (f_X8_storyOf N a6 l1 l2 σ) fun x4 σ5 =>
    if x4 = (-2 : Int32) then
      f_X5_layPeople_b83 N K28 a0 l1 l2 σ5
    else
      ob (o_gR σ5 [24] 6 (some a0)) fun x7 =>
      ob (o_gR σ5 [24] 7 (some a0)) fun x8 =>
      ob (o_gR σ5 [27] 5 x8) fun x9 =>
      ob (o_aR σ5 7 x9 l2) fun x10 =>
      ob (o_gI σ5 [24] 9 (some a0)) fun x11 =>
      ob (o_at σ5 [29] x10) fun a14 =>
      bd (f_X11_at N a14 x4 x11 σ5) fun x12 σ13 =>
      ob (o_aI σ13 1 x7 x12) fun x15 =>
      ob (o_sI σ13 1 x7 x12 (x15 ||| ((1 : Int32) <<< (l2 &&& 31)))) fun σ16 =>
      f_X5_layPeople_b83 N K28 a0 l1 l2 σ16
def f_X5_layPeople_b28 (N : Nat)  : Nat → Nat → Int32 → Int32 → Mem → Option (Unit × Mem)
  | 0, _, _, _, _ => none
  | n + 1, a0, l1, l2, σ => f_X5_layPeople_b28B N  (f_X5_layPeople_b28 N  n) a0 l1 l2 σ
def f_X5_layPeople_b2B (N : Nat)  (K2 : Nat → Int32 → Int32 → Mem → Option (Unit × Mem)) (a0 : Nat) (l1 : Int32) (l2 : Int32) (σ : Mem) : Option (Unit × Mem) :=
  ob (o_gR σ [24] 7 (some a0)) fun x1 =>
  ob (o_gI σ [27] 13 x1) fun x2 =>
  if x2 ≤ l2 then
    f_X5_layPeople_b28 N  N a0 l1 (0 : Int32) σ
  else
    ob (o_gR σ [24] 6 (some a0)) fun x3 =>
    ob (o_sI σ 1 x3 l2 (0 : Int32)) fun σ4 =>
    K2 a0 l1 (l2 + (1 : Int32)) σ4
def f_X5_layPeople_b2 (N : Nat)  : Nat → Nat → Int32 → Int32 → Mem → Option (Unit × Mem)
  | 0, _, _, _, _ => none
  | n + 1, a0, l1, l2, σ => f_X5_layPeople_b2B N  (f_X5_layPeople_b2 N  n) a0 l1 l2 σ
def f_X5_layPeople (N : Nat) (a0 : Nat) (i1 : Int32) (σ : Mem) : Option (Unit × Mem) :=
  f_X5_layPeople_b2 N  N a0 i1 (0 : Int32) σ
def f_X5_isOpen_b33 (N : Nat)   (σ : Mem) : Option (Int32 × Mem) :=
  ob (o_nr 1 (0 : Int32)) fun _ => some ((0 : Int32), σ)
def f_X5_isOpen (N : Nat) (a0 : Nat) (i1 : Int32) (i2 : Int32) (σ : Mem) : Option (Int32 × Mem) :=
  ob (o_gR σ [24] 7 (some a0)) fun x1 =>
  ob (o_at σ [27] x1) fun a4 =>
  bd (f_X8_path N a4 i1 i2 σ) fun x2 σ3 =>
  if x2 = (-1 : Int32) then
    f_X5_isOpen_b33 N   σ3
  else
    ob (o_gR σ3 [24] 8 (some a0)) fun x5 =>
    ob (o_gI σ3 [23] 2 x5) fun x6 =>
    bd (f_X1_has N x6 x2 σ3) fun x7 σ8 =>
    if x7 = 0 then
      ob (o_nr 1 (1 : Int32)) fun _ => some ((1 : Int32), σ8)
    else
      f_X5_isOpen_b33 N   σ8
def f_X4_isPut_b15 (N : Nat)  (l1 : Int32) (l2 : Int32) (t0 : Option Nat) (σ : Mem) : Option (Int32 × Mem) :=
  ob (o_aI σ 1 t0 l2) fun x1 =>
  bd (f_X1_has N x1 l1 σ) fun x2 σ3 =>
  ob (o_nr 1 x2) fun _ => some (x2, σ3)
def f_X4_isPut (N : Nat) (a0 : Nat) (i1 : Int32) (i2 : Int32) (i3 : Int32) (σ : Mem) : Option (Int32 × Mem) :=
  if i3 = 0 then
    ob (o_gR σ [23] 0 (some a0)) fun x1 =>
    f_X4_isPut_b15 N  i1 i2 x1 σ
  else
    ob (o_gR σ [23] 1 (some a0)) fun x2 =>
    f_X4_isPut_b15 N  i1 i2 x2 σ
def f_X12_fearsAt_b13 (N : Nat)   (σ : Mem) : Option (Int32 × Mem) :=
  ob (o_nr 1 (1 : Int32)) fun _ => some ((1 : Int32), σ)
def f_X12_fearsAt (N : Nat) (a0 : Nat) (i1 : Int32) (i2 : Int32) (σ : Mem) : Option (Int32 × Mem) :=
  if i2 = 0 then
    ob (o_gI σ [30, 31, 32, 33] 106 (some a0)) fun x1 =>
    if (i1 &&& x1) = 0 then
      ob (o_nr 1 (0 : Int32)) fun _ => some ((0 : Int32), σ)
    else
      f_X12_fearsAt_b13 N   σ
  else
    f_X12_fearsAt_b13 N   σ
def f_X14_fearsAt_b8 (N : Nat)   (σ : Mem) : Option (Int32 × Mem) :=
  ob (o_nr 1 (1 : Int32)) fun _ => some ((1 : Int32), σ)
def f_X14_fearsAt (N : Nat) (a0 : Nat) (i1 : Int32) (i2 : Int32) (σ : Mem) : Option (Int32 × Mem) :=
  if i2 = 0 then
    if i1 = 0 then
      ob (o_nr 1 (0 : Int32)) fun _ => some ((0 : Int32), σ)
    else
      f_X14_fearsAt_b8 N   σ
  else
    f_X14_fearsAt_b8 N   σ
def f_X15_fearsAt (N : Nat) (a0 : Nat) (i1 : Int32) (i2 : Int32) (σ : Mem) : Option (Int32 × Mem) :=
  ob (o_nr 1 (0 : Int32)) fun _ => some ((0 : Int32), σ)
def f_X5_isFeared (N : Nat) (a0 : Nat) (o1 : Option Nat) (i2 : Int32) (σ : Mem) : Option (Int32 × Mem) :=
  ob (o_gR σ [24] 6 (some a0)) fun x1 =>
  ob (o_aI σ 1 x1 i2) fun x2 =>
  ob (o_gR σ [24] 8 (some a0)) fun x3 =>
  ob (o_gI σ [24] 9 (some a0)) fun x4 =>
  ob (o_at σ [23] x3) fun a7 =>
  bd (f_X4_isPut N a7 i2 x4 (1 : Int32) σ) fun x5 σ6 =>
  ob (o_at σ6 [30, 31, 32, 33] o1) fun a10 =>
  bd (if (m_T σ6 a10).1 = 30 then f_X12_fearsAt N a10 x2 x5 σ6 else if (m_T σ6 a10).1 = 31 then f_X14_fearsAt N a10 x2 x5 σ6 else if (m_T σ6 a10).1 = 32 then f_X15_fearsAt N a10 x2 x5 σ6 else f_X12_fearsAt N a10 x2 x5 σ6) fun x8 σ9 =>
  ob (o_nr 1 x8) fun _ => some (x8, σ9)
def f_X5_canGo_b30 (N : Nat)   (σ : Mem) : Option (Int32 × Mem) :=
  ob (o_nr 1 (0 : Int32)) fun _ => some ((0 : Int32), σ)
def f_X5_canGo (N : Nat) (a0 : Nat) (o1 : Option Nat) (i2 : Int32) (σ : Mem) : Option (Int32 × Mem) :=
  ob (o_gR σ [24] 1 (some a0)) fun x1 =>
  ob (o_gI σ [30, 31, 32, 33] 101 o1) fun x2 =>
  ob (o_aI σ 1 x1 x2) fun x3 =>
  ob (o_at σ [24] (some a0)) fun a6 =>
  bd (f_X5_isOpen N a6 x3 i2 σ) fun x4 σ5 =>
  if x4 = 0 then
    f_X5_canGo_b30 N   σ5
  else
    ob (o_at σ5 [24] (some a0)) fun a9 =>
    bd (f_X5_isFeared N a9 o1 i2 σ5) fun x7 σ8 =>
    if x7 = 0 then
      ob (o_nr 1 (1 : Int32)) fun _ => some ((1 : Int32), σ8)
    else
      f_X5_canGo_b30 N   σ8
def f_X12_rank_b2B (N : Nat)  (K2 : Nat → Option Nat → Int32 → Int32 → Mem → Option (Int32 × Mem)) (a0 : Nat) (l1 : Option Nat) (l2 : Int32) (l3 : Int32) (σ : Mem) : Option (Int32 × Mem) :=
  ob (o_gI σ [30, 31, 32, 33] 103 (some a0)) fun x1 =>
  if x1 ≤ l3 then
    some ((9 : Int32), σ)
  else
    ob (o_gR σ [30, 31, 32, 33] 102 (some a0)) fun x2 =>
    ob (o_aI σ 1 x2 l3) fun x3 =>
    ob (o_aI σ 1 l1 (((4 : Int32) * l2) + x3)) fun x4 =>
    if x4 ≤ 0 then
      K2 a0 l1 l2 (l3 + (1 : Int32)) σ
    else
      some (l3, σ)
def f_X12_rank_b2 (N : Nat)  : Nat → Nat → Option Nat → Int32 → Int32 → Mem → Option (Int32 × Mem)
  | 0, _, _, _, _, _ => none
  | n + 1, a0, l1, l2, l3, σ => f_X12_rank_b2B N  (f_X12_rank_b2 N  n) a0 l1 l2 l3 σ
def f_X12_rank (N : Nat) (a0 : Nat) (o1 : Option Nat) (i2 : Int32) (σ : Mem) : Option (Int32 × Mem) :=
  f_X12_rank_b2 N  N a0 o1 i2 (0 : Int32) σ
def f_X5_worth (N : Nat) (a0 : Nat) (o1 : Option Nat) (i2 : Int32) (σ : Mem) : Option (Int32 × Mem) :=
  ob (o_gR σ [24] 8 (some a0)) fun x1 =>
  ob (o_gI σ [24] 9 (some a0)) fun x2 =>
  ob (o_at σ [23] x1) fun a5 =>
  bd (f_X4_isPut N a5 i2 x2 (0 : Int32) σ) fun x3 σ4 =>
  if x3 = 0 then
    ob (o_gR σ4 [24] 0 (some a0)) fun x6 =>
    ob (o_at σ4 [30, 31, 32, 33] o1) fun a9 =>
    bd (if (m_T σ4 a9).1 = 30 then f_X12_rank N a9 x6 i2 σ4 else if (m_T σ4 a9).1 = 31 then f_X12_rank N a9 x6 i2 σ4 else if (m_T σ4 a9).1 = 32 then f_X12_rank N a9 x6 i2 σ4 else f_X12_rank N a9 x6 i2 σ4) fun x7 σ8 =>
    if x7 = (9 : Int32) then
      some ((9 : Int32), σ8)
    else
      some (((1 : Int32) + x7), σ8)
  else
    some ((0 : Int32), σ4)
def f_X5_bestOf_b46 (N : Nat) (K4 : Nat → Option Nat → Int32 → Int32 → Mem → Option (Int32 × Mem)) (a0 : Nat) (l1 : Option Nat) (l2 : Int32) (l3 : Int32) (σ : Mem) : Option (Int32 × Mem) :=
  K4 a0 l1 l2 (l3 + (1 : Int32)) σ
def f_X5_bestOf_b44 (N : Nat) (K4 : Nat → Option Nat → Int32 → Int32 → Mem → Option (Int32 × Mem)) (a0 : Nat) (l1 : Option Nat) (l3 : Int32) (σ : Mem) : Option (Int32 × Mem) :=
  f_X5_bestOf_b46 N K4 a0 l1 l3 l3 σ
def f_X5_bestOf_b4B (N : Nat)  (K4 : Nat → Option Nat → Int32 → Int32 → Mem → Option (Int32 × Mem)) (a0 : Nat) (l1 : Option Nat) (l2 : Int32) (l3 : Int32) (σ : Mem) : Option (Int32 × Mem) :=
  ob (o_gR σ [24] 7 (some a0)) fun x1 =>
  ob (o_gI σ [27] 13 x1) fun x2 =>
  if x2 ≤ l3 then
    some (l2, σ)
  else
    ob (o_at σ [24] (some a0)) fun a5 =>
    bd (f_X5_canGo N a5 l1 l3 σ) fun x3 σ4 =>
    if x3 = 0 then
      f_X5_bestOf_b46 N K4 a0 l1 l2 l3 σ4
    else
      if l2 = (-1 : Int32) then
        f_X5_bestOf_b44 N K4 a0 l1 l3 σ4
      else
        ob (o_at σ4 [24] (some a0)) fun a8 =>
        bd (f_X5_worth N a8 l1 l3 σ4) fun x6 σ7 =>
        ob (o_at σ7 [24] (some a0)) fun a11 =>
        bd (f_X5_worth N a11 l1 l2 σ7) fun x9 σ10 =>
        if x9 ≤ x6 then
          f_X5_bestOf_b46 N K4 a0 l1 l2 l3 σ10
        else
          f_X5_bestOf_b44 N K4 a0 l1 l3 σ10
def f_X5_bestOf_b4 (N : Nat)  : Nat → Nat → Option Nat → Int32 → Int32 → Mem → Option (Int32 × Mem)
  | 0, _, _, _, _, _ => none
  | n + 1, a0, l1, l2, l3, σ => f_X5_bestOf_b4B N  (f_X5_bestOf_b4 N  n) a0 l1 l2 l3 σ
def f_X5_bestOf (N : Nat) (a0 : Nat) (o1 : Option Nat) (σ : Mem) : Option (Int32 × Mem) :=
  f_X5_bestOf_b4 N  N a0 o1 (-1 : Int32) (0 : Int32) σ
def f_X12_bites (N : Nat) (a0 : Nat) (σ : Mem) : Option (Int32 × Mem) :=
  some ((1 : Int32), σ)
def f_X15_bites (N : Nat) (a0 : Nat) (σ : Mem) : Option (Int32 × Mem) :=
  some ((2 : Int32), σ)
def f_X5_eats (N : Nat) (a0 : Nat) (o1 : Option Nat) (i2 : Int32) (σ : Mem) : Option (Unit × Mem) :=
  ob (o_gR σ [30, 31, 32, 33] 102 o1) fun x1 =>
  ob (o_gR σ [24] 0 (some a0)) fun x2 =>
  ob (o_at σ [30, 31, 32, 33] o1) fun a5 =>
  bd (if (m_T σ a5).1 = 30 then f_X12_rank N a5 x2 i2 σ else if (m_T σ a5).1 = 31 then f_X12_rank N a5 x2 i2 σ else if (m_T σ a5).1 = 32 then f_X12_rank N a5 x2 i2 σ else f_X12_rank N a5 x2 i2 σ) fun x3 σ4 =>
  ob (o_aI σ4 1 x1 x3) fun x6 =>
  ob (o_at σ4 [30, 31, 32, 33] o1) fun a9 =>
  bd (if (m_T σ4 a9).1 = 30 then f_X12_bites N a9  σ4 else if (m_T σ4 a9).1 = 31 then f_X12_bites N a9  σ4 else if (m_T σ4 a9).1 = 32 then f_X15_bites N a9  σ4 else f_X12_bites N a9  σ4) fun x7 σ8 =>
  ob (o_gR σ8 [24] 0 (some a0)) fun x10 =>
  ob (o_aI σ8 1 x10 (((4 : Int32) * i2) + x6)) fun x11 =>
  ob (o_gR σ8 [24] 0 (some a0)) fun x12 =>
  ob (o_aI σ8 1 x12 (((4 : Int32) * i2) + x6)) fun x13 =>
  ob (o_sI σ8 1 x12 (((4 : Int32) * i2) + x6) (x13 - (if x11 < x7 then x11 else x7))) fun σ14 =>
  ob (o_gR σ14 [24] 3 (some a0)) fun x15 =>
  ob (o_gI σ14 [30, 31, 32, 33] 101 o1) fun x16 =>
  ob (o_gI σ14 [24] 9 (some a0)) fun x17 =>
  ob (o_sI σ14 1 x15 (((12 : Int32) * x16) + x17) x6) fun σ18 =>
  ob (o_gR σ18 [24] 4 (some a0)) fun x19 =>
  ob (o_gI σ18 [30, 31, 32, 33] 101 o1) fun x20 =>
  ob (o_gI σ18 [24] 9 (some a0)) fun x21 =>
  ob (o_sI σ18 1 x19 (((12 : Int32) * x20) + x21) (if x11 < x7 then x11 else x7)) fun σ22 =>
  some ((), σ22)
def f_X5_goes_b174 (N : Nat)  (a0 : Nat) (l1 : Option Nat) (l4 : Int32) (σ : Mem) : Option (Unit × Mem) :=
  if l4 = (-1 : Int32) then
    some ((), σ)
  else
    ob (o_at σ [24] (some a0)) fun a3 =>
    bd (f_X5_worth N a3 l1 l4 σ) fun x1 σ2 =>
    if (9 : Int32) ≤ x1 then
      some ((), σ2)
    else
      ob (o_gR σ2 [24] 1 (some a0)) fun x4 =>
      ob (o_gI σ2 [30, 31, 32, 33] 101 l1) fun x5 =>
      ob (o_sI σ2 1 x4 x5 l4) fun σ6 =>
      some ((), σ6)
def f_X5_goes_b151 (N : Nat)  (a0 : Nat) (l1 : Option Nat) (l2 : Int32) (l4 : Int32) (l5 : Int32) (t0 : Int32) (σ : Mem) : Option (Unit × Mem) :=
  if t0 = 0 then
    if (9 : Int32) ≤ l5 then
      f_X5_goes_b174 N  a0 l1 l4 σ
    else
      ob (o_at σ [24] (some a0)) fun a3 =>
      bd (f_X5_eats N a3 l1 l2 σ) fun _ σ2 =>
      some ((), σ2)
  else
    f_X5_goes_b174 N  a0 l1 l4 σ
def f_X5_goes_b150 (N : Nat)  (a0 : Nat) (l1 : Option Nat) (l2 : Int32) (l4 : Int32) (l5 : Int32) (σ : Mem) : Option (Unit × Mem) :=
  f_X5_goes_b151 N  a0 l1 l2 l4 l5 (0 : Int32) σ
def f_X5_goes_b68 (N : Nat)  (a0 : Nat) (l1 : Option Nat) (l2 : Int32) (σ : Mem) : Option (Unit × Mem) :=
  ob (o_at σ [24] (some a0)) fun a3 =>
  bd (f_X5_bestOf N a3 l1 σ) fun x1 σ2 =>
  ob (o_at σ2 [24] (some a0)) fun a6 =>
  bd (f_X5_isFeared N a6 l1 l2 σ2) fun x4 σ5 =>
  if x4 = 0 then
    ob (o_at σ5 [24] (some a0)) fun a9 =>
    bd (f_X5_worth N a9 l1 l2 σ5) fun x7 σ8 =>
    if x7 = 0 then
      some ((), σ8)
    else
      if x1 = (-1 : Int32) then
        f_X5_goes_b150 N  a0 l1 l2 x1 x7 σ8
      else
        ob (o_at σ8 [24] (some a0)) fun a12 =>
        bd (f_X5_worth N a12 l1 x1 σ8) fun x10 σ11 =>
        if x10 = 0 then
          f_X5_goes_b151 N  a0 l1 l2 x1 x7 (1 : Int32) σ11
        else
          f_X5_goes_b150 N  a0 l1 l2 x1 x7 σ11
  else
    if x1 = (-1 : Int32) then
      some ((), σ5)
    else
      ob (o_gR σ5 [24] 1 (some a0)) fun x13 =>
      ob (o_gI σ5 [30, 31, 32, 33] 101 l1) fun x14 =>
      ob (o_sI σ5 1 x13 x14 x1) fun σ15 =>
      ob (o_gR σ15 [24] 5 (some a0)) fun x16 =>
      ob (o_gI σ15 [30, 31, 32, 33] 101 l1) fun x17 =>
      ob (o_aI σ15 1 x16 x17) fun x18 =>
      ob (o_sI σ15 1 x16 x17 (x18 + (1 : Int32))) fun σ19 =>
      some ((), σ19)
def f_X5_goes (N : Nat) (a0 : Nat) (o1 : Option Nat) (σ : Mem) : Option (Unit × Mem) :=
  ob (o_gR σ [24] 1 (some a0)) fun x1 =>
  ob (o_gI σ [30, 31, 32, 33] 101 o1) fun x2 =>
  ob (o_aI σ 1 x1 x2) fun x3 =>
  ob (o_at σ [30, 31, 32, 33] o1) fun a6 =>
  bd (if (m_T σ a6).1 = 30 then f_X12_mother N a6  σ else if (m_T σ a6).1 = 31 then f_X12_mother N a6  σ else if (m_T σ a6).1 = 32 then f_X12_mother N a6  σ else f_X16_mother N a6  σ) fun x4 σ5 =>
  if x4 = none then
    f_X5_goes_b68 N  a0 o1 x3 σ5
  else
    ob (o_gR σ5 [24] 1 (some a0)) fun x7 =>
    ob (o_gI σ5 [30, 31, 32, 33] 101 x4) fun x8 =>
    ob (o_aI σ5 1 x7 x8) fun x9 =>
    if x9 = x3 then
      f_X5_goes_b68 N  a0 o1 x3 σ5
    else
      ob (o_gR σ5 [24] 1 (some a0)) fun x10 =>
      ob (o_gI σ5 [30, 31, 32, 33] 101 x4) fun x11 =>
      ob (o_aI σ5 1 x10 x11) fun x12 =>
      ob (o_at σ5 [24] (some a0)) fun a15 =>
      bd (f_X5_isOpen N a15 x3 x12 σ5) fun x13 σ14 =>
      if x13 = 0 then
        f_X5_goes_b68 N  a0 o1 x3 σ14
      else
        ob (o_gR σ14 [24] 1 (some a0)) fun x16 =>
        ob (o_gI σ14 [30, 31, 32, 33] 101 o1) fun x17 =>
        ob (o_gR σ14 [24] 1 (some a0)) fun x18 =>
        ob (o_gI σ14 [30, 31, 32, 33] 101 x4) fun x19 =>
        ob (o_aI σ14 1 x18 x19) fun x20 =>
        ob (o_sI σ14 1 x16 x17 x20) fun σ21 =>
        some ((), σ21)
def f_X5_run_b118B (N : Nat) (K99 : Nat → Option Nat → Int32 → Mem → Option (Unit × Mem)) (K118 : Nat → Option Nat → Int32 → Int32 → Mem → Option (Unit × Mem)) (a0 : Nat) (l1 : Option Nat) (l3 : Int32) (l4 : Int32) (σ : Mem) : Option (Unit × Mem) :=
  ob (o_gI σ [27] 16 l1) fun x1 =>
  if x1 ≤ l4 then
    ob (o_gI σ [24] 9 (some a0)) fun x2 =>
    ob (o_pI σ 0 [24] 9 (some a0) (x2 + (1 : Int32))) fun σ3 =>
    K99 a0 l1 l3 σ3
  else
    ob (o_gR σ [24] 4 (some a0)) fun x4 =>
    ob (o_gI σ [24] 9 (some a0)) fun x5 =>
    ob (o_sI σ 1 x4 (((12 : Int32) * l4) + x5) (0 : Int32)) fun σ6 =>
    ob (o_gR σ6 [27] 6 l1) fun x7 =>
    ob (o_aR σ6 8 x7 l4) fun x8 =>
    ob (o_at σ6 [24] (some a0)) fun a11 =>
    bd (f_X5_goes N a11 x8 σ6) fun _ σ10 =>
    ob (o_gR σ10 [24] 2 (some a0)) fun x12 =>
    ob (o_gI σ10 [24] 9 (some a0)) fun x13 =>
    ob (o_gR σ10 [24] 1 (some a0)) fun x14 =>
    ob (o_aI σ10 1 x14 l4) fun x15 =>
    ob (o_sI σ10 1 x12 (((12 : Int32) * l4) + x13) x15) fun σ16 =>
    K118 a0 l1 l3 (l4 + (1 : Int32)) σ16
def f_X5_run_b118 (N : Nat) (K99 : Nat → Option Nat → Int32 → Mem → Option (Unit × Mem)) : Nat → Nat → Option Nat → Int32 → Int32 → Mem → Option (Unit × Mem)
  | 0, _, _, _, _, _ => none
  | n + 1, a0, l1, l3, l4, σ => f_X5_run_b118B N K99 (f_X5_run_b118 N K99 n) a0 l1 l3 l4 σ
def f_X5_run_b99B (N : Nat)  (K99 : Nat → Option Nat → Int32 → Mem → Option (Unit × Mem)) (a0 : Nat) (l1 : Option Nat) (l3 : Int32) (σ : Mem) : Option (Unit × Mem) :=
  ob (o_gI σ [24] 9 (some a0)) fun x1 =>
  ob (o_gI σ [27] 11 l1) fun x2 =>
  if x2 ≤ x1 then
    some ((), σ)
  else
    ob (o_at σ [24] (some a0)) fun a5 =>
    bd (f_X5_layPeople N a5 l3 σ) fun _ σ4 =>
    f_X5_run_b118 N K99 N a0 l1 l3 (0 : Int32) σ4
def f_X5_run_b99 (N : Nat)  : Nat → Nat → Option Nat → Int32 → Mem → Option (Unit × Mem)
  | 0, _, _, _, _ => none
  | n + 1, a0, l1, l3, σ => f_X5_run_b99B N  (f_X5_run_b99 N  n) a0 l1 l3 σ
def f_X5_run_b54B (N : Nat)  (K54 : Nat → Option Nat → Int32 → Int32 → Mem → Option (Unit × Mem)) (a0 : Nat) (l1 : Option Nat) (l3 : Int32) (l4 : Int32) (σ : Mem) : Option (Unit × Mem) :=
  ob (o_gI σ [27] 16 l1) fun x1 =>
  if x1 ≤ l4 then
    ob (o_pI σ 0 [24] 9 (some a0) (0 : Int32)) fun σ2 =>
    f_X5_run_b99 N  N a0 l1 l3 σ2
  else
    ob (o_gR σ [24] 1 (some a0)) fun x3 =>
    ob (o_gR σ [27] 6 l1) fun x4 =>
    ob (o_aR σ 8 x4 l4) fun x5 =>
    ob (o_gI σ [30, 31, 32, 33] 104 x5) fun x6 =>
    ob (o_sI σ 1 x3 l4 x6) fun σ7 =>
    ob (o_gR σ7 [24] 5 (some a0)) fun x8 =>
    ob (o_sI σ7 1 x8 l4 (0 : Int32)) fun σ9 =>
    K54 a0 l1 l3 (l4 + (1 : Int32)) σ9
def f_X5_run_b54 (N : Nat)  : Nat → Nat → Option Nat → Int32 → Int32 → Mem → Option (Unit × Mem)
  | 0, _, _, _, _, _ => none
  | n + 1, a0, l1, l3, l4, σ => f_X5_run_b54B N  (f_X5_run_b54 N  n) a0 l1 l3 l4 σ
def f_X5_run_b13B (N : Nat)  (K13 : Nat → Option Nat → Int32 → Int32 → Mem → Option (Unit × Mem)) (a0 : Nat) (l1 : Option Nat) (l3 : Int32) (l4 : Int32) (σ : Mem) : Option (Unit × Mem) :=
  ob (o_gI σ [27] 13 l1) fun x1 =>
  if x1 ≤ l4 then
    f_X5_run_b54 N  N a0 l1 l3 (0 : Int32) σ
  else
    ob (o_gR σ [27] 0 l1) fun x2 =>
    ob (o_aR σ 6 x2 l4) fun x3 =>
    ob (o_gR σ [28] 0 x3) fun x4 =>
    ob (o_gR σ [24] 0 (some a0)) fun x5 =>
    ob (o_cp σ 1 x4 (0 : Int32) x5 ((4 : Int32) * l4) (4 : Int32)) fun σ6 =>
    K13 a0 l1 l3 (l4 + (1 : Int32)) σ6
def f_X5_run_b13 (N : Nat)  : Nat → Nat → Option Nat → Int32 → Int32 → Mem → Option (Unit × Mem)
  | 0, _, _, _, _, _ => none
  | n + 1, a0, l1, l3, l4, σ => f_X5_run_b13B N  (f_X5_run_b13 N  n) a0 l1 l3 l4 σ
def f_X5_run (N : Nat) (a0 : Nat) (o1 : Option Nat) (o2 : Option Nat) (i3 : Int32) (σ : Mem) : Option (Unit × Mem) :=
  ob (o_pR σ [24] 7 (some a0) o1) fun σ1 =>
  ob (o_pR σ1 [24] 8 (some a0) o2) fun σ2 =>
  f_X5_run_b13 N  N a0 o1 i3 (0 : Int32) σ2
def f_X1_run (N : Nat) (a0 : Nat) (i1 : Int32) (σ : Mem) : Option (Unit × Mem) :=
  ob (o_gR σ [20] 12 (some a0)) fun x1 =>
  ob (o_gR σ [20] 3 (some a0)) fun x2 =>
  ob (o_gR σ [20] 9 (some a0)) fun x3 =>
  ob (o_at σ [24] x1) fun a6 =>
  bd (f_X5_run N a6 x2 x3 i1 σ) fun _ σ5 =>
  some ((), σ5)
def f_X5_at (N : Nat) (a0 : Nat) (i1 : Int32) (i2 : Int32) (σ : Mem) : Option (Int32 × Mem) :=
  ob (o_gR σ [24] 2 (some a0)) fun x1 =>
  ob (o_aI σ 1 x1 (((12 : Int32) * i1) + i2)) fun x2 =>
  some (x2, σ)
def f_X1_at_b20 (N : Nat)  (a0 : Nat) (σ : Mem) : Option (Int32 × Mem) :=
  ob (o_at σ [20] (some a0)) fun a3 =>
  bd (f_X1_no N a3 (1 : Int32) σ) fun x1 σ2 =>
  some (x1, σ2)
def f_X1_at (N : Nat) (a0 : Nat) (i1 : Int32) (i2 : Int32) (i3 : Int32) (σ : Mem) : Option (Int32 × Mem) :=
  ob (o_at σ [20] (some a0)) fun a3 =>
  bd (f_X1_anew N a3  σ) fun _ σ2 =>
  ob (o_at σ2 [20] (some a0)) fun a6 =>
  bd (f_X1_isCase N a6 i1 σ2) fun x4 σ5 =>
  if x4 = 0 then
    f_X1_at_b20 N  a0 σ5
  else
    ob (o_at σ5 [20] (some a0)) fun a9 =>
    bd (f_X1_isGoat N a9 i2 σ5) fun x7 σ8 =>
    if x7 = 0 then
      f_X1_at_b20 N  a0 σ8
    else
      ob (o_at σ8 [20] (some a0)) fun a12 =>
      bd (f_X1_isHour N a12 i3 σ8) fun x10 σ11 =>
      if x10 = 0 then
        ob (o_at σ11 [20] (some a0)) fun a22 =>
        bd (f_X1_no N a22 (2 : Int32) σ11) fun x20 σ21 =>
        some (x20, σ21)
      else
        ob (o_at σ11 [20] (some a0)) fun a15 =>
        bd (f_X1_run N a15 i1 σ11) fun _ σ14 =>
        ob (o_gR σ14 [20] 12 (some a0)) fun x16 =>
        ob (o_at σ14 [24] x16) fun a19 =>
        bd (f_X5_at N a19 i2 i3 σ14) fun x17 σ18 =>
        some (x17, σ18)
def f_X7_isOpen_b33 (N : Nat)   (σ : Mem) : Option (Int32 × Mem) :=
  ob (o_nr 1 (0 : Int32)) fun _ => some ((0 : Int32), σ)
def f_X7_isOpen (N : Nat) (a0 : Nat) (i1 : Int32) (i2 : Int32) (σ : Mem) : Option (Int32 × Mem) :=
  ob (o_gR σ [26] 3 (some a0)) fun x1 =>
  ob (o_at σ [40] x1) fun a4 =>
  bd (f_X24_path N a4 i1 i2 σ) fun x2 σ3 =>
  if x2 = (-1 : Int32) then
    f_X7_isOpen_b33 N   σ3
  else
    ob (o_gR σ3 [26] 18 (some a0)) fun x5 =>
    ob (o_aI σ3 1 x5 (16 : Int32)) fun x6 =>
    bd (f_X7_bit N x6 x2 σ3) fun x7 σ8 =>
    if x7 = 0 then
      ob (o_nr 1 (1 : Int32)) fun _ => some ((1 : Int32), σ8)
    else
      f_X7_isOpen_b33 N   σ8
def f_X24_placeIn (N : Nat) (a0 : Nat) (i1 : Int32) (i2 : Int32) (i3 : Int32) (σ : Mem) : Option (Int32 × Mem) :=
  ob (o_gR σ [40] 19 (some a0)) fun x1 =>
  ob (o_aI σ 1 x1 i2) fun x2 =>
  if x2 = 0 then
    some ((-2 : Int32), σ)
  else
    ob (o_at σ [40] (some a0)) fun a5 =>
    bd (f_X24_storyOf N a5 i1 i2 σ) fun x3 σ4 =>
    ob (o_at σ4 [40] (some a0)) fun a8 =>
    bd (f_X24_place N a8 i2 x3 i3 σ4) fun x6 σ7 =>
    some (x6, σ7)
def f_X7_fears_b97 (N : Nat) (K37 : Nat → Int32 → Int32 → Int32 → Int32 → Int32 → Mem → Option (Int32 × Mem)) (a0 : Nat) (l1 : Int32) (l2 : Int32) (l3 : Int32) (l4 : Int32) (l5 : Int32) (σ : Mem) : Option (Int32 × Mem) :=
  K37 a0 l1 l2 l3 l4 (l5 + (1 : Int32)) σ
def f_X7_fears_b37B (N : Nat)  (K37 : Nat → Int32 → Int32 → Int32 → Int32 → Int32 → Mem → Option (Int32 × Mem)) (a0 : Nat) (l1 : Int32) (l2 : Int32) (l3 : Int32) (l4 : Int32) (l5 : Int32) (σ : Mem) : Option (Int32 × Mem) :=
  ob (o_gR σ [26] 3 (some a0)) fun x1 =>
  ob (o_gI σ [40] 4 x1) fun x2 =>
  if x2 ≤ l5 then
    ob (o_nr 1 (0 : Int32)) fun _ => some ((0 : Int32), σ)
  else
    ob (o_gR σ [26] 3 (some a0)) fun x3 =>
    ob (o_at σ [40] x3) fun a6 =>
    bd (f_X24_placeIn N a6 l1 l5 l4 σ) fun x4 σ5 =>
    if x4 = l3 then
      ob (o_gR σ5 [26] 3 (some a0)) fun x7 =>
      ob (o_gR σ5 [40] 21 x7) fun x8 =>
      ob (o_aI σ5 1 x8 l2) fun x9 =>
      if x9 = (1 : Int32) then
        ob (o_nr 1 (1 : Int32)) fun _ => some ((1 : Int32), σ5)
      else
        ob (o_gR σ5 [26] 3 (some a0)) fun x10 =>
        ob (o_gR σ5 [40] 27 x10) fun x11 =>
        ob (o_aI σ5 1 x11 l2) fun x12 =>
        bd (f_X7_bit N x12 l5 σ5) fun x13 σ14 =>
        if x13 = 0 then
          f_X7_fears_b97 N K37 a0 l1 l2 l3 l4 l5 σ14
        else
          ob (o_nr 1 (1 : Int32)) fun _ => some ((1 : Int32), σ14)
    else
      f_X7_fears_b97 N K37 a0 l1 l2 l3 l4 l5 σ5
def f_X7_fears_b37 (N : Nat)  : Nat → Nat → Int32 → Int32 → Int32 → Int32 → Int32 → Mem → Option (Int32 × Mem)
  | 0, _, _, _, _, _, _, _ => none
  | n + 1, a0, l1, l2, l3, l4, l5, σ => f_X7_fears_b37B N  (f_X7_fears_b37 N  n) a0 l1 l2 l3 l4 l5 σ
def f_X7_fears (N : Nat) (a0 : Nat) (i1 : Int32) (i2 : Int32) (i3 : Int32) (i4 : Int32) (σ : Mem) : Option (Int32 × Mem) :=
  ob (o_gR σ [26] 3 (some a0)) fun x1 =>
  ob (o_gR σ [40] 21 x1) fun x2 =>
  ob (o_aI σ 1 x2 i2) fun x3 =>
  if x3 = (2 : Int32) then
    ob (o_nr 1 (0 : Int32)) fun _ => some ((0 : Int32), σ)
  else
    ob (o_gR σ [26] 18 (some a0)) fun x4 =>
    ob (o_aI σ 1 x4 ((8 : Int32) + i3)) fun x5 =>
    bd (f_X7_bit N x5 i4 σ) fun x6 σ7 =>
    if x6 = 0 then
      f_X7_fears_b37 N  N a0 i1 i2 i3 i4 (0 : Int32) σ7
    else
      ob (o_nr 1 (1 : Int32)) fun _ => some ((1 : Int32), σ7)
def f_X7_worth_b20B (N : Nat)  (K20 : Nat → Int32 → Int32 → Int32 → Mem → Option (Int32 × Mem)) (a0 : Nat) (l1 : Int32) (l2 : Int32) (l4 : Int32) (σ : Mem) : Option (Int32 × Mem) :=
  ob (o_gR σ [26] 3 (some a0)) fun x1 =>
  ob (o_gR σ [40] 23 x1) fun x2 =>
  ob (o_aI σ 1 x2 l1) fun x3 =>
  if x3 ≤ l4 then
    some ((9 : Int32), σ)
  else
    ob (o_gR σ [26] 26 (some a0)) fun x4 =>
    ob (o_gR σ [26] 3 (some a0)) fun x5 =>
    ob (o_gR σ [40] 24 x5) fun x6 =>
    ob (o_aI σ 1 x6 (((4 : Int32) * l1) + l4)) fun x7 =>
    ob (o_aI σ 1 x4 (((4 : Int32) * l2) + x7)) fun x8 =>
    if x8 ≤ 0 then
      K20 a0 l1 l2 (l4 + (1 : Int32)) σ
    else
      some ((l4 + (1 : Int32)), σ)
def f_X7_worth_b20 (N : Nat)  : Nat → Nat → Int32 → Int32 → Int32 → Mem → Option (Int32 × Mem)
  | 0, _, _, _, _, _ => none
  | n + 1, a0, l1, l2, l4, σ => f_X7_worth_b20B N  (f_X7_worth_b20 N  n) a0 l1 l2 l4 σ
def f_X7_worth (N : Nat) (a0 : Nat) (i1 : Int32) (i2 : Int32) (i3 : Int32) (σ : Mem) : Option (Int32 × Mem) :=
  ob (o_gR σ [26] 18 (some a0)) fun x1 =>
  ob (o_aI σ 1 x1 ((0 : Int32) + i2)) fun x2 =>
  bd (f_X7_bit N x2 i3 σ) fun x3 σ4 =>
  if x3 = 0 then
    f_X7_worth_b20 N  N a0 i1 i2 (0 : Int32) σ4
  else
    some ((0 : Int32), σ4)
def f_X7_bestFor_b74 (N : Nat) (K6 : Nat → Int32 → Int32 → Int32 → Int32 → Int32 → Mem → Option (Int32 × Mem)) (a0 : Nat) (l1 : Int32) (l2 : Int32) (l3 : Int32) (l4 : Int32) (l5 : Int32) (σ : Mem) : Option (Int32 × Mem) :=
  K6 a0 l1 l2 l3 l4 (l5 + (1 : Int32)) σ
def f_X7_bestFor_b70 (N : Nat) (K6 : Nat → Int32 → Int32 → Int32 → Int32 → Int32 → Mem → Option (Int32 × Mem)) (a0 : Nat) (l1 : Int32) (l2 : Int32) (l3 : Int32) (l5 : Int32) (σ : Mem) : Option (Int32 × Mem) :=
  f_X7_bestFor_b74 N K6 a0 l1 l2 l3 l5 l5 σ
def f_X7_bestFor_b6B (N : Nat)  (K6 : Nat → Int32 → Int32 → Int32 → Int32 → Int32 → Mem → Option (Int32 × Mem)) (a0 : Nat) (l1 : Int32) (l2 : Int32) (l3 : Int32) (l4 : Int32) (l5 : Int32) (σ : Mem) : Option (Int32 × Mem) :=
  ob (o_gR σ [26] 3 (some a0)) fun x1 =>
  ob (o_gI σ [40] 2 x1) fun x2 =>
  if x2 ≤ l5 then
    some (l4, σ)
  else
    ob (o_gR σ [26] 28 (some a0)) fun x3 =>
    ob (o_aI σ 1 x3 l2) fun x4 =>
    ob (o_at σ [26] (some a0)) fun a7 =>
    bd (f_X7_isOpen N a7 x4 l5 σ) fun x5 σ6 =>
    if x5 = 0 then
      f_X7_bestFor_b74 N K6 a0 l1 l2 l3 l4 l5 σ6
    else
      ob (o_at σ6 [26] (some a0)) fun a10 =>
      bd (f_X7_fears N a10 l1 l2 l5 l3 σ6) fun x8 σ9 =>
      if x8 = 0 then
        if l4 = (-1 : Int32) then
          f_X7_bestFor_b70 N K6 a0 l1 l2 l3 l5 σ9
        else
          ob (o_at σ9 [26] (some a0)) fun a13 =>
          bd (f_X7_worth N a13 l2 l5 l3 σ9) fun x11 σ12 =>
          ob (o_at σ12 [26] (some a0)) fun a16 =>
          bd (f_X7_worth N a16 l2 l4 l3 σ12) fun x14 σ15 =>
          if x14 ≤ x11 then
            f_X7_bestFor_b74 N K6 a0 l1 l2 l3 l4 l5 σ15
          else
            f_X7_bestFor_b70 N K6 a0 l1 l2 l3 l5 σ15
      else
        f_X7_bestFor_b74 N K6 a0 l1 l2 l3 l4 l5 σ9
def f_X7_bestFor_b6 (N : Nat)  : Nat → Nat → Int32 → Int32 → Int32 → Int32 → Int32 → Mem → Option (Int32 × Mem)
  | 0, _, _, _, _, _, _, _ => none
  | n + 1, a0, l1, l2, l3, l4, l5, σ => f_X7_bestFor_b6B N  (f_X7_bestFor_b6 N  n) a0 l1 l2 l3 l4 l5 σ
def f_X7_bestFor (N : Nat) (a0 : Nat) (i1 : Int32) (i2 : Int32) (i3 : Int32) (σ : Mem) : Option (Int32 × Mem) :=
  f_X7_bestFor_b6 N  N a0 i1 i2 i3 (-1 : Int32) (0 : Int32) σ
def f_X7_plantAt_b2B (N : Nat)  (K2 : Nat → Int32 → Int32 → Int32 → Mem → Option (Int32 × Mem)) (a0 : Nat) (l1 : Int32) (l2 : Int32) (l3 : Int32) (σ : Mem) : Option (Int32 × Mem) :=
  ob (o_gR σ [26] 3 (some a0)) fun x1 =>
  ob (o_gR σ [40] 23 x1) fun x2 =>
  ob (o_aI σ 1 x2 l1) fun x3 =>
  if x3 ≤ l3 then
    some ((-1 : Int32), σ)
  else
    ob (o_gR σ [26] 26 (some a0)) fun x4 =>
    ob (o_gR σ [26] 3 (some a0)) fun x5 =>
    ob (o_gR σ [40] 24 x5) fun x6 =>
    ob (o_aI σ 1 x6 (((4 : Int32) * l1) + l3)) fun x7 =>
    ob (o_aI σ 1 x4 (((4 : Int32) * l2) + x7)) fun x8 =>
    if x8 ≤ 0 then
      K2 a0 l1 l2 (l3 + (1 : Int32)) σ
    else
      ob (o_gR σ [26] 3 (some a0)) fun x9 =>
      ob (o_gR σ [40] 24 x9) fun x10 =>
      ob (o_aI σ 1 x10 (((4 : Int32) * l1) + l3)) fun x11 =>
      some (x11, σ)
def f_X7_plantAt_b2 (N : Nat)  : Nat → Nat → Int32 → Int32 → Int32 → Mem → Option (Int32 × Mem)
  | 0, _, _, _, _, _ => none
  | n + 1, a0, l1, l2, l3, σ => f_X7_plantAt_b2B N  (f_X7_plantAt_b2 N  n) a0 l1 l2 l3 σ
def f_X7_plantAt (N : Nat) (a0 : Nat) (i1 : Int32) (i2 : Int32) (σ : Mem) : Option (Int32 × Mem) :=
  f_X7_plantAt_b2 N  N a0 i1 i2 (0 : Int32) σ
def f_X7_eats_b53 (N : Nat)  (a0 : Nat) (l1 : Int32) (l2 : Int32) (l3 : Int32) (t0 : Int32) (σ : Mem) : Option (Unit × Mem) :=
  ob (o_gR σ [26] 26 (some a0)) fun x1 =>
  ob (o_gR σ [26] 28 (some a0)) fun x2 =>
  ob (o_aI σ 1 x2 l1) fun x3 =>
  ob (o_aI σ 1 x1 (((4 : Int32) * x3) + l3)) fun x4 =>
  ob (o_sI σ 1 x1 (((4 : Int32) * x3) + l3) (x4 - t0)) fun σ5 =>
  ob (o_gR σ5 [26] 24 (some a0)) fun x6 =>
  ob (o_sI σ5 1 x6 (((12 : Int32) * l1) + l2) l3) fun σ7 =>
  ob (o_gR σ7 [26] 25 (some a0)) fun x8 =>
  ob (o_sI σ7 1 x8 (((12 : Int32) * l1) + l2) t0) fun σ9 =>
  some ((), σ9)
def f_X7_eats_b52 (N : Nat)  (a0 : Nat) (l1 : Int32) (l2 : Int32) (l3 : Int32) (σ : Mem) : Option (Unit × Mem) :=
  f_X7_eats_b53 N  a0 l1 l2 l3 (1 : Int32) σ
def f_X7_eats (N : Nat) (a0 : Nat) (i1 : Int32) (i2 : Int32) (σ : Mem) : Option (Unit × Mem) :=
  ob (o_gR σ [26] 28 (some a0)) fun x1 =>
  ob (o_aI σ 1 x1 i1) fun x2 =>
  ob (o_at σ [26] (some a0)) fun a5 =>
  bd (f_X7_plantAt N a5 i1 x2 σ) fun x3 σ4 =>
  ob (o_gR σ4 [26] 26 (some a0)) fun x6 =>
  ob (o_gR σ4 [26] 28 (some a0)) fun x7 =>
  ob (o_aI σ4 1 x7 i1) fun x8 =>
  ob (o_aI σ4 1 x6 (((4 : Int32) * x8) + x3)) fun x9 =>
  ob (o_gR σ4 [26] 3 (some a0)) fun x10 =>
  ob (o_gR σ4 [40] 21 x10) fun x11 =>
  ob (o_aI σ4 1 x11 i1) fun x12 =>
  if x12 = (2 : Int32) then
    if x9 ≤ (1 : Int32) then
      f_X7_eats_b52 N  a0 i1 i2 x3 σ4
    else
      f_X7_eats_b53 N  a0 i1 i2 x3 (2 : Int32) σ4
  else
    f_X7_eats_b52 N  a0 i1 i2 x3 σ4
def f_X7_goatGoes_b165 (N : Nat)  (a0 : Nat) (l2 : Int32) (l3 : Int32) (l5 : Int32) (l6 : Int32) (σ : Mem) : Option (Unit × Mem) :=
  if (9 : Int32) ≤ l6 then
    if l5 = (-1 : Int32) then
      some ((), σ)
    else
      ob (o_at σ [26] (some a0)) fun a3 =>
      bd (f_X7_worth N a3 l2 l5 l3 σ) fun x1 σ2 =>
      if (9 : Int32) ≤ x1 then
        some ((), σ2)
      else
        ob (o_gR σ2 [26] 28 (some a0)) fun x4 =>
        ob (o_sI σ2 1 x4 l2 l5) fun σ5 =>
        some ((), σ5)
  else
    ob (o_at σ [26] (some a0)) fun a8 =>
    bd (f_X7_eats N a8 l2 l3 σ) fun _ σ7 =>
    some ((), σ7)
def f_X7_goatGoes_b68 (N : Nat)  (a0 : Nat) (l1 : Int32) (l2 : Int32) (l3 : Int32) (σ : Mem) : Option (Unit × Mem) :=
  ob (o_at σ [26] (some a0)) fun a3 =>
  bd (f_X7_bestFor N a3 l1 l2 l3 σ) fun x1 σ2 =>
  ob (o_gR σ2 [26] 28 (some a0)) fun x4 =>
  ob (o_aI σ2 1 x4 l2) fun x5 =>
  ob (o_at σ2 [26] (some a0)) fun a8 =>
  bd (f_X7_fears N a8 l1 l2 x5 l3 σ2) fun x6 σ7 =>
  if x6 = 0 then
    ob (o_gR σ7 [26] 28 (some a0)) fun x9 =>
    ob (o_aI σ7 1 x9 l2) fun x10 =>
    ob (o_at σ7 [26] (some a0)) fun a13 =>
    bd (f_X7_worth N a13 l2 x10 l3 σ7) fun x11 σ12 =>
    if x11 = 0 then
      some ((), σ12)
    else
      if x1 = (-1 : Int32) then
        f_X7_goatGoes_b165 N  a0 l2 l3 x1 x11 σ12
      else
        ob (o_at σ12 [26] (some a0)) fun a16 =>
        bd (f_X7_worth N a16 l2 x1 l3 σ12) fun x14 σ15 =>
        if x14 = 0 then
          ob (o_gR σ15 [26] 28 (some a0)) fun x17 =>
          ob (o_sI σ15 1 x17 l2 x1) fun σ18 =>
          some ((), σ18)
        else
          f_X7_goatGoes_b165 N  a0 l2 l3 x1 x11 σ15
  else
    if x1 = (-1 : Int32) then
      some ((), σ7)
    else
      ob (o_gR σ7 [26] 28 (some a0)) fun x19 =>
      ob (o_sI σ7 1 x19 l2 x1) fun σ20 =>
      ob (o_gR σ20 [26] 27 (some a0)) fun x21 =>
      ob (o_aI σ20 1 x21 l2) fun x22 =>
      ob (o_sI σ20 1 x21 l2 (x22 + (1 : Int32))) fun σ23 =>
      some ((), σ23)
def f_X7_goatGoes (N : Nat) (a0 : Nat) (i1 : Int32) (i2 : Int32) (i3 : Int32) (σ : Mem) : Option (Unit × Mem) :=
  ob (o_gR σ [26] 3 (some a0)) fun x1 =>
  ob (o_gR σ [40] 22 x1) fun x2 =>
  ob (o_aI σ 1 x2 i2) fun x3 =>
  if x3 = (-2 : Int32) then
    f_X7_goatGoes_b68 N  a0 i1 i2 i3 σ
  else
    ob (o_gR σ [26] 28 (some a0)) fun x4 =>
    ob (o_aI σ 1 x4 x3) fun x5 =>
    ob (o_gR σ [26] 28 (some a0)) fun x6 =>
    ob (o_aI σ 1 x6 i2) fun x7 =>
    if x5 = x7 then
      f_X7_goatGoes_b68 N  a0 i1 i2 i3 σ
    else
      ob (o_gR σ [26] 28 (some a0)) fun x8 =>
      ob (o_aI σ 1 x8 i2) fun x9 =>
      ob (o_gR σ [26] 28 (some a0)) fun x10 =>
      ob (o_aI σ 1 x10 x3) fun x11 =>
      ob (o_at σ [26] (some a0)) fun a14 =>
      bd (f_X7_isOpen N a14 x9 x11 σ) fun x12 σ13 =>
      if x12 = 0 then
        f_X7_goatGoes_b68 N  a0 i1 i2 i3 σ13
      else
        ob (o_gR σ13 [26] 28 (some a0)) fun x15 =>
        ob (o_gR σ13 [26] 28 (some a0)) fun x16 =>
        ob (o_aI σ13 1 x16 x3) fun x17 =>
        ob (o_sI σ13 1 x15 i2 x17) fun σ18 =>
        some ((), σ18)
def f_X7_day_b106B (N : Nat) (K93 : Nat → Int32 → Int32 → Mem → Option (Unit × Mem)) (K106 : Nat → Int32 → Int32 → Int32 → Mem → Option (Unit × Mem)) (a0 : Nat) (l1 : Int32) (l2 : Int32) (l3 : Int32) (σ : Mem) : Option (Unit × Mem) :=
  ob (o_gR σ [26] 3 (some a0)) fun x1 =>
  ob (o_gI σ [40] 5 x1) fun x2 =>
  if x2 ≤ l3 then
    K93 a0 l1 (l2 + (1 : Int32)) σ
  else
    ob (o_at σ [26] (some a0)) fun a5 =>
    bd (f_X7_goatGoes N a5 l1 l3 l2 σ) fun _ σ4 =>
    ob (o_gR σ4 [26] 23 (some a0)) fun x6 =>
    ob (o_gR σ4 [26] 28 (some a0)) fun x7 =>
    ob (o_aI σ4 1 x7 l3) fun x8 =>
    ob (o_sI σ4 1 x6 (((12 : Int32) * l3) + l2) x8) fun σ9 =>
    K106 a0 l1 l2 (l3 + (1 : Int32)) σ9
def f_X7_day_b106 (N : Nat) (K93 : Nat → Int32 → Int32 → Mem → Option (Unit × Mem)) : Nat → Nat → Int32 → Int32 → Int32 → Mem → Option (Unit × Mem)
  | 0, _, _, _, _, _ => none
  | n + 1, a0, l1, l2, l3, σ => f_X7_day_b106B N K93 (f_X7_day_b106 N K93 n) a0 l1 l2 l3 σ
def f_X7_day_b93B (N : Nat)  (K93 : Nat → Int32 → Int32 → Mem → Option (Unit × Mem)) (a0 : Nat) (l1 : Int32) (l2 : Int32) (σ : Mem) : Option (Unit × Mem) :=
  ob (o_gR σ [26] 3 (some a0)) fun x1 =>
  ob (o_gI σ [40] 0 x1) fun x2 =>
  if x2 ≤ l2 then
    some ((), σ)
  else
    f_X7_day_b106 N K93 N a0 l1 l2 (0 : Int32) σ
def f_X7_day_b93 (N : Nat)  : Nat → Nat → Int32 → Int32 → Mem → Option (Unit × Mem)
  | 0, _, _, _, _ => none
  | n + 1, a0, l1, l2, σ => f_X7_day_b93B N  (f_X7_day_b93 N  n) a0 l1 l2 σ
def f_X7_day_b61B (N : Nat) (K31 : Nat → Int32 → Int32 → Mem → Option (Unit × Mem)) (K61 : Nat → Int32 → Int32 → Int32 → Mem → Option (Unit × Mem)) (a0 : Nat) (l1 : Int32) (l2 : Int32) (l3 : Int32) (σ : Mem) : Option (Unit × Mem) :=
  if (12 : Int32) ≤ l3 then
    K31 a0 l1 (l2 + (1 : Int32)) σ
  else
    ob (o_gR σ [26] 25 (some a0)) fun x1 =>
    ob (o_sI σ 1 x1 (((12 : Int32) * l2) + l3) (0 : Int32)) fun σ2 =>
    K61 a0 l1 l2 (l3 + (1 : Int32)) σ2
def f_X7_day_b61 (N : Nat) (K31 : Nat → Int32 → Int32 → Mem → Option (Unit × Mem)) : Nat → Nat → Int32 → Int32 → Int32 → Mem → Option (Unit × Mem)
  | 0, _, _, _, _, _ => none
  | n + 1, a0, l1, l2, l3, σ => f_X7_day_b61B N K31 (f_X7_day_b61 N K31 n) a0 l1 l2 l3 σ
def f_X7_day_b31B (N : Nat)  (K31 : Nat → Int32 → Int32 → Mem → Option (Unit × Mem)) (a0 : Nat) (l1 : Int32) (l2 : Int32) (σ : Mem) : Option (Unit × Mem) :=
  if (6 : Int32) ≤ l2 then
    f_X7_day_b93 N  N a0 l1 (0 : Int32) σ
  else
    ob (o_gR σ [26] 27 (some a0)) fun x1 =>
    ob (o_sI σ 1 x1 l2 (0 : Int32)) fun σ2 =>
    ob (o_gR σ2 [26] 28 (some a0)) fun x3 =>
    ob (o_gR σ2 [26] 3 (some a0)) fun x4 =>
    ob (o_gR σ2 [40] 25 x4) fun x5 =>
    ob (o_aI σ2 1 x5 l2) fun x6 =>
    ob (o_sI σ2 1 x3 l2 x6) fun σ7 =>
    f_X7_day_b61 N K31 N a0 l1 l2 (0 : Int32) σ7
def f_X7_day_b31 (N : Nat)  : Nat → Nat → Int32 → Int32 → Mem → Option (Unit × Mem)
  | 0, _, _, _, _ => none
  | n + 1, a0, l1, l2, σ => f_X7_day_b31B N  (f_X7_day_b31 N  n) a0 l1 l2 σ
def f_X7_day_b2B (N : Nat)  (K2 : Nat → Int32 → Int32 → Mem → Option (Unit × Mem)) (a0 : Nat) (l1 : Int32) (l2 : Int32) (σ : Mem) : Option (Unit × Mem) :=
  if (32 : Int32) ≤ l2 then
    f_X7_day_b31 N  N a0 l1 (0 : Int32) σ
  else
    ob (o_gR σ [26] 26 (some a0)) fun x1 =>
    ob (o_gR σ [26] 3 (some a0)) fun x2 =>
    ob (o_gR σ [40] 16 x2) fun x3 =>
    ob (o_aI σ 1 x3 l2) fun x4 =>
    ob (o_sI σ 1 x1 l2 x4) fun σ5 =>
    K2 a0 l1 (l2 + (1 : Int32)) σ5
def f_X7_day_b2 (N : Nat)  : Nat → Nat → Int32 → Int32 → Mem → Option (Unit × Mem)
  | 0, _, _, _, _ => none
  | n + 1, a0, l1, l2, σ => f_X7_day_b2B N  (f_X7_day_b2 N  n) a0 l1 l2 σ
def f_X7_day (N : Nat) (a0 : Nat) (i1 : Int32) (σ : Mem) : Option (Unit × Mem) :=
  f_X7_day_b2 N  N a0 i1 (0 : Int32) σ
def f_X7_at_b21 (N : Nat)  (a0 : Nat) (σ : Mem) : Option (Int32 × Mem) :=
  ob (o_at σ [26] (some a0)) fun a3 =>
  bd (f_X7_refused N a3 (1 : Int32) σ) fun x1 σ2 =>
  some (x1, σ2)
def f_X7_at (N : Nat) (a0 : Nat) (i1 : Int32) (i2 : Int32) (i3 : Int32) (σ : Mem) : Option (Int32 × Mem) :=
  ob (o_pI σ 0 [26] 0 (some a0) (0 : Int32)) fun σ1 =>
  ob (o_at σ1 [26] (some a0)) fun a4 =>
  bd (f_X7_isCase N a4 i1 σ1) fun x2 σ3 =>
  if x2 = 0 then
    f_X7_at_b21 N  a0 σ3
  else
    ob (o_at σ3 [26] (some a0)) fun a7 =>
    bd (f_X7_isGoat N a7 i2 σ3) fun x5 σ6 =>
    if x5 = 0 then
      f_X7_at_b21 N  a0 σ6
    else
      ob (o_at σ6 [26] (some a0)) fun a10 =>
      bd (f_X7_isHour N a10 i3 σ6) fun x8 σ9 =>
      if x8 = 0 then
        ob (o_at σ9 [26] (some a0)) fun a21 =>
        bd (f_X7_refused N a21 (2 : Int32) σ9) fun x19 σ20 =>
        some (x19, σ20)
      else
        ob (o_at σ9 [26] (some a0)) fun a13 =>
        bd (f_X7_day N a13 i1 σ9) fun _ σ12 =>
        ob (o_gR σ12 [26] 23 (some a0)) fun x14 =>
        ob (o_aI σ12 1 x14 (((12 : Int32) * i2) + i3)) fun x15 =>
        ob (o_at σ12 [26] (some a0)) fun a18 =>
        bd (f_X7_good N a18 x15 σ12) fun x16 σ17 =>
        some (x16, σ17)
def f_X5_ate_b50 (N : Nat) (K5 : Nat → Int32 → Int32 → Int32 → Int32 → Mem → Option (Int32 × Mem)) (a0 : Nat) (l1 : Int32) (l2 : Int32) (l4 : Int32) (t0 : Int32) (t1 : Int32) (σ : Mem) : Option (Int32 × Mem) :=
  K5 a0 l1 l2 (t0 + t1) (l4 + (1 : Int32)) σ
def f_X5_ate_b5B (N : Nat)  (K5 : Nat → Int32 → Int32 → Int32 → Int32 → Mem → Option (Int32 × Mem)) (a0 : Nat) (l1 : Int32) (l2 : Int32) (l3 : Int32) (l4 : Int32) (σ : Mem) : Option (Int32 × Mem) :=
  ob (o_gR σ [24] 7 (some a0)) fun x1 =>
  ob (o_gI σ [27] 11 x1) fun x2 =>
  if x2 ≤ l4 then
    some (l3, σ)
  else
    ob (o_gR σ [24] 3 (some a0)) fun x3 =>
    ob (o_aI σ 1 x3 (((12 : Int32) * l1) + l4)) fun x4 =>
    if x4 = l2 then
      ob (o_gR σ [24] 4 (some a0)) fun x5 =>
      ob (o_aI σ 1 x5 (((12 : Int32) * l1) + l4)) fun x6 =>
      f_X5_ate_b50 N K5 a0 l1 l2 l4 l3 x6 σ
    else
      f_X5_ate_b50 N K5 a0 l1 l2 l4 l3 (0 : Int32) σ
def f_X5_ate_b5 (N : Nat)  : Nat → Nat → Int32 → Int32 → Int32 → Int32 → Mem → Option (Int32 × Mem)
  | 0, _, _, _, _, _, _ => none
  | n + 1, a0, l1, l2, l3, l4, σ => f_X5_ate_b5B N  (f_X5_ate_b5 N  n) a0 l1 l2 l3 l4 σ
def f_X5_ate (N : Nat) (a0 : Nat) (i1 : Int32) (i2 : Int32) (σ : Mem) : Option (Int32 × Mem) :=
  f_X5_ate_b5 N  N a0 i1 i2 (0 : Int32) (0 : Int32) σ
def f_X1_ate_b28 (N : Nat)  (a0 : Nat) (σ : Mem) : Option (Int32 × Mem) :=
  ob (o_at σ [20] (some a0)) fun a3 =>
  bd (f_X1_no N a3 (1 : Int32) σ) fun x1 σ2 =>
  some (x1, σ2)
def f_X1_ate (N : Nat) (a0 : Nat) (i1 : Int32) (i2 : Int32) (i3 : Int32) (σ : Mem) : Option (Int32 × Mem) :=
  ob (o_at σ [20] (some a0)) fun a3 =>
  bd (f_X1_anew N a3  σ) fun _ σ2 =>
  ob (o_at σ2 [20] (some a0)) fun a6 =>
  bd (f_X1_isCase N a6 i1 σ2) fun x4 σ5 =>
  if x4 = 0 then
    f_X1_ate_b28 N  a0 σ5
  else
    ob (o_at σ5 [20] (some a0)) fun a9 =>
    bd (f_X1_isGoat N a9 i2 σ5) fun x7 σ8 =>
    if x7 = 0 then
      f_X1_ate_b28 N  a0 σ8
    else
      ob (o_at σ8 [20] (some a0)) fun a12 =>
      bd (f_X1_isPlant N a12 i3 σ8) fun x10 σ11 =>
      if x10 = 0 then
        f_X1_ate_b28 N  a0 σ11
      else
        ob (o_at σ11 [20] (some a0)) fun a15 =>
        bd (f_X1_run N a15 i1 σ11) fun _ σ14 =>
        ob (o_gR σ14 [20] 12 (some a0)) fun x16 =>
        ob (o_at σ14 [24] x16) fun a19 =>
        bd (f_X5_ate N a19 i2 i3 σ14) fun x17 σ18 =>
        some (x17, σ18)
def f_X7_ateOf_b65 (N : Nat) (K5 : Nat → Int32 → Int32 → Int32 → Int32 → Mem → Option (Int32 × Mem)) (a0 : Nat) (l1 : Int32) (l2 : Int32) (l4 : Int32) (t0 : Int32) (t1 : Int32) (σ : Mem) : Option (Int32 × Mem) :=
  K5 a0 l1 l2 (t0 + t1) (l4 + (1 : Int32)) σ
def f_X7_ateOf_b64 (N : Nat) (K5 : Nat → Int32 → Int32 → Int32 → Int32 → Mem → Option (Int32 × Mem)) (a0 : Nat) (l1 : Int32) (l2 : Int32) (l4 : Int32) (t0 : Int32) (σ : Mem) : Option (Int32 × Mem) :=
  f_X7_ateOf_b65 N K5 a0 l1 l2 l4 t0 (0 : Int32) σ
def f_X7_ateOf_b5B (N : Nat)  (K5 : Nat → Int32 → Int32 → Int32 → Int32 → Mem → Option (Int32 × Mem)) (a0 : Nat) (l1 : Int32) (l2 : Int32) (l3 : Int32) (l4 : Int32) (σ : Mem) : Option (Int32 × Mem) :=
  ob (o_gR σ [26] 3 (some a0)) fun x1 =>
  ob (o_gI σ [40] 0 x1) fun x2 =>
  if x2 ≤ l4 then
    some (l3, σ)
  else
    ob (o_gR σ [26] 25 (some a0)) fun x3 =>
    ob (o_aI σ 1 x3 (((12 : Int32) * l1) + l4)) fun x4 =>
    if x4 ≤ 0 then
      f_X7_ateOf_b64 N K5 a0 l1 l2 l4 l3 σ
    else
      ob (o_gR σ [26] 24 (some a0)) fun x5 =>
      ob (o_aI σ 1 x5 (((12 : Int32) * l1) + l4)) fun x6 =>
      if x6 = l2 then
        ob (o_gR σ [26] 25 (some a0)) fun x7 =>
        ob (o_aI σ 1 x7 (((12 : Int32) * l1) + l4)) fun x8 =>
        f_X7_ateOf_b65 N K5 a0 l1 l2 l4 l3 x8 σ
      else
        f_X7_ateOf_b64 N K5 a0 l1 l2 l4 l3 σ
def f_X7_ateOf_b5 (N : Nat)  : Nat → Nat → Int32 → Int32 → Int32 → Int32 → Mem → Option (Int32 × Mem)
  | 0, _, _, _, _, _, _ => none
  | n + 1, a0, l1, l2, l3, l4, σ => f_X7_ateOf_b5B N  (f_X7_ateOf_b5 N  n) a0 l1 l2 l3 l4 σ
def f_X7_ateOf (N : Nat) (a0 : Nat) (i1 : Int32) (i2 : Int32) (σ : Mem) : Option (Int32 × Mem) :=
  f_X7_ateOf_b5 N  N a0 i1 i2 (0 : Int32) (0 : Int32) σ
def f_X7_ate_b29 (N : Nat)  (a0 : Nat) (σ : Mem) : Option (Int32 × Mem) :=
  ob (o_at σ [26] (some a0)) fun a3 =>
  bd (f_X7_refused N a3 (1 : Int32) σ) fun x1 σ2 =>
  some (x1, σ2)
def f_X7_ate (N : Nat) (a0 : Nat) (i1 : Int32) (i2 : Int32) (i3 : Int32) (σ : Mem) : Option (Int32 × Mem) :=
  ob (o_pI σ 0 [26] 0 (some a0) (0 : Int32)) fun σ1 =>
  ob (o_at σ1 [26] (some a0)) fun a4 =>
  bd (f_X7_isCase N a4 i1 σ1) fun x2 σ3 =>
  if x2 = 0 then
    f_X7_ate_b29 N  a0 σ3
  else
    ob (o_at σ3 [26] (some a0)) fun a7 =>
    bd (f_X7_isGoat N a7 i2 σ3) fun x5 σ6 =>
    if x5 = 0 then
      f_X7_ate_b29 N  a0 σ6
    else
      ob (o_at σ6 [26] (some a0)) fun a10 =>
      bd (f_X7_isPlant N a10 i3 σ6) fun x8 σ9 =>
      if x8 = 0 then
        f_X7_ate_b29 N  a0 σ9
      else
        ob (o_at σ9 [26] (some a0)) fun a13 =>
        bd (f_X7_day N a13 i1 σ9) fun _ σ12 =>
        ob (o_at σ12 [26] (some a0)) fun a16 =>
        bd (f_X7_ateOf N a16 i2 i3 σ12) fun x14 σ15 =>
        ob (o_at σ15 [26] (some a0)) fun a19 =>
        bd (f_X7_good N a19 x14 σ15) fun x17 σ18 =>
        some (x17, σ18)
def f_X5_drops_b67 (N : Nat) (K6 : Nat → Int32 → Int32 → Int32 → Int32 → Int32 → Mem → Option (Int32 × Mem)) (a0 : Nat) (l1 : Int32) (l2 : Int32) (l3 : Int32) (l5 : Int32) (t0 : Int32) (t1 : Int32) (σ : Mem) : Option (Int32 × Mem) :=
  K6 a0 l1 l2 l3 (t0 + t1) (l5 + (1 : Int32)) σ
def f_X5_drops_b66 (N : Nat) (K6 : Nat → Int32 → Int32 → Int32 → Int32 → Int32 → Mem → Option (Int32 × Mem)) (a0 : Nat) (l1 : Int32) (l2 : Int32) (l3 : Int32) (l5 : Int32) (t0 : Int32) (σ : Mem) : Option (Int32 × Mem) :=
  f_X5_drops_b67 N K6 a0 l1 l2 l3 l5 t0 (0 : Int32) σ
def f_X5_drops_b6B (N : Nat)  (K6 : Nat → Int32 → Int32 → Int32 → Int32 → Int32 → Mem → Option (Int32 × Mem)) (a0 : Nat) (l1 : Int32) (l2 : Int32) (l3 : Int32) (l4 : Int32) (l5 : Int32) (σ : Mem) : Option (Int32 × Mem) :=
  ob (o_gR σ [24] 7 (some a0)) fun x1 =>
  ob (o_gI σ [27] 11 x1) fun x2 =>
  if x2 ≤ (l5 + (2 : Int32)) then
    some (l4, σ)
  else
    ob (o_gR σ [24] 3 (some a0)) fun x3 =>
    ob (o_aI σ 1 x3 (((12 : Int32) * l1) + l5)) fun x4 =>
    if x4 = l2 then
      ob (o_at σ [24] (some a0)) fun a7 =>
      bd (f_X5_at N a7 l1 (l5 + (2 : Int32)) σ) fun x5 σ6 =>
      if x5 = l3 then
        ob (o_gR σ6 [24] 4 (some a0)) fun x8 =>
        ob (o_aI σ6 1 x8 (((12 : Int32) * l1) + l5)) fun x9 =>
        f_X5_drops_b67 N K6 a0 l1 l2 l3 l5 l4 x9 σ6
      else
        f_X5_drops_b66 N K6 a0 l1 l2 l3 l5 l4 σ6
    else
      f_X5_drops_b66 N K6 a0 l1 l2 l3 l5 l4 σ
def f_X5_drops_b6 (N : Nat)  : Nat → Nat → Int32 → Int32 → Int32 → Int32 → Int32 → Mem → Option (Int32 × Mem)
  | 0, _, _, _, _, _, _, _ => none
  | n + 1, a0, l1, l2, l3, l4, l5, σ => f_X5_drops_b6B N  (f_X5_drops_b6 N  n) a0 l1 l2 l3 l4 l5 σ
def f_X5_drops (N : Nat) (a0 : Nat) (i1 : Int32) (i2 : Int32) (i3 : Int32) (σ : Mem) : Option (Int32 × Mem) :=
  f_X5_drops_b6 N  N a0 i1 i2 i3 (0 : Int32) (0 : Int32) σ
def f_X1_drops_b37 (N : Nat)  (a0 : Nat) (σ : Mem) : Option (Int32 × Mem) :=
  ob (o_at σ [20] (some a0)) fun a3 =>
  bd (f_X1_no N a3 (1 : Int32) σ) fun x1 σ2 =>
  some (x1, σ2)
def f_X1_drops (N : Nat) (a0 : Nat) (i1 : Int32) (i2 : Int32) (i3 : Int32) (i4 : Int32) (σ : Mem) : Option (Int32 × Mem) :=
  ob (o_at σ [20] (some a0)) fun a3 =>
  bd (f_X1_anew N a3  σ) fun _ σ2 =>
  ob (o_at σ2 [20] (some a0)) fun a6 =>
  bd (f_X1_isCase N a6 i1 σ2) fun x4 σ5 =>
  if x4 = 0 then
    f_X1_drops_b37 N  a0 σ5
  else
    ob (o_at σ5 [20] (some a0)) fun a9 =>
    bd (f_X1_isGoat N a9 i2 σ5) fun x7 σ8 =>
    if x7 = 0 then
      f_X1_drops_b37 N  a0 σ8
    else
      ob (o_at σ8 [20] (some a0)) fun a12 =>
      bd (f_X1_isPlant N a12 i3 σ8) fun x10 σ11 =>
      if x10 = 0 then
        f_X1_drops_b37 N  a0 σ11
      else
        ob (o_at σ11 [20] (some a0)) fun a15 =>
        bd (f_X1_isPlace N a15 i4 σ11) fun x13 σ14 =>
        if x13 = 0 then
          f_X1_drops_b37 N  a0 σ14
        else
          ob (o_at σ14 [20] (some a0)) fun a18 =>
          bd (f_X1_run N a18 i1 σ14) fun _ σ17 =>
          ob (o_gR σ17 [20] 12 (some a0)) fun x19 =>
          ob (o_at σ17 [24] x19) fun a22 =>
          bd (f_X5_drops N a22 i2 i3 i4 σ17) fun x20 σ21 =>
          some (x20, σ21)
def f_X7_dropped_b87 (N : Nat) (K6 : Nat → Int32 → Int32 → Int32 → Int32 → Int32 → Mem → Option (Int32 × Mem)) (a0 : Nat) (l1 : Int32) (l2 : Int32) (l3 : Int32) (l5 : Int32) (t0 : Int32) (t1 : Int32) (σ : Mem) : Option (Int32 × Mem) :=
  K6 a0 l1 l2 l3 (t0 + t1) (l5 + (1 : Int32)) σ
def f_X7_dropped_b86 (N : Nat) (K6 : Nat → Int32 → Int32 → Int32 → Int32 → Int32 → Mem → Option (Int32 × Mem)) (a0 : Nat) (l1 : Int32) (l2 : Int32) (l3 : Int32) (l5 : Int32) (t0 : Int32) (σ : Mem) : Option (Int32 × Mem) :=
  f_X7_dropped_b87 N K6 a0 l1 l2 l3 l5 t0 (0 : Int32) σ
def f_X7_dropped_b6B (N : Nat)  (K6 : Nat → Int32 → Int32 → Int32 → Int32 → Int32 → Mem → Option (Int32 × Mem)) (a0 : Nat) (l1 : Int32) (l2 : Int32) (l3 : Int32) (l4 : Int32) (l5 : Int32) (σ : Mem) : Option (Int32 × Mem) :=
  ob (o_gR σ [26] 3 (some a0)) fun x1 =>
  ob (o_gI σ [40] 0 x1) fun x2 =>
  if x2 ≤ (l5 + (2 : Int32)) then
    some (l4, σ)
  else
    ob (o_gR σ [26] 25 (some a0)) fun x3 =>
    ob (o_aI σ 1 x3 (((12 : Int32) * l1) + l5)) fun x4 =>
    if x4 ≤ 0 then
      f_X7_dropped_b86 N K6 a0 l1 l2 l3 l5 l4 σ
    else
      ob (o_gR σ [26] 24 (some a0)) fun x5 =>
      ob (o_aI σ 1 x5 (((12 : Int32) * l1) + l5)) fun x6 =>
      if x6 = l2 then
        ob (o_gR σ [26] 23 (some a0)) fun x7 =>
        ob (o_aI σ 1 x7 ((((12 : Int32) * l1) + l5) + (2 : Int32))) fun x8 =>
        if x8 = l3 then
          ob (o_gR σ [26] 25 (some a0)) fun x9 =>
          ob (o_aI σ 1 x9 (((12 : Int32) * l1) + l5)) fun x10 =>
          f_X7_dropped_b87 N K6 a0 l1 l2 l3 l5 l4 x10 σ
        else
          f_X7_dropped_b86 N K6 a0 l1 l2 l3 l5 l4 σ
      else
        f_X7_dropped_b86 N K6 a0 l1 l2 l3 l5 l4 σ
def f_X7_dropped_b6 (N : Nat)  : Nat → Nat → Int32 → Int32 → Int32 → Int32 → Int32 → Mem → Option (Int32 × Mem)
  | 0, _, _, _, _, _, _, _ => none
  | n + 1, a0, l1, l2, l3, l4, l5, σ => f_X7_dropped_b6B N  (f_X7_dropped_b6 N  n) a0 l1 l2 l3 l4 l5 σ
def f_X7_dropped (N : Nat) (a0 : Nat) (i1 : Int32) (i2 : Int32) (i3 : Int32) (σ : Mem) : Option (Int32 × Mem) :=
  f_X7_dropped_b6 N  N a0 i1 i2 i3 (0 : Int32) (0 : Int32) σ
def f_X7_drops_b38 (N : Nat)  (a0 : Nat) (σ : Mem) : Option (Int32 × Mem) :=
  ob (o_at σ [26] (some a0)) fun a3 =>
  bd (f_X7_refused N a3 (1 : Int32) σ) fun x1 σ2 =>
  some (x1, σ2)
def f_X7_drops (N : Nat) (a0 : Nat) (i1 : Int32) (i2 : Int32) (i3 : Int32) (i4 : Int32) (σ : Mem) : Option (Int32 × Mem) :=
  ob (o_pI σ 0 [26] 0 (some a0) (0 : Int32)) fun σ1 =>
  ob (o_at σ1 [26] (some a0)) fun a4 =>
  bd (f_X7_isCase N a4 i1 σ1) fun x2 σ3 =>
  if x2 = 0 then
    f_X7_drops_b38 N  a0 σ3
  else
    ob (o_at σ3 [26] (some a0)) fun a7 =>
    bd (f_X7_isGoat N a7 i2 σ3) fun x5 σ6 =>
    if x5 = 0 then
      f_X7_drops_b38 N  a0 σ6
    else
      ob (o_at σ6 [26] (some a0)) fun a10 =>
      bd (f_X7_isPlant N a10 i3 σ6) fun x8 σ9 =>
      if x8 = 0 then
        f_X7_drops_b38 N  a0 σ9
      else
        ob (o_at σ9 [26] (some a0)) fun a13 =>
        bd (f_X7_isPlace N a13 i4 σ9) fun x11 σ12 =>
        if x11 = 0 then
          f_X7_drops_b38 N  a0 σ12
        else
          ob (o_at σ12 [26] (some a0)) fun a16 =>
          bd (f_X7_day N a16 i1 σ12) fun _ σ15 =>
          ob (o_at σ15 [26] (some a0)) fun a19 =>
          bd (f_X7_dropped N a19 i2 i3 i4 σ15) fun x17 σ18 =>
          ob (o_at σ18 [26] (some a0)) fun a22 =>
          bd (f_X7_good N a22 x17 σ18) fun x20 σ21 =>
          some (x20, σ21)
def f_X5_flees (N : Nat) (a0 : Nat) (i1 : Int32) (σ : Mem) : Option (Int32 × Mem) :=
  ob (o_gR σ [24] 5 (some a0)) fun x1 =>
  ob (o_aI σ 1 x1 i1) fun x2 =>
  some (x2, σ)
def f_X1_flees_b20 (N : Nat)  (a0 : Nat) (σ : Mem) : Option (Int32 × Mem) :=
  ob (o_at σ [20] (some a0)) fun a3 =>
  bd (f_X1_no N a3 (1 : Int32) σ) fun x1 σ2 =>
  some (x1, σ2)
def f_X1_flees (N : Nat) (a0 : Nat) (i1 : Int32) (i2 : Int32) (σ : Mem) : Option (Int32 × Mem) :=
  ob (o_at σ [20] (some a0)) fun a3 =>
  bd (f_X1_anew N a3  σ) fun _ σ2 =>
  ob (o_at σ2 [20] (some a0)) fun a6 =>
  bd (f_X1_isCase N a6 i1 σ2) fun x4 σ5 =>
  if x4 = 0 then
    f_X1_flees_b20 N  a0 σ5
  else
    ob (o_at σ5 [20] (some a0)) fun a9 =>
    bd (f_X1_isGoat N a9 i2 σ5) fun x7 σ8 =>
    if x7 = 0 then
      f_X1_flees_b20 N  a0 σ8
    else
      ob (o_at σ8 [20] (some a0)) fun a12 =>
      bd (f_X1_run N a12 i1 σ8) fun _ σ11 =>
      ob (o_gR σ11 [20] 12 (some a0)) fun x13 =>
      ob (o_at σ11 [24] x13) fun a16 =>
      bd (f_X5_flees N a16 i2 σ11) fun x14 σ15 =>
      some (x14, σ15)
def f_X7_flees_b21 (N : Nat)  (a0 : Nat) (σ : Mem) : Option (Int32 × Mem) :=
  ob (o_at σ [26] (some a0)) fun a3 =>
  bd (f_X7_refused N a3 (1 : Int32) σ) fun x1 σ2 =>
  some (x1, σ2)
def f_X7_flees (N : Nat) (a0 : Nat) (i1 : Int32) (i2 : Int32) (σ : Mem) : Option (Int32 × Mem) :=
  ob (o_pI σ 0 [26] 0 (some a0) (0 : Int32)) fun σ1 =>
  ob (o_at σ1 [26] (some a0)) fun a4 =>
  bd (f_X7_isCase N a4 i1 σ1) fun x2 σ3 =>
  if x2 = 0 then
    f_X7_flees_b21 N  a0 σ3
  else
    ob (o_at σ3 [26] (some a0)) fun a7 =>
    bd (f_X7_isGoat N a7 i2 σ3) fun x5 σ6 =>
    if x5 = 0 then
      f_X7_flees_b21 N  a0 σ6
    else
      ob (o_at σ6 [26] (some a0)) fun a10 =>
      bd (f_X7_day N a10 i1 σ6) fun _ σ9 =>
      ob (o_gR σ9 [26] 27 (some a0)) fun x11 =>
      ob (o_aI σ9 1 x11 i2) fun x12 =>
      ob (o_at σ9 [26] (some a0)) fun a15 =>
      bd (f_X7_good N a15 x12 σ9) fun x13 σ14 =>
      some (x13, σ14)
def f_X5_left (N : Nat) (a0 : Nat) (i1 : Int32) (i2 : Int32) (σ : Mem) : Option (Int32 × Mem) :=
  ob (o_gR σ [24] 0 (some a0)) fun x1 =>
  ob (o_aI σ 1 x1 (((4 : Int32) * i1) + i2)) fun x2 =>
  some (x2, σ)
def f_X1_left_b28 (N : Nat)  (a0 : Nat) (σ : Mem) : Option (Int32 × Mem) :=
  ob (o_at σ [20] (some a0)) fun a3 =>
  bd (f_X1_no N a3 (1 : Int32) σ) fun x1 σ2 =>
  some (x1, σ2)
def f_X1_left (N : Nat) (a0 : Nat) (i1 : Int32) (i2 : Int32) (i3 : Int32) (σ : Mem) : Option (Int32 × Mem) :=
  ob (o_at σ [20] (some a0)) fun a3 =>
  bd (f_X1_anew N a3  σ) fun _ σ2 =>
  ob (o_at σ2 [20] (some a0)) fun a6 =>
  bd (f_X1_isCase N a6 i1 σ2) fun x4 σ5 =>
  if x4 = 0 then
    f_X1_left_b28 N  a0 σ5
  else
    ob (o_at σ5 [20] (some a0)) fun a9 =>
    bd (f_X1_isPlace N a9 i2 σ5) fun x7 σ8 =>
    if x7 = 0 then
      f_X1_left_b28 N  a0 σ8
    else
      ob (o_at σ8 [20] (some a0)) fun a12 =>
      bd (f_X1_isPlant N a12 i3 σ8) fun x10 σ11 =>
      if x10 = 0 then
        f_X1_left_b28 N  a0 σ11
      else
        ob (o_at σ11 [20] (some a0)) fun a15 =>
        bd (f_X1_run N a15 i1 σ11) fun _ σ14 =>
        ob (o_gR σ14 [20] 12 (some a0)) fun x16 =>
        ob (o_at σ14 [24] x16) fun a19 =>
        bd (f_X5_left N a19 i2 i3 σ14) fun x17 σ18 =>
        some (x17, σ18)
def f_X7_left_b29 (N : Nat)  (a0 : Nat) (σ : Mem) : Option (Int32 × Mem) :=
  ob (o_at σ [26] (some a0)) fun a3 =>
  bd (f_X7_refused N a3 (1 : Int32) σ) fun x1 σ2 =>
  some (x1, σ2)
def f_X7_left (N : Nat) (a0 : Nat) (i1 : Int32) (i2 : Int32) (i3 : Int32) (σ : Mem) : Option (Int32 × Mem) :=
  ob (o_pI σ 0 [26] 0 (some a0) (0 : Int32)) fun σ1 =>
  ob (o_at σ1 [26] (some a0)) fun a4 =>
  bd (f_X7_isCase N a4 i1 σ1) fun x2 σ3 =>
  if x2 = 0 then
    f_X7_left_b29 N  a0 σ3
  else
    ob (o_at σ3 [26] (some a0)) fun a7 =>
    bd (f_X7_isPlace N a7 i2 σ3) fun x5 σ6 =>
    if x5 = 0 then
      f_X7_left_b29 N  a0 σ6
    else
      ob (o_at σ6 [26] (some a0)) fun a10 =>
      bd (f_X7_isPlant N a10 i3 σ6) fun x8 σ9 =>
      if x8 = 0 then
        f_X7_left_b29 N  a0 σ9
      else
        ob (o_at σ9 [26] (some a0)) fun a13 =>
        bd (f_X7_day N a13 i1 σ9) fun _ σ12 =>
        ob (o_gR σ12 [26] 26 (some a0)) fun x14 =>
        ob (o_aI σ12 1 x14 (((4 : Int32) * i2) + i3)) fun x15 =>
        ob (o_at σ12 [26] (some a0)) fun a18 =>
        bd (f_X7_good N a18 x15 σ12) fun x16 σ17 =>
        some (x16, σ17)
def f_X1_met_b28 (N : Nat)  (a0 : Nat) (σ : Mem) : Option (Int32 × Mem) :=
  ob (o_at σ [20] (some a0)) fun a3 =>
  bd (f_X1_no N a3 (1 : Int32) σ) fun x1 σ2 =>
  some (x1, σ2)
def f_X1_met_b111 (N : Nat) (K56 : Nat → Int32 → Int32 → Int32 → Int32 → Int32 → Mem → Option (Int32 × Mem)) (a0 : Nat) (l2 : Int32) (l3 : Int32) (l4 : Int32) (l6 : Int32) (t0 : Int32) (t1 : Int32) (σ : Mem) : Option (Int32 × Mem) :=
  K56 a0 l2 l3 l4 (t0 + t1) (l6 + (1 : Int32)) σ
def f_X1_met_b56B (N : Nat)  (K56 : Nat → Int32 → Int32 → Int32 → Int32 → Int32 → Mem → Option (Int32 × Mem)) (a0 : Nat) (l2 : Int32) (l3 : Int32) (l4 : Int32) (l5 : Int32) (l6 : Int32) (σ : Mem) : Option (Int32 × Mem) :=
  ob (o_gR σ [20] 3 (some a0)) fun x1 =>
  ob (o_gI σ [27] 11 x1) fun x2 =>
  if x2 ≤ l6 then
    some (l5, σ)
  else
    if l4 = (-2 : Int32) then
      some (l5, σ)
    else
      ob (o_gR σ [20] 12 (some a0)) fun x3 =>
      ob (o_at σ [24] x3) fun a6 =>
      bd (f_X5_at N a6 l2 l6 σ) fun x4 σ5 =>
      ob (o_gR σ5 [20] 3 (some a0)) fun x7 =>
      ob (o_gR σ5 [27] 5 x7) fun x8 =>
      ob (o_aR σ5 7 x8 l3) fun x9 =>
      ob (o_at σ5 [29] x9) fun a12 =>
      bd (f_X11_at N a12 l4 l6 σ5) fun x10 σ11 =>
      if x4 = x10 then
        f_X1_met_b111 N K56 a0 l2 l3 l4 l6 l5 (1 : Int32) σ11
      else
        f_X1_met_b111 N K56 a0 l2 l3 l4 l6 l5 (0 : Int32) σ11
def f_X1_met_b56 (N : Nat)  : Nat → Nat → Int32 → Int32 → Int32 → Int32 → Int32 → Mem → Option (Int32 × Mem)
  | 0, _, _, _, _, _, _, _ => none
  | n + 1, a0, l2, l3, l4, l5, l6, σ => f_X1_met_b56B N  (f_X1_met_b56 N  n) a0 l2 l3 l4 l5 l6 σ
def f_X1_met (N : Nat) (a0 : Nat) (i1 : Int32) (i2 : Int32) (i3 : Int32) (σ : Mem) : Option (Int32 × Mem) :=
  ob (o_at σ [20] (some a0)) fun a3 =>
  bd (f_X1_anew N a3  σ) fun _ σ2 =>
  ob (o_at σ2 [20] (some a0)) fun a6 =>
  bd (f_X1_isCase N a6 i1 σ2) fun x4 σ5 =>
  if x4 = 0 then
    f_X1_met_b28 N  a0 σ5
  else
    ob (o_at σ5 [20] (some a0)) fun a9 =>
    bd (f_X1_isGoat N a9 i2 σ5) fun x7 σ8 =>
    if x7 = 0 then
      f_X1_met_b28 N  a0 σ8
    else
      ob (o_at σ8 [20] (some a0)) fun a12 =>
      bd (f_X1_isPerson N a12 i3 σ8) fun x10 σ11 =>
      if x10 = 0 then
        f_X1_met_b28 N  a0 σ11
      else
        ob (o_at σ11 [20] (some a0)) fun a15 =>
        bd (f_X1_run N a15 i1 σ11) fun _ σ14 =>
        ob (o_gR σ14 [20] 3 (some a0)) fun x16 =>
        ob (o_at σ14 [27] x16) fun a19 =>
        bd (f_X8_storyOf N a19 i1 i3 σ14) fun x17 σ18 =>
        f_X1_met_b56 N  N a0 i2 i3 x17 (0 : Int32) (0 : Int32) σ18
def f_X7_met_b29 (N : Nat)  (a0 : Nat) (σ : Mem) : Option (Int32 × Mem) :=
  ob (o_at σ [26] (some a0)) fun a3 =>
  bd (f_X7_refused N a3 (1 : Int32) σ) fun x1 σ2 =>
  some (x1, σ2)
def f_X7_met_b91 (N : Nat) (K46 : Nat → Int32 → Int32 → Int32 → Int32 → Int32 → Mem → Option (Int32 × Mem)) (a0 : Nat) (l1 : Int32) (l2 : Int32) (l3 : Int32) (l5 : Int32) (t0 : Int32) (t1 : Int32) (σ : Mem) : Option (Int32 × Mem) :=
  K46 a0 l1 l2 l3 (t0 + t1) (l5 + (1 : Int32)) σ
def f_X7_met_b46B (N : Nat)  (K46 : Nat → Int32 → Int32 → Int32 → Int32 → Int32 → Mem → Option (Int32 × Mem)) (a0 : Nat) (l1 : Int32) (l2 : Int32) (l3 : Int32) (l4 : Int32) (l5 : Int32) (σ : Mem) : Option (Int32 × Mem) :=
  ob (o_gR σ [26] 3 (some a0)) fun x1 =>
  ob (o_gI σ [40] 0 x1) fun x2 =>
  if x2 ≤ l5 then
    ob (o_at σ [26] (some a0)) fun a5 =>
    bd (f_X7_good N a5 l4 σ) fun x3 σ4 =>
    some (x3, σ4)
  else
    ob (o_gR σ [26] 3 (some a0)) fun x6 =>
    ob (o_at σ [40] x6) fun a9 =>
    bd (f_X24_placeIn N a9 l1 l3 l5 σ) fun x7 σ8 =>
    ob (o_gR σ8 [26] 23 (some a0)) fun x10 =>
    ob (o_aI σ8 1 x10 (((12 : Int32) * l2) + l5)) fun x11 =>
    if x7 = x11 then
      f_X7_met_b91 N K46 a0 l1 l2 l3 l5 l4 (1 : Int32) σ8
    else
      f_X7_met_b91 N K46 a0 l1 l2 l3 l5 l4 (0 : Int32) σ8
def f_X7_met_b46 (N : Nat)  : Nat → Nat → Int32 → Int32 → Int32 → Int32 → Int32 → Mem → Option (Int32 × Mem)
  | 0, _, _, _, _, _, _, _ => none
  | n + 1, a0, l1, l2, l3, l4, l5, σ => f_X7_met_b46B N  (f_X7_met_b46 N  n) a0 l1 l2 l3 l4 l5 σ
def f_X7_met (N : Nat) (a0 : Nat) (i1 : Int32) (i2 : Int32) (i3 : Int32) (σ : Mem) : Option (Int32 × Mem) :=
  ob (o_pI σ 0 [26] 0 (some a0) (0 : Int32)) fun σ1 =>
  ob (o_at σ1 [26] (some a0)) fun a4 =>
  bd (f_X7_isCase N a4 i1 σ1) fun x2 σ3 =>
  if x2 = 0 then
    f_X7_met_b29 N  a0 σ3
  else
    ob (o_at σ3 [26] (some a0)) fun a7 =>
    bd (f_X7_isGoat N a7 i2 σ3) fun x5 σ6 =>
    if x5 = 0 then
      f_X7_met_b29 N  a0 σ6
    else
      ob (o_at σ6 [26] (some a0)) fun a10 =>
      bd (f_X7_isPerson N a10 i3 σ6) fun x8 σ9 =>
      if x8 = 0 then
        f_X7_met_b29 N  a0 σ9
      else
        ob (o_at σ9 [26] (some a0)) fun a13 =>
        bd (f_X7_day N a13 i1 σ9) fun _ σ12 =>
        f_X7_met_b46 N  N a0 i1 i2 i3 (0 : Int32) (0 : Int32) σ12
def f_X18_isTrue (N : Nat) (a0 : Nat) (o1 : Option Nat) (σ : Mem) : Option (Int32 × Mem) :=
  ob (o_gI σ [34] 107 (some a0)) fun x1 =>
  ob (o_gI σ [34] 109 (some a0)) fun x2 =>
  ob (o_gI σ [34] 108 (some a0)) fun x3 =>
  ob (o_at σ [24] o1) fun a6 =>
  bd (f_X5_drops N a6 x1 x2 x3 σ) fun x4 σ5 =>
  if x4 ≤ 0 then
    ob (o_nr 1 (0 : Int32)) fun _ => some ((0 : Int32), σ5)
  else
    ob (o_nr 1 (1 : Int32)) fun _ => some ((1 : Int32), σ5)
def f_X19_isTrue (N : Nat) (a0 : Nat) (o1 : Option Nat) (σ : Mem) : Option (Int32 × Mem) :=
  ob (o_gI σ [35] 107 (some a0)) fun x1 =>
  ob (o_gI σ [35] 109 (some a0)) fun x2 =>
  ob (o_at σ [24] o1) fun a5 =>
  bd (f_X5_at N a5 x1 x2 σ) fun x3 σ4 =>
  ob (o_gI σ4 [35] 108 (some a0)) fun x6 =>
  if x3 = x6 then
    ob (o_nr 1 (1 : Int32)) fun _ => some ((1 : Int32), σ4)
  else
    ob (o_nr 1 (0 : Int32)) fun _ => some ((0 : Int32), σ4)
def f_X20_isTrue (N : Nat) (a0 : Nat) (o1 : Option Nat) (σ : Mem) : Option (Int32 × Mem) :=
  ob (o_gI σ [36] 107 (some a0)) fun x1 =>
  ob (o_gI σ [36] 109 (some a0)) fun x2 =>
  ob (o_at σ [24] o1) fun a5 =>
  bd (f_X5_at N a5 x1 x2 σ) fun x3 σ4 =>
  ob (o_gI σ4 [36] 108 (some a0)) fun x6 =>
  if x3 = x6 then
    ob (o_nr 1 (0 : Int32)) fun _ => some ((0 : Int32), σ4)
  else
    ob (o_nr 1 (1 : Int32)) fun _ => some ((1 : Int32), σ4)
def f_X1_isTrue_b20 (N : Nat)  (a0 : Nat) (σ : Mem) : Option (Int32 × Mem) :=
  ob (o_at σ [20] (some a0)) fun a3 =>
  bd (f_X1_no N a3 (1 : Int32) σ) fun x1 σ2 =>
  some (x1, σ2)
def f_X1_isTrue (N : Nat) (a0 : Nat) (i1 : Int32) (i2 : Int32) (σ : Mem) : Option (Int32 × Mem) :=
  ob (o_at σ [20] (some a0)) fun a3 =>
  bd (f_X1_anew N a3  σ) fun _ σ2 =>
  ob (o_at σ2 [20] (some a0)) fun a6 =>
  bd (f_X1_isCase N a6 i1 σ2) fun x4 σ5 =>
  if x4 = 0 then
    f_X1_isTrue_b20 N  a0 σ5
  else
    ob (o_at σ5 [20] (some a0)) fun a9 =>
    bd (f_X1_isClue N a9 i2 σ5) fun x7 σ8 =>
    if x7 = 0 then
      f_X1_isTrue_b20 N  a0 σ8
    else
      ob (o_at σ8 [20] (some a0)) fun a12 =>
      bd (f_X1_run N a12 i1 σ8) fun _ σ11 =>
      ob (o_gR σ11 [20] 3 (some a0)) fun x13 =>
      ob (o_gR σ11 [27] 7 x13) fun x14 =>
      ob (o_aR σ11 9 x14 i2) fun x15 =>
      ob (o_gR σ11 [20] 12 (some a0)) fun x16 =>
      ob (o_at σ11 [34, 35, 36] x15) fun a19 =>
      bd (if (m_T σ11 a19).1 = 34 then f_X18_isTrue N a19 x16 σ11 else if (m_T σ11 a19).1 = 35 then f_X19_isTrue N a19 x16 σ11 else f_X20_isTrue N a19 x16 σ11) fun x17 σ18 =>
      if x17 = 0 then
        some ((0 : Int32), σ18)
      else
        some ((1 : Int32), σ18)
def f_X7_holdsNow_b108 (N : Nat)  (t0 : Int32) (t1 : Int32) (σ : Mem) : Option (Int32 × Mem) :=
  if t0 = t1 then
    ob (o_nr 1 (1 : Int32)) fun _ => some ((1 : Int32), σ)
  else
    ob (o_nr 1 (0 : Int32)) fun _ => some ((0 : Int32), σ)
def f_X7_holdsNow_b90 (N : Nat)  (a0 : Nat) (l1 : Int32) (t0 : Int32) (σ : Mem) : Option (Int32 × Mem) :=
  ob (o_gR σ [26] 3 (some a0)) fun x1 =>
  ob (o_gR σ [40] 28 x1) fun x2 =>
  ob (o_aI σ 1 x2 l1) fun x3 =>
  if x3 = (1 : Int32) then
    f_X7_holdsNow_b108 N  t0 (1 : Int32) σ
  else
    f_X7_holdsNow_b108 N  t0 (0 : Int32) σ
def f_X7_holdsNow (N : Nat) (a0 : Nat) (i1 : Int32) (σ : Mem) : Option (Int32 × Mem) :=
  ob (o_gR σ [26] 3 (some a0)) fun x1 =>
  ob (o_gR σ [40] 29 x1) fun x2 =>
  ob (o_aI σ 1 x2 i1) fun x3 =>
  ob (o_gR σ [26] 3 (some a0)) fun x4 =>
  ob (o_gR σ [40] 28 x4) fun x5 =>
  ob (o_aI σ 1 x5 i1) fun x6 =>
  if x6 = 0 then
    ob (o_gR σ [26] 3 (some a0)) fun x15 =>
    ob (o_gR σ [40] 31 x15) fun x16 =>
    ob (o_aI σ 1 x16 i1) fun x17 =>
    ob (o_gR σ [26] 3 (some a0)) fun x18 =>
    ob (o_gR σ [40] 30 x18) fun x19 =>
    ob (o_aI σ 1 x19 i1) fun x20 =>
    ob (o_at σ [26] (some a0)) fun a23 =>
    bd (f_X7_dropped N a23 x3 x17 x20 σ) fun x21 σ22 =>
    if x21 ≤ 0 then
      ob (o_nr 1 (0 : Int32)) fun _ => some ((0 : Int32), σ22)
    else
      ob (o_nr 1 (1 : Int32)) fun _ => some ((1 : Int32), σ22)
  else
    ob (o_gR σ [26] 23 (some a0)) fun x7 =>
    ob (o_gR σ [26] 3 (some a0)) fun x8 =>
    ob (o_gR σ [40] 31 x8) fun x9 =>
    ob (o_aI σ 1 x9 i1) fun x10 =>
    ob (o_aI σ 1 x7 (((12 : Int32) * x3) + x10)) fun x11 =>
    ob (o_gR σ [26] 3 (some a0)) fun x12 =>
    ob (o_gR σ [40] 30 x12) fun x13 =>
    ob (o_aI σ 1 x13 i1) fun x14 =>
    if x11 = x14 then
      f_X7_holdsNow_b90 N  a0 i1 (1 : Int32) σ
    else
      f_X7_holdsNow_b90 N  a0 i1 (0 : Int32) σ
def f_X7_isTrue_b21 (N : Nat)  (a0 : Nat) (σ : Mem) : Option (Int32 × Mem) :=
  ob (o_at σ [26] (some a0)) fun a3 =>
  bd (f_X7_refused N a3 (1 : Int32) σ) fun x1 σ2 =>
  some (x1, σ2)
def f_X7_isTrue (N : Nat) (a0 : Nat) (i1 : Int32) (i2 : Int32) (σ : Mem) : Option (Int32 × Mem) :=
  ob (o_pI σ 0 [26] 0 (some a0) (0 : Int32)) fun σ1 =>
  ob (o_at σ1 [26] (some a0)) fun a4 =>
  bd (f_X7_isCase N a4 i1 σ1) fun x2 σ3 =>
  if x2 = 0 then
    f_X7_isTrue_b21 N  a0 σ3
  else
    ob (o_at σ3 [26] (some a0)) fun a7 =>
    bd (f_X7_isClue N a7 i2 σ3) fun x5 σ6 =>
    if x5 = 0 then
      f_X7_isTrue_b21 N  a0 σ6
    else
      ob (o_at σ6 [26] (some a0)) fun a10 =>
      bd (f_X7_day N a10 i1 σ6) fun _ σ9 =>
      ob (o_at σ9 [26] (some a0)) fun a13 =>
      bd (f_X7_holdsNow N a13 i2 σ9) fun x11 σ12 =>
      if x11 = 0 then
        ob (o_at σ12 [26] (some a0)) fun a16 =>
        bd (f_X7_good N a16 (0 : Int32) σ12) fun x14 σ15 =>
        some (x14, σ15)
      else
        ob (o_at σ12 [26] (some a0)) fun a19 =>
        bd (f_X7_good N a19 (1 : Int32) σ12) fun x17 σ18 =>
        some (x17, σ18)
def f_X8_clueGoats_b4B (N : Nat)  (K4 : Nat → Int32 → Int32 → Mem → Option (Int32 × Mem)) (a0 : Nat) (l1 : Int32) (l2 : Int32) (σ : Mem) : Option (Int32 × Mem) :=
  ob (o_gI σ [27] 18 (some a0)) fun x1 =>
  if x1 ≤ l2 then
    some (l1, σ)
  else
    ob (o_gR σ [27] 7 (some a0)) fun x2 =>
    ob (o_aR σ 9 x2 l2) fun x3 =>
    ob (o_gI σ [34, 35, 36] 107 x3) fun x4 =>
    K4 a0 (l1 ||| ((1 : Int32) <<< (x4 &&& 31))) (l2 + (1 : Int32)) σ
def f_X8_clueGoats_b4 (N : Nat)  : Nat → Nat → Int32 → Int32 → Mem → Option (Int32 × Mem)
  | 0, _, _, _, _ => none
  | n + 1, a0, l1, l2, σ => f_X8_clueGoats_b4B N  (f_X8_clueGoats_b4 N  n) a0 l1 l2 σ
def f_X8_clueGoats (N : Nat) (a0 : Nat) (σ : Mem) : Option (Int32 × Mem) :=
  f_X8_clueGoats_b4 N  N a0 (0 : Int32) (0 : Int32) σ
def f_X5_trueGoats_b56 (N : Nat) (K10 : Nat → Int32 → Int32 → Mem → Option (Int32 × Mem)) (a0 : Nat) (l1 : Int32) (l2 : Int32) (σ : Mem) : Option (Int32 × Mem) :=
  K10 a0 l1 (l2 + (1 : Int32)) σ
def f_X5_trueGoats_b10B (N : Nat)  (K10 : Nat → Int32 → Int32 → Mem → Option (Int32 × Mem)) (a0 : Nat) (l1 : Int32) (l2 : Int32) (σ : Mem) : Option (Int32 × Mem) :=
  ob (o_gR σ [24] 7 (some a0)) fun x1 =>
  ob (o_gI σ [27] 18 x1) fun x2 =>
  if x2 ≤ l2 then
    some (l1, σ)
  else
    ob (o_gR σ [24] 7 (some a0)) fun x3 =>
    ob (o_gR σ [27] 7 x3) fun x4 =>
    ob (o_aR σ 9 x4 l2) fun x5 =>
    ob (o_at σ [34, 35, 36] x5) fun a8 =>
    bd (if (m_T σ a8).1 = 34 then f_X18_isTrue N a8 (some a0) σ else if (m_T σ a8).1 = 35 then f_X19_isTrue N a8 (some a0) σ else f_X20_isTrue N a8 (some a0) σ) fun x6 σ7 =>
    if x6 = 0 then
      ob (o_gR σ7 [24] 7 (some a0)) fun x9 =>
      ob (o_gR σ7 [27] 7 x9) fun x10 =>
      ob (o_aR σ7 9 x10 l2) fun x11 =>
      ob (o_gI σ7 [34, 35, 36] 107 x11) fun x12 =>
      f_X5_trueGoats_b56 N K10 a0 (l1 &&& (((1 : Int32) <<< (x12 &&& 31)) ^^^ (-1 : Int32))) l2 σ7
    else
      f_X5_trueGoats_b56 N K10 a0 l1 l2 σ7
def f_X5_trueGoats_b10 (N : Nat)  : Nat → Nat → Int32 → Int32 → Mem → Option (Int32 × Mem)
  | 0, _, _, _, _ => none
  | n + 1, a0, l1, l2, σ => f_X5_trueGoats_b10B N  (f_X5_trueGoats_b10 N  n) a0 l1 l2 σ
def f_X5_trueGoats (N : Nat) (a0 : Nat) (σ : Mem) : Option (Int32 × Mem) :=
  ob (o_gR σ [24] 7 (some a0)) fun x1 =>
  ob (o_at σ [27] x1) fun a4 =>
  bd (f_X8_clueGoats N a4  σ) fun x2 σ3 =>
  f_X5_trueGoats_b10 N  N a0 x2 (0 : Int32) σ3
def f_X1_layTruth_b2B (N : Nat)  (K2 : Nat → Int32 → Mem → Option (Unit × Mem)) (a0 : Nat) (l1 : Int32) (σ : Mem) : Option (Unit × Mem) :=
  ob (o_gR σ [20] 3 (some a0)) fun x1 =>
  ob (o_at σ [27] x1) fun a4 =>
  bd (f_X8_cases N a4  σ) fun x2 σ3 =>
  if x2 ≤ l1 then
    some ((), σ3)
  else
    ob (o_at σ3 [20] (some a0)) fun a7 =>
    bd (f_X1_run N a7 l1 σ3) fun _ σ6 =>
    ob (o_gR σ6 [20] 16 (some a0)) fun x8 =>
    ob (o_gR σ6 [20] 12 (some a0)) fun x9 =>
    ob (o_at σ6 [24] x9) fun a12 =>
    bd (f_X5_trueGoats N a12  σ6) fun x10 σ11 =>
    ob (o_sI σ11 1 x8 l1 x10) fun σ13 =>
    K2 a0 (l1 + (1 : Int32)) σ13
def f_X1_layTruth_b2 (N : Nat)  : Nat → Nat → Int32 → Mem → Option (Unit × Mem)
  | 0, _, _, _ => none
  | n + 1, a0, l1, σ => f_X1_layTruth_b2B N  (f_X1_layTruth_b2 N  n) a0 l1 σ
def f_X1_layTruth (N : Nat) (a0 : Nat) (σ : Mem) : Option (Unit × Mem) :=
  f_X1_layTruth_b2 N  N a0 (0 : Int32) σ
def f_X1_layFits_b64 (N : Nat) (K17 : Nat → Int32 → Int32 → Mem → Option (Unit × Mem)) (a0 : Nat) (l2 : Int32) (l3 : Int32) (σ : Mem) : Option (Unit × Mem) :=
  K17 a0 l2 (l3 + (1 : Int32)) σ
def f_X1_layFits_b17B (N : Nat)  (K17 : Nat → Int32 → Int32 → Mem → Option (Unit × Mem)) (a0 : Nat) (l2 : Int32) (l3 : Int32) (σ : Mem) : Option (Unit × Mem) :=
  ob (o_gR σ [20] 3 (some a0)) fun x1 =>
  ob (o_at σ [27] x1) fun a4 =>
  bd (f_X8_cases N a4  σ) fun x2 σ3 =>
  if x2 ≤ l3 then
    some ((), σ3)
  else
    ob (o_gR σ3 [20] 16 (some a0)) fun x5 =>
    ob (o_aI σ3 1 x5 l3) fun x6 =>
    if (l2 &&& (x6 ^^^ (-1 : Int32))) = 0 then
      ob (o_gR σ3 [20] 17 (some a0)) fun x7 =>
      ob (o_gI σ3 [20] 18 (some a0)) fun x8 =>
      ob (o_sI σ3 1 x7 x8 l3) fun σ9 =>
      ob (o_gI σ9 [20] 18 (some a0)) fun x10 =>
      ob (o_pI σ9 0 [20] 18 (some a0) (x10 + (1 : Int32))) fun σ11 =>
      f_X1_layFits_b64 N K17 a0 l2 l3 σ11
    else
      f_X1_layFits_b64 N K17 a0 l2 l3 σ3
def f_X1_layFits_b17 (N : Nat)  : Nat → Nat → Int32 → Int32 → Mem → Option (Unit × Mem)
  | 0, _, _, _, _ => none
  | n + 1, a0, l2, l3, σ => f_X1_layFits_b17B N  (f_X1_layFits_b17 N  n) a0 l2 l3 σ
def f_X1_layFits (N : Nat) (a0 : Nat) (i1 : Int32) (σ : Mem) : Option (Unit × Mem) :=
  ob (o_gR σ [20] 3 (some a0)) fun x1 =>
  ob (o_at σ [27] x1) fun a4 =>
  bd (f_X8_clueGoats N a4  σ) fun x2 σ3 =>
  ob (o_pI σ3 0 [20] 18 (some a0) (0 : Int32)) fun σ5 =>
  f_X1_layFits_b17 N  N a0 (i1 &&& x2) (0 : Int32) σ5
def f_X1_layHeard (N : Nat) (a0 : Nat) (σ : Mem) : Option (Unit × Mem) :=
  ob (o_at σ [20] (some a0)) fun a3 =>
  bd (f_X1_layTruth N a3  σ) fun _ σ2 =>
  ob (o_gR σ2 [20] 9 (some a0)) fun x4 =>
  ob (o_gI σ2 [23] 3 x4) fun x5 =>
  ob (o_at σ2 [20] (some a0)) fun a8 =>
  bd (f_X1_layFits N a8 x5 σ2) fun _ σ7 =>
  some ((), σ7)
def f_X1_fits (N : Nat) (a0 : Nat) (σ : Mem) : Option (Int32 × Mem) :=
  ob (o_at σ [20] (some a0)) fun a3 =>
  bd (f_X1_anew N a3  σ) fun _ σ2 =>
  ob (o_gR σ2 [20] 3 (some a0)) fun x4 =>
  if x4 = none then
    ob (o_at σ2 [20] (some a0)) fun a11 =>
    bd (f_X1_no N a11 (1 : Int32) σ2) fun x9 σ10 =>
    some (x9, σ10)
  else
    ob (o_at σ2 [20] (some a0)) fun a7 =>
    bd (f_X1_layHeard N a7  σ2) fun _ σ6 =>
    ob (o_gI σ6 [20] 18 (some a0)) fun x8 =>
    some (x8, σ6)
def f_X7_laysHonest_b69 (N : Nat) (K2 : Nat → Int32 → Mem → Option (Unit × Mem)) (K28 : Nat → Int32 → Int32 → Mem → Option (Unit × Mem)) (a0 : Nat) (l1 : Int32) (l2 : Int32) (σ : Mem) : Option (Unit × Mem) :=
  K28 a0 l1 (l2 + (1 : Int32)) σ
def f_X7_laysHonest_b28B (N : Nat) (K2 : Nat → Int32 → Mem → Option (Unit × Mem)) (K28 : Nat → Int32 → Int32 → Mem → Option (Unit × Mem)) (a0 : Nat) (l1 : Int32) (l2 : Int32) (σ : Mem) : Option (Unit × Mem) :=
  ob (o_gR σ [26] 3 (some a0)) fun x1 =>
  ob (o_gI σ [40] 7 x1) fun x2 =>
  if x2 ≤ l2 then
    K2 a0 (l1 + (1 : Int32)) σ
  else
    ob (o_at σ [26] (some a0)) fun a5 =>
    bd (f_X7_holdsNow N a5 l2 σ) fun x3 σ4 =>
    if x3 = 0 then
      ob (o_gR σ4 [26] 29 (some a0)) fun x6 =>
      ob (o_aI σ4 1 x6 l1) fun x7 =>
      ob (o_gR σ4 [26] 3 (some a0)) fun x8 =>
      ob (o_gR σ4 [40] 29 x8) fun x9 =>
      ob (o_aI σ4 1 x9 l2) fun x10 =>
      ob (o_sI σ4 1 x6 l1 (x7 &&& (((1 : Int32) <<< (x10 &&& 31)) ^^^ (-1 : Int32)))) fun σ11 =>
      f_X7_laysHonest_b69 N K2 K28 a0 l1 l2 σ11
    else
      f_X7_laysHonest_b69 N K2 K28 a0 l1 l2 σ4
def f_X7_laysHonest_b28 (N : Nat) (K2 : Nat → Int32 → Mem → Option (Unit × Mem)) : Nat → Nat → Int32 → Int32 → Mem → Option (Unit × Mem)
  | 0, _, _, _, _ => none
  | n + 1, a0, l1, l2, σ => f_X7_laysHonest_b28B N K2 (f_X7_laysHonest_b28 N K2 n) a0 l1 l2 σ
def f_X7_laysHonest_b2B (N : Nat)  (K2 : Nat → Int32 → Mem → Option (Unit × Mem)) (a0 : Nat) (l1 : Int32) (σ : Mem) : Option (Unit × Mem) :=
  ob (o_gR σ [26] 3 (some a0)) fun x1 =>
  ob (o_at σ [40] x1) fun a4 =>
  bd (f_X24_cases N a4  σ) fun x2 σ3 =>
  if x2 ≤ l1 then
    some ((), σ3)
  else
    ob (o_at σ3 [26] (some a0)) fun a7 =>
    bd (f_X7_day N a7 l1 σ3) fun _ σ6 =>
    ob (o_gR σ6 [26] 29 (some a0)) fun x8 =>
    ob (o_sI σ6 1 x8 l1 (63 : Int32)) fun σ9 =>
    f_X7_laysHonest_b28 N K2 N a0 l1 (0 : Int32) σ9
def f_X7_laysHonest_b2 (N : Nat)  : Nat → Nat → Int32 → Mem → Option (Unit × Mem)
  | 0, _, _, _ => none
  | n + 1, a0, l1, σ => f_X7_laysHonest_b2B N  (f_X7_laysHonest_b2 N  n) a0 l1 σ
def f_X7_laysHonest (N : Nat) (a0 : Nat) (σ : Mem) : Option (Unit × Mem) :=
  f_X7_laysHonest_b2 N  N a0 (0 : Int32) σ
def f_X7_allGoats (N : Nat) (a0 : Nat) (σ : Mem) : Option (Int32 × Mem) :=
  ob (o_gR σ [26] 3 (some a0)) fun x1 =>
  ob (o_gI σ [40] 5 x1) fun x2 =>
  some ((((1 : Int32) <<< (x2 &&& 31)) - (1 : Int32)), σ)
def f_X7_heard (N : Nat) (a0 : Nat) (σ : Mem) : Option (Int32 × Mem) :=
  ob (o_gR σ [26] 18 (some a0)) fun x1 =>
  ob (o_aI σ 1 x1 (17 : Int32)) fun x2 =>
  ob (o_at σ [26] (some a0)) fun a5 =>
  bd (f_X7_allGoats N a5  σ) fun x3 σ4 =>
  some ((x2 &&& x3), σ4)
def f_X7_areTrue (N : Nat) (a0 : Nat) (i1 : Int32) (i2 : Int32) (σ : Mem) : Option (Int32 × Mem) :=
  ob (o_gR σ [26] 29 (some a0)) fun x1 =>
  ob (o_aI σ 1 x1 i1) fun x2 =>
  if (i2 &&& (x2 ^^^ (-1 : Int32))) = 0 then
    ob (o_nr 1 (1 : Int32)) fun _ => some ((1 : Int32), σ)
  else
    ob (o_nr 1 (0 : Int32)) fun _ => some ((0 : Int32), σ)
