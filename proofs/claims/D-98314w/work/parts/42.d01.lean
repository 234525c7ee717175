/-! what the methods compute -/
set_option maxRecDepth 100000
def f_X2_line_b525 (N : Nat)  (a0 : Nat) (σ : Mem) : Option ((Unit ⊕ Ex) × Mem) :=
  ob (o_at σ [21] (some a0)) fun a3 =>
  bx (f_X2_clue N a3  σ) fun _ σ2 =>
  some (Sum.inl (), σ2)
def f_X2_line_b395 (N : Nat)  (a0 : Nat) (l2 : Int32) (σ : Mem) : Option ((Unit ⊕ Ex) × Mem) :=
  if l2 = (0 : Int32) then
    ob (o_at σ [21] (some a0)) fun a3 =>
    bx (f_X2_hillLine N a3  σ) fun _ σ2 =>
    some (Sum.inl (), σ2)
  else if l2 = (1 : Int32) then
    ob (o_at σ [21] (some a0)) fun a6 =>
    bx (f_X2_placeLine N a6  σ) fun _ σ5 =>
    some (Sum.inl (), σ5)
  else if l2 = (2 : Int32) then
    ob (o_at σ [21] (some a0)) fun a9 =>
    bx (f_X2_path N a9  σ) fun _ σ8 =>
    some (Sum.inl (), σ8)
  else if l2 = (3 : Int32) then
    ob (o_at σ [21] (some a0)) fun a12 =>
    bx (f_X2_person N a12  σ) fun _ σ11 =>
    some (Sum.inl (), σ11)
  else if l2 = (4 : Int32) then
    ob (o_at σ [21] (some a0)) fun a15 =>
    bx (f_X2_story N a15  σ) fun _ σ14 =>
    some (Sum.inl (), σ14)
  else if l2 = (5 : Int32) then
    ob (o_at σ [21] (some a0)) fun a18 =>
    bx (f_X2_goatLine N a18  σ) fun _ σ17 =>
    some (Sum.inl (), σ17)
  else if l2 = (6 : Int32) then
    ob (o_at σ [21] (some a0)) fun a21 =>
    bx (f_X2_fears N a21  σ) fun _ σ20 =>
    some (Sum.inl (), σ20)
  else if l2 = (7 : Int32) then
    f_X2_line_b525 N  a0 σ
  else if l2 = (8 : Int32) then
    f_X2_line_b525 N  a0 σ
  else if l2 = (9 : Int32) then
    f_X2_line_b525 N  a0 σ
  else if l2 = (10 : Int32) then
    ob (o_at σ [21] (some a0)) fun a24 =>
    bx (f_X2_factLine N a24  σ) fun _ σ23 =>
    some (Sum.inl (), σ23)
  else if l2 = (11 : Int32) then
    ob (o_at σ [21] (some a0)) fun a27 =>
    bx (f_X2_holds N a27  σ) fun _ σ26 =>
    some (Sum.inl (), σ26)
  else if l2 = (12 : Int32) then
    ob (o_at σ [21] (some a0)) fun a30 =>
    bx (f_X2_rule N a30  σ) fun _ σ29 =>
    some (Sum.inl (), σ29)
  else if l2 = (13 : Int32) then
    ob (o_at σ [21] (some a0)) fun a33 =>
    bx (f_X2_proof N a33  σ) fun _ σ32 =>
    some (Sum.inl (), σ32)
  else if l2 = (14 : Int32) then
    ob (o_at σ [21] (some a0)) fun a36 =>
    bx (f_X2_court N a36  σ) fun _ σ35 =>
    some (Sum.inl (), σ35)
  else if l2 = (15 : Int32) then
    ob (o_at σ [21] (some a0)) fun a39 =>
    bx (f_X2_cheese N a39  σ) fun _ σ38 =>
    some (Sum.inl (), σ38)
  else
    ob (o_at σ [21] (some a0)) fun a42 =>
    bd (f_X2_fail N a42 (1 : Int32) σ) fun x40 σ41 =>
    o_th σ41 2 "GoatCourt$Refused" x40
def f_X2_line (N : Nat) (a0 : Nat) (σ : Mem) : Option ((Unit ⊕ Ex) × Mem) :=
  ob (o_gI σ [21] 5 (some a0)) fun x1 =>
  if x1 = (2 : Int32) then
    ob (o_gR σ [21] 8 (some a0)) fun x2 =>
    ob (o_at σ [41] x2) fun a5 =>
    bd (f_J3_hashCode N a5  σ) fun x3 σ4 =>
    if x3 = (-1361525545 : Int32) then
      ob (o_at σ4 [41] x2) fun a8 =>
      bd (f_J3_equals N a8 (some 32) σ4) fun x6 σ7 =>
      if x6 = 0 then
        f_X2_line_b395 N  a0 (-1 : Int32) σ7
      else
        f_X2_line_b395 N  a0 (15 : Int32) σ7
    else if x3 = (-991716523 : Int32) then
      ob (o_at σ4 [41] x2) fun a11 =>
      bd (f_J3_equals N a11 (some 8) σ4) fun x9 σ10 =>
      if x9 = 0 then
        f_X2_line_b395 N  a0 (-1 : Int32) σ10
      else
        f_X2_line_b395 N  a0 (3 : Int32) σ10
    else if x3 = (3135084 : Int32) then
      ob (o_at σ4 [41] x2) fun a14 =>
      bd (f_J3_equals N a14 (some 22) σ4) fun x12 σ13 =>
      if x12 = 0 then
        f_X2_line_b395 N  a0 (-1 : Int32) σ13
      else
        f_X2_line_b395 N  a0 (10 : Int32) σ13
    else if x3 = (3178267 : Int32) then
      ob (o_at σ4 [41] x2) fun a17 =>
      bd (f_J3_equals N a17 (some 12) σ4) fun x15 σ16 =>
      if x15 = 0 then
        f_X2_line_b395 N  a0 (-1 : Int32) σ16
      else
        f_X2_line_b395 N  a0 (5 : Int32) σ16
    else if x3 = (3202625 : Int32) then
      ob (o_at σ4 [41] x2) fun a20 =>
      bd (f_J3_equals N a20 (some 2) σ4) fun x18 σ19 =>
      if x18 = 0 then
        f_X2_line_b395 N  a0 (-1 : Int32) σ19
      else
        f_X2_line_b395 N  a0 (0 : Int32) σ19
    else if x3 = (3433509 : Int32) then
      ob (o_at σ4 [41] x2) fun a23 =>
      bd (f_J3_equals N a23 (some 6) σ4) fun x21 σ22 =>
      if x21 = 0 then
        f_X2_line_b395 N  a0 (-1 : Int32) σ22
      else
        f_X2_line_b395 N  a0 (2 : Int32) σ22
    else if x3 = (3512060 : Int32) then
      ob (o_at σ4 [41] x2) fun a26 =>
      bd (f_J3_equals N a26 (some 26) σ4) fun x24 σ25 =>
      if x24 = 0 then
        f_X2_line_b395 N  a0 (-1 : Int32) σ25
      else
        f_X2_line_b395 N  a0 (12 : Int32) σ25
    else if x3 = (3526267 : Int32) then
      ob (o_at σ4 [41] x2) fun a29 =>
      bd (f_J3_equals N a29 (some 18) σ4) fun x27 σ28 =>
      if x27 = 0 then
        f_X2_line_b395 N  a0 (-1 : Int32) σ28
      else
        f_X2_line_b395 N  a0 (8 : Int32) σ28
    else if x3 = (94851467 : Int32) then
      ob (o_at σ4 [41] x2) fun a32 =>
      bd (f_J3_equals N a32 (some 30) σ4) fun x30 σ31 =>
      if x30 = 0 then
        f_X2_line_b395 N  a0 (-1 : Int32) σ31
      else
        f_X2_line_b395 N  a0 (14 : Int32) σ31
    else if x3 = (97304899 : Int32) then
      ob (o_at σ4 [41] x2) fun a35 =>
      bd (f_J3_equals N a35 (some 14) σ4) fun x33 σ34 =>
      if x33 = 0 then
        f_X2_line_b395 N  a0 (-1 : Int32) σ34
      else
        f_X2_line_b395 N  a0 (6 : Int32) σ34
    else if x3 = (97621890 : Int32) then
      ob (o_at σ4 [41] x2) fun a38 =>
      bd (f_J3_equals N a38 (some 16) σ4) fun x36 σ37 =>
      if x36 = 0 then
        f_X2_line_b395 N  a0 (-1 : Int32) σ37
      else
        f_X2_line_b395 N  a0 (7 : Int32) σ37
    else if x3 = (99459988 : Int32) then
      ob (o_at σ4 [41] x2) fun a41 =>
      bd (f_J3_equals N a41 (some 24) σ4) fun x39 σ40 =>
      if x39 = 0 then
        f_X2_line_b395 N  a0 (-1 : Int32) σ40
      else
        f_X2_line_b395 N  a0 (11 : Int32) σ40
    else if x3 = (106748167 : Int32) then
      ob (o_at σ4 [41] x2) fun a44 =>
      bd (f_J3_equals N a44 (some 4) σ4) fun x42 σ43 =>
      if x42 = 0 then
        f_X2_line_b395 N  a0 (-1 : Int32) σ43
      else
        f_X2_line_b395 N  a0 (1 : Int32) σ43
    else if x3 = (106940740 : Int32) then
      ob (o_at σ4 [41] x2) fun a47 =>
      bd (f_J3_equals N a47 (some 28) σ4) fun x45 σ46 =>
      if x45 = 0 then
        f_X2_line_b395 N  a0 (-1 : Int32) σ46
      else
        f_X2_line_b395 N  a0 (13 : Int32) σ46
    else if x3 = (109407315 : Int32) then
      ob (o_at σ4 [41] x2) fun a50 =>
      bd (f_J3_equals N a50 (some 20) σ4) fun x48 σ49 =>
      if x48 = 0 then
        f_X2_line_b395 N  a0 (-1 : Int32) σ49
      else
        f_X2_line_b395 N  a0 (9 : Int32) σ49
    else if x3 = (109770997 : Int32) then
      ob (o_at σ4 [41] x2) fun a53 =>
      bd (f_J3_equals N a53 (some 10) σ4) fun x51 σ52 =>
      if x51 = 0 then
        f_X2_line_b395 N  a0 (-1 : Int32) σ52
      else
        f_X2_line_b395 N  a0 (4 : Int32) σ52
    else
      f_X2_line_b395 N  a0 (-1 : Int32) σ4
  else
    ob (o_at σ [21] (some a0)) fun a56 =>
    bd (f_X2_fail N a56 (1 : Int32) σ) fun x54 σ55 =>
    o_th σ55 2 "GoatCourt$Refused" x54
def f_X2_read_b82 (N : Nat)  (a0 : Nat) (σ : Mem) : Option (((Option Nat) ⊕ Ex) × Mem) :=
  ob (o_at σ [21] (some a0)) fun a3 =>
  bd (f_X2_fail N a3 (6 : Int32) σ) fun x1 σ2 =>
  o_th σ2 2 "GoatCourt$Refused" x1
def f_X2_read_b29B (N : Nat)  (K29 : Nat → Mem → Option (((Option Nat) ⊕ Ex) × Mem)) (a0 : Nat) (σ : Mem) : Option (((Option Nat) ⊕ Ex) × Mem) :=
  ob (o_gI σ [21] 5 (some a0)) fun x1 =>
  if x1 = (59 : Int32) then
    ob (o_at σ [21] (some a0)) fun a13 =>
    bd (f_X2_next N a13  σ) fun _ σ12 =>
    ob (o_at σ12 [21] (some a0)) fun a16 =>
    bx (f_X2_line N a16  σ12) fun _ σ15 =>
    K29 a0 σ15
  else
    ob (o_gI σ [21] 5 (some a0)) fun x2 =>
    if x2 = 0 then
      ob (o_gR σ [21] 9 (some a0)) fun x3 =>
      ob (o_gI σ [27] 11 x3) fun x4 =>
      if x4 = 0 then
        f_X2_read_b82 N  a0 σ
      else
        ob (o_gR σ [21] 9 (some a0)) fun x5 =>
        ob (o_gI σ [27] 13 x5) fun x6 =>
        if x6 = 0 then
          f_X2_read_b82 N  a0 σ
        else
          ob (o_gR σ [21] 9 (some a0)) fun x7 =>
          some (Sum.inl x7, σ)
    else
      ob (o_at σ [21] (some a0)) fun a10 =>
      bd (f_X2_fail N a10 (1 : Int32) σ) fun x8 σ9 =>
      o_th σ9 2 "GoatCourt$Refused" x8
def f_X2_read_b29 (N : Nat)  : Nat → Nat → Mem → Option (((Option Nat) ⊕ Ex) × Mem)
  | 0, _, _ => none
  | n + 1, a0, σ => f_X2_read_b29B N  (f_X2_read_b29 N  n) a0 σ
def f_X2_read (N : Nat) (a0 : Nat) (i1 : Int32) (σ : Mem) : Option (((Option Nat) ⊕ Ex) × Mem) :=
  ob (o_pI σ 0 [21] 3 (some a0) i1) fun σ1 =>
  ob (o_pI σ1 0 [21] 4 (some a0) (0 : Int32)) fun σ2 =>
  o_no σ2 27 24 fun a3 σ4 =>
  bd (f_X8_init N a3  σ4) fun _ σ6 =>
  ob (o_pR σ6 [21] 9 (some a0) (some a3)) fun σ7 =>
  ob (o_at σ7 [21] (some a0)) fun a10 =>
  bd (f_X2_next N a10  σ7) fun _ σ9 =>
  ob (o_at σ9 [21] (some a0)) fun a13 =>
  bx (f_X2_line N a13  σ9) fun _ σ12 =>
  f_X2_read_b29 N  N a0 σ12
def f_X4_begin_b2B (N : Nat)  (K2 : Nat → Option Nat → Int32 → Mem → Option (Unit × Mem)) (a0 : Nat) (l1 : Option Nat) (l2 : Int32) (σ : Mem) : Option (Unit × Mem) :=
  if (12 : Int32) ≤ l2 then
    ob (o_pI σ 0 [23] 2 (some a0) (0 : Int32)) fun σ1 =>
    ob (o_gI σ1 [27] 16 l1) fun x2 =>
    ob (o_pI σ1 0 [23] 3 (some a0) (((1 : Int32) <<< (x2 &&& 31)) - (1 : Int32))) fun σ3 =>
    some ((), σ3)
  else
    ob (o_gR σ [23] 0 (some a0)) fun x4 =>
    ob (o_sI σ 1 x4 l2 (0 : Int32)) fun σ5 =>
    ob (o_gR σ5 [23] 1 (some a0)) fun x6 =>
    ob (o_sI σ5 1 x6 l2 (0 : Int32)) fun σ7 =>
    K2 a0 l1 (l2 + (1 : Int32)) σ7
def f_X4_begin_b2 (N : Nat)  : Nat → Nat → Option Nat → Int32 → Mem → Option (Unit × Mem)
  | 0, _, _, _, _ => none
  | n + 1, a0, l1, l2, σ => f_X4_begin_b2B N  (f_X4_begin_b2 N  n) a0 l1 l2 σ
def f_X4_begin (N : Nat) (a0 : Nat) (o1 : Option Nat) (σ : Mem) : Option (Unit × Mem) :=
  f_X4_begin_b2 N  N a0 o1 (0 : Int32) σ
def f_X8_cases_b4B (N : Nat)  (K4 : Nat → Int32 → Int32 → Mem → Option (Int32 × Mem)) (a0 : Nat) (l1 : Int32) (l2 : Int32) (σ : Mem) : Option (Int32 × Mem) :=
  ob (o_gI σ [27] 15 (some a0)) fun x1 =>
  if x1 ≤ l2 then
    some (l1, σ)
  else
    ob (o_gR σ [27] 5 (some a0)) fun x2 =>
    ob (o_aR σ 7 x2 l2) fun x3 =>
    ob (o_gI σ [29] 2 x3) fun x4 =>
    K4 a0 (l1 * (if (1 : Int32) < x4 then x4 else (1 : Int32))) (l2 + (1 : Int32)) σ
def f_X8_cases_b4 (N : Nat)  : Nat → Nat → Int32 → Int32 → Mem → Option (Int32 × Mem)
  | 0, _, _, _, _ => none
  | n + 1, a0, l1, l2, σ => f_X8_cases_b4B N  (f_X8_cases_b4 N  n) a0 l1 l2 σ
def f_X8_cases (N : Nat) (a0 : Nat) (σ : Mem) : Option (Int32 × Mem) :=
  f_X8_cases_b4 N  N a0 (1 : Int32) (0 : Int32) σ
def f_X1_hill (N : Nat) (a0 : Nat) (i1 : Int32) (σ : Mem) : Option (Int32 × Mem) :=
  ob (o_at σ [20] (some a0)) fun a3 =>
  bd (f_X1_anew N a3  σ) fun _ σ2 =>
  ob (o_gI σ2 [20] 1 (some a0)) fun x4 =>
  bd (f_X1_in N i1 (0 : Int32) x4 σ2) fun x5 σ6 =>
  if x5 = 0 then
    ob (o_at σ6 [20] (some a0)) fun a36 =>
    bd (f_X1_no N a36 (2 : Int32) σ6) fun x34 σ35 =>
    some (x34, σ35)
  else
    ob (o_pI σ6 0 [20] 1 (some a0) (0 : Int32)) fun σ7 =>
    ob (o_pI σ7 0 [20] 5 (some a0) (0 : Int32)) fun σ8 =>
    ob (o_gR σ8 [20] 2 (some a0)) fun x9 =>
    ob (o_at σ8 [21] x9) fun a12 =>
    bh "GoatCourt$Refused" (f_X2_read N a12 i1 σ8) (fun e13 σ14 =>
      ob (o_gI σ14 [22] 0 (some e13)) fun x15 =>
      ob (o_pI σ14 0 [20] 5 (some a0) x15) fun σ16 =>
      ob (o_gI σ16 [22] 1 (some e13)) fun x17 =>
      ob (o_pI σ16 0 [20] 6 (some a0) x17) fun σ18 =>
      ob (o_at σ18 [20] (some a0)) fun a21 =>
      bd (f_X1_no N a21 (4 : Int32) σ18) fun x19 σ20 =>
      some (x19, σ20))
    fun x10 σ11 =>
    ob (o_pR σ11 [20] 3 (some a0) x10) fun σ22 =>
    ob (o_gR σ22 [20] 9 (some a0)) fun x23 =>
    ob (o_gR σ22 [20] 3 (some a0)) fun x24 =>
    ob (o_at σ22 [23] x23) fun a27 =>
    bd (f_X4_begin N a27 x24 σ22) fun _ σ26 =>
    ob (o_pI σ26 0 [20] 8 (some a0) (0 : Int32)) fun σ28 =>
    ob (o_pI σ28 0 [20] 7 (some a0) (0 : Int32)) fun σ29 =>
    ob (o_gR σ29 [20] 3 (some a0)) fun x30 =>
    ob (o_at σ29 [27] x30) fun a33 =>
    bd (f_X8_cases N a33  σ29) fun x31 σ32 =>
    some (x31, σ32)
def f_X7_refused (N : Nat) (a0 : Nat) (i1 : Int32) (σ : Mem) : Option (Int32 × Mem) :=
  ob (o_pI σ 0 [26] 1 (some a0) i1) fun σ1 =>
  ob (o_pI σ1 0 [26] 2 (some a0) (-1 : Int32)) fun σ2 =>
  some ((-1 : Int32), σ2)
def f_X24_init (N : Nat) (a0 : Nat) (σ : Mem) : Option (Unit × Mem) :=
  o_na σ 1 (32 : Int32) fun a1 σ2 =>
  ob (o_pR σ2 [40] 16 (some a0) (some a1)) fun σ3 =>
  o_na σ3 1 (14 : Int32) fun a4 σ5 =>
  ob (o_pR σ5 [40] 17 (some a0) (some a4)) fun σ6 =>
  o_na σ6 1 (14 : Int32) fun a7 σ8 =>
  ob (o_pR σ8 [40] 18 (some a0) (some a7)) fun σ9 =>
  o_na σ9 1 (4 : Int32) fun a10 σ11 =>
  ob (o_pR σ11 [40] 19 (some a0) (some a10)) fun σ12 =>
  o_na σ12 1 (144 : Int32) fun a13 σ14 =>
  ob (o_pR σ14 [40] 20 (some a0) (some a13)) fun σ15 =>
  o_na σ15 1 (6 : Int32) fun a16 σ17 =>
  ob (o_pR σ17 [40] 21 (some a0) (some a16)) fun σ18 =>
  o_na σ18 1 (6 : Int32) fun a19 σ20 =>
  ob (o_pR σ20 [40] 22 (some a0) (some a19)) fun σ21 =>
  o_na σ21 1 (6 : Int32) fun a22 σ23 =>
  ob (o_pR σ23 [40] 23 (some a0) (some a22)) fun σ24 =>
  o_na σ24 1 (24 : Int32) fun a25 σ26 =>
  ob (o_pR σ26 [40] 24 (some a0) (some a25)) fun σ27 =>
  o_na σ27 1 (6 : Int32) fun a28 σ29 =>
  ob (o_pR σ29 [40] 25 (some a0) (some a28)) fun σ30 =>
  o_na σ30 1 (6 : Int32) fun a31 σ32 =>
  ob (o_pR σ32 [40] 26 (some a0) (some a31)) fun σ33 =>
  o_na σ33 1 (6 : Int32) fun a34 σ35 =>
  ob (o_pR σ35 [40] 27 (some a0) (some a34)) fun σ36 =>
  o_na σ36 1 (10 : Int32) fun a37 σ38 =>
  ob (o_pR σ38 [40] 28 (some a0) (some a37)) fun σ39 =>
  o_na σ39 1 (10 : Int32) fun a40 σ41 =>
  ob (o_pR σ41 [40] 29 (some a0) (some a40)) fun σ42 =>
  o_na σ42 1 (10 : Int32) fun a43 σ44 =>
  ob (o_pR σ44 [40] 30 (some a0) (some a43)) fun σ45 =>
  o_na σ45 1 (10 : Int32) fun a46 σ47 =>
  ob (o_pR σ47 [40] 31 (some a0) (some a46)) fun σ48 =>
  o_na σ48 1 (8 : Int32) fun a49 σ50 =>
  ob (o_pR σ50 [40] 32 (some a0) (some a49)) fun σ51 =>
  o_na σ51 1 (8 : Int32) fun a52 σ53 =>
  ob (o_pR σ53 [40] 33 (some a0) (some a52)) fun σ54 =>
  o_na σ54 1 (8 : Int32) fun a55 σ56 =>
  ob (o_pR σ56 [40] 34 (some a0) (some a55)) fun σ57 =>
  o_na σ57 1 (6 : Int32) fun a58 σ59 =>
  ob (o_pR σ59 [40] 35 (some a0) (some a58)) fun σ60 =>
  o_na σ60 1 (6 : Int32) fun a61 σ62 =>
  ob (o_pR σ62 [40] 36 (some a0) (some a61)) fun σ63 =>
  o_na σ63 1 (4 : Int32) fun a64 σ65 =>
  ob (o_pR σ65 [40] 37 (some a0) (some a64)) fun σ66 =>
  o_na σ66 4 (40 : Int32) fun a67 σ68 =>
  ob (o_pR σ68 [40] 38 (some a0) (some a67)) fun σ69 =>
  o_na σ69 1 (40 : Int32) fun a70 σ71 =>
  ob (o_pR σ71 [40] 39 (some a0) (some a70)) fun σ72 =>
  o_na σ72 1 (40 : Int32) fun a73 σ74 =>
  ob (o_pR σ74 [40] 40 (some a0) (some a73)) fun σ75 =>
  some ((), σ75)
def f_X7_byteAt (N : Nat) (a0 : Nat) (i1 : Int32) (σ : Mem) : Option (Int32 × Mem) :=
  ob (o_gI σ [26] 7 (some a0)) fun x1 =>
  if x1 ≤ i1 then
    some ((-1 : Int32), σ)
  else
    ob (o_gR σ [26] 5 (some a0)) fun x2 =>
    ob (o_aI σ 2 x2 i1) fun x3 =>
    some ((x3 &&& (255 : Int32)), σ)
def f_X7_isLetter_b16 (N : Nat)   (σ : Mem) : Option (Int32 × Mem) :=
  ob (o_nr 1 (0 : Int32)) fun _ => some ((0 : Int32), σ)
def f_X7_isLetter (N : Nat) (i0 : Int32) (σ : Mem) : Option (Int32 × Mem) :=
  if i0 < (97 : Int32) then
    f_X7_isLetter_b16 N   σ
  else
    if (122 : Int32) < i0 then
      f_X7_isLetter_b16 N   σ
    else
      ob (o_nr 1 (1 : Int32)) fun _ => some ((1 : Int32), σ)
def f_X7_isDigit_b16 (N : Nat)   (σ : Mem) : Option (Int32 × Mem) :=
  ob (o_nr 1 (0 : Int32)) fun _ => some ((0 : Int32), σ)
def f_X7_isDigit (N : Nat) (i0 : Int32) (σ : Mem) : Option (Int32 × Mem) :=
  if i0 < (48 : Int32) then
    f_X7_isDigit_b16 N   σ
  else
    if (57 : Int32) < i0 then
      f_X7_isDigit_b16 N   σ
    else
      ob (o_nr 1 (1 : Int32)) fun _ => some ((1 : Int32), σ)
def f_X7_goesOn_b278 (N : Nat)  (a0 : Nat) (l1 : Int32) (σ : Mem) : Option (Unit × Mem) :=
  ob (o_pI σ 0 [26] 9 (some a0) (4 : Int32)) fun σ1 =>
  ob (o_pI σ1 0 [26] 11 (some a0) l1) fun σ2 =>
  ob (o_gI σ2 [26] 8 (some a0)) fun x3 =>
  ob (o_pI σ2 0 [26] 8 (some a0) (x3 + (1 : Int32))) fun σ4 =>
  some ((), σ4)
def f_X7_goesOn_b237 (N : Nat) (K195 : Nat → Int32 → Mem → Option (Unit × Mem)) (a0 : Nat) (l2 : Int32) (σ : Mem) : Option (Unit × Mem) :=
  ob (o_gI σ [26] 8 (some a0)) fun x1 =>
  ob (o_pI σ 0 [26] 8 (some a0) (x1 + (1 : Int32))) fun σ2 =>
  K195 a0 (l2 + (1 : Int32)) σ2
def f_X7_goesOn_b195B (N : Nat)  (K195 : Nat → Int32 → Mem → Option (Unit × Mem)) (a0 : Nat) (l2 : Int32) (σ : Mem) : Option (Unit × Mem) :=
  ob (o_gI σ [26] 8 (some a0)) fun x1 =>
  ob (o_at σ [26] (some a0)) fun a4 =>
  bd (f_X7_byteAt N a4 x1 σ) fun x2 σ3 =>
  bd (f_X7_isDigit N x2 σ3) fun x5 σ6 =>
  if x5 = 0 then
    if (3 : Int32) < l2 then
      some ((), σ6)
    else
      ob (o_pI σ6 0 [26] 9 (some a0) (3 : Int32)) fun σ7 =>
      some ((), σ7)
  else
    if (3 : Int32) ≤ l2 then
      f_X7_goesOn_b237 N K195 a0 l2 σ6
    else
      ob (o_gI σ6 [26] 12 (some a0)) fun x8 =>
      ob (o_gI σ6 [26] 8 (some a0)) fun x9 =>
      ob (o_at σ6 [26] (some a0)) fun a12 =>
      bd (f_X7_byteAt N a12 x9 σ6) fun x10 σ11 =>
      ob (o_pI σ11 0 [26] 12 (some a0) ((((10 : Int32) * x8) + x10) - (48 : Int32))) fun σ13 =>
      f_X7_goesOn_b237 N K195 a0 l2 σ13
def f_X7_goesOn_b195 (N : Nat)  : Nat → Nat → Int32 → Mem → Option (Unit × Mem)
  | 0, _, _, _ => none
  | n + 1, a0, l2, σ => f_X7_goesOn_b195B N  (f_X7_goesOn_b195 N  n) a0 l2 σ
def f_X7_goesOn_b148 (N : Nat) (K89 : Nat → Int32 → Mem → Option (Unit × Mem)) (a0 : Nat) (l2 : Int32) (σ : Mem) : Option (Unit × Mem) :=
  ob (o_gI σ [26] 8 (some a0)) fun x1 =>
  ob (o_pI σ 0 [26] 8 (some a0) (x1 + (1 : Int32))) fun σ2 =>
  K89 a0 (l2 + (1 : Int32)) σ2
def f_X7_goesOn_b89B (N : Nat)  (K89 : Nat → Int32 → Mem → Option (Unit × Mem)) (a0 : Nat) (l2 : Int32) (σ : Mem) : Option (Unit × Mem) :=
  ob (o_gI σ [26] 8 (some a0)) fun x1 =>
  ob (o_at σ [26] (some a0)) fun a4 =>
  bd (f_X7_byteAt N a4 x1 σ) fun x2 σ3 =>
  bd (f_X7_isLetter N x2 σ3) fun x5 σ6 =>
  if x5 = 0 then
    ob (o_pI σ6 0 [26] 13 (some a0) l2) fun σ7 =>
    if (8 : Int32) < l2 then
      some ((), σ7)
    else
      ob (o_pI σ7 0 [26] 9 (some a0) (2 : Int32)) fun σ8 =>
      some ((), σ8)
  else
    if (8 : Int32) ≤ l2 then
      f_X7_goesOn_b148 N K89 a0 l2 σ6
    else
      ob (o_gR σ6 [26] 16 (some a0)) fun x9 =>
      ob (o_gI σ6 [26] 8 (some a0)) fun x10 =>
      ob (o_at σ6 [26] (some a0)) fun a13 =>
      bd (f_X7_byteAt N a13 x10 σ6) fun x11 σ12 =>
      ob (o_sI σ12 1 x9 l2 x11) fun σ14 =>
      ob (o_gJ σ14 [26] 17 (some a0)) fun x15 =>
      ob (o_gR σ14 [26] 16 (some a0)) fun x16 =>
      ob (o_aI σ14 1 x16 l2) fun x17 =>
      ob (o_pJ σ14 [26] 17 (some a0) (((32 : Int64) * x15) + (((x17 - (97 : Int32)) + (1 : Int32)).toInt64))) fun σ18 =>
      f_X7_goesOn_b148 N K89 a0 l2 σ18
def f_X7_goesOn_b89 (N : Nat)  : Nat → Nat → Int32 → Mem → Option (Unit × Mem)
  | 0, _, _, _ => none
  | n + 1, a0, l2, σ => f_X7_goesOn_b89B N  (f_X7_goesOn_b89 N  n) a0 l2 σ
def f_X7_goesOn_b9B (N : Nat)  (K9 : Nat → Mem → Option (Unit × Mem)) (a0 : Nat) (σ : Mem) : Option (Unit × Mem) :=
  ob (o_gI σ [26] 8 (some a0)) fun x1 =>
  ob (o_at σ [26] (some a0)) fun a4 =>
  bd (f_X7_byteAt N a4 x1 σ) fun x2 σ3 =>
  if x2 = (32 : Int32) then
    ob (o_gI σ3 [26] 8 (some a0)) fun x20 =>
    ob (o_pI σ3 0 [26] 8 (some a0) (x20 + (1 : Int32))) fun σ21 =>
    K9 a0 σ21
  else
    ob (o_gI σ3 [26] 8 (some a0)) fun x5 =>
    ob (o_pI σ3 0 [26] 10 (some a0) x5) fun σ6 =>
    ob (o_pI σ6 0 [26] 9 (some a0) (0 : Int32)) fun σ7 =>
    ob (o_pI σ7 0 [26] 11 (some a0) (0 : Int32)) fun σ8 =>
    ob (o_gI σ8 [26] 8 (some a0)) fun x9 =>
    ob (o_at σ8 [26] (some a0)) fun a12 =>
    bd (f_X7_byteAt N a12 x9 σ8) fun x10 σ11 =>
    if x10 = (-1 : Int32) then
      ob (o_pI σ11 0 [26] 9 (some a0) (1 : Int32)) fun σ19 =>
      some ((), σ19)
    else
      bd (f_X7_isLetter N x10 σ11) fun x13 σ14 =>
      if x13 = 0 then
        bd (f_X7_isDigit N x10 σ14) fun x15 σ16 =>
        if x15 = 0 then
          if x10 = (59 : Int32) then
            f_X7_goesOn_b278 N  a0 x10 σ16
          else
            if x10 = (44 : Int32) then
              f_X7_goesOn_b278 N  a0 x10 σ16
            else
              some ((), σ16)
        else
          ob (o_pI σ16 0 [26] 12 (some a0) (0 : Int32)) fun σ17 =>
          f_X7_goesOn_b195 N  N a0 (0 : Int32) σ17
      else
        ob (o_pJ σ14 [26] 17 (some a0) (0 : Int64)) fun σ18 =>
        f_X7_goesOn_b89 N  N a0 (0 : Int32) σ18
def f_X7_goesOn_b9 (N : Nat)  : Nat → Nat → Mem → Option (Unit × Mem)
  | 0, _, _ => none
  | n + 1, a0, σ => f_X7_goesOn_b9B N  (f_X7_goesOn_b9 N  n) a0 σ
def f_X7_goesOn (N : Nat) (a0 : Nat) (σ : Mem) : Option (Unit × Mem) :=
  ob (o_gI σ [26] 9 (some a0)) fun x1 =>
  if x1 = (5 : Int32) then
    some ((), σ)
  else
    f_X7_goesOn_b9 N  N a0 σ
def f_X7_wordOf_b4B (N : Nat)  (K4 : Option Nat → Int64 → Int32 → Mem → Option (Int64 × Mem)) (l0 : Option Nat) (l1 : Int64) (l3 : Int32) (σ : Mem) : Option (Int64 × Mem) :=
  ob (o_at σ [41] l0) fun a3 =>
  bd (f_J3_length N a3  σ) fun x1 σ2 =>
  if x1 ≤ l3 then
    some (l1, σ2)
  else
    ob (o_at σ2 [41] l0) fun a6 =>
    bd (f_J3_charAt N a6 l3 σ2) fun x4 σ5 =>
    K4 l0 (((32 : Int64) * l1) + (((x4 - (97 : Int32)) + (1 : Int32)).toInt64)) (l3 + (1 : Int32)) σ5
def f_X7_wordOf_b4 (N : Nat)  : Nat → Option Nat → Int64 → Int32 → Mem → Option (Int64 × Mem)
  | 0, _, _, _, _ => none
  | n + 1, l0, l1, l3, σ => f_X7_wordOf_b4B N  (f_X7_wordOf_b4 N  n) l0 l1 l3 σ
def f_X7_wordOf (N : Nat) (o0 : Option Nat) (σ : Mem) : Option (Int64 × Mem) :=
  f_X7_wordOf_b4 N  N o0 (0 : Int64) (0 : Int32) σ
def f_X7_isWord_b24 (N : Nat)   (σ : Mem) : Option (Int32 × Mem) :=
  ob (o_nr 1 (0 : Int32)) fun _ => some ((0 : Int32), σ)
def f_X7_isWord (N : Nat) (a0 : Nat) (o1 : Option Nat) (σ : Mem) : Option (Int32 × Mem) :=
  ob (o_gI σ [26] 9 (some a0)) fun x1 =>
  if x1 = (2 : Int32) then
    ob (o_gJ σ [26] 17 (some a0)) fun x2 =>
    bd (f_X7_wordOf N o1 σ) fun y3 σ4 =>
    if (lg_cmp x2 y3) = 0 then
      ob (o_nr 1 (1 : Int32)) fun _ => some ((1 : Int32), σ4)
    else
      f_X7_isWord_b24 N   σ4
  else
    f_X7_isWord_b24 N   σ
def f_X7_flaw (N : Nat) (a0 : Nat) (i1 : Int32) (σ : Mem) : Option (Unit × Mem) :=
  ob (o_gI σ [26] 9 (some a0)) fun x1 =>
  if x1 = (5 : Int32) then
    some ((), σ)
  else
    ob (o_pI σ 0 [26] 14 (some a0) i1) fun σ2 =>
    ob (o_gI σ2 [26] 10 (some a0)) fun x3 =>
    ob (o_pI σ2 0 [26] 15 (some a0) x3) fun σ4 =>
    ob (o_pI σ4 0 [26] 9 (some a0) (5 : Int32)) fun σ5 =>
    some ((), σ5)
def f_X7_wants_b13 (N : Nat)  (a0 : Nat) (σ : Mem) : Option (Unit × Mem) :=
  ob (o_at σ [26] (some a0)) fun a3 =>
  bd (f_X7_goesOn N a3  σ) fun _ σ2 =>
  some ((), σ2)
def f_X7_wants (N : Nat) (a0 : Nat) (o1 : Option Nat) (σ : Mem) : Option (Unit × Mem) :=
  ob (o_at σ [26] (some a0)) fun a3 =>
  bd (f_X7_isWord N a3 o1 σ) fun x1 σ2 =>
  if x1 = 0 then
    ob (o_at σ2 [26] (some a0)) fun a6 =>
    bd (f_X7_flaw N a6 (1 : Int32) σ2) fun _ σ5 =>
    f_X7_wants_b13 N  a0 σ5
  else
    f_X7_wants_b13 N  a0 σ2
def f_X7_within_b14 (N : Nat)   (σ : Mem) : Option (Int32 × Mem) :=
  ob (o_nr 1 (0 : Int32)) fun _ => some ((0 : Int32), σ)
def f_X7_within (N : Nat) (i0 : Int32) (i1 : Int32) (i2 : Int32) (σ : Mem) : Option (Int32 × Mem) :=
  if i0 < i1 then
    f_X7_within_b14 N   σ
  else
    if i2 < i0 then
      f_X7_within_b14 N   σ
    else
      ob (o_nr 1 (1 : Int32)) fun _ => some ((1 : Int32), σ)
def f_X7_readWhole_b49 (N : Nat)  (a0 : Nat) (t0 : Int32) (σ : Mem) : Option (Int32 × Mem) :=
  ob (o_at σ [26] (some a0)) fun a3 =>
  bd (f_X7_goesOn N a3  σ) fun _ σ2 =>
  some (t0, σ2)
def f_X7_readWhole_b33 (N : Nat)  (a0 : Nat) (l1 : Int32) (σ : Mem) : Option (Int32 × Mem) :=
  ob (o_gI σ [26] 9 (some a0)) fun x1 =>
  if x1 = (5 : Int32) then
    f_X7_readWhole_b49 N  a0 l1 σ
  else
    ob (o_gI σ [26] 12 (some a0)) fun x2 =>
    f_X7_readWhole_b49 N  a0 x2 σ
def f_X7_readWhole (N : Nat) (a0 : Nat) (i1 : Int32) (i2 : Int32) (σ : Mem) : Option (Int32 × Mem) :=
  ob (o_gI σ [26] 9 (some a0)) fun x1 =>
  if x1 = (3 : Int32) then
    ob (o_gI σ [26] 12 (some a0)) fun x2 =>
    bd (f_X7_within N x2 i1 i2 σ) fun x3 σ4 =>
    if x3 = 0 then
      ob (o_at σ4 [26] (some a0)) fun a7 =>
      bd (f_X7_flaw N a7 (4 : Int32) σ4) fun _ σ6 =>
      f_X7_readWhole_b33 N  a0 i1 σ6
    else
      f_X7_readWhole_b33 N  a0 i1 σ4
  else
    ob (o_at σ [26] (some a0)) fun a10 =>
    bd (f_X7_flaw N a10 (1 : Int32) σ) fun _ σ9 =>
    f_X7_readWhole_b33 N  a0 i1 σ9
def f_X7_readPart (N : Nat) (a0 : Nat) (o1 : Option Nat) (i2 : Int32) (i3 : Int32) (σ : Mem) : Option (Int32 × Mem) :=
  ob (o_at σ [26] (some a0)) fun a3 =>
  bd (f_X7_wants N a3 o1 σ) fun _ σ2 =>
  ob (o_at σ2 [26] (some a0)) fun a6 =>
  bd (f_X7_readWhole N a6 i2 i3 σ2) fun x4 σ5 =>
  some (x4, σ5)
def f_X7_readHill_b15 (N : Nat)  (a0 : Nat) (σ : Mem) : Option (Unit × Mem) :=
  ob (o_at σ [26] (some a0)) fun a3 =>
  bd (f_X7_goesOn N a3  σ) fun _ σ2 =>
  ob (o_at σ2 [26] (some a0)) fun a6 =>
  bd (f_X7_readPart N a6 (some 34) (2 : Int32) (12 : Int32) σ2) fun x4 σ5 =>
  ob (o_at σ5 [26] (some a0)) fun a9 =>
  bd (f_X7_readPart N a9 (some 36) (1 : Int32) (4 : Int32) σ5) fun x7 σ8 =>
  ob (o_gI σ8 [26] 9 (some a0)) fun x10 =>
  if x10 = (5 : Int32) then
    some ((), σ8)
  else
    ob (o_gR σ8 [26] 4 (some a0)) fun x11 =>
    ob (o_pI σ8 0 [40] 0 x11 x4) fun σ12 =>
    ob (o_gR σ12 [26] 4 (some a0)) fun x13 =>
    ob (o_pI σ12 0 [40] 1 x13 x7) fun σ14 =>
    some ((), σ14)
def f_X7_readHill (N : Nat) (a0 : Nat) (σ : Mem) : Option (Unit × Mem) :=
  ob (o_gR σ [26] 4 (some a0)) fun x1 =>
  ob (o_gI σ [40] 0 x1) fun x2 =>
  if x2 ≤ 0 then
    f_X7_readHill_b15 N  a0 σ
  else
    ob (o_at σ [26] (some a0)) fun a5 =>
    bd (f_X7_flaw N a5 (3 : Int32) σ) fun _ σ4 =>
    f_X7_readHill_b15 N  a0 σ4
def f_X7_begins_b26 (N : Nat)  (a0 : Nat) (σ : Mem) : Option (Unit × Mem) :=
  ob (o_at σ [26] (some a0)) fun a3 =>
  bd (f_X7_goesOn N a3  σ) fun _ σ2 =>
  some ((), σ2)
def f_X7_begins_b10 (N : Nat)  (a0 : Nat) (σ : Mem) : Option (Unit × Mem) :=
  ob (o_gR σ [26] 4 (some a0)) fun x1 =>
  ob (o_gI σ [40] 0 x1) fun x2 =>
  if x2 = 0 then
    ob (o_at σ [26] (some a0)) fun a5 =>
    bd (f_X7_flaw N a5 (6 : Int32) σ) fun _ σ4 =>
    f_X7_begins_b26 N  a0 σ4
  else
    f_X7_begins_b26 N  a0 σ
def f_X7_begins (N : Nat) (a0 : Nat) (i1 : Int32) (i2 : Int32) (σ : Mem) : Option (Unit × Mem) :=
  if i1 = i2 then
    ob (o_at σ [26] (some a0)) fun a3 =>
    bd (f_X7_flaw N a3 (5 : Int32) σ) fun _ σ2 =>
    f_X7_begins_b10 N  a0 σ2
  else
    f_X7_begins_b10 N  a0 σ
def f_X7_isName_b169 (N : Nat)   (σ : Mem) : Option (Int32 × Mem) :=
  ob (o_nr 1 (0 : Int32)) fun _ => some ((0 : Int32), σ)
def f_X7_isName (N : Nat) (a0 : Nat) (σ : Mem) : Option (Int32 × Mem) :=
  ob (o_gI σ [26] 9 (some a0)) fun x1 =>
  if x1 = (2 : Int32) then
    ob (o_at σ [26] (some a0)) fun a4 =>
    bd (f_X7_isWord N a4 (some 2) σ) fun x2 σ3 =>
    if x2 = 0 then
      ob (o_at σ3 [26] (some a0)) fun a7 =>
      bd (f_X7_isWord N a7 (some 4) σ3) fun x5 σ6 =>
      if x5 = 0 then
        ob (o_at σ6 [26] (some a0)) fun a10 =>
        bd (f_X7_isWord N a10 (some 6) σ6) fun x8 σ9 =>
        if x8 = 0 then
          ob (o_at σ9 [26] (some a0)) fun a13 =>
          bd (f_X7_isWord N a13 (some 8) σ9) fun x11 σ12 =>
          if x11 = 0 then
            ob (o_at σ12 [26] (some a0)) fun a16 =>
            bd (f_X7_isWord N a16 (some 10) σ12) fun x14 σ15 =>
            if x14 = 0 then
              ob (o_at σ15 [26] (some a0)) fun a19 =>
              bd (f_X7_isWord N a19 (some 12) σ15) fun x17 σ18 =>
              if x17 = 0 then
                ob (o_at σ18 [26] (some a0)) fun a22 =>
                bd (f_X7_isWord N a22 (some 14) σ18) fun x20 σ21 =>
                if x20 = 0 then
                  ob (o_at σ21 [26] (some a0)) fun a25 =>
                  bd (f_X7_isWord N a25 (some 16) σ21) fun x23 σ24 =>
                  if x23 = 0 then
                    ob (o_at σ24 [26] (some a0)) fun a28 =>
                    bd (f_X7_isWord N a28 (some 18) σ24) fun x26 σ27 =>
                    if x26 = 0 then
                      ob (o_at σ27 [26] (some a0)) fun a31 =>
                      bd (f_X7_isWord N a31 (some 20) σ27) fun x29 σ30 =>
                      if x29 = 0 then
                        ob (o_at σ30 [26] (some a0)) fun a34 =>
                        bd (f_X7_isWord N a34 (some 22) σ30) fun x32 σ33 =>
                        if x32 = 0 then
                          ob (o_at σ33 [26] (some a0)) fun a37 =>
                          bd (f_X7_isWord N a37 (some 24) σ33) fun x35 σ36 =>
                          if x35 = 0 then
                            ob (o_at σ36 [26] (some a0)) fun a40 =>
                            bd (f_X7_isWord N a40 (some 26) σ36) fun x38 σ39 =>
                            if x38 = 0 then
                              ob (o_at σ39 [26] (some a0)) fun a43 =>
                              bd (f_X7_isWord N a43 (some 28) σ39) fun x41 σ42 =>
                              if x41 = 0 then
                                ob (o_at σ42 [26] (some a0)) fun a46 =>
                                bd (f_X7_isWord N a46 (some 30) σ42) fun x44 σ45 =>
                                if x44 = 0 then
                                  ob (o_at σ45 [26] (some a0)) fun a49 =>
                                  bd (f_X7_isWord N a49 (some 32) σ45) fun x47 σ48 =>
                                  if x47 = 0 then
                                    ob (o_at σ48 [26] (some a0)) fun a52 =>
                                    bd (f_X7_isWord N a52 (some 38) σ48) fun x50 σ51 =>
                                    if x50 = 0 then
                                      ob (o_nr 1 (1 : Int32)) fun _ => some ((1 : Int32), σ51)
                                    else
                                      f_X7_isName_b169 N   σ51
                                  else
                                    f_X7_isName_b169 N   σ48
                                else
                                  f_X7_isName_b169 N   σ45
                              else
                                f_X7_isName_b169 N   σ42
                            else
                              f_X7_isName_b169 N   σ39
                          else
                            ob (o_nr 1 (0 : Int32)) fun _ => some ((0 : Int32), σ36)
                        else
                          ob (o_nr 1 (0 : Int32)) fun _ => some ((0 : Int32), σ33)
                      else
                        ob (o_nr 1 (0 : Int32)) fun _ => some ((0 : Int32), σ30)
                    else
                      ob (o_nr 1 (0 : Int32)) fun _ => some ((0 : Int32), σ27)
                  else
                    ob (o_nr 1 (0 : Int32)) fun _ => some ((0 : Int32), σ24)
                else
                  ob (o_nr 1 (0 : Int32)) fun _ => some ((0 : Int32), σ21)
              else
                ob (o_nr 1 (0 : Int32)) fun _ => some ((0 : Int32), σ18)
            else
              ob (o_nr 1 (0 : Int32)) fun _ => some ((0 : Int32), σ15)
          else
            ob (o_nr 1 (0 : Int32)) fun _ => some ((0 : Int32), σ12)
        else
          ob (o_nr 1 (0 : Int32)) fun _ => some ((0 : Int32), σ9)
      else
        ob (o_nr 1 (0 : Int32)) fun _ => some ((0 : Int32), σ6)
    else
      ob (o_nr 1 (0 : Int32)) fun _ => some ((0 : Int32), σ3)
  else
    ob (o_nr 1 (0 : Int32)) fun _ => some ((0 : Int32), σ)
def f_X24_find_b2B (N : Nat)  (K2 : Nat → Int64 → Int32 → Mem → Option (Int32 × Mem)) (a0 : Nat) (l1 : Int64) (l3 : Int32) (σ : Mem) : Option (Int32 × Mem) :=
  ob (o_gI σ [40] 12 (some a0)) fun x1 =>
  if x1 ≤ l3 then
    some ((-1 : Int32), σ)
  else
    ob (o_gR σ [40] 38 (some a0)) fun x2 =>
    ob (o_aJ σ 4 x2 l3) fun x3 =>
    if (lg_cmp x3 l1) = 0 then
      some (l3, σ)
    else
      K2 a0 l1 (l3 + (1 : Int32)) σ
def f_X24_find_b2 (N : Nat)  : Nat → Nat → Int64 → Int32 → Mem → Option (Int32 × Mem)
  | 0, _, _, _, _ => none
  | n + 1, a0, l1, l3, σ => f_X24_find_b2B N  (f_X24_find_b2 N  n) a0 l1 l3 σ
def f_X24_find (N : Nat) (a0 : Nat) (j1 : Int64) (σ : Mem) : Option (Int32 × Mem) :=
  f_X24_find_b2 N  N a0 j1 (0 : Int32) σ
def f_X7_readFresh_b32 (N : Nat)  (a0 : Nat) (σ : Mem) : Option (Int64 × Mem) :=
  ob (o_gJ σ [26] 17 (some a0)) fun x1 =>
  ob (o_at σ [26] (some a0)) fun a4 =>
  bd (f_X7_goesOn N a4  σ) fun _ σ3 =>
  some (x1, σ3)
def f_X7_readFresh_b12 (N : Nat)  (a0 : Nat) (σ : Mem) : Option (Int64 × Mem) :=
  ob (o_gR σ [26] 4 (some a0)) fun x1 =>
  ob (o_gJ σ [26] 17 (some a0)) fun x2 =>
  ob (o_at σ [40] x1) fun a5 =>
  bd (f_X24_find N a5 x2 σ) fun x3 σ4 =>
  if x3 = (-1 : Int32) then
    f_X7_readFresh_b32 N  a0 σ4
  else
    ob (o_at σ4 [26] (some a0)) fun a8 =>
    bd (f_X7_flaw N a8 (3 : Int32) σ4) fun _ σ7 =>
    f_X7_readFresh_b32 N  a0 σ7
def f_X7_readFresh (N : Nat) (a0 : Nat) (σ : Mem) : Option (Int64 × Mem) :=
  ob (o_at σ [26] (some a0)) fun a3 =>
  bd (f_X7_isName N a3  σ) fun x1 σ2 =>
  if x1 = 0 then
    ob (o_at σ2 [26] (some a0)) fun a6 =>
    bd (f_X7_flaw N a6 (1 : Int32) σ2) fun _ σ5 =>
    f_X7_readFresh_b12 N  a0 σ5
  else
    f_X7_readFresh_b12 N  a0 σ2
def f_X7_needsSign_b21 (N : Nat)  (a0 : Nat) (σ : Mem) : Option (Unit × Mem) :=
  ob (o_at σ [26] (some a0)) fun a3 =>
  bd (f_X7_goesOn N a3  σ) fun _ σ2 =>
  some ((), σ2)
def f_X7_needsSign_b16 (N : Nat)  (a0 : Nat) (σ : Mem) : Option (Unit × Mem) :=
  ob (o_at σ [26] (some a0)) fun a3 =>
  bd (f_X7_flaw N a3 (1 : Int32) σ) fun _ σ2 =>
  f_X7_needsSign_b21 N  a0 σ2
def f_X7_needsSign (N : Nat) (a0 : Nat) (i1 : Int32) (σ : Mem) : Option (Unit × Mem) :=
  ob (o_gI σ [26] 9 (some a0)) fun x1 =>
  if x1 = (4 : Int32) then
    ob (o_gI σ [26] 11 (some a0)) fun x2 =>
    if x2 = i1 then
      f_X7_needsSign_b21 N  a0 σ
    else
      f_X7_needsSign_b16 N  a0 σ
  else
    f_X7_needsSign_b16 N  a0 σ
def f_X7_readPlants_b34 (N : Nat) (K3 : Nat → Option Nat → Int32 → Int32 → Int32 → Mem → Option (Unit × Mem)) (a0 : Nat) (l1 : Option Nat) (l2 : Int32) (l3 : Int32) (l4 : Int32) (σ : Mem) : Option (Unit × Mem) :=
  ob (o_at σ [26] (some a0)) fun a3 =>
  bd (f_X7_readWhole N a3 (0 : Int32) l3 σ) fun x1 σ2 =>
  ob (o_sI σ2 1 l1 (l2 + l4) x1) fun σ4 =>
  K3 a0 l1 l2 l3 (l4 + (1 : Int32)) σ4
def f_X7_readPlants_b3B (N : Nat)  (K3 : Nat → Option Nat → Int32 → Int32 → Int32 → Mem → Option (Unit × Mem)) (a0 : Nat) (l1 : Option Nat) (l2 : Int32) (l3 : Int32) (l4 : Int32) (σ : Mem) : Option (Unit × Mem) :=
  ob (o_gR σ [26] 4 (some a0)) fun x1 =>
  ob (o_gI σ [40] 1 x1) fun x2 =>
  if x2 ≤ l4 then
    some ((), σ)
  else
    ob (o_gI σ [26] 9 (some a0)) fun x3 =>
    if x3 = (5 : Int32) then
      some ((), σ)
    else
      if l4 ≤ 0 then
        f_X7_readPlants_b34 N K3 a0 l1 l2 l3 l4 σ
      else
        ob (o_at σ [26] (some a0)) fun a6 =>
        bd (f_X7_needsSign N a6 (44 : Int32) σ) fun _ σ5 =>
        f_X7_readPlants_b34 N K3 a0 l1 l2 l3 l4 σ5
def f_X7_readPlants_b3 (N : Nat)  : Nat → Nat → Option Nat → Int32 → Int32 → Int32 → Mem → Option (Unit × Mem)
  | 0, _, _, _, _, _, _ => none
  | n + 1, a0, l1, l2, l3, l4, σ => f_X7_readPlants_b3B N  (f_X7_readPlants_b3 N  n) a0 l1 l2 l3 l4 σ
def f_X7_readPlants (N : Nat) (a0 : Nat) (o1 : Option Nat) (i2 : Int32) (i3 : Int32) (σ : Mem) : Option (Unit × Mem) :=
  f_X7_readPlants_b3 N  N a0 o1 i2 i3 (0 : Int32) σ
def f_X7_names (N : Nat) (a0 : Nat) (j1 : Int64) (i3 : Int32) (i4 : Int32) (σ : Mem) : Option (Unit × Mem) :=
  ob (o_gR σ [26] 4 (some a0)) fun x1 =>
  ob (o_gR σ [40] 38 x1) fun x2 =>
  ob (o_gR σ [26] 4 (some a0)) fun x3 =>
  ob (o_gI σ [40] 12 x3) fun x4 =>
  ob (o_sJ σ 4 x2 x4 j1) fun σ5 =>
  ob (o_gR σ5 [26] 4 (some a0)) fun x6 =>
  ob (o_gR σ5 [40] 39 x6) fun x7 =>
  ob (o_gR σ5 [26] 4 (some a0)) fun x8 =>
  ob (o_gI σ5 [40] 12 x8) fun x9 =>
  ob (o_sI σ5 1 x7 x9 i3) fun σ10 =>
  ob (o_gR σ10 [26] 4 (some a0)) fun x11 =>
  ob (o_gR σ10 [40] 40 x11) fun x12 =>
  ob (o_gR σ10 [26] 4 (some a0)) fun x13 =>
  ob (o_gI σ10 [40] 12 x13) fun x14 =>
  ob (o_sI σ10 1 x12 x14 i4) fun σ15 =>
  ob (o_gR σ15 [26] 4 (some a0)) fun x16 =>
  ob (o_gI σ15 [40] 12 x16) fun x17 =>
  ob (o_pI σ15 0 [40] 12 x16 (x17 + (1 : Int32))) fun σ18 =>
  some ((), σ18)
def f_X7_readPlace_b50 (N : Nat)  (a0 : Nat) (l1 : Int64) (t0 : Option Nat) (t1 : Option Nat) (t2 : Int32) (t3 : Int32) (σ : Mem) : Option (Unit × Mem) :=
  ob (o_at σ [26] t0) fun a3 =>
  bd (f_X7_readPlants N a3 t1 (t2 * t3) (9 : Int32) σ) fun _ σ2 =>
  ob (o_gI σ2 [26] 9 (some a0)) fun x4 =>
  if x4 = (5 : Int32) then
    some ((), σ2)
  else
    ob (o_gR σ2 [26] 4 (some a0)) fun x5 =>
    ob (o_gI σ2 [40] 2 x5) fun x6 =>
    ob (o_at σ2 [26] (some a0)) fun a9 =>
    bd (f_X7_names N a9 l1 (0 : Int32) x6 σ2) fun _ σ8 =>
    ob (o_gR σ8 [26] 4 (some a0)) fun x10 =>
    ob (o_gI σ8 [40] 2 x10) fun x11 =>
    ob (o_pI σ8 0 [40] 2 x10 (x11 + (1 : Int32))) fun σ12 =>
    some ((), σ12)
def f_X7_readPlace (N : Nat) (a0 : Nat) (σ : Mem) : Option (Unit × Mem) :=
  ob (o_gR σ [26] 4 (some a0)) fun x1 =>
  ob (o_gI σ [40] 2 x1) fun x2 =>
  ob (o_at σ [26] (some a0)) fun a5 =>
  bd (f_X7_begins N a5 x2 (8 : Int32) σ) fun _ σ4 =>
  ob (o_at σ4 [26] (some a0)) fun a8 =>
  bd (f_X7_readFresh N a8  σ4) fun y6 σ7 =>
  ob (o_gR σ7 [26] 4 (some a0)) fun x9 =>
  ob (o_gR σ7 [40] 16 x9) fun x10 =>
  ob (o_gR σ7 [26] 4 (some a0)) fun x11 =>
  ob (o_gI σ7 [40] 2 x11) fun x12 =>
  if (8 : Int32) ≤ x12 then
    f_X7_readPlace_b50 N  a0 y6 (some a0) x10 (4 : Int32) (0 : Int32) σ7
  else
    ob (o_gR σ7 [26] 4 (some a0)) fun x13 =>
    ob (o_gI σ7 [40] 2 x13) fun x14 =>
    f_X7_readPlace_b50 N  a0 y6 (some a0) x10 (4 : Int32) x14 σ7
def f_X7_known_b47 (N : Nat)  (a0 : Nat) (l2 : Int32) (σ : Mem) : Option (Int32 × Mem) :=
  ob (o_gI σ [26] 9 (some a0)) fun x1 =>
  if x1 = (5 : Int32) then
    some ((0 : Int32), σ)
  else
    ob (o_gR σ [26] 4 (some a0)) fun x2 =>
    ob (o_gR σ [40] 40 x2) fun x3 =>
    ob (o_aI σ 1 x3 l2) fun x4 =>
    some (x4, σ)
def f_X7_known_b42 (N : Nat)  (a0 : Nat) (l2 : Int32) (σ : Mem) : Option (Int32 × Mem) :=
  ob (o_at σ [26] (some a0)) fun a3 =>
  bd (f_X7_flaw N a3 (2 : Int32) σ) fun _ σ2 =>
  f_X7_known_b47 N  a0 l2 σ2
def f_X7_known_b12 (N : Nat)  (a0 : Nat) (l1 : Int32) (σ : Mem) : Option (Int32 × Mem) :=
  ob (o_gR σ [26] 4 (some a0)) fun x1 =>
  ob (o_gJ σ [26] 17 (some a0)) fun x2 =>
  ob (o_at σ [40] x1) fun a5 =>
  bd (f_X24_find N a5 x2 σ) fun x3 σ4 =>
  if x3 = (-1 : Int32) then
    f_X7_known_b42 N  a0 x3 σ4
  else
    ob (o_gR σ4 [26] 4 (some a0)) fun x6 =>
    ob (o_gR σ4 [40] 39 x6) fun x7 =>
    ob (o_aI σ4 1 x7 x3) fun x8 =>
    if x8 = l1 then
      f_X7_known_b47 N  a0 x3 σ4
    else
      f_X7_known_b42 N  a0 x3 σ4
def f_X7_known (N : Nat) (a0 : Nat) (i1 : Int32) (σ : Mem) : Option (Int32 × Mem) :=
  ob (o_at σ [26] (some a0)) fun a3 =>
  bd (f_X7_isName N a3  σ) fun x1 σ2 =>
  if x1 = 0 then
    ob (o_at σ2 [26] (some a0)) fun a6 =>
    bd (f_X7_flaw N a6 (1 : Int32) σ2) fun _ σ5 =>
    f_X7_known_b12 N  a0 i1 σ5
  else
    f_X7_known_b12 N  a0 i1 σ2
def f_X7_readKnown (N : Nat) (a0 : Nat) (i1 : Int32) (σ : Mem) : Option (Int32 × Mem) :=
  ob (o_at σ [26] (some a0)) fun a3 =>
  bd (f_X7_known N a3 i1 σ) fun x1 σ2 =>
  ob (o_at σ2 [26] (some a0)) fun a6 =>
  bd (f_X7_goesOn N a6  σ2) fun _ σ5 =>
  some (x1, σ5)
def f_X24_path_b52 (N : Nat) (K2 : Nat → Int32 → Int32 → Int32 → Mem → Option (Int32 × Mem)) (a0 : Nat) (l1 : Int32) (l2 : Int32) (l3 : Int32) (σ : Mem) : Option (Int32 × Mem) :=
  K2 a0 l1 l2 (l3 + (1 : Int32)) σ
def f_X24_path_b30 (N : Nat) (K2 : Nat → Int32 → Int32 → Int32 → Mem → Option (Int32 × Mem)) (a0 : Nat) (l1 : Int32) (l2 : Int32) (l3 : Int32) (σ : Mem) : Option (Int32 × Mem) :=
  ob (o_gR σ [40] 17 (some a0)) fun x1 =>
  ob (o_aI σ 1 x1 l3) fun x2 =>
  if x2 = l2 then
    ob (o_gR σ [40] 18 (some a0)) fun x3 =>
    ob (o_aI σ 1 x3 l3) fun x4 =>
    if x4 = l1 then
      some (l3, σ)
    else
      f_X24_path_b52 N K2 a0 l1 l2 l3 σ
  else
    f_X24_path_b52 N K2 a0 l1 l2 l3 σ
def f_X24_path_b2B (N : Nat)  (K2 : Nat → Int32 → Int32 → Int32 → Mem → Option (Int32 × Mem)) (a0 : Nat) (l1 : Int32) (l2 : Int32) (l3 : Int32) (σ : Mem) : Option (Int32 × Mem) :=
  ob (o_gI σ [40] 3 (some a0)) fun x1 =>
  if x1 ≤ l3 then
    some ((-1 : Int32), σ)
  else
    ob (o_gR σ [40] 17 (some a0)) fun x2 =>
    ob (o_aI σ 1 x2 l3) fun x3 =>
    if x3 = l1 then
      ob (o_gR σ [40] 18 (some a0)) fun x4 =>
      ob (o_aI σ 1 x4 l3) fun x5 =>
      if x5 = l2 then
        some (l3, σ)
      else
        f_X24_path_b30 N K2 a0 l1 l2 l3 σ
    else
      f_X24_path_b30 N K2 a0 l1 l2 l3 σ
def f_X24_path_b2 (N : Nat)  : Nat → Nat → Int32 → Int32 → Int32 → Mem → Option (Int32 × Mem)
  | 0, _, _, _, _, _ => none
  | n + 1, a0, l1, l2, l3, σ => f_X24_path_b2B N  (f_X24_path_b2 N  n) a0 l1 l2 l3 σ
def f_X24_path (N : Nat) (a0 : Nat) (i1 : Int32) (i2 : Int32) (σ : Mem) : Option (Int32 × Mem) :=
  f_X24_path_b2 N  N a0 i1 i2 (0 : Int32) σ
def f_X7_readPath_b56 (N : Nat)  (a0 : Nat) (l1 : Int32) (l2 : Int32) (σ : Mem) : Option (Unit × Mem) :=
  ob (o_at σ [26] (some a0)) fun a3 =>
  bd (f_X7_goesOn N a3  σ) fun _ σ2 =>
  ob (o_gI σ2 [26] 9 (some a0)) fun x4 =>
  if x4 = (5 : Int32) then
    some ((), σ2)
  else
    ob (o_gR σ2 [26] 4 (some a0)) fun x5 =>
    ob (o_gR σ2 [40] 17 x5) fun x6 =>
    ob (o_gR σ2 [26] 4 (some a0)) fun x7 =>
    ob (o_gI σ2 [40] 3 x7) fun x8 =>
    ob (o_sI σ2 1 x6 x8 l1) fun σ9 =>
    ob (o_gR σ9 [26] 4 (some a0)) fun x10 =>
    ob (o_gR σ9 [40] 18 x10) fun x11 =>
    ob (o_gR σ9 [26] 4 (some a0)) fun x12 =>
    ob (o_gI σ9 [40] 3 x12) fun x13 =>
    ob (o_sI σ9 1 x11 x13 l2) fun σ14 =>
    ob (o_gR σ14 [26] 4 (some a0)) fun x15 =>
    ob (o_gI σ14 [40] 3 x15) fun x16 =>
    ob (o_pI σ14 0 [40] 3 x15 (x16 + (1 : Int32))) fun σ17 =>
    some ((), σ17)
def f_X7_readPath_b51 (N : Nat)  (a0 : Nat) (l1 : Int32) (l2 : Int32) (σ : Mem) : Option (Unit × Mem) :=
  ob (o_at σ [26] (some a0)) fun a3 =>
  bd (f_X7_flaw N a3 (3 : Int32) σ) fun _ σ2 =>
  f_X7_readPath_b56 N  a0 l1 l2 σ2
def f_X7_readPath (N : Nat) (a0 : Nat) (σ : Mem) : Option (Unit × Mem) :=
  ob (o_gR σ [26] 4 (some a0)) fun x1 =>
  ob (o_gI σ [40] 3 x1) fun x2 =>
  ob (o_at σ [26] (some a0)) fun a5 =>
  bd (f_X7_begins N a5 x2 (14 : Int32) σ) fun _ σ4 =>
  ob (o_at σ4 [26] (some a0)) fun a8 =>
  bd (f_X7_readKnown N a8 (0 : Int32) σ4) fun x6 σ7 =>
  ob (o_at σ7 [26] (some a0)) fun a11 =>
  bd (f_X7_known N a11 (0 : Int32) σ7) fun x9 σ10 =>
  ob (o_gI σ10 [26] 9 (some a0)) fun x12 =>
  if x12 = (5 : Int32) then
    f_X7_readPath_b56 N  a0 x6 x9 σ10
  else
    if x6 = x9 then
      f_X7_readPath_b51 N  a0 x6 x9 σ10
    else
      ob (o_gR σ10 [26] 4 (some a0)) fun x13 =>
      ob (o_at σ10 [40] x13) fun a16 =>
      bd (f_X24_path N a16 x6 x9 σ10) fun x14 σ15 =>
      if x14 = (-1 : Int32) then
        f_X7_readPath_b56 N  a0 x6 x9 σ15
      else
        f_X7_readPath_b51 N  a0 x6 x9 σ15
def f_X7_readPerson (N : Nat) (a0 : Nat) (σ : Mem) : Option (Unit × Mem) :=
  ob (o_gR σ [26] 4 (some a0)) fun x1 =>
  ob (o_gI σ [40] 4 x1) fun x2 =>
  ob (o_at σ [26] (some a0)) fun a5 =>
  bd (f_X7_begins N a5 x2 (4 : Int32) σ) fun _ σ4 =>
  ob (o_at σ4 [26] (some a0)) fun a8 =>
  bd (f_X7_readFresh N a8  σ4) fun y6 σ7 =>
  ob (o_gI σ7 [26] 9 (some a0)) fun x9 =>
  if x9 = (5 : Int32) then
    some ((), σ7)
  else
    ob (o_gR σ7 [26] 4 (some a0)) fun x10 =>
    ob (o_gI σ7 [40] 4 x10) fun x11 =>
    ob (o_at σ7 [26] (some a0)) fun a14 =>
    bd (f_X7_names N a14 y6 (1 : Int32) x11 σ7) fun _ σ13 =>
    ob (o_gR σ13 [26] 4 (some a0)) fun x15 =>
    ob (o_gI σ13 [40] 4 x15) fun x16 =>
    ob (o_pI σ13 0 [40] 4 x15 (x16 + (1 : Int32))) fun σ17 =>
    some ((), σ17)
def f_X7_eatsSign_b21 (N : Nat)  (a0 : Nat) (t0 : Int32) (σ : Mem) : Option (Int32 × Mem) :=
  if t0 = 0 then
    ob (o_nr 1 t0) fun _ => some (t0, σ)
  else
    ob (o_at σ [26] (some a0)) fun a3 =>
    bd (f_X7_goesOn N a3  σ) fun _ σ2 =>
    ob (o_nr 1 t0) fun _ => some (t0, σ2)
def f_X7_eatsSign_b20 (N : Nat)  (a0 : Nat) (σ : Mem) : Option (Int32 × Mem) :=
  f_X7_eatsSign_b21 N  a0 (0 : Int32) σ
def f_X7_eatsSign (N : Nat) (a0 : Nat) (i1 : Int32) (σ : Mem) : Option (Int32 × Mem) :=
  ob (o_gI σ [26] 9 (some a0)) fun x1 =>
  if x1 = (4 : Int32) then
    ob (o_gI σ [26] 11 (some a0)) fun x2 =>
    if x2 = i1 then
      f_X7_eatsSign_b21 N  a0 (1 : Int32) σ
    else
      f_X7_eatsSign_b20 N  a0 σ
  else
    f_X7_eatsSign_b20 N  a0 σ
def f_X7_readStory_b120B (N : Nat) (K76 : Nat → Int32 → Int32 → Int32 → Int32 → Mem → Option (Unit × Mem)) (K120 : Nat → Int32 → Int32 → Int32 → Int32 → Int32 → Mem → Option (Unit × Mem)) (a0 : Nat) (l1 : Int32) (l2 : Int32) (l3 : Int32) (l5 : Int32) (l6 : Int32) (σ : Mem) : Option (Unit × Mem) :=
  if (12 : Int32) ≤ l6 then
    ob (o_at σ [26] (some a0)) fun a3 =>
    bd (f_X7_eatsSign N a3 (44 : Int32) σ) fun x1 σ2 =>
    K76 a0 l1 l2 (l3 + (1 : Int32)) x1 σ2
  else
    ob (o_gR σ [26] 4 (some a0)) fun x4 =>
    ob (o_gR σ [40] 20 x4) fun x5 =>
    ob (o_sI σ 1 x5 (l2 + l6) l5) fun σ6 =>
    K120 a0 l1 l2 l3 l5 (l6 + (1 : Int32)) σ6
def f_X7_readStory_b120 (N : Nat) (K76 : Nat → Int32 → Int32 → Int32 → Int32 → Mem → Option (Unit × Mem)) : Nat → Nat → Int32 → Int32 → Int32 → Int32 → Int32 → Mem → Option (Unit × Mem)
  | 0, _, _, _, _, _, _, _ => none
  | n + 1, a0, l1, l2, l3, l5, l6, σ => f_X7_readStory_b120B N K76 (f_X7_readStory_b120 N K76 n) a0 l1 l2 l3 l5 l6 σ
def f_X7_readStory_b104 (N : Nat) (K76 : Nat → Int32 → Int32 → Int32 → Int32 → Mem → Option (Unit × Mem)) (a0 : Nat) (l1 : Int32) (l2 : Int32) (l3 : Int32) (l5 : Int32) (σ : Mem) : Option (Unit × Mem) :=
  ob (o_at σ [26] (some a0)) fun a3 =>
  bd (f_X7_goesOn N a3  σ) fun _ σ2 =>
  ob (o_gI σ2 [26] 9 (some a0)) fun x4 =>
  if x4 = (5 : Int32) then
    some ((), σ2)
  else
    f_X7_readStory_b120 N K76 N a0 l1 l2 l3 l5 l3 σ2
def f_X7_readStory_b76B (N : Nat)  (K76 : Nat → Int32 → Int32 → Int32 → Int32 → Mem → Option (Unit × Mem)) (a0 : Nat) (l1 : Int32) (l2 : Int32) (l3 : Int32) (l4 : Int32) (σ : Mem) : Option (Unit × Mem) :=
  if l4 = 0 then
    ob (o_gR σ [26] 4 (some a0)) fun x1 =>
    ob (o_gR σ [40] 19 x1) fun x2 =>
    ob (o_aI σ 1 x2 l1) fun x3 =>
    ob (o_sI σ 1 x2 l1 (x3 + (1 : Int32))) fun σ4 =>
    some ((), σ4)
  else
    ob (o_at σ [26] (some a0)) fun a7 =>
    bd (f_X7_known N a7 (0 : Int32) σ) fun x5 σ6 =>
    ob (o_gR σ6 [26] 4 (some a0)) fun x8 =>
    ob (o_gI σ6 [40] 0 x8) fun x9 =>
    if l3 = x9 then
      ob (o_at σ6 [26] (some a0)) fun a12 =>
      bd (f_X7_flaw N a12 (5 : Int32) σ6) fun _ σ11 =>
      f_X7_readStory_b104 N K76 a0 l1 l2 l3 x5 σ11
    else
      f_X7_readStory_b104 N K76 a0 l1 l2 l3 x5 σ6
def f_X7_readStory_b76 (N : Nat)  : Nat → Nat → Int32 → Int32 → Int32 → Int32 → Mem → Option (Unit × Mem)
  | 0, _, _, _, _, _, _ => none
  | n + 1, a0, l1, l2, l3, l4, σ => f_X7_readStory_b76B N  (f_X7_readStory_b76 N  n) a0 l1 l2 l3 l4 σ
def f_X7_readStory_b66 (N : Nat)  (a0 : Nat) (l1 : Int32) (t0 : Int32) (t1 : Int32) (σ : Mem) : Option (Unit × Mem) :=
  f_X7_readStory_b76 N  N a0 l1 ((t0 + t1) * (12 : Int32)) (0 : Int32) (1 : Int32) σ
def f_X7_readStory_b38 (N : Nat)  (a0 : Nat) (l1 : Int32) (σ : Mem) : Option (Unit × Mem) :=
  ob (o_at σ [26] (some a0)) fun a3 =>
  bd (f_X7_goesOn N a3  σ) fun _ σ2 =>
  ob (o_gI σ2 [26] 9 (some a0)) fun x4 =>
  if x4 = (5 : Int32) then
    f_X7_readStory_b66 N  a0 l1 ((3 : Int32) * l1) (0 : Int32) σ2
  else
    ob (o_gR σ2 [26] 4 (some a0)) fun x5 =>
    ob (o_gR σ2 [40] 19 x5) fun x6 =>
    ob (o_aI σ2 1 x6 l1) fun x7 =>
    f_X7_readStory_b66 N  a0 l1 ((3 : Int32) * l1) x7 σ2
def f_X7_readStory (N : Nat) (a0 : Nat) (σ : Mem) : Option (Unit × Mem) :=
  ob (o_at σ [26] (some a0)) fun a3 =>
  bd (f_X7_begins N a3 (0 : Int32) (1 : Int32) σ) fun _ σ2 =>
  ob (o_at σ2 [26] (some a0)) fun a6 =>
  bd (f_X7_known N a6 (1 : Int32) σ2) fun x4 σ5 =>
  ob (o_gI σ5 [26] 9 (some a0)) fun x7 =>
  if x7 = (5 : Int32) then
    f_X7_readStory_b38 N  a0 x4 σ5
  else
    ob (o_gR σ5 [26] 4 (some a0)) fun x8 =>
    ob (o_gR σ5 [40] 19 x8) fun x9 =>
    ob (o_aI σ5 1 x9 x4) fun x10 =>
    if x10 = (3 : Int32) then
      ob (o_at σ5 [26] (some a0)) fun a13 =>
      bd (f_X7_flaw N a13 (5 : Int32) σ5) fun _ σ12 =>
      f_X7_readStory_b38 N  a0 x4 σ12
    else
      f_X7_readStory_b38 N  a0 x4 σ5
def f_X7_readGoat_b293 (N : Nat)  (a0 : Nat) (l1 : Int64) (l3 : Int32) (l4 : Int32) (l5 : Int32) (l6 : Int32) (σ : Mem) : Option (Unit × Mem) :=
  ob (o_at σ [26] (some a0)) fun a3 =>
  bd (f_X7_goesOn N a3  σ) fun _ σ2 =>
  ob (o_at σ2 [26] (some a0)) fun a6 =>
  bd (f_X7_wants N a6 (some 50) σ2) fun _ σ5 =>
  ob (o_at σ5 [26] (some a0)) fun a9 =>
  bd (f_X7_readKnown N a9 (0 : Int32) σ5) fun x7 σ8 =>
  ob (o_at σ8 [26] (some a0)) fun a12 =>
  bd (f_X7_readPart N a12 (some 52) (1 : Int32) (9 : Int32) σ8) fun x10 σ11 =>
  ob (o_gI σ11 [26] 9 (some a0)) fun x13 =>
  if x13 = (5 : Int32) then
    some ((), σ11)
  else
    ob (o_at σ11 [26] (some a0)) fun a16 =>
    bd (f_X7_names N a16 l1 (2 : Int32) l5 σ11) fun _ σ15 =>
    ob (o_gR σ15 [26] 4 (some a0)) fun x17 =>
    ob (o_gR σ15 [40] 21 x17) fun x18 =>
    ob (o_sI σ15 1 x18 l5 l3) fun σ19 =>
    ob (o_gR σ19 [26] 4 (some a0)) fun x20 =>
    ob (o_gR σ19 [40] 22 x20) fun x21 =>
    ob (o_sI σ19 1 x21 l5 l4) fun σ22 =>
    ob (o_gR σ22 [26] 4 (some a0)) fun x23 =>
    ob (o_gR σ22 [40] 23 x23) fun x24 =>
    ob (o_sI σ22 1 x24 l5 l6) fun σ25 =>
    ob (o_gR σ25 [26] 4 (some a0)) fun x26 =>
    ob (o_gR σ25 [40] 25 x26) fun x27 =>
    ob (o_sI σ25 1 x27 l5 x7) fun σ28 =>
    ob (o_gR σ28 [26] 4 (some a0)) fun x29 =>
    ob (o_gR σ28 [40] 26 x29) fun x30 =>
    ob (o_sI σ28 1 x30 l5 x10) fun σ31 =>
    ob (o_gR σ31 [26] 4 (some a0)) fun x32 =>
    ob (o_gI σ31 [40] 5 x32) fun x33 =>
    ob (o_pI σ31 0 [40] 5 x32 (x33 + (1 : Int32))) fun σ34 =>
    some ((), σ34)
def f_X7_readGoat_b287 (N : Nat) (K161 : Nat → Int64 → Int32 → Int32 → Int32 → Int32 → Int32 → Mem → Option (Unit × Mem)) (a0 : Nat) (l1 : Int64) (l3 : Int32) (l4 : Int32) (l5 : Int32) (l6 : Int32) (l7 : Int32) (σ : Mem) : Option (Unit × Mem) :=
  K161 a0 l1 l3 l4 l5 l6 (l7 + (1 : Int32)) σ
def f_X7_readGoat_b240 (N : Nat) (K161 : Nat → Int64 → Int32 → Int32 → Int32 → Int32 → Int32 → Mem → Option (Unit × Mem)) (K206 : Nat → Int64 → Int32 → Int32 → Int32 → Int32 → Int32 → Int32 → Int32 → Mem → Option (Unit × Mem)) (a0 : Nat) (l1 : Int64) (l3 : Int32) (l4 : Int32) (l5 : Int32) (l6 : Int32) (l7 : Int32) (l9 : Int32) (t0 : Int32) (σ : Mem) : Option (Unit × Mem) :=
  K206 a0 l1 l3 l4 l5 l6 l7 t0 (l9 + (1 : Int32)) σ
def f_X7_readGoat_b239 (N : Nat) (K161 : Nat → Int64 → Int32 → Int32 → Int32 → Int32 → Int32 → Mem → Option (Unit × Mem)) (K206 : Nat → Int64 → Int32 → Int32 → Int32 → Int32 → Int32 → Int32 → Int32 → Mem → Option (Unit × Mem)) (a0 : Nat) (l1 : Int64) (l3 : Int32) (l4 : Int32) (l5 : Int32) (l6 : Int32) (l7 : Int32) (l9 : Int32) (σ : Mem) : Option (Unit × Mem) :=
  f_X7_readGoat_b240 N K161 K206 a0 l1 l3 l4 l5 l6 l7 l9 (0 : Int32) σ
def f_X7_readGoat_b206B (N : Nat) (K161 : Nat → Int64 → Int32 → Int32 → Int32 → Int32 → Int32 → Mem → Option (Unit × Mem)) (K206 : Nat → Int64 → Int32 → Int32 → Int32 → Int32 → Int32 → Int32 → Int32 → Mem → Option (Unit × Mem)) (a0 : Nat) (l1 : Int64) (l3 : Int32) (l4 : Int32) (l5 : Int32) (l6 : Int32) (l7 : Int32) (l8 : Int32) (l9 : Int32) (σ : Mem) : Option (Unit × Mem) :=
  if l7 ≤ l9 then
    if l8 = 0 then
      ob (o_at σ [26] (some a0)) fun a3 =>
      bd (f_X7_flaw N a3 (7 : Int32) σ) fun _ σ2 =>
      f_X7_readGoat_b287 N K161 a0 l1 l3 l4 l5 l6 l7 σ2
    else
      ob (o_gR σ [26] 4 (some a0)) fun x4 =>
      ob (o_gR σ [40] 24 x4) fun x5 =>
      ob (o_gR σ [26] 16 (some a0)) fun x6 =>
      ob (o_aI σ 1 x6 l7) fun x7 =>
      ob (o_sI σ 1 x5 (((4 : Int32) * l5) + l7) (x7 - (97 : Int32))) fun σ8 =>
      f_X7_readGoat_b287 N K161 a0 l1 l3 l4 l5 l6 l7 σ8
  else
    if l8 = 0 then
      f_X7_readGoat_b239 N K161 K206 a0 l1 l3 l4 l5 l6 l7 l9 σ
    else
      ob (o_gR σ [26] 16 (some a0)) fun x9 =>
      ob (o_aI σ 1 x9 l9) fun x10 =>
      ob (o_gR σ [26] 16 (some a0)) fun x11 =>
      ob (o_aI σ 1 x11 l7) fun x12 =>
      if x10 = x12 then
        f_X7_readGoat_b239 N K161 K206 a0 l1 l3 l4 l5 l6 l7 l9 σ
      else
        f_X7_readGoat_b240 N K161 K206 a0 l1 l3 l4 l5 l6 l7 l9 (1 : Int32) σ
def f_X7_readGoat_b206 (N : Nat) (K161 : Nat → Int64 → Int32 → Int32 → Int32 → Int32 → Int32 → Mem → Option (Unit × Mem)) : Nat → Nat → Int64 → Int32 → Int32 → Int32 → Int32 → Int32 → Int32 → Int32 → Mem → Option (Unit × Mem)
  | 0, _, _, _, _, _, _, _, _, _, _ => none
  | n + 1, a0, l1, l3, l4, l5, l6, l7, l8, l9, σ => f_X7_readGoat_b206B N K161 (f_X7_readGoat_b206 N K161 n) a0 l1 l3 l4 l5 l6 l7 l8 l9 σ
def f_X7_readGoat_b161B (N : Nat)  (K161 : Nat → Int64 → Int32 → Int32 → Int32 → Int32 → Int32 → Mem → Option (Unit × Mem)) (a0 : Nat) (l1 : Int64) (l3 : Int32) (l4 : Int32) (l5 : Int32) (l6 : Int32) (l7 : Int32) (σ : Mem) : Option (Unit × Mem) :=
  ob (o_gI σ [26] 9 (some a0)) fun x1 =>
  if x1 = (5 : Int32) then
    f_X7_readGoat_b293 N  a0 l1 l3 l4 l5 l6 σ
  else
    ob (o_gI σ [26] 13 (some a0)) fun x2 =>
    if x2 ≤ l7 then
      f_X7_readGoat_b293 N  a0 l1 l3 l4 l5 l6 σ
    else
      ob (o_gR σ [26] 16 (some a0)) fun x3 =>
      ob (o_aI σ 1 x3 l7) fun x4 =>
      ob (o_gR σ [26] 4 (some a0)) fun x5 =>
      ob (o_gI σ [40] 1 x5) fun x6 =>
      bd (f_X7_within N (x4 - (97 : Int32)) (0 : Int32) (x6 - (1 : Int32)) σ) fun x7 σ8 =>
      f_X7_readGoat_b206 N K161 N a0 l1 l3 l4 l5 l6 l7 x7 (0 : Int32) σ8
def f_X7_readGoat_b161 (N : Nat)  : Nat → Nat → Int64 → Int32 → Int32 → Int32 → Int32 → Int32 → Mem → Option (Unit × Mem)
  | 0, _, _, _, _, _, _, _, _ => none
  | n + 1, a0, l1, l3, l4, l5, l6, l7, σ => f_X7_readGoat_b161B N  (f_X7_readGoat_b161 N  n) a0 l1 l3 l4 l5 l6 l7 σ
def f_X7_readGoat_b150 (N : Nat)  (a0 : Nat) (l1 : Int64) (l3 : Int32) (l4 : Int32) (t0 : Int32) (σ : Mem) : Option (Unit × Mem) :=
  ob (o_gI σ [26] 13 (some a0)) fun x1 =>
  f_X7_readGoat_b161 N  N a0 l1 l3 l4 t0 x1 (0 : Int32) σ
def f_X7_readGoat_b127 (N : Nat)  (a0 : Nat) (l1 : Int64) (l3 : Int32) (l4 : Int32) (σ : Mem) : Option (Unit × Mem) :=
  ob (o_gR σ [26] 4 (some a0)) fun x1 =>
  ob (o_gI σ [40] 5 x1) fun x2 =>
  if (6 : Int32) ≤ x2 then
    f_X7_readGoat_b150 N  a0 l1 l3 l4 (0 : Int32) σ
  else
    ob (o_gR σ [26] 4 (some a0)) fun x3 =>
    ob (o_gI σ [40] 5 x3) fun x4 =>
    f_X7_readGoat_b150 N  a0 l1 l3 l4 x4 σ
def f_X7_readGoat_b105 (N : Nat)  (a0 : Nat) (l1 : Int64) (l3 : Int32) (t0 : Int32) (σ : Mem) : Option (Unit × Mem) :=
  ob (o_at σ [26] (some a0)) fun a3 =>
  bd (f_X7_wants N a3 (some 48) σ) fun _ σ2 =>
  ob (o_gI σ2 [26] 9 (some a0)) fun x4 =>
  if x4 = (2 : Int32) then
    f_X7_readGoat_b127 N  a0 l1 l3 t0 σ2
  else
    ob (o_at σ2 [26] (some a0)) fun a7 =>
    bd (f_X7_flaw N a7 (1 : Int32) σ2) fun _ σ6 =>
    f_X7_readGoat_b127 N  a0 l1 l3 t0 σ6
def f_X7_readGoat_b86 (N : Nat)  (a0 : Nat) (l1 : Int64) (l3 : Int32) (σ : Mem) : Option (Unit × Mem) :=
  ob (o_at σ [26] (some a0)) fun a3 =>
  bd (f_X7_goesOn N a3  σ) fun _ σ2 =>
  if l3 = (3 : Int32) then
    ob (o_at σ2 [26] (some a0)) fun a6 =>
    bd (f_X7_readKnown N a6 (2 : Int32) σ2) fun x4 σ5 =>
    f_X7_readGoat_b105 N  a0 l1 l3 x4 σ5
  else
    f_X7_readGoat_b105 N  a0 l1 l3 (-2 : Int32) σ2
def f_X7_readGoat_b75 (N : Nat)  (a0 : Nat) (l1 : Int64) (t0 : Int32) (σ : Mem) : Option (Unit × Mem) :=
  if t0 = (-1 : Int32) then
    ob (o_at σ [26] (some a0)) fun a3 =>
    bd (f_X7_flaw N a3 (1 : Int32) σ) fun _ σ2 =>
    f_X7_readGoat_b86 N  a0 l1 t0 σ2
  else
    f_X7_readGoat_b86 N  a0 l1 t0 σ
def f_X7_readGoat (N : Nat) (a0 : Nat) (σ : Mem) : Option (Unit × Mem) :=
  ob (o_gR σ [26] 4 (some a0)) fun x1 =>
  ob (o_gI σ [40] 5 x1) fun x2 =>
  ob (o_at σ [26] (some a0)) fun a5 =>
  bd (f_X7_begins N a5 x2 (6 : Int32) σ) fun _ σ4 =>
  ob (o_at σ4 [26] (some a0)) fun a8 =>
  bd (f_X7_readFresh N a8  σ4) fun y6 σ7 =>
  ob (o_at σ7 [26] (some a0)) fun a11 =>
  bd (f_X7_isWord N a11 (some 40) σ7) fun x9 σ10 =>
  if x9 = 0 then
    ob (o_at σ10 [26] (some a0)) fun a14 =>
    bd (f_X7_isWord N a14 (some 42) σ10) fun x12 σ13 =>
    if x12 = 0 then
      ob (o_at σ13 [26] (some a0)) fun a17 =>
      bd (f_X7_isWord N a17 (some 44) σ13) fun x15 σ16 =>
      if x15 = 0 then
        ob (o_at σ16 [26] (some a0)) fun a20 =>
        bd (f_X7_isWord N a20 (some 46) σ16) fun x18 σ19 =>
        if x18 = 0 then
          f_X7_readGoat_b75 N  a0 y6 (-1 : Int32) σ19
        else
          f_X7_readGoat_b75 N  a0 y6 (3 : Int32) σ19
      else
        f_X7_readGoat_b75 N  a0 y6 (2 : Int32) σ16
    else
      f_X7_readGoat_b75 N  a0 y6 (1 : Int32) σ13
  else
    f_X7_readGoat_b75 N  a0 y6 (0 : Int32) σ10
def f_X7_bit (N : Nat) (i0 : Int32) (i1 : Int32) (σ : Mem) : Option (Int32 × Mem) :=
  if ((i0 >>> (i1 &&& 31)) &&& (1 : Int32)) = (1 : Int32) then
    ob (o_nr 1 (1 : Int32)) fun _ => some ((1 : Int32), σ)
  else
    ob (o_nr 1 (0 : Int32)) fun _ => some ((0 : Int32), σ)
def f_X7_readFears_b54 (N : Nat)  (a0 : Nat) (l1 : Int32) (l2 : Int32) (σ : Mem) : Option (Unit × Mem) :=
  ob (o_at σ [26] (some a0)) fun a3 =>
  bd (f_X7_goesOn N a3  σ) fun _ σ2 =>
  ob (o_gI σ2 [26] 9 (some a0)) fun x4 =>
  if x4 = (5 : Int32) then
    some ((), σ2)
  else
    ob (o_gR σ2 [26] 4 (some a0)) fun x5 =>
    ob (o_gR σ2 [40] 27 x5) fun x6 =>
    ob (o_aI σ2 1 x6 l1) fun x7 =>
    ob (o_sI σ2 1 x6 l1 (x7 ||| ((1 : Int32) <<< (l2 &&& 31)))) fun σ8 =>
    ob (o_gR σ8 [26] 4 (some a0)) fun x9 =>
    ob (o_gI σ8 [40] 6 x9) fun x10 =>
    ob (o_pI σ8 0 [40] 6 x9 (x10 + (1 : Int32))) fun σ11 =>
    some ((), σ11)
def f_X7_readFears (N : Nat) (a0 : Nat) (σ : Mem) : Option (Unit × Mem) :=
  ob (o_gR σ [26] 4 (some a0)) fun x1 =>
  ob (o_gI σ [40] 6 x1) fun x2 =>
  ob (o_at σ [26] (some a0)) fun a5 =>
  bd (f_X7_begins N a5 x2 (8 : Int32) σ) fun _ σ4 =>
  ob (o_at σ4 [26] (some a0)) fun a8 =>
  bd (f_X7_readKnown N a8 (2 : Int32) σ4) fun x6 σ7 =>
  ob (o_at σ7 [26] (some a0)) fun a11 =>
  bd (f_X7_known N a11 (1 : Int32) σ7) fun x9 σ10 =>
  ob (o_gI σ10 [26] 9 (some a0)) fun x12 =>
  if x12 = (5 : Int32) then
    f_X7_readFears_b54 N  a0 x6 x9 σ10
  else
    ob (o_gR σ10 [26] 4 (some a0)) fun x13 =>
    ob (o_gR σ10 [40] 27 x13) fun x14 =>
    ob (o_aI σ10 1 x14 x6) fun x15 =>
    bd (f_X7_bit N x15 x9 σ10) fun x16 σ17 =>
    if x16 = 0 then
      f_X7_readFears_b54 N  a0 x6 x9 σ17
    else
      ob (o_at σ17 [26] (some a0)) fun a20 =>
      bd (f_X7_flaw N a20 (3 : Int32) σ17) fun _ σ19 =>
      f_X7_readFears_b54 N  a0 x6 x9 σ19
def f_X7_readPlant_b74 (N : Nat)  (a0 : Nat) (l1 : Int32) (σ : Mem) : Option (Int32 × Mem) :=
  ob (o_at σ [26] (some a0)) fun a3 =>
  bd (f_X7_goesOn N a3  σ) fun _ σ2 =>
  some (l1, σ2)
def f_X7_readPlant_b68 (N : Nat)  (a0 : Nat) (l1 : Int32) (σ : Mem) : Option (Int32 × Mem) :=
  ob (o_at σ [26] (some a0)) fun a3 =>
  bd (f_X7_flaw N a3 (7 : Int32) σ) fun _ σ2 =>
  f_X7_readPlant_b74 N  a0 l1 σ2
def f_X7_readPlant_b34 (N : Nat)  (a0 : Nat) (t0 : Int32) (σ : Mem) : Option (Int32 × Mem) :=
  ob (o_gI σ [26] 9 (some a0)) fun x1 =>
  if x1 = (5 : Int32) then
    f_X7_readPlant_b74 N  a0 t0 σ
  else
    ob (o_gI σ [26] 13 (some a0)) fun x2 =>
    if x2 = (1 : Int32) then
      ob (o_gR σ [26] 4 (some a0)) fun x3 =>
      ob (o_gI σ [40] 1 x3) fun x4 =>
      bd (f_X7_within N t0 (0 : Int32) (x4 - (1 : Int32)) σ) fun x5 σ6 =>
      if x5 = 0 then
        f_X7_readPlant_b68 N  a0 t0 σ6
      else
        f_X7_readPlant_b74 N  a0 t0 σ6
    else
      f_X7_readPlant_b68 N  a0 t0 σ
def f_X7_readPlant_b13 (N : Nat)  (a0 : Nat) (σ : Mem) : Option (Int32 × Mem) :=
  ob (o_gI σ [26] 9 (some a0)) fun x1 =>
  if x1 = (5 : Int32) then
    f_X7_readPlant_b34 N  a0 (0 : Int32) σ
  else
    ob (o_gR σ [26] 16 (some a0)) fun x2 =>
    ob (o_aI σ 1 x2 (0 : Int32)) fun x3 =>
    f_X7_readPlant_b34 N  a0 (x3 - (97 : Int32)) σ
def f_X7_readPlant (N : Nat) (a0 : Nat) (σ : Mem) : Option (Int32 × Mem) :=
  ob (o_gI σ [26] 9 (some a0)) fun x1 =>
  if x1 = (2 : Int32) then
    f_X7_readPlant_b13 N  a0 σ
  else
    ob (o_at σ [26] (some a0)) fun a4 =>
    bd (f_X7_flaw N a4 (1 : Int32) σ) fun _ σ3 =>
    f_X7_readPlant_b13 N  a0 σ3
def f_X7_readClue_b58 (N : Nat)  (a0 : Nat) (l1 : Int32) (l2 : Int32) (l3 : Int32) (l4 : Int32) (σ : Mem) : Option (Unit × Mem) :=
  ob (o_gI σ [26] 9 (some a0)) fun x1 =>
  if x1 = (5 : Int32) then
    some ((), σ)
  else
    ob (o_gR σ [26] 4 (some a0)) fun x2 =>
    ob (o_gI σ [40] 7 x2) fun x3 =>
    ob (o_gR σ [26] 4 (some a0)) fun x4 =>
    ob (o_gR σ [40] 28 x4) fun x5 =>
    ob (o_sI σ 1 x5 x3 l1) fun σ6 =>
    ob (o_gR σ6 [26] 4 (some a0)) fun x7 =>
    ob (o_gR σ6 [40] 29 x7) fun x8 =>
    ob (o_sI σ6 1 x8 x3 l2) fun σ9 =>
    ob (o_gR σ9 [26] 4 (some a0)) fun x10 =>
    ob (o_gR σ9 [40] 30 x10) fun x11 =>
    ob (o_sI σ9 1 x11 x3 l4) fun σ12 =>
    ob (o_gR σ12 [26] 4 (some a0)) fun x13 =>
    ob (o_gR σ12 [40] 31 x13) fun x14 =>
    ob (o_sI σ12 1 x14 x3 l3) fun σ15 =>
    ob (o_gR σ15 [26] 4 (some a0)) fun x16 =>
    ob (o_gI σ15 [40] 7 x16) fun x17 =>
    ob (o_pI σ15 0 [40] 7 x16 (x17 + (1 : Int32))) fun σ18 =>
    some ((), σ18)
def f_X7_readClue_b31 (N : Nat)  (a0 : Nat) (l1 : Int32) (l2 : Int32) (t0 : Int32) (σ : Mem) : Option (Unit × Mem) :=
  ob (o_at σ [26] (some a0)) fun a3 =>
  bd (f_X7_readKnown N a3 (0 : Int32) σ) fun x1 σ2 =>
  if l1 = 0 then
    f_X7_readClue_b58 N  a0 l1 l2 t0 x1 σ2
  else
    ob (o_gR σ2 [26] 4 (some a0)) fun x4 =>
    ob (o_gI σ2 [40] 0 x4) fun x5 =>
    ob (o_at σ2 [26] (some a0)) fun a8 =>
    bd (f_X7_readWhole N a8 (0 : Int32) (x5 - (1 : Int32)) σ2) fun x6 σ7 =>
    f_X7_readClue_b58 N  a0 l1 l2 x6 x1 σ7
def f_X7_readClue (N : Nat) (a0 : Nat) (i1 : Int32) (σ : Mem) : Option (Unit × Mem) :=
  ob (o_gR σ [26] 4 (some a0)) fun x1 =>
  ob (o_gI σ [40] 7 x1) fun x2 =>
  ob (o_at σ [26] (some a0)) fun a5 =>
  bd (f_X7_begins N a5 x2 (10 : Int32) σ) fun _ σ4 =>
  ob (o_at σ4 [26] (some a0)) fun a8 =>
  bd (f_X7_readKnown N a8 (2 : Int32) σ4) fun x6 σ7 =>
  if i1 = 0 then
    ob (o_at σ7 [26] (some a0)) fun a11 =>
    bd (f_X7_readPlant N a11  σ7) fun x9 σ10 =>
    f_X7_readClue_b31 N  a0 i1 x6 x9 σ10
  else
    f_X7_readClue_b31 N  a0 i1 x6 (0 : Int32) σ7
def f_X7_readFact (N : Nat) (a0 : Nat) (σ : Mem) : Option (Unit × Mem) :=
  ob (o_gR σ [26] 4 (some a0)) fun x1 =>
  ob (o_gI σ [40] 8 x1) fun x2 =>
  ob (o_at σ [26] (some a0)) fun a5 =>
  bd (f_X7_begins N a5 x2 (8 : Int32) σ) fun _ σ4 =>
  ob (o_at σ4 [26] (some a0)) fun a8 =>
  bd (f_X7_readFresh N a8  σ4) fun y6 σ7 =>
  ob (o_gI σ7 [26] 9 (some a0)) fun x9 =>
  if x9 = (5 : Int32) then
    some ((), σ7)
  else
    ob (o_gR σ7 [26] 4 (some a0)) fun x10 =>
    ob (o_gI σ7 [40] 8 x10) fun x11 =>
    ob (o_at σ7 [26] (some a0)) fun a14 =>
    bd (f_X7_names N a14 y6 (3 : Int32) x11 σ7) fun _ σ13 =>
    ob (o_gR σ13 [26] 4 (some a0)) fun x15 =>
    ob (o_gI σ13 [40] 8 x15) fun x16 =>
    ob (o_pI σ13 0 [40] 8 x15 (x16 + (1 : Int32))) fun σ17 =>
    some ((), σ17)
def f_X7_readHolds_b39 (N : Nat)  (a0 : Nat) (l1 : Int32) (σ : Mem) : Option (Unit × Mem) :=
  ob (o_at σ [26] (some a0)) fun a3 =>
  bd (f_X7_goesOn N a3  σ) fun _ σ2 =>
  ob (o_gI σ2 [26] 9 (some a0)) fun x4 =>
  if x4 = (5 : Int32) then
    some ((), σ2)
  else
    ob (o_gR σ2 [26] 4 (some a0)) fun x5 =>
    ob (o_gI σ2 [40] 13 x5) fun x6 =>
    ob (o_pI σ2 0 [40] 13 x5 (x6 ||| ((1 : Int32) <<< (l1 &&& 31)))) fun σ7 =>
    some ((), σ7)
def f_X7_readHolds (N : Nat) (a0 : Nat) (σ : Mem) : Option (Unit × Mem) :=
  ob (o_at σ [26] (some a0)) fun a3 =>
  bd (f_X7_begins N a3 (0 : Int32) (1 : Int32) σ) fun _ σ2 =>
  ob (o_at σ2 [26] (some a0)) fun a6 =>
  bd (f_X7_known N a6 (3 : Int32) σ2) fun x4 σ5 =>
  ob (o_gI σ5 [26] 9 (some a0)) fun x7 =>
  if x7 = (5 : Int32) then
    f_X7_readHolds_b39 N  a0 x4 σ5
  else
    ob (o_gR σ5 [26] 4 (some a0)) fun x8 =>
    ob (o_gI σ5 [40] 13 x8) fun x9 =>
    bd (f_X7_bit N x9 x4 σ5) fun x10 σ11 =>
    if x10 = 0 then
      f_X7_readHolds_b39 N  a0 x4 σ11
    else
      ob (o_at σ11 [26] (some a0)) fun a14 =>
      bd (f_X7_flaw N a14 (3 : Int32) σ11) fun _ σ13 =>
      f_X7_readHolds_b39 N  a0 x4 σ13
def f_X7_bits_b4B (N : Nat)  (K4 : Int32 → Int32 → Mem → Option (Int32 × Mem)) (l1 : Int32) (l2 : Int32) (σ : Mem) : Option (Int32 × Mem) :=
  if l2 = 0 then
    some (l1, σ)
  else
    K4 (l1 + (1 : Int32)) (l2 &&& (l2 - (1 : Int32))) σ
def f_X7_bits_b4 (N : Nat)  : Nat → Int32 → Int32 → Mem → Option (Int32 × Mem)
  | 0, _, _, _ => none
  | n + 1, l1, l2, σ => f_X7_bits_b4B N  (f_X7_bits_b4 N  n) l1 l2 σ
def f_X7_bits (N : Nat) (i0 : Int32) (σ : Mem) : Option (Int32 × Mem) :=
  f_X7_bits_b4 N  N (0 : Int32) i0 σ
def f_X7_readRule_b83 (N : Nat) (K29 : Nat → Int32 → Int32 → Int32 → Mem → Option (Unit × Mem)) (a0 : Nat) (l1 : Int32) (l2 : Int32) (l4 : Int32) (σ : Mem) : Option (Unit × Mem) :=
  ob (o_at σ [26] (some a0)) fun a3 =>
  bd (f_X7_goesOn N a3  σ) fun _ σ2 =>
  ob (o_gI σ2 [26] 9 (some a0)) fun x4 =>
  if x4 = (5 : Int32) then
    some ((), σ2)
  else
    ob (o_at σ2 [26] (some a0)) fun a7 =>
    bd (f_X7_eatsSign N a7 (44 : Int32) σ2) fun x5 σ6 =>
    K29 a0 l1 (l2 ||| ((1 : Int32) <<< (l4 &&& 31))) x5 σ6
def f_X7_readRule_b62 (N : Nat) (K29 : Nat → Int32 → Int32 → Int32 → Mem → Option (Unit × Mem)) (a0 : Nat) (l1 : Int32) (l2 : Int32) (l4 : Int32) (σ : Mem) : Option (Unit × Mem) :=
  ob (o_gI σ [26] 9 (some a0)) fun x1 =>
  if x1 = (5 : Int32) then
    f_X7_readRule_b83 N K29 a0 l1 l2 l4 σ
  else
    bd (f_X7_bits N l2 σ) fun x2 σ3 =>
    if x2 = (3 : Int32) then
      ob (o_at σ3 [26] (some a0)) fun a6 =>
      bd (f_X7_flaw N a6 (5 : Int32) σ3) fun _ σ5 =>
      f_X7_readRule_b83 N K29 a0 l1 l2 l4 σ5
    else
      f_X7_readRule_b83 N K29 a0 l1 l2 l4 σ3
def f_X7_readRule_b29B (N : Nat)  (K29 : Nat → Int32 → Int32 → Int32 → Mem → Option (Unit × Mem)) (a0 : Nat) (l1 : Int32) (l2 : Int32) (l3 : Int32) (σ : Mem) : Option (Unit × Mem) :=
  if l3 = 0 then
    ob (o_gR σ [26] 4 (some a0)) fun x1 =>
    ob (o_gR σ [40] 32 x1) fun x2 =>
    ob (o_gR σ [26] 4 (some a0)) fun x3 =>
    ob (o_gI σ [40] 9 x3) fun x4 =>
    ob (o_sI σ 1 x2 x4 l1) fun σ5 =>
    ob (o_gR σ5 [26] 4 (some a0)) fun x6 =>
    ob (o_gR σ5 [40] 33 x6) fun x7 =>
    ob (o_gR σ5 [26] 4 (some a0)) fun x8 =>
    ob (o_gI σ5 [40] 9 x8) fun x9 =>
    ob (o_sI σ5 1 x7 x9 l2) fun σ10 =>
    ob (o_gR σ10 [26] 4 (some a0)) fun x11 =>
    ob (o_gI σ10 [40] 9 x11) fun x12 =>
    ob (o_pI σ10 0 [40] 9 x11 (x12 + (1 : Int32))) fun σ13 =>
    some ((), σ13)
  else
    ob (o_at σ [26] (some a0)) fun a16 =>
    bd (f_X7_known N a16 (3 : Int32) σ) fun x14 σ15 =>
    ob (o_gI σ15 [26] 9 (some a0)) fun x17 =>
    if x17 = (5 : Int32) then
      f_X7_readRule_b62 N K29 a0 l1 l2 x14 σ15
    else
      bd (f_X7_bit N l2 x14 σ15) fun x18 σ19 =>
      if x18 = 0 then
        f_X7_readRule_b62 N K29 a0 l1 l2 x14 σ19
      else
        ob (o_at σ19 [26] (some a0)) fun a22 =>
        bd (f_X7_flaw N a22 (3 : Int32) σ19) fun _ σ21 =>
        f_X7_readRule_b62 N K29 a0 l1 l2 x14 σ21
def f_X7_readRule_b29 (N : Nat)  : Nat → Nat → Int32 → Int32 → Int32 → Mem → Option (Unit × Mem)
  | 0, _, _, _, _, _ => none
  | n + 1, a0, l1, l2, l3, σ => f_X7_readRule_b29B N  (f_X7_readRule_b29 N  n) a0 l1 l2 l3 σ
def f_X7_readRule (N : Nat) (a0 : Nat) (σ : Mem) : Option (Unit × Mem) :=
  ob (o_gR σ [26] 4 (some a0)) fun x1 =>
  ob (o_gI σ [40] 9 x1) fun x2 =>
  ob (o_at σ [26] (some a0)) fun a5 =>
  bd (f_X7_begins N a5 x2 (8 : Int32) σ) fun _ σ4 =>
  ob (o_at σ4 [26] (some a0)) fun a8 =>
  bd (f_X7_readKnown N a8 (3 : Int32) σ4) fun x6 σ7 =>
  ob (o_at σ7 [26] (some a0)) fun a11 =>
  bd (f_X7_wants N a11 (some 38) σ7) fun _ σ10 =>
  f_X7_readRule_b29 N  N a0 x6 (0 : Int32) (1 : Int32) σ10
def f_X7_beginsOnce_b9 (N : Nat)  (a0 : Nat) (σ : Mem) : Option (Unit × Mem) :=
  ob (o_at σ [26] (some a0)) fun a3 =>
  bd (f_X7_begins N a3 (0 : Int32) (1 : Int32) σ) fun _ σ2 =>
  some ((), σ2)
def f_X7_beginsOnce (N : Nat) (a0 : Nat) (i1 : Int32) (σ : Mem) : Option (Unit × Mem) :=
  if i1 = 0 then
    f_X7_beginsOnce_b9 N  a0 σ
  else
    ob (o_at σ [26] (some a0)) fun a3 =>
    bd (f_X7_flaw N a3 (3 : Int32) σ) fun _ σ2 =>
    f_X7_beginsOnce_b9 N  a0 σ2
def f_X7_readProof_b40 (N : Nat) (K13 : Nat → Int32 → Mem → Option (Unit × Mem)) (a0 : Nat) (l2 : Int32) (σ : Mem) : Option (Unit × Mem) :=
  ob (o_at σ [26] (some a0)) fun a3 =>
  bd (f_X7_goesOn N a3  σ) fun _ σ2 =>
  ob (o_gI σ2 [26] 9 (some a0)) fun x4 =>
  if x4 = (5 : Int32) then
    some ((), σ2)
  else
    ob (o_gR σ2 [26] 4 (some a0)) fun x5 =>
    ob (o_gR σ2 [40] 34 x5) fun x6 =>
    ob (o_gR σ2 [26] 4 (some a0)) fun x7 =>
    ob (o_gI σ2 [40] 10 x7) fun x8 =>
    ob (o_sI σ2 1 x6 x8 l2) fun σ9 =>
    ob (o_gR σ9 [26] 4 (some a0)) fun x10 =>
    ob (o_gI σ9 [40] 10 x10) fun x11 =>
    ob (o_pI σ9 0 [40] 10 x10 (x11 + (1 : Int32))) fun σ12 =>
    ob (o_at σ12 [26] (some a0)) fun a15 =>
    bd (f_X7_eatsSign N a15 (44 : Int32) σ12) fun x13 σ14 =>
    K13 a0 x13 σ14
def f_X7_readProof_b13B (N : Nat)  (K13 : Nat → Int32 → Mem → Option (Unit × Mem)) (a0 : Nat) (l1 : Int32) (σ : Mem) : Option (Unit × Mem) :=
  if l1 = 0 then
    ob (o_gR σ [26] 4 (some a0)) fun x1 =>
    ob (o_pI σ 1 [40] 14 x1 (1 : Int32)) fun σ2 =>
    some ((), σ2)
  else
    ob (o_at σ [26] (some a0)) fun a5 =>
    bd (f_X7_known N a5 (3 : Int32) σ) fun x3 σ4 =>
    ob (o_gR σ4 [26] 4 (some a0)) fun x6 =>
    ob (o_gI σ4 [40] 10 x6) fun x7 =>
    if x7 = (8 : Int32) then
      ob (o_at σ4 [26] (some a0)) fun a10 =>
      bd (f_X7_flaw N a10 (5 : Int32) σ4) fun _ σ9 =>
      f_X7_readProof_b40 N K13 a0 x3 σ9
    else
      f_X7_readProof_b40 N K13 a0 x3 σ4
def f_X7_readProof_b13 (N : Nat)  : Nat → Nat → Int32 → Mem → Option (Unit × Mem)
  | 0, _, _, _ => none
  | n + 1, a0, l1, σ => f_X7_readProof_b13B N  (f_X7_readProof_b13 N  n) a0 l1 σ
def f_X7_readProof (N : Nat) (a0 : Nat) (σ : Mem) : Option (Unit × Mem) :=
  ob (o_gR σ [26] 4 (some a0)) fun x1 =>
  ob (o_gI σ [40] 14 x1) fun x2 =>
  ob (o_at σ [26] (some a0)) fun a5 =>
  bd (f_X7_beginsOnce N a5 x2 σ) fun _ σ4 =>
  f_X7_readProof_b13 N  N a0 (1 : Int32) σ4
def f_X7_readCourt (N : Nat) (a0 : Nat) (σ : Mem) : Option (Unit × Mem) :=
  ob (o_gR σ [26] 4 (some a0)) fun x1 =>
  ob (o_gI σ [40] 11 x1) fun x2 =>
  ob (o_at σ [26] (some a0)) fun a5 =>
  bd (f_X7_begins N a5 x2 (6 : Int32) σ) fun _ σ4 =>
  ob (o_at σ4 [26] (some a0)) fun a8 =>
  bd (f_X7_readFresh N a8  σ4) fun y6 σ7 =>
  ob (o_at σ7 [26] (some a0)) fun a11 =>
  bd (f_X7_readPart N a11 (some 54) (0 : Int32) (99 : Int32) σ7) fun x9 σ10 =>
  ob (o_at σ10 [26] (some a0)) fun a14 =>
  bd (f_X7_readPart N a14 (some 56) (1 : Int32) (9 : Int32) σ10) fun x12 σ13 =>
  ob (o_gI σ13 [26] 9 (some a0)) fun x15 =>
  if x15 = (5 : Int32) then
    some ((), σ13)
  else
    ob (o_gR σ13 [26] 4 (some a0)) fun x16 =>
    ob (o_gI σ13 [40] 11 x16) fun x17 =>
    ob (o_at σ13 [26] (some a0)) fun a20 =>
    bd (f_X7_names N a20 y6 (4 : Int32) x17 σ13) fun _ σ19 =>
    ob (o_gR σ19 [26] 4 (some a0)) fun x21 =>
    ob (o_gR σ19 [40] 35 x21) fun x22 =>
    ob (o_gR σ19 [26] 4 (some a0)) fun x23 =>
    ob (o_gI σ19 [40] 11 x23) fun x24 =>
    ob (o_sI σ19 1 x22 x24 x9) fun σ25 =>
    ob (o_gR σ25 [26] 4 (some a0)) fun x26 =>
    ob (o_gR σ25 [40] 36 x26) fun x27 =>
    ob (o_gR σ25 [26] 4 (some a0)) fun x28 =>
    ob (o_gI σ25 [40] 11 x28) fun x29 =>
    ob (o_sI σ25 1 x27 x29 x12) fun σ30 =>
    ob (o_gR σ30 [26] 4 (some a0)) fun x31 =>
    ob (o_gI σ30 [40] 11 x31) fun x32 =>
    ob (o_pI σ30 0 [40] 11 x31 (x32 + (1 : Int32))) fun σ33 =>
    some ((), σ33)
def f_X7_readCheese (N : Nat) (a0 : Nat) (σ : Mem) : Option (Unit × Mem) :=
  ob (o_gR σ [26] 4 (some a0)) fun x1 =>
  ob (o_gI σ [40] 15 x1) fun x2 =>
  ob (o_at σ [26] (some a0)) fun a5 =>
  bd (f_X7_beginsOnce N a5 x2 σ) fun _ σ4 =>
  ob (o_gR σ4 [26] 4 (some a0)) fun x6 =>
  ob (o_gR σ4 [40] 37 x6) fun x7 =>
  ob (o_at σ4 [26] (some a0)) fun a10 =>
  bd (f_X7_readPlants N a10 x7 (0 : Int32) (99 : Int32) σ4) fun _ σ9 =>
  ob (o_gI σ9 [26] 9 (some a0)) fun x11 =>
  if x11 = (5 : Int32) then
    some ((), σ9)
  else
    ob (o_gR σ9 [26] 4 (some a0)) fun x12 =>
    ob (o_pI σ9 1 [40] 15 x12 (1 : Int32)) fun σ13 =>
    some ((), σ13)
def f_X7_readLine (N : Nat) (a0 : Nat) (σ : Mem) : Option (Unit × Mem) :=
  ob (o_at σ [26] (some a0)) fun a3 =>
  bd (f_X7_isWord N a3 (some 2) σ) fun x1 σ2 =>
  if x1 = 0 then
    ob (o_at σ2 [26] (some a0)) fun a6 =>
    bd (f_X7_isWord N a6 (some 4) σ2) fun x4 σ5 =>
    if x4 = 0 then
      ob (o_at σ5 [26] (some a0)) fun a9 =>
      bd (f_X7_isWord N a9 (some 6) σ5) fun x7 σ8 =>
      if x7 = 0 then
        ob (o_at σ8 [26] (some a0)) fun a12 =>
        bd (f_X7_isWord N a12 (some 8) σ8) fun x10 σ11 =>
        if x10 = 0 then
          ob (o_at σ11 [26] (some a0)) fun a15 =>
          bd (f_X7_isWord N a15 (some 10) σ11) fun x13 σ14 =>
          if x13 = 0 then
            ob (o_at σ14 [26] (some a0)) fun a18 =>
            bd (f_X7_isWord N a18 (some 12) σ14) fun x16 σ17 =>
            if x16 = 0 then
              ob (o_at σ17 [26] (some a0)) fun a21 =>
              bd (f_X7_isWord N a21 (some 14) σ17) fun x19 σ20 =>
              if x19 = 0 then
                ob (o_at σ20 [26] (some a0)) fun a24 =>
                bd (f_X7_isWord N a24 (some 16) σ20) fun x22 σ23 =>
                if x22 = 0 then
                  ob (o_at σ23 [26] (some a0)) fun a27 =>
                  bd (f_X7_isWord N a27 (some 18) σ23) fun x25 σ26 =>
                  if x25 = 0 then
                    ob (o_at σ26 [26] (some a0)) fun a30 =>
                    bd (f_X7_isWord N a30 (some 20) σ26) fun x28 σ29 =>
                    if x28 = 0 then
                      ob (o_at σ29 [26] (some a0)) fun a33 =>
                      bd (f_X7_isWord N a33 (some 22) σ29) fun x31 σ32 =>
                      if x31 = 0 then
                        ob (o_at σ32 [26] (some a0)) fun a36 =>
                        bd (f_X7_isWord N a36 (some 24) σ32) fun x34 σ35 =>
                        if x34 = 0 then
                          ob (o_at σ35 [26] (some a0)) fun a39 =>
                          bd (f_X7_isWord N a39 (some 26) σ35) fun x37 σ38 =>
                          if x37 = 0 then
                            ob (o_at σ38 [26] (some a0)) fun a42 =>
                            bd (f_X7_isWord N a42 (some 28) σ38) fun x40 σ41 =>
                            if x40 = 0 then
                              ob (o_at σ41 [26] (some a0)) fun a45 =>
                              bd (f_X7_isWord N a45 (some 30) σ41) fun x43 σ44 =>
                              if x43 = 0 then
                                ob (o_at σ44 [26] (some a0)) fun a48 =>
                                bd (f_X7_isWord N a48 (some 32) σ44) fun x46 σ47 =>
                                if x46 = 0 then
                                  ob (o_at σ47 [26] (some a0)) fun a51 =>
                                  bd (f_X7_flaw N a51 (1 : Int32) σ47) fun _ σ50 =>
                                  some ((), σ50)
                                else
                                  ob (o_at σ47 [26] (some a0)) fun a54 =>
                                  bd (f_X7_readCheese N a54  σ47) fun _ σ53 =>
                                  some ((), σ53)
                              else
                                ob (o_at σ44 [26] (some a0)) fun a57 =>
                                bd (f_X7_readCourt N a57  σ44) fun _ σ56 =>
                                some ((), σ56)
                            else
                              ob (o_at σ41 [26] (some a0)) fun a60 =>
                              bd (f_X7_readProof N a60  σ41) fun _ σ59 =>
                              some ((), σ59)
                          else
                            ob (o_at σ38 [26] (some a0)) fun a63 =>
                            bd (f_X7_readRule N a63  σ38) fun _ σ62 =>
                            some ((), σ62)
                        else
                          ob (o_at σ35 [26] (some a0)) fun a66 =>
                          bd (f_X7_readHolds N a66  σ35) fun _ σ65 =>
                          some ((), σ65)
                      else
                        ob (o_at σ32 [26] (some a0)) fun a69 =>
                        bd (f_X7_readFact N a69  σ32) fun _ σ68 =>
                        some ((), σ68)
                    else
                      ob (o_at σ29 [26] (some a0)) fun a72 =>
                      bd (f_X7_readClue N a72 (2 : Int32) σ29) fun _ σ71 =>
                      some ((), σ71)
                  else
                    ob (o_at σ26 [26] (some a0)) fun a75 =>
                    bd (f_X7_readClue N a75 (1 : Int32) σ26) fun _ σ74 =>
                    some ((), σ74)
                else
                  ob (o_at σ23 [26] (some a0)) fun a78 =>
                  bd (f_X7_readClue N a78 (0 : Int32) σ23) fun _ σ77 =>
                  some ((), σ77)
              else
                ob (o_at σ20 [26] (some a0)) fun a81 =>
                bd (f_X7_readFears N a81  σ20) fun _ σ80 =>
                some ((), σ80)
            else
              ob (o_at σ17 [26] (some a0)) fun a84 =>
              bd (f_X7_readGoat N a84  σ17) fun _ σ83 =>
              some ((), σ83)
          else
            ob (o_at σ14 [26] (some a0)) fun a87 =>
            bd (f_X7_readStory N a87  σ14) fun _ σ86 =>
            some ((), σ86)
        else
          ob (o_at σ11 [26] (some a0)) fun a90 =>
          bd (f_X7_readPerson N a90  σ11) fun _ σ89 =>
          some ((), σ89)
      else
        ob (o_at σ8 [26] (some a0)) fun a93 =>
        bd (f_X7_readPath N a93  σ8) fun _ σ92 =>
        some ((), σ92)
    else
      ob (o_at σ5 [26] (some a0)) fun a96 =>
      bd (f_X7_readPlace N a96  σ5) fun _ σ95 =>
      some ((), σ95)
  else
    ob (o_at σ2 [26] (some a0)) fun a99 =>
    bd (f_X7_readHill N a99  σ2) fun _ σ98 =>
    some ((), σ98)
def f_X7_readAll_b33 (N : Nat)  (a0 : Nat) (σ : Mem) : Option (Unit × Mem) :=
  ob (o_gR σ [26] 4 (some a0)) fun x1 =>
  ob (o_gI σ [40] 2 x1) fun x2 =>
  if x2 = 0 then
    ob (o_at σ [26] (some a0)) fun a5 =>
    bd (f_X7_flaw N a5 (6 : Int32) σ) fun _ σ4 =>
    some ((), σ4)
  else
    some ((), σ)
def f_X7_readAll_b2B (N : Nat)  (K2 : Nat → Int32 → Mem → Option (Unit × Mem)) (a0 : Nat) (l1 : Int32) (σ : Mem) : Option (Unit × Mem) :=
  if l1 = 0 then
    ob (o_gI σ [26] 9 (some a0)) fun x1 =>
    if x1 = (1 : Int32) then
      f_X7_readAll_b33 N  a0 σ
    else
      ob (o_at σ [26] (some a0)) fun a4 =>
      bd (f_X7_flaw N a4 (1 : Int32) σ) fun _ σ3 =>
      f_X7_readAll_b33 N  a0 σ3
  else
    ob (o_at σ [26] (some a0)) fun a7 =>
    bd (f_X7_readLine N a7  σ) fun _ σ6 =>
    ob (o_at σ6 [26] (some a0)) fun a10 =>
    bd (f_X7_eatsSign N a10 (59 : Int32) σ6) fun x8 σ9 =>
    K2 a0 x8 σ9
def f_X7_readAll_b2 (N : Nat)  : Nat → Nat → Int32 → Mem → Option (Unit × Mem)
  | 0, _, _, _ => none
  | n + 1, a0, l1, σ => f_X7_readAll_b2B N  (f_X7_readAll_b2 N  n) a0 l1 σ
def f_X7_readAll (N : Nat) (a0 : Nat) (σ : Mem) : Option (Unit × Mem) :=
  f_X7_readAll_b2 N  N a0 (1 : Int32) σ
def f_X24_cases_b32 (N : Nat) (K4 : Nat → Int32 → Int32 → Mem → Option (Int32 × Mem)) (a0 : Nat) (l2 : Int32) (t0 : Int32) (t1 : Int32) (σ : Mem) : Option (Int32 × Mem) :=
  K4 a0 (t0 * t1) (l2 + (1 : Int32)) σ
def f_X24_cases_b4B (N : Nat)  (K4 : Nat → Int32 → Int32 → Mem → Option (Int32 × Mem)) (a0 : Nat) (l1 : Int32) (l2 : Int32) (σ : Mem) : Option (Int32 × Mem) :=
  ob (o_gI σ [40] 4 (some a0)) fun x1 =>
  if x1 ≤ l2 then
    some (l1, σ)
  else
    ob (o_gR σ [40] 19 (some a0)) fun x2 =>
    ob (o_aI σ 1 x2 l2) fun x3 =>
    if x3 ≤ 0 then
      f_X24_cases_b32 N K4 a0 l2 l1 (1 : Int32) σ
    else
      ob (o_gR σ [40] 19 (some a0)) fun x4 =>
      ob (o_aI σ 1 x4 l2) fun x5 =>
      f_X24_cases_b32 N K4 a0 l2 l1 x5 σ
def f_X24_cases_b4 (N : Nat)  : Nat → Nat → Int32 → Int32 → Mem → Option (Int32 × Mem)
  | 0, _, _, _, _ => none
  | n + 1, a0, l1, l2, σ => f_X24_cases_b4B N  (f_X24_cases_b4 N  n) a0 l1 l2 σ
def f_X24_cases (N : Nat) (a0 : Nat) (σ : Mem) : Option (Int32 × Mem) :=
  f_X24_cases_b4 N  N a0 (1 : Int32) (0 : Int32) σ
def f_X7_good (N : Nat) (a0 : Nat) (i1 : Int32) (σ : Mem) : Option (Int32 × Mem) :=
  ob (o_pI σ 0 [26] 1 (some a0) (0 : Int32)) fun σ1 =>
  ob (o_pI σ1 0 [26] 2 (some a0) (-1 : Int32)) fun σ2 =>
  some (i1, σ2)
def f_X7_hill_b17 (N : Nat)  (a0 : Nat) (σ : Mem) : Option (Int32 × Mem) :=
  ob (o_at σ [26] (some a0)) fun a3 =>
  bd (f_X7_refused N a3 (2 : Int32) σ) fun x1 σ2 =>
  some (x1, σ2)
def f_X7_hill_b99B (N : Nat)  (K99 : Nat → Int32 → Mem → Option (Int32 × Mem)) (a0 : Nat) (l2 : Int32) (σ : Mem) : Option (Int32 × Mem) :=
  if (18 : Int32) ≤ l2 then
    ob (o_gR σ [26] 18 (some a0)) fun x1 =>
    ob (o_sI σ 1 x1 (17 : Int32) (63 : Int32)) fun σ2 =>
    ob (o_pI σ2 0 [26] 21 (some a0) (0 : Int32)) fun σ3 =>
    ob (o_pI σ3 0 [26] 22 (some a0) (0 : Int32)) fun σ4 =>
    ob (o_gR σ4 [26] 3 (some a0)) fun x5 =>
    ob (o_at σ4 [40] x5) fun a8 =>
    bd (f_X24_cases N a8  σ4) fun x6 σ7 =>
    ob (o_at σ7 [26] (some a0)) fun a11 =>
    bd (f_X7_good N a11 x6 σ7) fun x9 σ10 =>
    some (x9, σ10)
  else
    ob (o_gR σ [26] 18 (some a0)) fun x12 =>
    ob (o_sI σ 1 x12 l2 (0 : Int32)) fun σ13 =>
    K99 a0 (l2 + (1 : Int32)) σ13
def f_X7_hill_b99 (N : Nat)  : Nat → Nat → Int32 → Mem → Option (Int32 × Mem)
  | 0, _, _, _ => none
  | n + 1, a0, l2, σ => f_X7_hill_b99B N  (f_X7_hill_b99 N  n) a0 l2 σ
def f_X7_hill (N : Nat) (a0 : Nat) (i1 : Int32) (σ : Mem) : Option (Int32 × Mem) :=
  ob (o_pI σ 0 [26] 0 (some a0) (0 : Int32)) fun σ1 =>
  if i1 < 0 then
    f_X7_hill_b17 N  a0 σ1
  else
    ob (o_gI σ1 [26] 6 (some a0)) fun x2 =>
    if i1 ≤ x2 then
      ob (o_pI σ1 0 [26] 7 (some a0) i1) fun σ3 =>
      ob (o_pI σ3 0 [26] 6 (some a0) (0 : Int32)) fun σ4 =>
      ob (o_pI σ4 0 [26] 8 (some a0) (0 : Int32)) fun σ5 =>
      ob (o_pI σ5 0 [26] 14 (some a0) (0 : Int32)) fun σ6 =>
      o_no σ6 40 41 fun a7 σ8 =>
      bd (f_X24_init N a7  σ8) fun _ σ10 =>
      ob (o_pR σ10 [26] 4 (some a0) (some a7)) fun σ11 =>
      ob (o_pI σ11 0 [26] 9 (some a0) (0 : Int32)) fun σ12 =>
      ob (o_at σ12 [26] (some a0)) fun a15 =>
      bd (f_X7_goesOn N a15  σ12) fun _ σ14 =>
      ob (o_at σ14 [26] (some a0)) fun a18 =>
      bd (f_X7_readAll N a18  σ14) fun _ σ17 =>
      ob (o_gI σ17 [26] 14 (some a0)) fun x19 =>
      if x19 ≤ 0 then
        ob (o_gR σ17 [26] 4 (some a0)) fun x20 =>
        ob (o_pR σ17 [26] 3 (some a0) x20) fun σ21 =>
        f_X7_hill_b99 N  N a0 (0 : Int32) σ21
      else
        ob (o_pI σ17 0 [26] 1 (some a0) (4 : Int32)) fun σ22 =>
        ob (o_gI σ22 [26] 15 (some a0)) fun x23 =>
        ob (o_pI σ22 0 [26] 2 (some a0) x23) fun σ24 =>
        some ((-1 : Int32), σ24)
    else
      f_X7_hill_b17 N  a0 σ1
def f_X1_fault (N : Nat) (a0 : Nat) (σ : Mem) : Option (Int32 × Mem) :=
  ob (o_gI σ [20] 5 (some a0)) fun x1 =>
  some (x1, σ)
def f_X7_fault (N : Nat) (a0 : Nat) (σ : Mem) : Option (Int32 × Mem) :=
  ob (o_pI σ 0 [26] 0 (some a0) (0 : Int32)) fun σ1 =>
  ob (o_gI σ1 [26] 14 (some a0)) fun x2 =>
  some (x2, σ1)
def f_X1_where (N : Nat) (a0 : Nat) (σ : Mem) : Option (Int32 × Mem) :=
  ob (o_gI σ [20] 4 (some a0)) fun x1 =>
  if x1 = (4 : Int32) then
    ob (o_gI σ [20] 6 (some a0)) fun x2 =>
    some (x2, σ)
  else
    some ((-1 : Int32), σ)
def f_X7_where (N : Nat) (a0 : Nat) (σ : Mem) : Option (Int32 × Mem) :=
  ob (o_pI σ 0 [26] 0 (some a0) (0 : Int32)) fun σ1 =>
  ob (o_gI σ1 [26] 2 (some a0)) fun x2 =>
  some (x2, σ1)
def f_X1_isPlace_b28 (N : Nat)   (σ : Mem) : Option (Int32 × Mem) :=
  ob (o_nr 1 (0 : Int32)) fun _ => some ((0 : Int32), σ)
def f_X1_isPlace (N : Nat) (a0 : Nat) (i1 : Int32) (σ : Mem) : Option (Int32 × Mem) :=
  ob (o_gR σ [20] 3 (some a0)) fun x1 =>
  if x1 = none then
    f_X1_isPlace_b28 N   σ
  else
    ob (o_gR σ [20] 3 (some a0)) fun x2 =>
    ob (o_gI σ [27] 13 x2) fun x3 =>
    bd (f_X1_in N i1 (0 : Int32) (x3 - (1 : Int32)) σ) fun x4 σ5 =>
    if x4 = 0 then
      f_X1_isPlace_b28 N   σ5
    else
      ob (o_nr 1 (1 : Int32)) fun _ => some ((1 : Int32), σ5)
def f_X1_isPlant_b28 (N : Nat)   (σ : Mem) : Option (Int32 × Mem) :=
  ob (o_nr 1 (0 : Int32)) fun _ => some ((0 : Int32), σ)
def f_X1_isPlant (N : Nat) (a0 : Nat) (i1 : Int32) (σ : Mem) : Option (Int32 × Mem) :=
  ob (o_gR σ [20] 3 (some a0)) fun x1 =>
  if x1 = none then
    f_X1_isPlant_b28 N   σ
  else
    ob (o_gR σ [20] 3 (some a0)) fun x2 =>
    ob (o_gI σ [27] 12 x2) fun x3 =>
    bd (f_X1_in N i1 (0 : Int32) (x3 - (1 : Int32)) σ) fun x4 σ5 =>
    if x4 = 0 then
      f_X1_isPlant_b28 N   σ5
    else
      ob (o_nr 1 (1 : Int32)) fun _ => some ((1 : Int32), σ5)
def f_X1_plants_b37 (N : Nat)  (a0 : Nat) (σ : Mem) : Option (Int32 × Mem) :=
  ob (o_at σ [20] (some a0)) fun a3 =>
  bd (f_X1_no N a3 (1 : Int32) σ) fun x1 σ2 =>
  some (x1, σ2)
def f_X1_plants (N : Nat) (a0 : Nat) (i1 : Int32) (i2 : Int32) (σ : Mem) : Option (Int32 × Mem) :=
  ob (o_at σ [20] (some a0)) fun a3 =>
  bd (f_X1_anew N a3  σ) fun _ σ2 =>
  ob (o_at σ2 [20] (some a0)) fun a6 =>
  bd (f_X1_isPlace N a6 i1 σ2) fun x4 σ5 =>
  if x4 = 0 then
    f_X1_plants_b37 N  a0 σ5
  else
    ob (o_at σ5 [20] (some a0)) fun a9 =>
    bd (f_X1_isPlant N a9 i2 σ5) fun x7 σ8 =>
    if x7 = 0 then
      f_X1_plants_b37 N  a0 σ8
    else
      ob (o_gR σ8 [20] 3 (some a0)) fun x10 =>
      ob (o_gR σ8 [27] 0 x10) fun x11 =>
      ob (o_aR σ8 6 x11 i1) fun x12 =>
      ob (o_gR σ8 [28] 0 x12) fun x13 =>
      ob (o_aI σ8 1 x13 i2) fun x14 =>
      some (x14, σ8)
def f_X7_isPlace_b26 (N : Nat)   (σ : Mem) : Option (Int32 × Mem) :=
  ob (o_nr 1 (0 : Int32)) fun _ => some ((0 : Int32), σ)
def f_X7_isPlace (N : Nat) (a0 : Nat) (i1 : Int32) (σ : Mem) : Option (Int32 × Mem) :=
  ob (o_gR σ [26] 3 (some a0)) fun x1 =>
  if x1 = none then
    f_X7_isPlace_b26 N   σ
  else
    if i1 < 0 then
      f_X7_isPlace_b26 N   σ
    else
      ob (o_gR σ [26] 3 (some a0)) fun x2 =>
      ob (o_gI σ [40] 2 x2) fun x3 =>
      if x3 ≤ i1 then
        f_X7_isPlace_b26 N   σ
      else
        ob (o_nr 1 (1 : Int32)) fun _ => some ((1 : Int32), σ)
def f_X7_isPlant_b26 (N : Nat)   (σ : Mem) : Option (Int32 × Mem) :=
  ob (o_nr 1 (0 : Int32)) fun _ => some ((0 : Int32), σ)
def f_X7_isPlant (N : Nat) (a0 : Nat) (i1 : Int32) (σ : Mem) : Option (Int32 × Mem) :=
  ob (o_gR σ [26] 3 (some a0)) fun x1 =>
  if x1 = none then
    f_X7_isPlant_b26 N   σ
  else
    if i1 < 0 then
      f_X7_isPlant_b26 N   σ
    else
      ob (o_gR σ [26] 3 (some a0)) fun x2 =>
      ob (o_gI σ [40] 1 x2) fun x3 =>
      if x3 ≤ i1 then
        f_X7_isPlant_b26 N   σ
      else
        ob (o_nr 1 (1 : Int32)) fun _ => some ((1 : Int32), σ)
def f_X7_plants_b41 (N : Nat)  (a0 : Nat) (σ : Mem) : Option (Int32 × Mem) :=
  ob (o_at σ [26] (some a0)) fun a3 =>
  bd (f_X7_refused N a3 (1 : Int32) σ) fun x1 σ2 =>
  some (x1, σ2)
def f_X7_plants (N : Nat) (a0 : Nat) (i1 : Int32) (i2 : Int32) (σ : Mem) : Option (Int32 × Mem) :=
  ob (o_pI σ 0 [26] 0 (some a0) (0 : Int32)) fun σ1 =>
  ob (o_at σ1 [26] (some a0)) fun a4 =>
  bd (f_X7_isPlace N a4 i1 σ1) fun x2 σ3 =>
  if x2 = 0 then
    f_X7_plants_b41 N  a0 σ3
  else
    ob (o_at σ3 [26] (some a0)) fun a7 =>
    bd (f_X7_isPlant N a7 i2 σ3) fun x5 σ6 =>
    if x5 = 0 then
      f_X7_plants_b41 N  a0 σ6
    else
      ob (o_gR σ6 [26] 3 (some a0)) fun x8 =>
      ob (o_gR σ6 [40] 16 x8) fun x9 =>
      ob (o_aI σ6 1 x9 (((4 : Int32) * i1) + i2)) fun x10 =>
      ob (o_at σ6 [26] (some a0)) fun a13 =>
      bd (f_X7_good N a13 x10 σ6) fun x11 σ12 =>
      some (x11, σ12)
def f_X1_near (N : Nat) (a0 : Nat) (i1 : Int32) (σ : Mem) : Option (Int32 × Mem) :=
  ob (o_at σ [20] (some a0)) fun a3 =>
  bd (f_X1_anew N a3  σ) fun _ σ2 =>
  ob (o_at σ2 [20] (some a0)) fun a6 =>
  bd (f_X1_isPlace N a6 i1 σ2) fun x4 σ5 =>
  if x4 = 0 then
    ob (o_at σ5 [20] (some a0)) fun a9 =>
    bd (f_X1_no N a9 (1 : Int32) σ5) fun x7 σ8 =>
    some (x7, σ8)
  else
    ob (o_gR σ5 [20] 3 (some a0)) fun x10 =>
    ob (o_gR σ5 [27] 0 x10) fun x11 =>
    ob (o_aR σ5 6 x11 i1) fun x12 =>
    ob (o_gI σ5 [28] 1 x12) fun x13 =>
    some (x13, σ5)
def f_X7_near_b55 (N : Nat) (K23 : Nat → Int32 → Int32 → Int32 → Mem → Option (Int32 × Mem)) (a0 : Nat) (l1 : Int32) (l3 : Int32) (t0 : Int32) (t1 : Int32) (σ : Mem) : Option (Int32 × Mem) :=
  K23 a0 l1 (t0 ||| t1) (l3 + (1 : Int32)) σ
def f_X7_near_b23B (N : Nat)  (K23 : Nat → Int32 → Int32 → Int32 → Mem → Option (Int32 × Mem)) (a0 : Nat) (l1 : Int32) (l2 : Int32) (l3 : Int32) (σ : Mem) : Option (Int32 × Mem) :=
  ob (o_gR σ [26] 3 (some a0)) fun x1 =>
  ob (o_gI σ [40] 2 x1) fun x2 =>
  if x2 ≤ l3 then
    ob (o_at σ [26] (some a0)) fun a5 =>
    bd (f_X7_good N a5 l2 σ) fun x3 σ4 =>
    some (x3, σ4)
  else
    ob (o_gR σ [26] 3 (some a0)) fun x6 =>
    ob (o_at σ [40] x6) fun a9 =>
    bd (f_X24_path N a9 l1 l3 σ) fun x7 σ8 =>
    if x7 = (-1 : Int32) then
      f_X7_near_b55 N K23 a0 l1 l3 l2 (0 : Int32) σ8
    else
      f_X7_near_b55 N K23 a0 l1 l3 l2 ((1 : Int32) <<< (l3 &&& 31)) σ8
def f_X7_near_b23 (N : Nat)  : Nat → Nat → Int32 → Int32 → Int32 → Mem → Option (Int32 × Mem)
  | 0, _, _, _, _, _ => none
  | n + 1, a0, l1, l2, l3, σ => f_X7_near_b23B N  (f_X7_near_b23 N  n) a0 l1 l2 l3 σ
def f_X7_near (N : Nat) (a0 : Nat) (i1 : Int32) (σ : Mem) : Option (Int32 × Mem) :=
  ob (o_pI σ 0 [26] 0 (some a0) (0 : Int32)) fun σ1 =>
  ob (o_at σ1 [26] (some a0)) fun a4 =>
  bd (f_X7_isPlace N a4 i1 σ1) fun x2 σ3 =>
  if x2 = 0 then
    ob (o_at σ3 [26] (some a0)) fun a7 =>
    bd (f_X7_refused N a7 (1 : Int32) σ3) fun x5 σ6 =>
    some (x5, σ6)
  else
    f_X7_near_b23 N  N a0 i1 (0 : Int32) (0 : Int32) σ3
def f_X1_isGoat_b28 (N : Nat)   (σ : Mem) : Option (Int32 × Mem) :=
  ob (o_nr 1 (0 : Int32)) fun _ => some ((0 : Int32), σ)
def f_X1_isGoat (N : Nat) (a0 : Nat) (i1 : Int32) (σ : Mem) : Option (Int32 × Mem) :=
  ob (o_gR σ [20] 3 (some a0)) fun x1 =>
  if x1 = none then
    f_X1_isGoat_b28 N   σ
  else
    ob (o_gR σ [20] 3 (some a0)) fun x2 =>
    ob (o_gI σ [27] 16 x2) fun x3 =>
    bd (f_X1_in N i1 (0 : Int32) (x3 - (1 : Int32)) σ) fun x4 σ5 =>
    if x4 = 0 then
      f_X1_isGoat_b28 N   σ5
    else
      ob (o_nr 1 (1 : Int32)) fun _ => some ((1 : Int32), σ5)
def f_X13_kind (N : Nat) (a0 : Nat) (σ : Mem) : Option (Int32 × Mem) :=
  some ((0 : Int32), σ)
def f_X14_kind (N : Nat) (a0 : Nat) (σ : Mem) : Option (Int32 × Mem) :=
  some ((1 : Int32), σ)
def f_X15_kind (N : Nat) (a0 : Nat) (σ : Mem) : Option (Int32 × Mem) :=
  some ((2 : Int32), σ)
def f_X16_kind (N : Nat) (a0 : Nat) (σ : Mem) : Option (Int32 × Mem) :=
  some ((3 : Int32), σ)
def f_X12_mother (N : Nat) (a0 : Nat) (σ : Mem) : Option ((Option Nat) × Mem) :=
  some (none, σ)
def f_X16_mother (N : Nat) (a0 : Nat) (σ : Mem) : Option ((Option Nat) × Mem) :=
  ob (o_gR σ [33] 0 (some a0)) fun x1 =>
  some (x1, σ)
def f_X1_cluesOf_b37 (N : Nat) (K4 : Nat → Int32 → Int32 → Int32 → Mem → Option (Int32 × Mem)) (a0 : Nat) (l1 : Int32) (l3 : Int32) (t0 : Int32) (t1 : Int32) (σ : Mem) : Option (Int32 × Mem) :=
  K4 a0 l1 (t0 + t1) (l3 + (1 : Int32)) σ
def f_X1_cluesOf_b4B (N : Nat)  (K4 : Nat → Int32 → Int32 → Int32 → Mem → Option (Int32 × Mem)) (a0 : Nat) (l1 : Int32) (l2 : Int32) (l3 : Int32) (σ : Mem) : Option (Int32 × Mem) :=
  ob (o_gR σ [20] 3 (some a0)) fun x1 =>
  ob (o_gI σ [27] 18 x1) fun x2 =>
  if x2 ≤ l3 then
    some (l2, σ)
  else
    ob (o_gR σ [20] 3 (some a0)) fun x3 =>
    ob (o_gR σ [27] 7 x3) fun x4 =>
    ob (o_aR σ 9 x4 l3) fun x5 =>
    ob (o_gI σ [34, 35, 36] 107 x5) fun x6 =>
    if x6 = l1 then
      f_X1_cluesOf_b37 N K4 a0 l1 l3 l2 (1 : Int32) σ
    else
      f_X1_cluesOf_b37 N K4 a0 l1 l3 l2 (0 : Int32) σ
def f_X1_cluesOf_b4 (N : Nat)  : Nat → Nat → Int32 → Int32 → Int32 → Mem → Option (Int32 × Mem)
  | 0, _, _, _, _, _ => none
  | n + 1, a0, l1, l2, l3, σ => f_X1_cluesOf_b4B N  (f_X1_cluesOf_b4 N  n) a0 l1 l2 l3 σ
def f_X1_cluesOf (N : Nat) (a0 : Nat) (i1 : Int32) (σ : Mem) : Option (Int32 × Mem) :=
  f_X1_cluesOf_b4 N  N a0 i1 (0 : Int32) (0 : Int32) σ
def f_X1_goat (N : Nat) (a0 : Nat) (i1 : Int32) (i2 : Int32) (σ : Mem) : Option (Int32 × Mem) :=
  ob (o_at σ [20] (some a0)) fun a3 =>
  bd (f_X1_anew N a3  σ) fun _ σ2 =>
  ob (o_at σ2 [20] (some a0)) fun a6 =>
  bd (f_X1_isGoat N a6 i1 σ2) fun x4 σ5 =>
  if x4 = 0 then
    ob (o_at σ5 [20] (some a0)) fun a35 =>
    bd (f_X1_no N a35 (1 : Int32) σ5) fun x33 σ34 =>
    some (x33, σ34)
  else
    ob (o_gR σ5 [20] 3 (some a0)) fun x7 =>
    ob (o_gR σ5 [27] 6 x7) fun x8 =>
    ob (o_aR σ5 8 x8 i1) fun x9 =>
    if i2 = (0 : Int32) then
      ob (o_at σ5 [30, 31, 32, 33] x9) fun a12 =>
      bd (if (m_T σ5 a12).1 = 30 then f_X13_kind N a12  σ5 else if (m_T σ5 a12).1 = 31 then f_X14_kind N a12  σ5 else if (m_T σ5 a12).1 = 32 then f_X15_kind N a12  σ5 else f_X16_kind N a12  σ5) fun x10 σ11 =>
      some (x10, σ11)
    else if i2 = (1 : Int32) then
      ob (o_at σ5 [30, 31, 32, 33] x9) fun a15 =>
      bd (if (m_T σ5 a15).1 = 30 then f_X12_mother N a15  σ5 else if (m_T σ5 a15).1 = 31 then f_X12_mother N a15  σ5 else if (m_T σ5 a15).1 = 32 then f_X12_mother N a15  σ5 else f_X16_mother N a15  σ5) fun x13 σ14 =>
      if x13 = none then
        some ((-2 : Int32), σ14)
      else
        ob (o_at σ14 [30, 31, 32, 33] x9) fun a18 =>
        bd (if (m_T σ14 a18).1 = 30 then f_X12_mother N a18  σ14 else if (m_T σ14 a18).1 = 31 then f_X12_mother N a18  σ14 else if (m_T σ14 a18).1 = 32 then f_X12_mother N a18  σ14 else f_X16_mother N a18  σ14) fun x16 σ17 =>
        ob (o_gI σ17 [30, 31, 32, 33] 101 x16) fun x19 =>
        some (x19, σ17)
    else if i2 = (2 : Int32) then
      ob (o_gI σ5 [30, 31, 32, 33] 104 x9) fun x20 =>
      some (x20, σ5)
    else if i2 = (3 : Int32) then
      ob (o_gI σ5 [30, 31, 32, 33] 105 x9) fun x21 =>
      some (x21, σ5)
    else if i2 = (4 : Int32) then
      ob (o_gI σ5 [30, 31, 32, 33] 106 x9) fun x22 =>
      some (x22, σ5)
    else if i2 = (5 : Int32) then
      ob (o_at σ5 [20] (some a0)) fun a25 =>
      bd (f_X1_cluesOf N a25 i1 σ5) fun x23 σ24 =>
      some (x23, σ24)
    else if i2 = (6 : Int32) then
      ob (o_gR σ5 [20] 9 (some a0)) fun x26 =>
      ob (o_gI σ5 [23] 3 x26) fun x27 =>
      bd (f_X1_has N x27 i1 σ5) fun x28 σ29 =>
      if x28 = 0 then
        some ((0 : Int32), σ29)
      else
        some ((1 : Int32), σ29)
    else
      ob (o_at σ5 [20] (some a0)) fun a32 =>
      bd (f_X1_no N a32 (1 : Int32) σ5) fun x30 σ31 =>
      some (x30, σ31)
def f_X7_isGoat_b26 (N : Nat)   (σ : Mem) : Option (Int32 × Mem) :=
  ob (o_nr 1 (0 : Int32)) fun _ => some ((0 : Int32), σ)
def f_X7_isGoat (N : Nat) (a0 : Nat) (i1 : Int32) (σ : Mem) : Option (Int32 × Mem) :=
  ob (o_gR σ [26] 3 (some a0)) fun x1 =>
  if x1 = none then
    f_X7_isGoat_b26 N   σ
  else
    if i1 < 0 then
      f_X7_isGoat_b26 N   σ
    else
      ob (o_gR σ [26] 3 (some a0)) fun x2 =>
      ob (o_gI σ [40] 5 x2) fun x3 =>
      if x3 ≤ i1 then
        f_X7_isGoat_b26 N   σ
      else
        ob (o_nr 1 (1 : Int32)) fun _ => some ((1 : Int32), σ)
def f_X7_isHeard (N : Nat) (a0 : Nat) (i1 : Int32) (σ : Mem) : Option (Int32 × Mem) :=
  ob (o_gR σ [26] 18 (some a0)) fun x1 =>
  ob (o_aI σ 1 x1 (17 : Int32)) fun x2 =>
  bd (f_X7_bit N x2 i1 σ) fun x3 σ4 =>
  ob (o_nr 1 x3) fun _ => some (x3, σ4)
