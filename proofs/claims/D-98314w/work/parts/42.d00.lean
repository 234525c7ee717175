/-! what the methods compute -/
set_option maxRecDepth 100000
def f_J0_init_2_b41 (N : Nat)  (a0 : Nat) (l1 : Option Nat) (l2 : Option Nat) (l3 : Int32) (σ : Mem) : Option (Unit × Mem) :=
  ob (o_pR σ [22] 113 (some a0) l1) fun σ1 =>
  ob (o_pR σ1 [22] 110 (some a0) l2) fun σ2 =>
  if l3 = 0 then
    ob (o_pR σ2 [22] 112 (some a0) none) fun σ3 =>
    some ((), σ3)
  else
    some ((), σ2)
def f_J0_init_2 (N : Nat) (a0 : Nat) (o1 : Option Nat) (o2 : Option Nat) (i3 : Int32) (i4 : Int32) (σ : Mem) : Option (Unit × Mem) :=
  ob (o_pR σ [22] 110 (some a0) (some a0)) fun σ1 =>
  ob (o_pR σ1 [22] 111 (some a0) (m_R σ1 999 0)) fun σ2 =>
  ob (o_pR σ2 [22] 112 (some a0) (m_R σ2 999 1)) fun σ3 =>
  if i4 = 0 then
    ob (o_pR σ3 [22] 111 (some a0) none) fun σ4 =>
    f_J0_init_2_b41 N  a0 o1 o2 i3 σ4
  else
    none
def f_J1_init (N : Nat) (a0 : Nat) (o1 : Option Nat) (o2 : Option Nat) (i3 : Int32) (i4 : Int32) (σ : Mem) : Option (Unit × Mem) :=
  bd (f_J0_init_2 N a0 o1 o2 i3 i4 σ) fun _ σ2 =>
  some ((), σ2)
def f_J2_init (N : Nat) (a0 : Nat) (o1 : Option Nat) (o2 : Option Nat) (i3 : Int32) (i4 : Int32) (σ : Mem) : Option (Unit × Mem) :=
  bd (f_J1_init N a0 o1 o2 i3 i4 σ) fun _ σ2 =>
  some ((), σ2)
def f_X3_init (N : Nat) (a0 : Nat) (σ : Mem) : Option (Unit × Mem) :=
  bd (f_J2_init N a0 none none (0 : Int32) (0 : Int32) σ) fun _ σ2 =>
  ob (o_pI σ2 0 [22] 1 (some a0) (-1 : Int32)) fun σ3 =>
  some ((), σ3)
def f_X2_init (N : Nat) (a0 : Nat) (o1 : Option Nat) (σ : Mem) : Option (Unit × Mem) :=
  o_no σ 22 8 fun a1 σ2 =>
  bd (f_X3_init N a1  σ2) fun _ σ4 =>
  ob (o_pR σ4 [21] 0 (some a0) (some a1)) fun σ5 =>
  o_na σ5 3 (8 : Int32) fun a6 σ7 =>
  ob (o_pR σ7 [21] 2 (some a0) (some a6)) fun σ8 =>
  ob (o_pR σ8 [21] 1 (some a0) o1) fun σ9 =>
  some ((), σ9)
def f_X4_init (N : Nat) (a0 : Nat) (σ : Mem) : Option (Unit × Mem) :=
  o_na σ 1 (12 : Int32) fun a1 σ2 =>
  ob (o_pR σ2 [23] 0 (some a0) (some a1)) fun σ3 =>
  o_na σ3 1 (12 : Int32) fun a4 σ5 =>
  ob (o_pR σ5 [23] 1 (some a0) (some a4)) fun σ6 =>
  some ((), σ6)
def f_X5_init (N : Nat) (a0 : Nat) (σ : Mem) : Option (Unit × Mem) :=
  o_na σ 1 (32 : Int32) fun a1 σ2 =>
  ob (o_pR σ2 [24] 0 (some a0) (some a1)) fun σ3 =>
  o_na σ3 1 (6 : Int32) fun a4 σ5 =>
  ob (o_pR σ5 [24] 1 (some a0) (some a4)) fun σ6 =>
  o_na σ6 1 (72 : Int32) fun a7 σ8 =>
  ob (o_pR σ8 [24] 2 (some a0) (some a7)) fun σ9 =>
  o_na σ9 1 (72 : Int32) fun a10 σ11 =>
  ob (o_pR σ11 [24] 3 (some a0) (some a10)) fun σ12 =>
  o_na σ12 1 (72 : Int32) fun a13 σ14 =>
  ob (o_pR σ14 [24] 4 (some a0) (some a13)) fun σ15 =>
  o_na σ15 1 (6 : Int32) fun a16 σ17 =>
  ob (o_pR σ17 [24] 5 (some a0) (some a16)) fun σ18 =>
  o_na σ18 1 (8 : Int32) fun a19 σ20 =>
  ob (o_pR σ20 [24] 6 (some a0) (some a19)) fun σ21 =>
  some ((), σ21)
def f_X6_init (N : Nat) (a0 : Nat) (σ : Mem) : Option (Unit × Mem) :=
  o_na σ 1 (6 : Int32) fun a1 σ2 =>
  ob (o_pR σ2 [25] 0 (some a0) (some a1)) fun σ3 =>
  o_na σ3 1 (6 : Int32) fun a4 σ5 =>
  ob (o_pR σ5 [25] 1 (some a0) (some a4)) fun σ6 =>
  some ((), σ6)
def f_X1_init_b165B (N : Nat)  (K165 : Nat → Int32 → Mem → Option (Unit × Mem)) (a0 : Nat) (l1 : Int32) (σ : Mem) : Option (Unit × Mem) :=
  if (3 : Int32) ≤ l1 then
    some ((), σ)
  else
    ob (o_gR σ [20] 15 (some a0)) fun x1 =>
    o_no σ 23 4 fun a2 σ3 =>
    bd (f_X4_init N a2  σ3) fun _ σ5 =>
    ob (o_sR σ5 5 [23] x1 l1 (some a2)) fun σ6 =>
    K165 a0 (l1 + (1 : Int32)) σ6
def f_X1_init_b165 (N : Nat)  : Nat → Nat → Int32 → Mem → Option (Unit × Mem)
  | 0, _, _, _ => none
  | n + 1, a0, l1, σ => f_X1_init_b165B N  (f_X1_init_b165 N  n) a0 l1 σ
def f_X1_init_b138B (N : Nat)  (K138 : Nat → Int32 → Mem → Option (Unit × Mem)) (a0 : Nat) (l1 : Int32) (σ : Mem) : Option (Unit × Mem) :=
  if (16 : Int32) ≤ l1 then
    f_X1_init_b165 N  N a0 (0 : Int32) σ
  else
    ob (o_gR σ [20] 14 (some a0)) fun x1 =>
    o_no σ 23 4 fun a2 σ3 =>
    bd (f_X4_init N a2  σ3) fun _ σ5 =>
    ob (o_sR σ5 5 [23] x1 l1 (some a2)) fun σ6 =>
    K138 a0 (l1 + (1 : Int32)) σ6
def f_X1_init_b138 (N : Nat)  : Nat → Nat → Int32 → Mem → Option (Unit × Mem)
  | 0, _, _, _ => none
  | n + 1, a0, l1, σ => f_X1_init_b138B N  (f_X1_init_b138 N  n) a0 l1 σ
def f_X1_init (N : Nat) (a0 : Nat) (σ : Mem) : Option (Unit × Mem) :=
  o_na σ 2 (1200 : Int32) fun a1 σ2 =>
  ob (o_pR σ2 [20] 0 (some a0) (some a1)) fun σ3 =>
  o_no σ3 21 10 fun a4 σ5 =>
  ob (o_gR σ5 [20] 0 (some a0)) fun x6 =>
  bd (f_X2_init N a4 x6 σ5) fun _ σ8 =>
  ob (o_pR σ8 [20] 2 (some a0) (some a4)) fun σ9 =>
  ob (o_pI σ9 0 [20] 6 (some a0) (-1 : Int32)) fun σ10 =>
  o_no σ10 23 4 fun a11 σ12 =>
  bd (f_X4_init N a11  σ12) fun _ σ14 =>
  ob (o_pR σ14 [20] 9 (some a0) (some a11)) fun σ15 =>
  o_no σ15 23 4 fun a16 σ17 =>
  bd (f_X4_init N a16  σ17) fun _ σ19 =>
  ob (o_pR σ19 [20] 10 (some a0) (some a16)) fun σ20 =>
  o_no σ20 23 4 fun a21 σ22 =>
  bd (f_X4_init N a21  σ22) fun _ σ24 =>
  ob (o_pR σ24 [20] 11 (some a0) (some a21)) fun σ25 =>
  o_no σ25 24 10 fun a26 σ27 =>
  bd (f_X5_init N a26  σ27) fun _ σ29 =>
  ob (o_pR σ29 [20] 12 (some a0) (some a26)) fun σ30 =>
  o_no σ30 25 4 fun a31 σ32 =>
  bd (f_X6_init N a31  σ32) fun _ σ34 =>
  ob (o_pR σ34 [20] 13 (some a0) (some a31)) fun σ35 =>
  o_na σ35 5 (16 : Int32) fun a36 σ37 =>
  ob (o_pR σ37 [20] 14 (some a0) (some a36)) fun σ38 =>
  o_na σ38 5 (3 : Int32) fun a39 σ40 =>
  ob (o_pR σ40 [20] 15 (some a0) (some a39)) fun σ41 =>
  o_na σ41 1 (81 : Int32) fun a42 σ43 =>
  ob (o_pR σ43 [20] 16 (some a0) (some a42)) fun σ44 =>
  o_na σ44 1 (81 : Int32) fun a45 σ46 =>
  ob (o_pR σ46 [20] 17 (some a0) (some a45)) fun σ47 =>
  o_na σ47 1 (8 : Int32) fun a48 σ49 =>
  ob (o_pR σ49 [20] 21 (some a0) (some a48)) fun σ50 =>
  o_na σ50 1 (2 : Int32) fun a51 σ52 =>
  ob (o_pR σ52 [20] 22 (some a0) (some a51)) fun σ53 =>
  f_X1_init_b138 N  N a0 (0 : Int32) σ53
def f_X7_init (N : Nat) (a0 : Nat) (σ : Mem) : Option (Unit × Mem) :=
  ob (o_pI σ 0 [26] 2 (some a0) (-1 : Int32)) fun σ1 =>
  o_na σ1 2 (1200 : Int32) fun a2 σ3 =>
  ob (o_pR σ3 [26] 5 (some a0) (some a2)) fun σ4 =>
  o_na σ4 1 (8 : Int32) fun a5 σ6 =>
  ob (o_pR σ6 [26] 16 (some a0) (some a5)) fun σ7 =>
  o_na σ7 1 (18 : Int32) fun a8 σ9 =>
  ob (o_pR σ9 [26] 18 (some a0) (some a8)) fun σ10 =>
  o_na σ10 1 (288 : Int32) fun a11 σ12 =>
  ob (o_pR σ12 [26] 19 (some a0) (some a11)) fun σ13 =>
  o_na σ13 1 (54 : Int32) fun a14 σ15 =>
  ob (o_pR σ15 [26] 20 (some a0) (some a14)) fun σ16 =>
  o_na σ16 1 (72 : Int32) fun a17 σ18 =>
  ob (o_pR σ18 [26] 23 (some a0) (some a17)) fun σ19 =>
  o_na σ19 1 (72 : Int32) fun a20 σ21 =>
  ob (o_pR σ21 [26] 24 (some a0) (some a20)) fun σ22 =>
  o_na σ22 1 (72 : Int32) fun a23 σ24 =>
  ob (o_pR σ24 [26] 25 (some a0) (some a23)) fun σ25 =>
  o_na σ25 1 (32 : Int32) fun a26 σ27 =>
  ob (o_pR σ27 [26] 26 (some a0) (some a26)) fun σ28 =>
  o_na σ28 1 (6 : Int32) fun a29 σ30 =>
  ob (o_pR σ30 [26] 27 (some a0) (some a29)) fun σ31 =>
  o_na σ31 1 (6 : Int32) fun a32 σ33 =>
  ob (o_pR σ33 [26] 28 (some a0) (some a32)) fun σ34 =>
  o_na σ34 1 (81 : Int32) fun a35 σ36 =>
  ob (o_pR σ36 [26] 29 (some a0) (some a35)) fun σ37 =>
  o_na σ37 1 (81 : Int32) fun a38 σ39 =>
  ob (o_pR σ39 [26] 32 (some a0) (some a38)) fun σ40 =>
  o_na σ40 1 (5832 : Int32) fun a41 σ42 =>
  ob (o_pR σ42 [26] 33 (some a0) (some a41)) fun σ43 =>
  o_na σ43 1 (8 : Int32) fun a44 σ45 =>
  ob (o_pR σ45 [26] 34 (some a0) (some a44)) fun σ46 =>
  o_na σ46 1 (6 : Int32) fun a47 σ48 =>
  ob (o_pR σ48 [26] 37 (some a0) (some a47)) fun σ49 =>
  o_na σ49 1 (6 : Int32) fun a50 σ51 =>
  ob (o_pR σ51 [26] 38 (some a0) (some a50)) fun σ52 =>
  some ((), σ52)
def f_X1_bytes_b3B (N : Nat)  (K3 : Nat → Int32 → Int32 → Mem → Option (Unit × Mem)) (a0 : Nat) (l1 : Int32) (l2 : Int32) (σ : Mem) : Option (Unit × Mem) :=
  if l2 < 0 then
    some ((), σ)
  else
    ob (o_gR σ [20] 0 (some a0)) fun x1 =>
    ob (o_gI σ [20] 1 (some a0)) fun x2 =>
    ob (o_sI σ 2 x1 x2 ((l1 >>> (l2 &&& 31)).toInt8.toInt32)) fun σ3 =>
    ob (o_gI σ3 [20] 1 (some a0)) fun x4 =>
    ob (o_pI σ3 0 [20] 1 (some a0) (x4 + (1 : Int32))) fun σ5 =>
    K3 a0 l1 (l2 + (-8 : Int32)) σ5
def f_X1_bytes_b3 (N : Nat)  : Nat → Nat → Int32 → Int32 → Mem → Option (Unit × Mem)
  | 0, _, _, _, _ => none
  | n + 1, a0, l1, l2, σ => f_X1_bytes_b3B N  (f_X1_bytes_b3 N  n) a0 l1 l2 σ
def f_X1_bytes (N : Nat) (a0 : Nat) (i1 : Int32) (σ : Mem) : Option (Unit × Mem) :=
  f_X1_bytes_b3 N  N a0 i1 (24 : Int32) σ
def f_X1_feed (N : Nat) (a0 : Nat) (i1 : Int32) (i2 : Int32) (i3 : Int32) (i4 : Int32) (i5 : Int32) (σ : Mem) : Option (Int32 × Mem) :=
  ob (o_gI σ [20] 1 (some a0)) fun x1 =>
  if (x1 + (20 : Int32)) ≤ (1200 : Int32) then
    ob (o_at σ [20] (some a0)) fun a4 =>
    bd (f_X1_bytes N a4 i1 σ) fun _ σ3 =>
    ob (o_at σ3 [20] (some a0)) fun a7 =>
    bd (f_X1_bytes N a7 i2 σ3) fun _ σ6 =>
    ob (o_at σ6 [20] (some a0)) fun a10 =>
    bd (f_X1_bytes N a10 i3 σ6) fun _ σ9 =>
    ob (o_at σ9 [20] (some a0)) fun a13 =>
    bd (f_X1_bytes N a13 i4 σ9) fun _ σ12 =>
    ob (o_at σ12 [20] (some a0)) fun a16 =>
    bd (f_X1_bytes N a16 i5 σ12) fun _ σ15 =>
    ob (o_gI σ15 [20] 1 (some a0)) fun x17 =>
    some (x17, σ15)
  else
    some ((-1 : Int32), σ)
def f_X7_feed_b76 (N : Nat) (K23 : Nat → Int32 → Int32 → Int32 → Int32 → Int32 → Int32 → Mem → Option (Int32 × Mem)) (a0 : Nat) (l1 : Int32) (l2 : Int32) (l3 : Int32) (l4 : Int32) (l5 : Int32) (l6 : Int32) (t0 : Int32) (σ : Mem) : Option (Int32 × Mem) :=
  ob (o_gR σ [26] 5 (some a0)) fun x1 =>
  ob (o_gI σ [26] 6 (some a0)) fun x2 =>
  ob (o_rem l6 (4 : Int32)) fun x3 =>
  ob (o_sI σ 2 x1 x2 ((t0 >>> (((24 : Int32) - ((8 : Int32) * x3)) &&& 31)).toInt8.toInt32)) fun σ4 =>
  ob (o_gI σ4 [26] 6 (some a0)) fun x5 =>
  ob (o_pI σ4 0 [26] 6 (some a0) (x5 + (1 : Int32))) fun σ6 =>
  K23 a0 l1 l2 l3 l4 l5 (l6 + (1 : Int32)) σ6
def f_X7_feed_b23B (N : Nat)  (K23 : Nat → Int32 → Int32 → Int32 → Int32 → Int32 → Int32 → Mem → Option (Int32 × Mem)) (a0 : Nat) (l1 : Int32) (l2 : Int32) (l3 : Int32) (l4 : Int32) (l5 : Int32) (l6 : Int32) (σ : Mem) : Option (Int32 × Mem) :=
  if (20 : Int32) ≤ l6 then
    ob (o_gI σ [26] 6 (some a0)) fun x1 =>
    some (x1, σ)
  else
    if (4 : Int32) ≤ l6 then
      if (8 : Int32) ≤ l6 then
        if (12 : Int32) ≤ l6 then
          if (16 : Int32) ≤ l6 then
            f_X7_feed_b76 N K23 a0 l1 l2 l3 l4 l5 l6 l5 σ
          else
            f_X7_feed_b76 N K23 a0 l1 l2 l3 l4 l5 l6 l4 σ
        else
          f_X7_feed_b76 N K23 a0 l1 l2 l3 l4 l5 l6 l3 σ
      else
        f_X7_feed_b76 N K23 a0 l1 l2 l3 l4 l5 l6 l2 σ
    else
      f_X7_feed_b76 N K23 a0 l1 l2 l3 l4 l5 l6 l1 σ
def f_X7_feed_b23 (N : Nat)  : Nat → Nat → Int32 → Int32 → Int32 → Int32 → Int32 → Int32 → Mem → Option (Int32 × Mem)
  | 0, _, _, _, _, _, _, _, _ => none
  | n + 1, a0, l1, l2, l3, l4, l5, l6, σ => f_X7_feed_b23B N  (f_X7_feed_b23 N  n) a0 l1 l2 l3 l4 l5 l6 σ
def f_X7_feed (N : Nat) (a0 : Nat) (i1 : Int32) (i2 : Int32) (i3 : Int32) (i4 : Int32) (i5 : Int32) (σ : Mem) : Option (Int32 × Mem) :=
  ob (o_pI σ 0 [26] 0 (some a0) (0 : Int32)) fun σ1 =>
  ob (o_gI σ1 [26] 6 (some a0)) fun x2 =>
  if (x2 + (20 : Int32)) ≤ (1200 : Int32) then
    f_X7_feed_b23 N  N a0 i1 i2 i3 i4 i5 (0 : Int32) σ1
  else
    some ((-1 : Int32), σ1)
def f_X1_anew (N : Nat) (a0 : Nat) (σ : Mem) : Option (Unit × Mem) :=
  ob (o_pI σ 0 [20] 4 (some a0) (0 : Int32)) fun σ1 =>
  ob (o_pI σ1 0 [20] 6 (some a0) (-1 : Int32)) fun σ2 =>
  some ((), σ2)
def f_X1_in_b14 (N : Nat)   (σ : Mem) : Option (Int32 × Mem) :=
  ob (o_nr 1 (0 : Int32)) fun _ => some ((0 : Int32), σ)
def f_X1_in (N : Nat) (i0 : Int32) (i1 : Int32) (i2 : Int32) (σ : Mem) : Option (Int32 × Mem) :=
  if i0 < i1 then
    f_X1_in_b14 N   σ
  else
    if i2 < i0 then
      f_X1_in_b14 N   σ
    else
      ob (o_nr 1 (1 : Int32)) fun _ => some ((1 : Int32), σ)
def f_X1_no (N : Nat) (a0 : Nat) (i1 : Int32) (σ : Mem) : Option (Int32 × Mem) :=
  ob (o_pI σ 0 [20] 4 (some a0) i1) fun σ1 =>
  some ((-1 : Int32), σ1)
def f_X8_init (N : Nat) (a0 : Nat) (σ : Mem) : Option (Unit × Mem) :=
  o_na σ 6 (8 : Int32) fun a1 σ2 =>
  ob (o_pR σ2 [27] 0 (some a0) (some a1)) fun σ3 =>
  o_na σ3 1 (14 : Int32) fun a4 σ5 =>
  ob (o_pR σ5 [27] 1 (some a0) (some a4)) fun σ6 =>
  o_na σ6 1 (14 : Int32) fun a7 σ8 =>
  ob (o_pR σ8 [27] 2 (some a0) (some a7)) fun σ9 =>
  o_na σ9 1 (8 : Int32) fun a10 σ11 =>
  ob (o_pR σ11 [27] 3 (some a0) (some a10)) fun σ12 =>
  o_na σ12 1 (4 : Int32) fun a13 σ14 =>
  ob (o_pR σ14 [27] 4 (some a0) (some a13)) fun σ15 =>
  o_na σ15 7 (4 : Int32) fun a16 σ17 =>
  ob (o_pR σ17 [27] 5 (some a0) (some a16)) fun σ18 =>
  o_na σ18 8 (6 : Int32) fun a19 σ20 =>
  ob (o_pR σ20 [27] 6 (some a0) (some a19)) fun σ21 =>
  o_na σ21 9 (10 : Int32) fun a22 σ23 =>
  ob (o_pR σ23 [27] 7 (some a0) (some a22)) fun σ24 =>
  o_na σ24 10 (8 : Int32) fun a25 σ26 =>
  ob (o_pR σ26 [27] 8 (some a0) (some a25)) fun σ27 =>
  o_na σ27 11 (8 : Int32) fun a28 σ29 =>
  ob (o_pR σ29 [27] 9 (some a0) (some a28)) fun σ30 =>
  o_na σ30 12 (6 : Int32) fun a31 σ32 =>
  ob (o_pR σ32 [27] 10 (some a0) (some a31)) fun σ33 =>
  some ((), σ33)
def f_X2_see (N : Nat) (a0 : Nat) (i1 : Int32) (σ : Mem) : Option (Int32 × Mem) :=
  ob (o_gI σ [21] 3 (some a0)) fun x1 =>
  if x1 ≤ i1 then
    some ((-1 : Int32), σ)
  else
    ob (o_gR σ [21] 1 (some a0)) fun x2 =>
    ob (o_aI σ 2 x2 i1) fun x3 =>
    some ((x3 &&& (255 : Int32)), σ)
def f_X2_isSmall (N : Nat) (i0 : Int32) (σ : Mem) : Option (Int32 × Mem) :=
  bd (f_X1_in N i0 (97 : Int32) (122 : Int32) σ) fun x1 σ2 =>
  ob (o_nr 1 x1) fun _ => some (x1, σ2)
def f_J4_checkFromIndexSize_b15 (N : Nat)  (l0 : Int32) (l1 : Int32) (l2 : Int32) (l3 : Option Nat) (σ : Mem) : Option (Int32 × Mem) :=
  none
def f_J4_checkFromIndexSize (N : Nat) (i0 : Int32) (i1 : Int32) (i2 : Int32) (o3 : Option Nat) (σ : Mem) : Option (Int32 × Mem) :=
  if ((i2 ||| i0) ||| i1) < 0 then
    f_J4_checkFromIndexSize_b15 N  i0 i1 i2 o3 σ
  else
    if i1 ≤ (i2 - i0) then
      some (i0, σ)
    else
      f_J4_checkFromIndexSize_b15 N  i0 i1 i2 o3 σ
def f_J3_checkBoundsOffCount (N : Nat) (i0 : Int32) (i1 : Int32) (i2 : Int32) (σ : Mem) : Option (Int32 × Mem) :=
  bd (f_J4_checkFromIndexSize N i0 i1 i2 (m_R σ 999 2) σ) fun x1 σ2 =>
  some (x1, σ2)
def f_J3_rangeCheck (N : Nat) (o0 : Option Nat) (i1 : Int32) (i2 : Int32) (σ : Mem) : Option ((Option Nat) × Mem) :=
  ob (o_len σ o0) fun x1 =>
  bd (f_J3_checkBoundsOffCount N i1 i2 x1 σ) fun x2 σ3 =>
  some (none, σ3)
def f_J5_compress_2_b3B (N : Nat)  (K3 : Option Nat → Int32 → Option Nat → Int32 → Int32 → Int32 → Mem → Option (Int32 × Mem)) (l0 : Option Nat) (l1 : Int32) (l2 : Option Nat) (l3 : Int32) (l4 : Int32) (l5 : Int32) (σ : Mem) : Option (Int32 × Mem) :=
  if l4 ≤ l5 then
    some (l4, σ)
  else
    ob (o_aI σ 3 l0 l1) fun x1 =>
    if x1 ≤ (255 : Int32) then
      ob (o_sI σ 2 l2 l3 (x1.toInt8.toInt32)) fun σ2 =>
      K3 l0 (l1 + (1 : Int32)) l2 (l3 + (1 : Int32)) l4 (l5 + (1 : Int32)) σ2
    else
      some (l5, σ)
def f_J5_compress_2_b3 (N : Nat)  : Nat → Option Nat → Int32 → Option Nat → Int32 → Int32 → Int32 → Mem → Option (Int32 × Mem)
  | 0, _, _, _, _, _, _, _ => none
  | n + 1, l0, l1, l2, l3, l4, l5, σ => f_J5_compress_2_b3B N  (f_J5_compress_2_b3 N  n) l0 l1 l2 l3 l4 l5 σ
def f_J5_compress_2 (N : Nat) (o0 : Option Nat) (i1 : Int32) (o2 : Option Nat) (i3 : Int32) (i4 : Int32) (σ : Mem) : Option (Int32 × Mem) :=
  f_J5_compress_2_b3 N  N o0 i1 o2 i3 i4 (0 : Int32) σ
def f_J5_compress (N : Nat) (o0 : Option Nat) (i1 : Int32) (i2 : Int32) (σ : Mem) : Option ((Option Nat) × Mem) :=
  o_na σ 2 i2 fun a1 σ2 =>
  bd (f_J5_compress_2 N o0 i1 (some a1) (0 : Int32) i2 σ2) fun x3 σ4 =>
  if x3 = i2 then
    some ((some a1), σ4)
  else
    none
def f_J5_coderFromArrayLen (N : Nat) (o0 : Option Nat) (i1 : Int32) (σ : Mem) : Option (Int32 × Mem) :=
  ob (o_len σ o0) fun x1 =>
  ob (o_nr 2 ((((i1 - x1).toUInt32 >>> ((31 : Int32).toUInt32 &&& Int32.toUInt32 31)).toInt32).toInt8.toInt32)) fun _ => some (((((i1 - x1).toUInt32 >>> ((31 : Int32).toUInt32 &&& Int32.toUInt32 31)).toInt32).toInt8.toInt32), σ)
def f_J3_init_2 (N : Nat) (a0 : Nat) (o1 : Option Nat) (i2 : Int32) (i3 : Int32) (o4 : Option Nat) (σ : Mem) : Option (Unit × Mem) :=
  if i3 = 0 then
    ob (o_gR σ [41] 0 (some 0)) fun x8 =>
    ob (o_pR σ [41] 0 (some a0) x8) fun σ9 =>
    ob (o_gI σ9 [41] 1 (some 0)) fun x10 =>
    ob (o_pI σ9 2 [41] 1 (some a0) x10) fun σ11 =>
    some ((), σ11)
  else
    if (1 : Int32) = 0 then
      ob (o_pI σ 2 [41] 1 (some a0) (1 : Int32)) fun σ1 =>
      none
    else
      bd (f_J5_compress N o1 i2 i3 σ) fun x2 σ3 =>
      bd (f_J5_coderFromArrayLen N x2 i3 σ3) fun x4 σ5 =>
      ob (o_pI σ5 2 [41] 1 (some a0) x4) fun σ6 =>
      ob (o_pR σ6 [41] 0 (some a0) x2) fun σ7 =>
      some ((), σ7)
def f_J3_init (N : Nat) (a0 : Nat) (o1 : Option Nat) (i2 : Int32) (i3 : Int32) (σ : Mem) : Option (Unit × Mem) :=
  bd (f_J3_rangeCheck N o1 i2 i3 σ) fun x1 σ2 =>
  bd (f_J3_init_2 N a0 o1 i2 i3 x1 σ2) fun _ σ4 =>
  some ((), σ4)
def f_X2_isDigit (N : Nat) (i0 : Int32) (σ : Mem) : Option (Int32 × Mem) :=
  bd (f_X1_in N i0 (48 : Int32) (57 : Int32) σ) fun x1 σ2 =>
  ob (o_nr 1 x1) fun _ => some (x1, σ2)
def f_X2_next_b302 (N : Nat)  (t0 : Option Nat) (t1 : Int32) (σ : Mem) : Option (Unit × Mem) :=
  ob (o_pI σ 0 [21] 5 t0 t1) fun σ1 =>
  some ((), σ1)
def f_X2_next_b297 (N : Nat)  (l2 : Int32) (t0 : Option Nat) (σ : Mem) : Option (Unit × Mem) :=
  f_X2_next_b302 N  t0 l2 σ
def f_X2_next_b278 (N : Nat)  (t0 : Option Nat) (t1 : Int32) (σ : Mem) : Option (Unit × Mem) :=
  ob (o_pI σ 0 [21] 5 t0 t1) fun σ1 =>
  some ((), σ1)
def f_X2_next_b249 (N : Nat) (K202 : Nat → Int32 → Mem → Option (Unit × Mem)) (a0 : Nat) (l1 : Int32) (σ : Mem) : Option (Unit × Mem) :=
  ob (o_gI σ [21] 4 (some a0)) fun x1 =>
  ob (o_pI σ 0 [21] 4 (some a0) (x1 + (1 : Int32))) fun σ2 =>
  K202 a0 l1 σ2
def f_X2_next_b202B (N : Nat)  (K202 : Nat → Int32 → Mem → Option (Unit × Mem)) (a0 : Nat) (l1 : Int32) (σ : Mem) : Option (Unit × Mem) :=
  ob (o_gI σ [21] 4 (some a0)) fun x1 =>
  ob (o_at σ [21] (some a0)) fun a4 =>
  bd (f_X2_see N a4 x1 σ) fun x2 σ3 =>
  bd (f_X2_isDigit N x2 σ3) fun x5 σ6 =>
  if x5 = 0 then
    ob (o_gI σ6 [21] 4 (some a0)) fun x7 =>
    if (x7 - l1) ≤ (3 : Int32) then
      f_X2_next_b278 N  (some a0) (3 : Int32) σ6
    else
      f_X2_next_b278 N  (some a0) (1 : Int32) σ6
  else
    ob (o_gI σ6 [21] 4 (some a0)) fun x8 =>
    if (3 : Int32) ≤ (x8 - l1) then
      f_X2_next_b249 N K202 a0 l1 σ6
    else
      ob (o_gI σ6 [21] 7 (some a0)) fun x9 =>
      ob (o_gI σ6 [21] 4 (some a0)) fun x10 =>
      ob (o_at σ6 [21] (some a0)) fun a13 =>
      bd (f_X2_see N a13 x10 σ6) fun x11 σ12 =>
      ob (o_pI σ12 0 [21] 7 (some a0) ((((10 : Int32) * x9) + x11) - (48 : Int32))) fun σ14 =>
      f_X2_next_b249 N K202 a0 l1 σ14
def f_X2_next_b202 (N : Nat)  : Nat → Nat → Int32 → Mem → Option (Unit × Mem)
  | 0, _, _, _ => none
  | n + 1, a0, l1, σ => f_X2_next_b202B N  (f_X2_next_b202 N  n) a0 l1 σ
def f_X2_next_b179 (N : Nat)  (t0 : Option Nat) (t1 : Option Nat) (σ : Mem) : Option (Unit × Mem) :=
  ob (o_pR σ [21] 8 t0 t1) fun σ1 =>
  some ((), σ1)
def f_X2_next_b144 (N : Nat)  (a0 : Nat) (l1 : Int32) (t0 : Option Nat) (t1 : Int32) (σ : Mem) : Option (Unit × Mem) :=
  ob (o_pI σ 0 [21] 5 t0 t1) fun σ1 =>
  ob (o_gI σ1 [21] 5 (some a0)) fun x2 =>
  if x2 = (2 : Int32) then
    o_no σ1 41 4 fun a3 σ4 =>
    ob (o_gR σ4 [21] 2 (some a0)) fun x5 =>
    ob (o_gI σ4 [21] 4 (some a0)) fun x6 =>
    bd (f_J3_init N a3 x5 (0 : Int32) (x6 - l1) σ4) fun _ σ8 =>
    f_X2_next_b179 N  (some a0) (some a3) σ8
  else
    f_X2_next_b179 N  (some a0) (some 0) σ1
def f_X2_next_b114 (N : Nat) (K69 : Nat → Int32 → Mem → Option (Unit × Mem)) (a0 : Nat) (l1 : Int32) (σ : Mem) : Option (Unit × Mem) :=
  ob (o_gI σ [21] 4 (some a0)) fun x1 =>
  ob (o_pI σ 0 [21] 4 (some a0) (x1 + (1 : Int32))) fun σ2 =>
  K69 a0 l1 σ2
def f_X2_next_b69B (N : Nat)  (K69 : Nat → Int32 → Mem → Option (Unit × Mem)) (a0 : Nat) (l1 : Int32) (σ : Mem) : Option (Unit × Mem) :=
  ob (o_gI σ [21] 4 (some a0)) fun x1 =>
  ob (o_at σ [21] (some a0)) fun a4 =>
  bd (f_X2_see N a4 x1 σ) fun x2 σ3 =>
  bd (f_X2_isSmall N x2 σ3) fun x5 σ6 =>
  if x5 = 0 then
    ob (o_gI σ6 [21] 4 (some a0)) fun x7 =>
    if (x7 - l1) ≤ (8 : Int32) then
      f_X2_next_b144 N  a0 l1 (some a0) (2 : Int32) σ6
    else
      f_X2_next_b144 N  a0 l1 (some a0) (1 : Int32) σ6
  else
    ob (o_gI σ6 [21] 4 (some a0)) fun x8 =>
    if (8 : Int32) ≤ (x8 - l1) then
      f_X2_next_b114 N K69 a0 l1 σ6
    else
      ob (o_gR σ6 [21] 2 (some a0)) fun x9 =>
      ob (o_gI σ6 [21] 4 (some a0)) fun x10 =>
      ob (o_gI σ6 [21] 4 (some a0)) fun x11 =>
      ob (o_at σ6 [21] (some a0)) fun a14 =>
      bd (f_X2_see N a14 x11 σ6) fun x12 σ13 =>
      ob (o_sI σ13 3 x9 (x10 - l1) ((x12.toUInt32 % 65536).toInt32)) fun σ15 =>
      f_X2_next_b114 N K69 a0 l1 σ15
def f_X2_next_b69 (N : Nat)  : Nat → Nat → Int32 → Mem → Option (Unit × Mem)
  | 0, _, _, _ => none
  | n + 1, a0, l1, σ => f_X2_next_b69B N  (f_X2_next_b69 N  n) a0 l1 σ
def f_X2_next_b5B (N : Nat)  (K5 : Nat → Int32 → Mem → Option (Unit × Mem)) (a0 : Nat) (l1 : Int32) (σ : Mem) : Option (Unit × Mem) :=
  ob (o_at σ [21] (some a0)) fun a3 =>
  bd (f_X2_see N a3 l1 σ) fun x1 σ2 =>
  if x1 = (32 : Int32) then
    K5 a0 (l1 + (1 : Int32)) σ2
  else
    ob (o_pI σ2 0 [21] 6 (some a0) l1) fun σ4 =>
    ob (o_pI σ4 0 [21] 4 (some a0) (l1 + (1 : Int32))) fun σ5 =>
    ob (o_at σ5 [21] (some a0)) fun a8 =>
    bd (f_X2_see N a8 l1 σ5) fun x6 σ7 =>
    if x6 = (-1 : Int32) then
      ob (o_pI σ7 0 [21] 5 (some a0) (0 : Int32)) fun σ16 =>
      ob (o_pI σ16 0 [21] 4 (some a0) l1) fun σ17 =>
      some ((), σ17)
    else
      bd (f_X2_isSmall N x6 σ7) fun x9 σ10 =>
      if x9 = 0 then
        bd (f_X2_isDigit N x6 σ10) fun x11 σ12 =>
        if x11 = 0 then
          if x6 = (59 : Int32) then
            f_X2_next_b297 N  x6 (some a0) σ12
          else
            if x6 = (44 : Int32) then
              f_X2_next_b297 N  x6 (some a0) σ12
            else
              f_X2_next_b302 N  (some a0) (1 : Int32) σ12
        else
          ob (o_pI σ12 0 [21] 7 (some a0) (0 : Int32)) fun σ13 =>
          ob (o_pI σ13 0 [21] 4 (some a0) l1) fun σ14 =>
          f_X2_next_b202 N  N a0 l1 σ14
      else
        ob (o_pI σ10 0 [21] 4 (some a0) l1) fun σ15 =>
        f_X2_next_b69 N  N a0 l1 σ15
def f_X2_next_b5 (N : Nat)  : Nat → Nat → Int32 → Mem → Option (Unit × Mem)
  | 0, _, _, _ => none
  | n + 1, a0, l1, σ => f_X2_next_b5B N  (f_X2_next_b5 N  n) a0 l1 σ
def f_X2_next (N : Nat) (a0 : Nat) (σ : Mem) : Option (Unit × Mem) :=
  ob (o_gI σ [21] 4 (some a0)) fun x1 =>
  f_X2_next_b5 N  N a0 x1 σ
def f_X3_at (N : Nat) (a0 : Nat) (i1 : Int32) (i2 : Int32) (σ : Mem) : Option ((Option Nat) × Mem) :=
  ob (o_pI σ 0 [22] 0 (some a0) i1) fun σ1 =>
  ob (o_pI σ1 0 [22] 1 (some a0) i2) fun σ2 =>
  some ((some a0), σ2)
def f_X2_fail (N : Nat) (a0 : Nat) (i1 : Int32) (σ : Mem) : Option ((Option Nat) × Mem) :=
  ob (o_gR σ [21] 0 (some a0)) fun x1 =>
  ob (o_gI σ [21] 6 (some a0)) fun x2 =>
  ob (o_at σ [22] x1) fun a5 =>
  bd (f_X3_at N a5 i1 x2 σ) fun x3 σ4 =>
  some (x3, σ4)
def f_J3_isLatin1_b17 (N : Nat)   (σ : Mem) : Option (Int32 × Mem) :=
  ob (o_nr 1 (0 : Int32)) fun _ => some ((0 : Int32), σ)
def f_J3_isLatin1 (N : Nat) (a0 : Nat) (σ : Mem) : Option (Int32 × Mem) :=
  if (1 : Int32) = 0 then
    f_J3_isLatin1_b17 N   σ
  else
    ob (o_gI σ [41] 1 (some a0)) fun x1 =>
    if x1 = 0 then
      ob (o_nr 1 (1 : Int32)) fun _ => some ((1 : Int32), σ)
    else
      f_J3_isLatin1_b17 N   σ
def f_J7_signedHashCode_b8B (N : Nat)  (K8 : Int32 → Option Nat → Int32 → Int32 → Mem → Option (Int32 × Mem)) (l0 : Int32) (l1 : Option Nat) (l4 : Int32) (l5 : Int32) (σ : Mem) : Option (Int32 × Mem) :=
  if l4 ≤ l5 then
    some (l0, σ)
  else
    ob (o_aI σ 2 l1 l5) fun x1 =>
    K8 (((31 : Int32) * l0) + (x1 &&& (255 : Int32))) l1 l4 (l5 + (1 : Int32)) σ
def f_J7_signedHashCode_b8 (N : Nat)  : Nat → Int32 → Option Nat → Int32 → Int32 → Mem → Option (Int32 × Mem)
  | 0, _, _, _, _, _ => none
  | n + 1, l0, l1, l4, l5, σ => f_J7_signedHashCode_b8B N  (f_J7_signedHashCode_b8 N  n) l0 l1 l4 l5 σ
def f_J7_signedHashCode (N : Nat) (i0 : Int32) (o1 : Option Nat) (i2 : Int32) (i3 : Int32) (σ : Mem) : Option (Int32 × Mem) :=
  f_J7_signedHashCode_b8 N  N i0 o1 (i2 + i3) i2 σ
def f_J7_vectorizedHashCode_b129 (N : Nat)  (l4 : Int32) (σ : Mem) : Option (Int32 × Mem) :=
  none
def f_J7_vectorizedHashCode (N : Nat) (o0 : Option Nat) (i1 : Int32) (i2 : Int32) (i3 : Int32) (i4 : Int32) (σ : Mem) : Option (Int32 × Mem) :=
  if i4 = (4 : Int32) then
    ob (o_cb σ o0) fun x1 =>
    bd (f_J7_signedHashCode N i3 x1 i1 i2 σ) fun x2 σ3 =>
    some (x2, σ3)
  else if i4 = (5 : Int32) then
    none
  else if i4 = (6 : Int32) then
    f_J7_vectorizedHashCode_b129 N  i4 σ
  else if i4 = (7 : Int32) then
    f_J7_vectorizedHashCode_b129 N  i4 σ
  else if i4 = (8 : Int32) then
    ob (o_cb σ o0) fun x4 =>
    none
  else if i4 = (9 : Int32) then
    none
  else if i4 = (10 : Int32) then
    none
  else
    f_J7_vectorizedHashCode_b129 N  i4 σ
def f_J6_hashCode (N : Nat) (o0 : Option Nat) (σ : Mem) : Option (Int32 × Mem) :=
  ob (o_len σ o0) fun x1 =>
  if x1 = (0 : Int32) then
    some ((0 : Int32), σ)
  else if x1 = (1 : Int32) then
    ob (o_aI σ 2 o0 (0 : Int32)) fun x2 =>
    some ((x2 &&& (255 : Int32)), σ)
  else
    ob (o_len σ o0) fun x3 =>
    bd (f_J7_vectorizedHashCode N o0 (0 : Int32) x3 (0 : Int32) (4 : Int32) σ) fun x4 σ5 =>
    some (x4, σ5)
def f_J3_hashCode_b40 (N : Nat)  (a0 : Nat) (t0 : Int32) (σ : Mem) : Option (Int32 × Mem) :=
  if t0 = 0 then
    ob (o_pI σ 1 [41] 3 (some a0) (1 : Int32)) fun σ2 =>
    some (t0, σ2)
  else
    ob (o_pI σ 0 [41] 2 (some a0) t0) fun σ1 =>
    some (t0, σ1)
def f_J3_hashCode (N : Nat) (a0 : Nat) (σ : Mem) : Option (Int32 × Mem) :=
  ob (o_gI σ [41] 2 (some a0)) fun x1 =>
  if x1 = 0 then
    ob (o_gI σ [41] 3 (some a0)) fun x2 =>
    if x2 = 0 then
      ob (o_at σ [41] (some a0)) fun a5 =>
      bd (f_J3_isLatin1 N a5  σ) fun x3 σ4 =>
      if x3 = 0 then
        ob (o_gR σ4 [41] 0 (some a0)) fun x6 =>
        none
      else
        ob (o_gR σ4 [41] 0 (some a0)) fun x7 =>
        bd (f_J6_hashCode N x7 σ4) fun x8 σ9 =>
        f_J3_hashCode_b40 N  a0 x8 σ9
    else
      some (x1, σ)
  else
    some (x1, σ)
def f_J6_equals_b9B (N : Nat)  (K9 : Option Nat → Option Nat → Int32 → Mem → Option (Int32 × Mem)) (l0 : Option Nat) (l1 : Option Nat) (l2 : Int32) (σ : Mem) : Option (Int32 × Mem) :=
  ob (o_len σ l0) fun x1 =>
  if x1 ≤ l2 then
    ob (o_nr 1 (1 : Int32)) fun _ => some ((1 : Int32), σ)
  else
    ob (o_aI σ 2 l0 l2) fun x2 =>
    ob (o_aI σ 2 l1 l2) fun x3 =>
    if x2 = x3 then
      K9 l0 l1 (l2 + (1 : Int32)) σ
    else
      ob (o_nr 1 (0 : Int32)) fun _ => some ((0 : Int32), σ)
def f_J6_equals_b9 (N : Nat)  : Nat → Option Nat → Option Nat → Int32 → Mem → Option (Int32 × Mem)
  | 0, _, _, _, _ => none
  | n + 1, l0, l1, l2, σ => f_J6_equals_b9B N  (f_J6_equals_b9 N  n) l0 l1 l2 σ
def f_J6_equals (N : Nat) (o0 : Option Nat) (o1 : Option Nat) (σ : Mem) : Option (Int32 × Mem) :=
  ob (o_len σ o0) fun x1 =>
  ob (o_len σ o1) fun x2 =>
  if x1 = x2 then
    f_J6_equals_b9 N  N o0 o1 (0 : Int32) σ
  else
    ob (o_nr 1 (0 : Int32)) fun _ => some ((0 : Int32), σ)
def f_J3_equals_b54 (N : Nat)   (σ : Mem) : Option (Int32 × Mem) :=
  ob (o_nr 1 (0 : Int32)) fun _ => some ((0 : Int32), σ)
def f_J3_equals_b36 (N : Nat)  (a0 : Nat) (l2 : Option Nat) (σ : Mem) : Option (Int32 × Mem) :=
  ob (o_gR σ [41] 0 (some a0)) fun x1 =>
  ob (o_gR σ [41] 0 l2) fun x2 =>
  bd (f_J6_equals N x1 x2 σ) fun x3 σ4 =>
  if x3 = 0 then
    f_J3_equals_b54 N   σ4
  else
    ob (o_nr 1 (1 : Int32)) fun _ => some ((1 : Int32), σ4)
def f_J3_equals (N : Nat) (a0 : Nat) (o1 : Option Nat) (σ : Mem) : Option (Int32 × Mem) :=
  ob (o_eq (some a0) o1) fun b1 =>
  if b1 = true then
    ob (o_nr 1 (1 : Int32)) fun _ => some ((1 : Int32), σ)
  else
    ob (o_is σ [41] [] o1) fun x2 =>
    if x2 = 0 then
      f_J3_equals_b54 N   σ
    else
      ob (o_cc σ [41] o1) fun x3 =>
      if (1 : Int32) = 0 then
        f_J3_equals_b36 N  a0 x3 σ
      else
        ob (o_gI σ [41] 1 (some a0)) fun x4 =>
        ob (o_gI σ [41] 1 x3) fun x5 =>
        if x4 = x5 then
          f_J3_equals_b36 N  a0 x3 σ
        else
          f_J3_equals_b54 N   σ
def f_X2_takes (N : Nat) (a0 : Nat) (o1 : Option Nat) (σ : Mem) : Option (Int32 × Mem) :=
  ob (o_gI σ [21] 5 (some a0)) fun x1 =>
  if x1 = (2 : Int32) then
    ob (o_gR σ [21] 8 (some a0)) fun x2 =>
    ob (o_at σ [41] x2) fun a5 =>
    bd (f_J3_equals N a5 o1 σ) fun x3 σ4 =>
    if x3 = 0 then
      ob (o_nr 1 (0 : Int32)) fun _ => some ((0 : Int32), σ4)
    else
      ob (o_at σ4 [21] (some a0)) fun a8 =>
      bd (f_X2_next N a8  σ4) fun _ σ7 =>
      ob (o_nr 1 (1 : Int32)) fun _ => some ((1 : Int32), σ7)
  else
    ob (o_nr 1 (0 : Int32)) fun _ => some ((0 : Int32), σ)
def f_X2_must (N : Nat) (a0 : Nat) (o1 : Option Nat) (σ : Mem) : Option ((Unit ⊕ Ex) × Mem) :=
  ob (o_at σ [21] (some a0)) fun a3 =>
  bd (f_X2_takes N a3 o1 σ) fun x1 σ2 =>
  if x1 = 0 then
    ob (o_at σ2 [21] (some a0)) fun a6 =>
    bd (f_X2_fail N a6 (1 : Int32) σ2) fun x4 σ5 =>
    o_th σ5 2 "GoatCourt$Refused" x4
  else
    some (Sum.inl (), σ2)
def f_X2_number (N : Nat) (a0 : Nat) (i1 : Int32) (i2 : Int32) (σ : Mem) : Option ((Int32 ⊕ Ex) × Mem) :=
  ob (o_gI σ [21] 5 (some a0)) fun x1 =>
  if x1 = (3 : Int32) then
    ob (o_gI σ [21] 7 (some a0)) fun x2 =>
    bd (f_X1_in N x2 i1 i2 σ) fun x3 σ4 =>
    if x3 = 0 then
      ob (o_at σ4 [21] (some a0)) fun a11 =>
      bd (f_X2_fail N a11 (4 : Int32) σ4) fun x9 σ10 =>
      o_th σ10 2 "GoatCourt$Refused" x9
    else
      ob (o_gI σ4 [21] 7 (some a0)) fun x5 =>
      ob (o_at σ4 [21] (some a0)) fun a8 =>
      bd (f_X2_next N a8  σ4) fun _ σ7 =>
      some (Sum.inl x5, σ7)
  else
    ob (o_at σ [21] (some a0)) fun a14 =>
    bd (f_X2_fail N a14 (1 : Int32) σ) fun x12 σ13 =>
    o_th σ13 2 "GoatCourt$Refused" x12
def f_X2_after (N : Nat) (a0 : Nat) (o1 : Option Nat) (i2 : Int32) (i3 : Int32) (σ : Mem) : Option ((Int32 ⊕ Ex) × Mem) :=
  ob (o_at σ [21] (some a0)) fun a3 =>
  bx (f_X2_must N a3 o1 σ) fun _ σ2 =>
  ob (o_at σ2 [21] (some a0)) fun a6 =>
  bx (f_X2_number N a6 i2 i3 σ2) fun x4 σ5 =>
  some (Sum.inl x4, σ5)
def f_X2_hillLine (N : Nat) (a0 : Nat) (σ : Mem) : Option ((Unit ⊕ Ex) × Mem) :=
  ob (o_gR σ [21] 9 (some a0)) fun x1 =>
  ob (o_gI σ [27] 11 x1) fun x2 =>
  if x2 ≤ 0 then
    ob (o_at σ [21] (some a0)) fun a5 =>
    bd (f_X2_next N a5  σ) fun _ σ4 =>
    ob (o_at σ4 [21] (some a0)) fun a8 =>
    bx (f_X2_after N a8 (some 34) (2 : Int32) (12 : Int32) σ4) fun x6 σ7 =>
    ob (o_gR σ7 [21] 9 (some a0)) fun x9 =>
    ob (o_at σ7 [21] (some a0)) fun a12 =>
    bx (f_X2_after N a12 (some 36) (1 : Int32) (4 : Int32) σ7) fun x10 σ11 =>
    ob (o_pI σ11 0 [27] 12 x9 x10) fun σ13 =>
    ob (o_gR σ13 [21] 9 (some a0)) fun x14 =>
    ob (o_pI σ13 0 [27] 11 x14 x6) fun σ15 =>
    some (Sum.inl (), σ15)
  else
    ob (o_at σ [21] (some a0)) fun a18 =>
    bd (f_X2_fail N a18 (3 : Int32) σ) fun x16 σ17 =>
    o_th σ17 2 "GoatCourt$Refused" x16
def f_X2_begins (N : Nat) (a0 : Nat) (i1 : Int32) (σ : Mem) : Option ((Unit ⊕ Ex) × Mem) :=
  if i1 = 0 then
    ob (o_at σ [21] (some a0)) fun a11 =>
    bd (f_X2_fail N a11 (5 : Int32) σ) fun x9 σ10 =>
    o_th σ10 2 "GoatCourt$Refused" x9
  else
    ob (o_gR σ [21] 9 (some a0)) fun x1 =>
    ob (o_gI σ [27] 11 x1) fun x2 =>
    if x2 = 0 then
      ob (o_at σ [21] (some a0)) fun a8 =>
      bd (f_X2_fail N a8 (6 : Int32) σ) fun x6 σ7 =>
      o_th σ7 2 "GoatCourt$Refused" x6
    else
      ob (o_at σ [21] (some a0)) fun a5 =>
      bd (f_X2_next N a5  σ) fun _ σ4 =>
      some (Sum.inl (), σ4)
def f_X2_mustName_b500 (N : Nat)  (a0 : Nat) (σ : Mem) : Option ((Unit ⊕ Ex) × Mem) :=
  ob (o_at σ [21] (some a0)) fun a3 =>
  bd (f_X2_fail N a3 (1 : Int32) σ) fun x1 σ2 =>
  o_th σ2 2 "GoatCourt$Refused" x1
def f_X2_mustName_b418 (N : Nat)  (a0 : Nat) (l2 : Int32) (σ : Mem) : Option ((Unit ⊕ Ex) × Mem) :=
  if l2 = (0 : Int32) then
    f_X2_mustName_b500 N  a0 σ
  else if l2 = (1 : Int32) then
    f_X2_mustName_b500 N  a0 σ
  else if l2 = (2 : Int32) then
    f_X2_mustName_b500 N  a0 σ
  else if l2 = (3 : Int32) then
    f_X2_mustName_b500 N  a0 σ
  else if l2 = (4 : Int32) then
    f_X2_mustName_b500 N  a0 σ
  else if l2 = (5 : Int32) then
    f_X2_mustName_b500 N  a0 σ
  else if l2 = (6 : Int32) then
    f_X2_mustName_b500 N  a0 σ
  else if l2 = (7 : Int32) then
    f_X2_mustName_b500 N  a0 σ
  else if l2 = (8 : Int32) then
    f_X2_mustName_b500 N  a0 σ
  else if l2 = (9 : Int32) then
    f_X2_mustName_b500 N  a0 σ
  else if l2 = (10 : Int32) then
    f_X2_mustName_b500 N  a0 σ
  else if l2 = (11 : Int32) then
    f_X2_mustName_b500 N  a0 σ
  else if l2 = (12 : Int32) then
    f_X2_mustName_b500 N  a0 σ
  else if l2 = (13 : Int32) then
    f_X2_mustName_b500 N  a0 σ
  else if l2 = (14 : Int32) then
    f_X2_mustName_b500 N  a0 σ
  else if l2 = (15 : Int32) then
    f_X2_mustName_b500 N  a0 σ
  else if l2 = (16 : Int32) then
    f_X2_mustName_b500 N  a0 σ
  else
    some (Sum.inl (), σ)
def f_X2_mustName (N : Nat) (a0 : Nat) (σ : Mem) : Option ((Unit ⊕ Ex) × Mem) :=
  ob (o_gI σ [21] 5 (some a0)) fun x1 =>
  if x1 = (2 : Int32) then
    ob (o_gR σ [21] 8 (some a0)) fun x2 =>
    ob (o_at σ [41] x2) fun a5 =>
    bd (f_J3_hashCode N a5  σ) fun x3 σ4 =>
    if x3 = (-1361525545 : Int32) then
      ob (o_at σ4 [41] x2) fun a8 =>
      bd (f_J3_equals N a8 (some 32) σ4) fun x6 σ7 =>
      if x6 = 0 then
        f_X2_mustName_b418 N  a0 (-1 : Int32) σ7
      else
        f_X2_mustName_b418 N  a0 (15 : Int32) σ7
    else if x3 = (-991716523 : Int32) then
      ob (o_at σ4 [41] x2) fun a11 =>
      bd (f_J3_equals N a11 (some 8) σ4) fun x9 σ10 =>
      if x9 = 0 then
        f_X2_mustName_b418 N  a0 (-1 : Int32) σ10
      else
        f_X2_mustName_b418 N  a0 (3 : Int32) σ10
    else if x3 = (3357 : Int32) then
      ob (o_at σ4 [41] x2) fun a14 =>
      bd (f_J3_equals N a14 (some 38) σ4) fun x12 σ13 =>
      if x12 = 0 then
        f_X2_mustName_b418 N  a0 (-1 : Int32) σ13
      else
        f_X2_mustName_b418 N  a0 (16 : Int32) σ13
    else if x3 = (3135084 : Int32) then
      ob (o_at σ4 [41] x2) fun a17 =>
      bd (f_J3_equals N a17 (some 22) σ4) fun x15 σ16 =>
      if x15 = 0 then
        f_X2_mustName_b418 N  a0 (-1 : Int32) σ16
      else
        f_X2_mustName_b418 N  a0 (10 : Int32) σ16
    else if x3 = (3178267 : Int32) then
      ob (o_at σ4 [41] x2) fun a20 =>
      bd (f_J3_equals N a20 (some 12) σ4) fun x18 σ19 =>
      if x18 = 0 then
        f_X2_mustName_b418 N  a0 (-1 : Int32) σ19
      else
        f_X2_mustName_b418 N  a0 (5 : Int32) σ19
    else if x3 = (3202625 : Int32) then
      ob (o_at σ4 [41] x2) fun a23 =>
      bd (f_J3_equals N a23 (some 2) σ4) fun x21 σ22 =>
      if x21 = 0 then
        f_X2_mustName_b418 N  a0 (-1 : Int32) σ22
      else
        f_X2_mustName_b418 N  a0 (0 : Int32) σ22
    else if x3 = (3433509 : Int32) then
      ob (o_at σ4 [41] x2) fun a26 =>
      bd (f_J3_equals N a26 (some 6) σ4) fun x24 σ25 =>
      if x24 = 0 then
        f_X2_mustName_b418 N  a0 (-1 : Int32) σ25
      else
        f_X2_mustName_b418 N  a0 (2 : Int32) σ25
    else if x3 = (3512060 : Int32) then
      ob (o_at σ4 [41] x2) fun a29 =>
      bd (f_J3_equals N a29 (some 26) σ4) fun x27 σ28 =>
      if x27 = 0 then
        f_X2_mustName_b418 N  a0 (-1 : Int32) σ28
      else
        f_X2_mustName_b418 N  a0 (12 : Int32) σ28
    else if x3 = (3526267 : Int32) then
      ob (o_at σ4 [41] x2) fun a32 =>
      bd (f_J3_equals N a32 (some 18) σ4) fun x30 σ31 =>
      if x30 = 0 then
        f_X2_mustName_b418 N  a0 (-1 : Int32) σ31
      else
        f_X2_mustName_b418 N  a0 (8 : Int32) σ31
    else if x3 = (94851467 : Int32) then
      ob (o_at σ4 [41] x2) fun a35 =>
      bd (f_J3_equals N a35 (some 30) σ4) fun x33 σ34 =>
      if x33 = 0 then
        f_X2_mustName_b418 N  a0 (-1 : Int32) σ34
      else
        f_X2_mustName_b418 N  a0 (14 : Int32) σ34
    else if x3 = (97304899 : Int32) then
      ob (o_at σ4 [41] x2) fun a38 =>
      bd (f_J3_equals N a38 (some 14) σ4) fun x36 σ37 =>
      if x36 = 0 then
        f_X2_mustName_b418 N  a0 (-1 : Int32) σ37
      else
        f_X2_mustName_b418 N  a0 (6 : Int32) σ37
    else if x3 = (97621890 : Int32) then
      ob (o_at σ4 [41] x2) fun a41 =>
      bd (f_J3_equals N a41 (some 16) σ4) fun x39 σ40 =>
      if x39 = 0 then
        f_X2_mustName_b418 N  a0 (-1 : Int32) σ40
      else
        f_X2_mustName_b418 N  a0 (7 : Int32) σ40
    else if x3 = (99459988 : Int32) then
      ob (o_at σ4 [41] x2) fun a44 =>
      bd (f_J3_equals N a44 (some 24) σ4) fun x42 σ43 =>
      if x42 = 0 then
        f_X2_mustName_b418 N  a0 (-1 : Int32) σ43
      else
        f_X2_mustName_b418 N  a0 (11 : Int32) σ43
    else if x3 = (106748167 : Int32) then
      ob (o_at σ4 [41] x2) fun a47 =>
      bd (f_J3_equals N a47 (some 4) σ4) fun x45 σ46 =>
      if x45 = 0 then
        f_X2_mustName_b418 N  a0 (-1 : Int32) σ46
      else
        f_X2_mustName_b418 N  a0 (1 : Int32) σ46
    else if x3 = (106940740 : Int32) then
      ob (o_at σ4 [41] x2) fun a50 =>
      bd (f_J3_equals N a50 (some 28) σ4) fun x48 σ49 =>
      if x48 = 0 then
        f_X2_mustName_b418 N  a0 (-1 : Int32) σ49
      else
        f_X2_mustName_b418 N  a0 (13 : Int32) σ49
    else if x3 = (109407315 : Int32) then
      ob (o_at σ4 [41] x2) fun a53 =>
      bd (f_J3_equals N a53 (some 20) σ4) fun x51 σ52 =>
      if x51 = 0 then
        f_X2_mustName_b418 N  a0 (-1 : Int32) σ52
      else
        f_X2_mustName_b418 N  a0 (9 : Int32) σ52
    else if x3 = (109770997 : Int32) then
      ob (o_at σ4 [41] x2) fun a56 =>
      bd (f_J3_equals N a56 (some 10) σ4) fun x54 σ55 =>
      if x54 = 0 then
        f_X2_mustName_b418 N  a0 (-1 : Int32) σ55
      else
        f_X2_mustName_b418 N  a0 (4 : Int32) σ55
    else
      f_X2_mustName_b418 N  a0 (-1 : Int32) σ4
  else
    ob (o_at σ [21] (some a0)) fun a59 =>
    bd (f_X2_fail N a59 (1 : Int32) σ) fun x57 σ58 =>
    o_th σ58 2 "GoatCourt$Refused" x57
def f_X8_among_b2B (N : Nat)  (K2 : Option Nat → Int32 → Option Nat → Int32 → Mem → Option ((Option Nat) × Mem)) (l0 : Option Nat) (l1 : Int32) (l2 : Option Nat) (l3 : Int32) (σ : Mem) : Option ((Option Nat) × Mem) :=
  if l1 ≤ l3 then
    some (none, σ)
  else
    ob (o_aRm σ [6, 7, 8, 10, 12] l0 l3) fun x1 =>
    ob (o_gR σ [28, 29, 30, 31, 32, 33, 37, 39] 100 x1) fun x2 =>
    ob (o_at σ [41] x2) fun a5 =>
    bd (f_J3_equals N a5 l2 σ) fun x3 σ4 =>
    if x3 = 0 then
      K2 l0 l1 l2 (l3 + (1 : Int32)) σ4
    else
      ob (o_aRm σ4 [6, 7, 8, 10, 12] l0 l3) fun x6 =>
      some (x6, σ4)
def f_X8_among_b2 (N : Nat)  : Nat → Option Nat → Int32 → Option Nat → Int32 → Mem → Option ((Option Nat) × Mem)
  | 0, _, _, _, _, _ => none
  | n + 1, l0, l1, l2, l3, σ => f_X8_among_b2B N  (f_X8_among_b2 N  n) l0 l1 l2 l3 σ
def f_X8_among (N : Nat) (o0 : Option Nat) (i1 : Int32) (o2 : Option Nat) (σ : Mem) : Option ((Option Nat) × Mem) :=
  f_X8_among_b2 N  N o0 i1 o2 (0 : Int32) σ
def f_X8_find_b64 (N : Nat)  (a0 : Nat) (l1 : Option Nat) (l2 : Option Nat) (σ : Mem) : Option ((Option Nat) × Mem) :=
  if l2 = none then
    ob (o_gR σ [27] 10 (some a0)) fun x1 =>
    ob (o_gI σ [27] 22 (some a0)) fun x2 =>
    bd (f_X8_among N x1 x2 l1 σ) fun x3 σ4 =>
    some (x3, σ4)
  else
    some (l2, σ)
def f_X8_find_b47 (N : Nat)  (a0 : Nat) (l1 : Option Nat) (l2 : Option Nat) (σ : Mem) : Option ((Option Nat) × Mem) :=
  if l2 = none then
    ob (o_gR σ [27] 8 (some a0)) fun x1 =>
    ob (o_gI σ [27] 19 (some a0)) fun x2 =>
    bd (f_X8_among N x1 x2 l1 σ) fun x3 σ4 =>
    f_X8_find_b64 N  a0 l1 x3 σ4
  else
    f_X8_find_b64 N  a0 l1 l2 σ
def f_X8_find_b30 (N : Nat)  (a0 : Nat) (l1 : Option Nat) (l2 : Option Nat) (σ : Mem) : Option ((Option Nat) × Mem) :=
  if l2 = none then
    ob (o_gR σ [27] 6 (some a0)) fun x1 =>
    ob (o_gI σ [27] 16 (some a0)) fun x2 =>
    bd (f_X8_among N x1 x2 l1 σ) fun x3 σ4 =>
    f_X8_find_b47 N  a0 l1 x3 σ4
  else
    f_X8_find_b47 N  a0 l1 l2 σ
def f_X8_find (N : Nat) (a0 : Nat) (o1 : Option Nat) (σ : Mem) : Option ((Option Nat) × Mem) :=
  ob (o_gR σ [27] 0 (some a0)) fun x1 =>
  ob (o_gI σ [27] 13 (some a0)) fun x2 =>
  bd (f_X8_among N x1 x2 o1 σ) fun x3 σ4 =>
  if x3 = none then
    ob (o_gR σ4 [27] 5 (some a0)) fun x5 =>
    ob (o_gI σ4 [27] 15 (some a0)) fun x6 =>
    bd (f_X8_among N x5 x6 o1 σ4) fun x7 σ8 =>
    f_X8_find_b30 N  a0 o1 x7 σ8
  else
    f_X8_find_b30 N  a0 o1 x3 σ4
def f_X2_newName (N : Nat) (a0 : Nat) (σ : Mem) : Option (((Option Nat) ⊕ Ex) × Mem) :=
  ob (o_at σ [21] (some a0)) fun a3 =>
  bx (f_X2_mustName N a3  σ) fun _ σ2 =>
  ob (o_gR σ2 [21] 9 (some a0)) fun x4 =>
  ob (o_gR σ2 [21] 8 (some a0)) fun x5 =>
  ob (o_at σ2 [27] x4) fun a8 =>
  bd (f_X8_find N a8 x5 σ2) fun x6 σ7 =>
  if x6 = none then
    ob (o_gR σ7 [21] 8 (some a0)) fun x9 =>
    ob (o_at σ7 [21] (some a0)) fun a12 =>
    bd (f_X2_next N a12  σ7) fun _ σ11 =>
    some (Sum.inl x9, σ11)
  else
    ob (o_at σ7 [21] (some a0)) fun a15 =>
    bd (f_X2_fail N a15 (3 : Int32) σ7) fun x13 σ14 =>
    o_th σ14 2 "GoatCourt$Refused" x13
def f_X9_init (N : Nat) (a0 : Nat) (o1 : Option Nat) (i2 : Int32) (σ : Mem) : Option (Unit × Mem) :=
  ob (o_pR σ [28, 29, 30, 31, 32, 33, 37, 39] 100 (some a0) o1) fun σ1 =>
  ob (o_pI σ1 0 [28, 29, 30, 31, 32, 33, 37, 39] 101 (some a0) i2) fun σ2 =>
  some ((), σ2)
def f_X10_init (N : Nat) (a0 : Nat) (o1 : Option Nat) (i2 : Int32) (σ : Mem) : Option (Unit × Mem) :=
  bd (f_X9_init N a0 o1 i2 σ) fun _ σ2 =>
  o_na σ2 1 (4 : Int32) fun a3 σ4 =>
  ob (o_pR σ4 [28] 0 (some a0) (some a3)) fun σ5 =>
  some ((), σ5)
def f_X2_comma (N : Nat) (a0 : Nat) (σ : Mem) : Option (Int32 × Mem) :=
  ob (o_gI σ [21] 5 (some a0)) fun x1 =>
  if x1 = (44 : Int32) then
    ob (o_at σ [21] (some a0)) fun a4 =>
    bd (f_X2_next N a4  σ) fun _ σ3 =>
    ob (o_nr 1 (1 : Int32)) fun _ => some ((1 : Int32), σ3)
  else
    ob (o_nr 1 (0 : Int32)) fun _ => some ((0 : Int32), σ)
def f_X2_numbers_b30 (N : Nat) (K2 : Nat → Option Nat → Int32 → Int32 → Mem → Option ((Unit ⊕ Ex) × Mem)) (a0 : Nat) (l1 : Option Nat) (l2 : Int32) (l3 : Int32) (σ : Mem) : Option ((Unit ⊕ Ex) × Mem) :=
  ob (o_at σ [21] (some a0)) fun a3 =>
  bx (f_X2_number N a3 (0 : Int32) l2 σ) fun x1 σ2 =>
  ob (o_sI σ2 1 l1 l3 x1) fun σ4 =>
  K2 a0 l1 l2 (l3 + (1 : Int32)) σ4
def f_X2_numbers_b2B (N : Nat)  (K2 : Nat → Option Nat → Int32 → Int32 → Mem → Option ((Unit ⊕ Ex) × Mem)) (a0 : Nat) (l1 : Option Nat) (l2 : Int32) (l3 : Int32) (σ : Mem) : Option ((Unit ⊕ Ex) × Mem) :=
  ob (o_gR σ [21] 9 (some a0)) fun x1 =>
  ob (o_gI σ [27] 12 x1) fun x2 =>
  if x2 ≤ l3 then
    some (Sum.inl (), σ)
  else
    if l3 ≤ 0 then
      f_X2_numbers_b30 N K2 a0 l1 l2 l3 σ
    else
      ob (o_at σ [21] (some a0)) fun a5 =>
      bd (f_X2_comma N a5  σ) fun x3 σ4 =>
      if x3 = 0 then
        ob (o_at σ4 [21] (some a0)) fun a8 =>
        bd (f_X2_fail N a8 (1 : Int32) σ4) fun x6 σ7 =>
        o_th σ7 2 "GoatCourt$Refused" x6
      else
        f_X2_numbers_b30 N K2 a0 l1 l2 l3 σ4
def f_X2_numbers_b2 (N : Nat)  : Nat → Nat → Option Nat → Int32 → Int32 → Mem → Option ((Unit ⊕ Ex) × Mem)
  | 0, _, _, _, _, _ => none
  | n + 1, a0, l1, l2, l3, σ => f_X2_numbers_b2B N  (f_X2_numbers_b2 N  n) a0 l1 l2 l3 σ
def f_X2_numbers (N : Nat) (a0 : Nat) (o1 : Option Nat) (i2 : Int32) (σ : Mem) : Option ((Unit ⊕ Ex) × Mem) :=
  f_X2_numbers_b2 N  N a0 o1 i2 (0 : Int32) σ
def f_X2_placeLine_b18 (N : Nat)  (a0 : Nat) (t0 : Option Nat) (t1 : Int32) (σ : Mem) : Option ((Unit ⊕ Ex) × Mem) :=
  ob (o_at σ [21] t0) fun a3 =>
  bx (f_X2_begins N a3 t1 σ) fun _ σ2 =>
  o_no σ2 28 4 fun a4 σ5 =>
  ob (o_at σ5 [21] (some a0)) fun a8 =>
  bx (f_X2_newName N a8  σ5) fun x6 σ7 =>
  ob (o_gR σ7 [21] 9 (some a0)) fun x9 =>
  ob (o_gI σ7 [27] 13 x9) fun x10 =>
  bd (f_X10_init N a4 x6 x10 σ7) fun _ σ12 =>
  ob (o_gR σ12 [28] 0 (some a4)) fun x13 =>
  ob (o_at σ12 [21] (some a0)) fun a16 =>
  bx (f_X2_numbers N a16 x13 (9 : Int32) σ12) fun _ σ15 =>
  ob (o_gR σ15 [21] 9 (some a0)) fun x17 =>
  ob (o_gR σ15 [27] 0 x17) fun x18 =>
  ob (o_gR σ15 [21] 9 (some a0)) fun x19 =>
  ob (o_gI σ15 [27] 13 x19) fun x20 =>
  ob (o_sR σ15 6 [28] x18 x20 (some a4)) fun σ21 =>
  ob (o_gR σ21 [21] 9 (some a0)) fun x22 =>
  ob (o_gI σ21 [27] 13 x22) fun x23 =>
  ob (o_pI σ21 0 [27] 13 x22 (x23 + (1 : Int32))) fun σ24 =>
  some (Sum.inl (), σ24)
def f_X2_placeLine (N : Nat) (a0 : Nat) (σ : Mem) : Option ((Unit ⊕ Ex) × Mem) :=
  ob (o_gR σ [21] 9 (some a0)) fun x1 =>
  ob (o_gI σ [27] 13 x1) fun x2 =>
  if (8 : Int32) ≤ x2 then
    f_X2_placeLine_b18 N  a0 (some a0) (0 : Int32) σ
  else
    f_X2_placeLine_b18 N  a0 (some a0) (1 : Int32) σ
def f_X2_found (N : Nat) (a0 : Nat) (σ : Mem) : Option (((Option Nat) ⊕ Ex) × Mem) :=
  ob (o_at σ [21] (some a0)) fun a3 =>
  bx (f_X2_mustName N a3  σ) fun _ σ2 =>
  ob (o_gR σ2 [21] 9 (some a0)) fun x4 =>
  ob (o_gR σ2 [21] 8 (some a0)) fun x5 =>
  ob (o_at σ2 [27] x4) fun a8 =>
  bd (f_X8_find N a8 x5 σ2) fun x6 σ7 =>
  some (Sum.inl x6, σ7)
def f_X2_placeHere (N : Nat) (a0 : Nat) (σ : Mem) : Option (((Option Nat) ⊕ Ex) × Mem) :=
  ob (o_at σ [21] (some a0)) fun a3 =>
  bx (f_X2_found N a3  σ) fun x1 σ2 =>
  ob (o_is σ2 [28] [29, 30, 31, 32, 33, 37, 39] x1) fun x4 =>
  if x4 = 0 then
    ob (o_at σ2 [21] (some a0)) fun a8 =>
    bd (f_X2_fail N a8 (2 : Int32) σ2) fun x6 σ7 =>
    o_th σ7 2 "GoatCourt$Refused" x6
  else
    ob (o_cc σ2 [28] x1) fun x5 =>
    some (Sum.inl x5, σ2)
def f_X2_place (N : Nat) (a0 : Nat) (σ : Mem) : Option (((Option Nat) ⊕ Ex) × Mem) :=
  ob (o_at σ [21] (some a0)) fun a3 =>
  bx (f_X2_placeHere N a3  σ) fun x1 σ2 =>
  ob (o_at σ2 [21] (some a0)) fun a6 =>
  bd (f_X2_next N a6  σ2) fun _ σ5 =>
  some (Sum.inl x1, σ5)
def f_X8_path_b52 (N : Nat) (K2 : Nat → Int32 → Int32 → Int32 → Mem → Option (Int32 × Mem)) (a0 : Nat) (l1 : Int32) (l2 : Int32) (l3 : Int32) (σ : Mem) : Option (Int32 × Mem) :=
  K2 a0 l1 l2 (l3 + (1 : Int32)) σ
def f_X8_path_b30 (N : Nat) (K2 : Nat → Int32 → Int32 → Int32 → Mem → Option (Int32 × Mem)) (a0 : Nat) (l1 : Int32) (l2 : Int32) (l3 : Int32) (σ : Mem) : Option (Int32 × Mem) :=
  ob (o_gR σ [27] 1 (some a0)) fun x1 =>
  ob (o_aI σ 1 x1 l3) fun x2 =>
  if x2 = l2 then
    ob (o_gR σ [27] 2 (some a0)) fun x3 =>
    ob (o_aI σ 1 x3 l3) fun x4 =>
    if x4 = l1 then
      some (l3, σ)
    else
      f_X8_path_b52 N K2 a0 l1 l2 l3 σ
  else
    f_X8_path_b52 N K2 a0 l1 l2 l3 σ
def f_X8_path_b2B (N : Nat)  (K2 : Nat → Int32 → Int32 → Int32 → Mem → Option (Int32 × Mem)) (a0 : Nat) (l1 : Int32) (l2 : Int32) (l3 : Int32) (σ : Mem) : Option (Int32 × Mem) :=
  ob (o_gI σ [27] 14 (some a0)) fun x1 =>
  if x1 ≤ l3 then
    some ((-1 : Int32), σ)
  else
    ob (o_gR σ [27] 1 (some a0)) fun x2 =>
    ob (o_aI σ 1 x2 l3) fun x3 =>
    if x3 = l1 then
      ob (o_gR σ [27] 2 (some a0)) fun x4 =>
      ob (o_aI σ 1 x4 l3) fun x5 =>
      if x5 = l2 then
        some (l3, σ)
      else
        f_X8_path_b30 N K2 a0 l1 l2 l3 σ
    else
      f_X8_path_b30 N K2 a0 l1 l2 l3 σ
def f_X8_path_b2 (N : Nat)  : Nat → Nat → Int32 → Int32 → Int32 → Mem → Option (Int32 × Mem)
  | 0, _, _, _, _, _ => none
  | n + 1, a0, l1, l2, l3, σ => f_X8_path_b2B N  (f_X8_path_b2 N  n) a0 l1 l2 l3 σ
def f_X8_path (N : Nat) (a0 : Nat) (i1 : Int32) (i2 : Int32) (σ : Mem) : Option (Int32 × Mem) :=
  f_X8_path_b2 N  N a0 i1 i2 (0 : Int32) σ
def f_X2_path_b55 (N : Nat)  (a0 : Nat) (σ : Mem) : Option ((Unit ⊕ Ex) × Mem) :=
  ob (o_at σ [21] (some a0)) fun a3 =>
  bd (f_X2_fail N a3 (3 : Int32) σ) fun x1 σ2 =>
  o_th σ2 2 "GoatCourt$Refused" x1
def f_X2_path_b18 (N : Nat)  (a0 : Nat) (t0 : Option Nat) (t1 : Int32) (σ : Mem) : Option ((Unit ⊕ Ex) × Mem) :=
  ob (o_at σ [21] t0) fun a3 =>
  bx (f_X2_begins N a3 t1 σ) fun _ σ2 =>
  ob (o_at σ2 [21] (some a0)) fun a6 =>
  bx (f_X2_place N a6  σ2) fun x4 σ5 =>
  ob (o_at σ5 [21] (some a0)) fun a9 =>
  bx (f_X2_placeHere N a9  σ5) fun x7 σ8 =>
  ob (o_eq x4 x7) fun b10 =>
  if b10 = true then
    f_X2_path_b55 N  a0 σ8
  else
    ob (o_gR σ8 [21] 9 (some a0)) fun x11 =>
    ob (o_gI σ8 [28] 101 x4) fun x12 =>
    ob (o_gI σ8 [28] 101 x7) fun x13 =>
    ob (o_at σ8 [27] x11) fun a16 =>
    bd (f_X8_path N a16 x12 x13 σ8) fun x14 σ15 =>
    if x14 = (-1 : Int32) then
      ob (o_at σ15 [21] (some a0)) fun a19 =>
      bd (f_X2_next N a19  σ15) fun _ σ18 =>
      ob (o_gR σ18 [21] 9 (some a0)) fun x20 =>
      ob (o_gR σ18 [27] 1 x20) fun x21 =>
      ob (o_gR σ18 [21] 9 (some a0)) fun x22 =>
      ob (o_gI σ18 [27] 14 x22) fun x23 =>
      ob (o_gI σ18 [28] 101 x4) fun x24 =>
      ob (o_sI σ18 1 x21 x23 x24) fun σ25 =>
      ob (o_gR σ25 [21] 9 (some a0)) fun x26 =>
      ob (o_gR σ25 [27] 2 x26) fun x27 =>
      ob (o_gR σ25 [21] 9 (some a0)) fun x28 =>
      ob (o_gI σ25 [27] 14 x28) fun x29 =>
      ob (o_gI σ25 [28] 101 x7) fun x30 =>
      ob (o_sI σ25 1 x27 x29 x30) fun σ31 =>
      ob (o_gR σ31 [21] 9 (some a0)) fun x32 =>
      ob (o_gI σ31 [27] 14 x32) fun x33 =>
      ob (o_pI σ31 0 [27] 14 x32 (x33 + (1 : Int32))) fun σ34 =>
      ob (o_gI σ34 [28] 1 x4) fun x35 =>
      ob (o_gI σ34 [28] 101 x7) fun x36 =>
      ob (o_pI σ34 0 [28] 1 x4 (x35 ||| ((1 : Int32) <<< (x36 &&& 31)))) fun σ37 =>
      ob (o_gI σ37 [28] 1 x7) fun x38 =>
      ob (o_gI σ37 [28] 101 x4) fun x39 =>
      ob (o_pI σ37 0 [28] 1 x7 (x38 ||| ((1 : Int32) <<< (x39 &&& 31)))) fun σ40 =>
      some (Sum.inl (), σ40)
    else
      f_X2_path_b55 N  a0 σ15
def f_X2_path (N : Nat) (a0 : Nat) (σ : Mem) : Option ((Unit ⊕ Ex) × Mem) :=
  ob (o_gR σ [21] 9 (some a0)) fun x1 =>
  ob (o_gI σ [27] 14 x1) fun x2 =>
  if (14 : Int32) ≤ x2 then
    f_X2_path_b18 N  a0 (some a0) (0 : Int32) σ
  else
    f_X2_path_b18 N  a0 (some a0) (1 : Int32) σ
def f_X11_init (N : Nat) (a0 : Nat) (o1 : Option Nat) (i2 : Int32) (σ : Mem) : Option (Unit × Mem) :=
  bd (f_X9_init N a0 o1 i2 σ) fun _ σ2 =>
  o_na σ2 1 (36 : Int32) fun a3 σ4 =>
  ob (o_pR σ4 [29] 0 (some a0) (some a3)) fun σ5 =>
  o_na σ5 1 (3 : Int32) fun a6 σ7 =>
  ob (o_pR σ7 [29] 1 (some a0) (some a6)) fun σ8 =>
  some ((), σ8)
def f_X2_person_b17 (N : Nat)  (a0 : Nat) (t0 : Option Nat) (t1 : Int32) (σ : Mem) : Option ((Unit ⊕ Ex) × Mem) :=
  ob (o_at σ [21] t0) fun a3 =>
  bx (f_X2_begins N a3 t1 σ) fun _ σ2 =>
  ob (o_gR σ2 [21] 9 (some a0)) fun x4 =>
  ob (o_gR σ2 [27] 5 x4) fun x5 =>
  ob (o_gR σ2 [21] 9 (some a0)) fun x6 =>
  ob (o_gI σ2 [27] 15 x6) fun x7 =>
  o_no σ2 29 5 fun a8 σ9 =>
  ob (o_at σ9 [21] (some a0)) fun a12 =>
  bx (f_X2_newName N a12  σ9) fun x10 σ11 =>
  ob (o_gR σ11 [21] 9 (some a0)) fun x13 =>
  ob (o_gI σ11 [27] 15 x13) fun x14 =>
  bd (f_X11_init N a8 x10 x14 σ11) fun _ σ16 =>
  ob (o_sR σ16 7 [29] x5 x7 (some a8)) fun σ17 =>
  ob (o_gR σ17 [21] 9 (some a0)) fun x18 =>
  ob (o_gI σ17 [27] 15 x18) fun x19 =>
  ob (o_pI σ17 0 [27] 15 x18 (x19 + (1 : Int32))) fun σ20 =>
  some (Sum.inl (), σ20)
def f_X2_person (N : Nat) (a0 : Nat) (σ : Mem) : Option ((Unit ⊕ Ex) × Mem) :=
  ob (o_gR σ [21] 9 (some a0)) fun x1 =>
  ob (o_gI σ [27] 15 x1) fun x2 =>
  if (4 : Int32) ≤ x2 then
    f_X2_person_b17 N  a0 (some a0) (0 : Int32) σ
  else
    f_X2_person_b17 N  a0 (some a0) (1 : Int32) σ
def f_X2_personHere (N : Nat) (a0 : Nat) (σ : Mem) : Option (((Option Nat) ⊕ Ex) × Mem) :=
  ob (o_at σ [21] (some a0)) fun a3 =>
  bx (f_X2_found N a3  σ) fun x1 σ2 =>
  ob (o_is σ2 [29] [28, 30, 31, 32, 33, 37, 39] x1) fun x4 =>
  if x4 = 0 then
    ob (o_at σ2 [21] (some a0)) fun a8 =>
    bd (f_X2_fail N a8 (2 : Int32) σ2) fun x6 σ7 =>
    o_th σ7 2 "GoatCourt$Refused" x6
  else
    ob (o_cc σ2 [29] x1) fun x5 =>
    some (Sum.inl x5, σ2)
def f_X11_begin (N : Nat) (a0 : Nat) (σ : Mem) : Option (Unit × Mem) :=
  ob (o_gI σ [29] 2 (some a0)) fun x1 =>
  ob (o_pI σ 0 [29] 2 (some a0) (x1 + (1 : Int32))) fun σ2 =>
  some ((), σ2)
def f_X11_size (N : Nat) (a0 : Nat) (σ : Mem) : Option (Int32 × Mem) :=
  ob (o_gR σ [29] 1 (some a0)) fun x1 =>
  ob (o_gI σ [29] 2 (some a0)) fun x2 =>
  ob (o_aI σ 1 x1 (x2 - (1 : Int32))) fun x3 =>
  some (x3, σ)
def f_X11_add (N : Nat) (a0 : Nat) (i1 : Int32) (σ : Mem) : Option (Unit × Mem) :=
  ob (o_gR σ [29] 0 (some a0)) fun x1 =>
  ob (o_gI σ [29] 2 (some a0)) fun x2 =>
  ob (o_gR σ [29] 1 (some a0)) fun x3 =>
  ob (o_gI σ [29] 2 (some a0)) fun x4 =>
  ob (o_aI σ 1 x3 (x4 - (1 : Int32))) fun x5 =>
  ob (o_sI σ 1 x1 (((12 : Int32) * (x2 - (1 : Int32))) + x5) i1) fun σ6 =>
  ob (o_gR σ6 [29] 1 (some a0)) fun x7 =>
  ob (o_gI σ6 [29] 2 (some a0)) fun x8 =>
  ob (o_aI σ6 1 x7 (x8 - (1 : Int32))) fun x9 =>
  ob (o_sI σ6 1 x7 (x8 - (1 : Int32)) (x9 + (1 : Int32))) fun σ10 =>
  some ((), σ10)
def f_X2_story_b34B (N : Nat)  (K34 : Nat → Option Nat → Int32 → Mem → Option ((Unit ⊕ Ex) × Mem)) (a0 : Nat) (l1 : Option Nat) (l2 : Int32) (σ : Mem) : Option ((Unit ⊕ Ex) × Mem) :=
  if l2 = 0 then
    some (Sum.inl (), σ)
  else
    ob (o_at σ [21] (some a0)) fun a3 =>
    bx (f_X2_placeHere N a3  σ) fun x1 σ2 =>
    ob (o_at σ2 [29] l1) fun a6 =>
    bd (f_X11_size N a6  σ2) fun x4 σ5 =>
    ob (o_gR σ5 [21] 9 (some a0)) fun x7 =>
    ob (o_gI σ5 [27] 11 x7) fun x8 =>
    if x4 = x8 then
      ob (o_at σ5 [21] (some a0)) fun a21 =>
      bd (f_X2_fail N a21 (5 : Int32) σ5) fun x19 σ20 =>
      o_th σ20 2 "GoatCourt$Refused" x19
    else
      ob (o_gI σ5 [28] 101 x1) fun x9 =>
      ob (o_at σ5 [29] l1) fun a12 =>
      bd (f_X11_add N a12 x9 σ5) fun _ σ11 =>
      ob (o_at σ11 [21] (some a0)) fun a15 =>
      bd (f_X2_next N a15  σ11) fun _ σ14 =>
      ob (o_at σ14 [21] (some a0)) fun a18 =>
      bd (f_X2_comma N a18  σ14) fun x16 σ17 =>
      K34 a0 l1 x16 σ17
def f_X2_story_b34 (N : Nat)  : Nat → Nat → Option Nat → Int32 → Mem → Option ((Unit ⊕ Ex) × Mem)
  | 0, _, _, _, _ => none
  | n + 1, a0, l1, l2, σ => f_X2_story_b34B N  (f_X2_story_b34 N  n) a0 l1 l2 σ
def f_X2_story (N : Nat) (a0 : Nat) (σ : Mem) : Option ((Unit ⊕ Ex) × Mem) :=
  ob (o_at σ [21] (some a0)) fun a3 =>
  bx (f_X2_begins N a3 (1 : Int32) σ) fun _ σ2 =>
  ob (o_at σ2 [21] (some a0)) fun a6 =>
  bx (f_X2_personHere N a6  σ2) fun x4 σ5 =>
  ob (o_gI σ5 [29] 2 x4) fun x7 =>
  if x7 = (3 : Int32) then
    ob (o_at σ5 [21] (some a0)) fun a16 =>
    bd (f_X2_fail N a16 (5 : Int32) σ5) fun x14 σ15 =>
    o_th σ15 2 "GoatCourt$Refused" x14
  else
    ob (o_at σ5 [21] (some a0)) fun a10 =>
    bd (f_X2_next N a10  σ5) fun _ σ9 =>
    ob (o_at σ9 [29] x4) fun a13 =>
    bd (f_X11_begin N a13  σ9) fun _ σ12 =>
    f_X2_story_b34 N  N a0 x4 (1 : Int32) σ12
def f_X12_init (N : Nat) (a0 : Nat) (o1 : Option Nat) (i2 : Int32) (σ : Mem) : Option (Unit × Mem) :=
  bd (f_X9_init N a0 o1 i2 σ) fun _ σ2 =>
  o_na σ2 1 (4 : Int32) fun a3 σ4 =>
  ob (o_pR σ4 [30, 31, 32, 33] 102 (some a0) (some a3)) fun σ5 =>
  some ((), σ5)
def f_X13_init (N : Nat) (a0 : Nat) (o1 : Option Nat) (i2 : Int32) (σ : Mem) : Option (Unit × Mem) :=
  bd (f_X12_init N a0 o1 i2 σ) fun _ σ2 =>
  some ((), σ2)
def f_X14_init (N : Nat) (a0 : Nat) (o1 : Option Nat) (i2 : Int32) (σ : Mem) : Option (Unit × Mem) :=
  bd (f_X12_init N a0 o1 i2 σ) fun _ σ2 =>
  some ((), σ2)
def f_X15_init (N : Nat) (a0 : Nat) (o1 : Option Nat) (i2 : Int32) (σ : Mem) : Option (Unit × Mem) :=
  bd (f_X12_init N a0 o1 i2 σ) fun _ σ2 =>
  some ((), σ2)
def f_X2_goat (N : Nat) (a0 : Nat) (σ : Mem) : Option (((Option Nat) ⊕ Ex) × Mem) :=
  ob (o_at σ [21] (some a0)) fun a3 =>
  bx (f_X2_found N a3  σ) fun x1 σ2 =>
  ob (o_is σ2 [30, 31, 32, 33] [28, 29, 37, 39] x1) fun x4 =>
  if x4 = 0 then
    ob (o_at σ2 [21] (some a0)) fun a11 =>
    bd (f_X2_fail N a11 (2 : Int32) σ2) fun x9 σ10 =>
    o_th σ10 2 "GoatCourt$Refused" x9
  else
    ob (o_at σ2 [21] (some a0)) fun a7 =>
    bd (f_X2_next N a7  σ2) fun _ σ6 =>
    ob (o_cc σ6 [30, 31, 32, 33] x1) fun x8 =>
    some (Sum.inl x8, σ6)
def f_X16_init (N : Nat) (a0 : Nat) (o1 : Option Nat) (i2 : Int32) (o3 : Option Nat) (σ : Mem) : Option (Unit × Mem) :=
  bd (f_X12_init N a0 o1 i2 σ) fun _ σ2 =>
  ob (o_pR σ2 [33] 0 (some a0) o3) fun σ3 =>
  some ((), σ3)
def f_X2_goatOf (N : Nat) (a0 : Nat) (o1 : Option Nat) (i2 : Int32) (σ : Mem) : Option (((Option Nat) ⊕ Ex) × Mem) :=
  ob (o_at σ [21] (some a0)) fun a3 =>
  bd (f_X2_takes N a3 (some 40) σ) fun x1 σ2 =>
  if x1 = 0 then
    ob (o_at σ2 [21] (some a0)) fun a6 =>
    bd (f_X2_takes N a6 (some 42) σ2) fun x4 σ5 =>
    if x4 = 0 then
      ob (o_at σ5 [21] (some a0)) fun a9 =>
      bd (f_X2_takes N a9 (some 44) σ5) fun x7 σ8 =>
      if x7 = 0 then
        ob (o_at σ8 [21] (some a0)) fun a12 =>
        bx (f_X2_must N a12 (some 46) σ8) fun _ σ11 =>
        o_no σ11 33 8 fun a13 σ14 =>
        ob (o_at σ14 [21] (some a0)) fun a17 =>
        bx (f_X2_goat N a17  σ14) fun x15 σ16 =>
        bd (f_X16_init N a13 o1 i2 x15 σ16) fun _ σ19 =>
        some (Sum.inl (some a13), σ19)
      else
        o_no σ8 32 7 fun a20 σ21 =>
        bd (f_X15_init N a20 o1 i2 σ21) fun _ σ23 =>
        some (Sum.inl (some a20), σ23)
    else
      o_no σ5 31 7 fun a24 σ25 =>
      bd (f_X14_init N a24 o1 i2 σ25) fun _ σ27 =>
      some (Sum.inl (some a24), σ27)
  else
    o_no σ2 30 7 fun a28 σ29 =>
    bd (f_X13_init N a28 o1 i2 σ29) fun _ σ31 =>
    some (Sum.inl (some a28), σ31)
def f_J3_coder (N : Nat) (a0 : Nat) (σ : Mem) : Option (Int32 × Mem) :=
  if (1 : Int32) = 0 then
    ob (o_nr 2 (1 : Int32)) fun _ => some ((1 : Int32), σ)
  else
    ob (o_gI σ [41] 1 (some a0)) fun x1 =>
    ob (o_nr 2 x1) fun _ => some (x1, σ)
def f_J3_length (N : Nat) (a0 : Nat) (σ : Mem) : Option (Int32 × Mem) :=
  ob (o_gR σ [41] 0 (some a0)) fun x1 =>
  ob (o_len σ x1) fun x2 =>
  ob (o_at σ [41] (some a0)) fun a5 =>
  bd (f_J3_coder N a5  σ) fun x3 σ4 =>
  some ((x2 >>> (x3 &&& 31)), σ4)
def f_J4_checkIndex_b9 (N : Nat)  (l0 : Int32) (l1 : Int32) (l2 : Option Nat) (σ : Mem) : Option (Int32 × Mem) :=
  none
def f_J4_checkIndex (N : Nat) (i0 : Int32) (i1 : Int32) (o2 : Option Nat) (σ : Mem) : Option (Int32 × Mem) :=
  if i0 < 0 then
    f_J4_checkIndex_b9 N  i0 i1 o2 σ
  else
    if i0 < i1 then
      some (i0, σ)
    else
      f_J4_checkIndex_b9 N  i0 i1 o2 σ
def f_J3_checkIndex (N : Nat) (i0 : Int32) (i1 : Int32) (σ : Mem) : Option (Unit × Mem) :=
  bd (f_J4_checkIndex N i0 i1 (m_R σ 999 2) σ) fun x1 σ2 =>
  some ((), σ2)
def f_J6_charAt (N : Nat) (o0 : Option Nat) (i1 : Int32) (σ : Mem) : Option (Int32 × Mem) :=
  ob (o_len σ o0) fun x1 =>
  bd (f_J3_checkIndex N i1 x1 σ) fun _ σ3 =>
  ob (o_aI σ3 2 o0 i1) fun x4 =>
  ob (o_nr 3 (((x4 &&& (255 : Int32)).toUInt32 % 65536).toInt32)) fun _ => some ((((x4 &&& (255 : Int32)).toUInt32 % 65536).toInt32), σ3)
def f_J3_charAt (N : Nat) (a0 : Nat) (i1 : Int32) (σ : Mem) : Option (Int32 × Mem) :=
  ob (o_at σ [41] (some a0)) fun a3 =>
  bd (f_J3_isLatin1 N a3  σ) fun x1 σ2 =>
  if x1 = 0 then
    ob (o_gR σ2 [41] 0 (some a0)) fun x4 =>
    none
  else
    ob (o_gR σ2 [41] 0 (some a0)) fun x5 =>
    bd (f_J6_charAt N x5 i1 σ2) fun x6 σ7 =>
    ob (o_nr 3 x6) fun _ => some (x6, σ7)
def f_X1_has (N : Nat) (i0 : Int32) (i1 : Int32) (σ : Mem) : Option (Int32 × Mem) :=
  if ((i0 >>> (i1 &&& 31)) &&& (1 : Int32)) = (1 : Int32) then
    ob (o_nr 1 (1 : Int32)) fun _ => some ((1 : Int32), σ)
  else
    ob (o_nr 1 (0 : Int32)) fun _ => some ((0 : Int32), σ)
def f_X2_order_b69 (N : Nat)  (a0 : Nat) (σ : Mem) : Option ((Unit ⊕ Ex) × Mem) :=
  ob (o_at σ [21] (some a0)) fun a3 =>
  bd (f_X2_fail N a3 (7 : Int32) σ) fun x1 σ2 =>
  o_th σ2 2 "GoatCourt$Refused" x1
def f_X2_order_b18B (N : Nat)  (K18 : Nat → Option Nat → Int32 → Int32 → Mem → Option ((Unit ⊕ Ex) × Mem)) (a0 : Nat) (l1 : Option Nat) (l2 : Int32) (l3 : Int32) (σ : Mem) : Option ((Unit ⊕ Ex) × Mem) :=
  ob (o_gR σ [21] 8 (some a0)) fun x1 =>
  ob (o_at σ [41] x1) fun a4 =>
  bd (f_J3_length N a4  σ) fun x2 σ3 =>
  if x2 ≤ l3 then
    ob (o_gR σ3 [21] 8 (some a0)) fun x5 =>
    ob (o_at σ3 [41] x5) fun a8 =>
    bd (f_J3_length N a8  σ3) fun x6 σ7 =>
    ob (o_pI σ7 0 [30, 31, 32, 33] 103 l1 x6) fun σ9 =>
    ob (o_at σ9 [21] (some a0)) fun a12 =>
    bd (f_X2_next N a12  σ9) fun _ σ11 =>
    some (Sum.inl (), σ11)
  else
    ob (o_gR σ3 [21] 8 (some a0)) fun x13 =>
    ob (o_at σ3 [41] x13) fun a16 =>
    bd (f_J3_charAt N a16 l3 σ3) fun x14 σ15 =>
    ob (o_gR σ15 [21] 9 (some a0)) fun x17 =>
    ob (o_gI σ15 [27] 12 x17) fun x18 =>
    bd (f_X1_in N (x14 - (97 : Int32)) (0 : Int32) (x18 - (1 : Int32)) σ15) fun x19 σ20 =>
    if x19 = 0 then
      f_X2_order_b69 N  a0 σ20
    else
      bd (f_X1_has N l2 (x14 - (97 : Int32)) σ20) fun x21 σ22 =>
      if x21 = 0 then
        ob (o_gR σ22 [30, 31, 32, 33] 102 l1) fun x23 =>
        ob (o_sI σ22 1 x23 l3 (x14 - (97 : Int32))) fun σ24 =>
        K18 a0 l1 (l2 ||| ((1 : Int32) <<< ((x14 - (97 : Int32)) &&& 31))) (l3 + (1 : Int32)) σ24
      else
        f_X2_order_b69 N  a0 σ22
def f_X2_order_b18 (N : Nat)  : Nat → Nat → Option Nat → Int32 → Int32 → Mem → Option ((Unit ⊕ Ex) × Mem)
  | 0, _, _, _, _, _ => none
  | n + 1, a0, l1, l2, l3, σ => f_X2_order_b18B N  (f_X2_order_b18 N  n) a0 l1 l2 l3 σ
def f_X2_order (N : Nat) (a0 : Nat) (o1 : Option Nat) (σ : Mem) : Option ((Unit ⊕ Ex) × Mem) :=
  ob (o_gI σ [21] 5 (some a0)) fun x1 =>
  if x1 = (2 : Int32) then
    f_X2_order_b18 N  N a0 o1 (0 : Int32) (0 : Int32) σ
  else
    ob (o_at σ [21] (some a0)) fun a4 =>
    bd (f_X2_fail N a4 (1 : Int32) σ) fun x2 σ3 =>
    o_th σ3 2 "GoatCourt$Refused" x2
def f_X2_goatLine_b18 (N : Nat)  (a0 : Nat) (t0 : Option Nat) (t1 : Int32) (σ : Mem) : Option ((Unit ⊕ Ex) × Mem) :=
  ob (o_at σ [21] t0) fun a3 =>
  bx (f_X2_begins N a3 t1 σ) fun _ σ2 =>
  ob (o_at σ2 [21] (some a0)) fun a6 =>
  bx (f_X2_newName N a6  σ2) fun x4 σ5 =>
  ob (o_gR σ5 [21] 9 (some a0)) fun x7 =>
  ob (o_gI σ5 [27] 16 x7) fun x8 =>
  ob (o_at σ5 [21] (some a0)) fun a11 =>
  bx (f_X2_goatOf N a11 x4 x8 σ5) fun x9 σ10 =>
  ob (o_at σ10 [21] (some a0)) fun a14 =>
  bx (f_X2_must N a14 (some 48) σ10) fun _ σ13 =>
  ob (o_at σ13 [21] (some a0)) fun a17 =>
  bx (f_X2_order N a17 x9 σ13) fun _ σ16 =>
  ob (o_at σ16 [21] (some a0)) fun a20 =>
  bx (f_X2_must N a20 (some 50) σ16) fun _ σ19 =>
  ob (o_at σ19 [21] (some a0)) fun a23 =>
  bx (f_X2_place N a23  σ19) fun x21 σ22 =>
  ob (o_gI σ22 [28] 101 x21) fun x24 =>
  ob (o_pI σ22 0 [30, 31, 32, 33] 104 x9 x24) fun σ25 =>
  ob (o_at σ25 [21] (some a0)) fun a28 =>
  bx (f_X2_after N a28 (some 52) (1 : Int32) (9 : Int32) σ25) fun x26 σ27 =>
  ob (o_pI σ27 0 [30, 31, 32, 33] 105 x9 x26) fun σ29 =>
  ob (o_gR σ29 [21] 9 (some a0)) fun x30 =>
  ob (o_gR σ29 [27] 6 x30) fun x31 =>
  ob (o_gR σ29 [21] 9 (some a0)) fun x32 =>
  ob (o_gI σ29 [27] 16 x32) fun x33 =>
  ob (o_sR σ29 8 [30, 31, 32, 33] x31 x33 x9) fun σ34 =>
  ob (o_gR σ34 [21] 9 (some a0)) fun x35 =>
  ob (o_gI σ34 [27] 16 x35) fun x36 =>
  ob (o_pI σ34 0 [27] 16 x35 (x36 + (1 : Int32))) fun σ37 =>
  some (Sum.inl (), σ37)
def f_X2_goatLine (N : Nat) (a0 : Nat) (σ : Mem) : Option ((Unit ⊕ Ex) × Mem) :=
  ob (o_gR σ [21] 9 (some a0)) fun x1 =>
  ob (o_gI σ [27] 16 x1) fun x2 =>
  if (6 : Int32) ≤ x2 then
    f_X2_goatLine_b18 N  a0 (some a0) (0 : Int32) σ
  else
    f_X2_goatLine_b18 N  a0 (some a0) (1 : Int32) σ
def f_X2_fears_b18 (N : Nat)  (a0 : Nat) (t0 : Option Nat) (t1 : Int32) (σ : Mem) : Option ((Unit ⊕ Ex) × Mem) :=
  ob (o_at σ [21] t0) fun a3 =>
  bx (f_X2_begins N a3 t1 σ) fun _ σ2 =>
  ob (o_at σ2 [21] (some a0)) fun a6 =>
  bx (f_X2_goat N a6  σ2) fun x4 σ5 =>
  ob (o_at σ5 [21] (some a0)) fun a9 =>
  bx (f_X2_personHere N a9  σ5) fun x7 σ8 =>
  ob (o_gI σ8 [30, 31, 32, 33] 106 x4) fun x10 =>
  ob (o_gI σ8 [29] 101 x7) fun x11 =>
  bd (f_X1_has N x10 x11 σ8) fun x12 σ13 =>
  if x12 = 0 then
    ob (o_at σ13 [21] (some a0)) fun a16 =>
    bd (f_X2_next N a16  σ13) fun _ σ15 =>
    ob (o_gI σ15 [30, 31, 32, 33] 106 x4) fun x17 =>
    ob (o_gI σ15 [29] 101 x7) fun x18 =>
    ob (o_pI σ15 0 [30, 31, 32, 33] 106 x4 (x17 ||| ((1 : Int32) <<< (x18 &&& 31)))) fun σ19 =>
    ob (o_gR σ19 [21] 9 (some a0)) fun x20 =>
    ob (o_gI σ19 [27] 17 x20) fun x21 =>
    ob (o_pI σ19 0 [27] 17 x20 (x21 + (1 : Int32))) fun σ22 =>
    some (Sum.inl (), σ22)
  else
    ob (o_at σ13 [21] (some a0)) fun a25 =>
    bd (f_X2_fail N a25 (3 : Int32) σ13) fun x23 σ24 =>
    o_th σ24 2 "GoatCourt$Refused" x23
def f_X2_fears (N : Nat) (a0 : Nat) (σ : Mem) : Option ((Unit ⊕ Ex) × Mem) :=
  ob (o_gR σ [21] 9 (some a0)) fun x1 =>
  ob (o_gI σ [27] 17 x1) fun x2 =>
  if (8 : Int32) ≤ x2 then
    f_X2_fears_b18 N  a0 (some a0) (0 : Int32) σ
  else
    f_X2_fears_b18 N  a0 (some a0) (1 : Int32) σ
def f_X2_plant_b52 (N : Nat)  (a0 : Nat) (σ : Mem) : Option ((Int32 ⊕ Ex) × Mem) :=
  ob (o_at σ [21] (some a0)) fun a3 =>
  bd (f_X2_fail N a3 (7 : Int32) σ) fun x1 σ2 =>
  o_th σ2 2 "GoatCourt$Refused" x1
def f_X2_plant (N : Nat) (a0 : Nat) (σ : Mem) : Option ((Int32 ⊕ Ex) × Mem) :=
  ob (o_gI σ [21] 5 (some a0)) fun x1 =>
  if x1 = (2 : Int32) then
    ob (o_gR σ [21] 8 (some a0)) fun x2 =>
    ob (o_at σ [41] x2) fun a5 =>
    bd (f_J3_length N a5  σ) fun x3 σ4 =>
    if x3 = (1 : Int32) then
      ob (o_gR σ4 [21] 8 (some a0)) fun x6 =>
      ob (o_at σ4 [41] x6) fun a9 =>
      bd (f_J3_charAt N a9 (0 : Int32) σ4) fun x7 σ8 =>
      ob (o_gR σ8 [21] 9 (some a0)) fun x10 =>
      ob (o_gI σ8 [27] 12 x10) fun x11 =>
      bd (f_X1_in N (x7 - (97 : Int32)) (0 : Int32) (x11 - (1 : Int32)) σ8) fun x12 σ13 =>
      if x12 = 0 then
        f_X2_plant_b52 N  a0 σ13
      else
        ob (o_gR σ13 [21] 8 (some a0)) fun x14 =>
        ob (o_at σ13 [41] x14) fun a17 =>
        bd (f_J3_charAt N a17 (0 : Int32) σ13) fun x15 σ16 =>
        ob (o_at σ16 [21] (some a0)) fun a20 =>
        bd (f_X2_next N a20  σ16) fun _ σ19 =>
        some (Sum.inl (x15 - (97 : Int32)), σ19)
    else
      f_X2_plant_b52 N  a0 σ4
  else
    ob (o_at σ [21] (some a0)) fun a23 =>
    bd (f_X2_fail N a23 (1 : Int32) σ) fun x21 σ22 =>
    o_th σ22 2 "GoatCourt$Refused" x21
def f_X17_init (N : Nat) (a0 : Nat) (i1 : Int32) (i2 : Int32) (i3 : Int32) (σ : Mem) : Option (Unit × Mem) :=
  ob (o_pI σ 0 [34, 35, 36] 107 (some a0) i1) fun σ1 =>
  ob (o_pI σ1 0 [34, 35, 36] 108 (some a0) i2) fun σ2 =>
  ob (o_pI σ2 0 [34, 35, 36] 109 (some a0) i3) fun σ3 =>
  some ((), σ3)
def f_X18_init (N : Nat) (a0 : Nat) (i1 : Int32) (i2 : Int32) (i3 : Int32) (σ : Mem) : Option (Unit × Mem) :=
  bd (f_X17_init N a0 i1 i2 i3 σ) fun _ σ2 =>
  some ((), σ2)
def f_X2_hour (N : Nat) (a0 : Nat) (σ : Mem) : Option ((Int32 ⊕ Ex) × Mem) :=
  ob (o_gR σ [21] 9 (some a0)) fun x1 =>
  ob (o_gI σ [27] 11 x1) fun x2 =>
  ob (o_at σ [21] (some a0)) fun a5 =>
  bx (f_X2_number N a5 (0 : Int32) (x2 - (1 : Int32)) σ) fun x3 σ4 =>
  some (Sum.inl x3, σ4)
def f_X19_init (N : Nat) (a0 : Nat) (i1 : Int32) (i2 : Int32) (i3 : Int32) (σ : Mem) : Option (Unit × Mem) :=
  bd (f_X17_init N a0 i1 i2 i3 σ) fun _ σ2 =>
  some ((), σ2)
def f_X20_init (N : Nat) (a0 : Nat) (i1 : Int32) (i2 : Int32) (i3 : Int32) (σ : Mem) : Option (Unit × Mem) :=
  bd (f_X17_init N a0 i1 i2 i3 σ) fun _ σ2 =>
  some ((), σ2)
def f_X2_clue_b120 (N : Nat)  (a0 : Nat) (l3 : Option Nat) (σ : Mem) : Option ((Unit ⊕ Ex) × Mem) :=
  ob (o_gR σ [21] 9 (some a0)) fun x1 =>
  ob (o_gR σ [27] 7 x1) fun x2 =>
  ob (o_gR σ [21] 9 (some a0)) fun x3 =>
  ob (o_gI σ [27] 18 x3) fun x4 =>
  ob (o_sR σ 9 [34, 35, 36] x2 x4 l3) fun σ5 =>
  ob (o_gR σ5 [21] 9 (some a0)) fun x6 =>
  ob (o_gI σ5 [27] 18 x6) fun x7 =>
  ob (o_pI σ5 0 [27] 18 x6 (x7 + (1 : Int32))) fun σ8 =>
  some (Sum.inl (), σ8)
def f_X2_clue_b119 (N : Nat)  (a0 : Nat) (t0 : Option Nat) (σ : Mem) : Option ((Unit ⊕ Ex) × Mem) :=
  f_X2_clue_b120 N  a0 t0 σ
def f_X2_clue_b23 (N : Nat)  (a0 : Nat) (l1 : Option Nat) (t0 : Option Nat) (t1 : Int32) (σ : Mem) : Option ((Unit ⊕ Ex) × Mem) :=
  ob (o_at σ [21] t0) fun a3 =>
  bx (f_X2_begins N a3 t1 σ) fun _ σ2 =>
  ob (o_at σ2 [21] (some a0)) fun a6 =>
  bx (f_X2_goat N a6  σ2) fun x4 σ5 =>
  ob (o_gI σ5 [30, 31, 32, 33] 101 x4) fun x7 =>
  ob (o_at σ5 [41] l1) fun a10 =>
  bd (f_J3_equals N a10 (some 16) σ5) fun x8 σ9 =>
  if x8 = 0 then
    ob (o_at σ9 [21] (some a0)) fun a13 =>
    bx (f_X2_place N a13  σ9) fun x11 σ12 =>
    ob (o_gI σ12 [28] 101 x11) fun x14 =>
    ob (o_at σ12 [41] l1) fun a17 =>
    bd (f_J3_equals N a17 (some 18) σ12) fun x15 σ16 =>
    if x15 = 0 then
      o_no σ16 36 3 fun a18 σ19 =>
      ob (o_at σ19 [21] (some a0)) fun a22 =>
      bx (f_X2_hour N a22  σ19) fun x20 σ21 =>
      bd (f_X20_init N a18 x7 x14 x20 σ21) fun _ σ24 =>
      f_X2_clue_b119 N  a0 (some a18) σ24
    else
      o_no σ16 35 3 fun a25 σ26 =>
      ob (o_at σ26 [21] (some a0)) fun a29 =>
      bx (f_X2_hour N a29  σ26) fun x27 σ28 =>
      bd (f_X19_init N a25 x7 x14 x27 σ28) fun _ σ31 =>
      f_X2_clue_b119 N  a0 (some a25) σ31
  else
    ob (o_at σ9 [21] (some a0)) fun a34 =>
    bx (f_X2_plant N a34  σ9) fun x32 σ33 =>
    o_no σ33 34 3 fun a35 σ36 =>
    ob (o_at σ36 [21] (some a0)) fun a39 =>
    bx (f_X2_place N a39  σ36) fun x37 σ38 =>
    ob (o_gI σ38 [28] 101 x37) fun x40 =>
    bd (f_X18_init N a35 x7 x40 x32 σ38) fun _ σ42 =>
    f_X2_clue_b120 N  a0 (some a35) σ42
def f_X2_clue (N : Nat) (a0 : Nat) (σ : Mem) : Option ((Unit ⊕ Ex) × Mem) :=
  ob (o_gR σ [21] 8 (some a0)) fun x1 =>
  ob (o_gR σ [21] 9 (some a0)) fun x2 =>
  ob (o_gI σ [27] 18 x2) fun x3 =>
  if (10 : Int32) ≤ x3 then
    f_X2_clue_b23 N  a0 x1 (some a0) (0 : Int32) σ
  else
    f_X2_clue_b23 N  a0 x1 (some a0) (1 : Int32) σ
def f_X21_init (N : Nat) (a0 : Nat) (o1 : Option Nat) (i2 : Int32) (σ : Mem) : Option (Unit × Mem) :=
  bd (f_X9_init N a0 o1 i2 σ) fun _ σ2 =>
  some ((), σ2)
def f_X2_factLine_b18 (N : Nat)  (a0 : Nat) (t0 : Option Nat) (t1 : Int32) (σ : Mem) : Option ((Unit ⊕ Ex) × Mem) :=
  ob (o_at σ [21] t0) fun a3 =>
  bx (f_X2_begins N a3 t1 σ) fun _ σ2 =>
  ob (o_gR σ2 [21] 9 (some a0)) fun x4 =>
  ob (o_gR σ2 [27] 8 x4) fun x5 =>
  ob (o_gR σ2 [21] 9 (some a0)) fun x6 =>
  ob (o_gI σ2 [27] 19 x6) fun x7 =>
  o_no σ2 37 3 fun a8 σ9 =>
  ob (o_at σ9 [21] (some a0)) fun a12 =>
  bx (f_X2_newName N a12  σ9) fun x10 σ11 =>
  ob (o_gR σ11 [21] 9 (some a0)) fun x13 =>
  ob (o_gI σ11 [27] 19 x13) fun x14 =>
  bd (f_X21_init N a8 x10 x14 σ11) fun _ σ16 =>
  ob (o_sR σ16 10 [37] x5 x7 (some a8)) fun σ17 =>
  ob (o_gR σ17 [21] 9 (some a0)) fun x18 =>
  ob (o_gI σ17 [27] 19 x18) fun x19 =>
  ob (o_pI σ17 0 [27] 19 x18 (x19 + (1 : Int32))) fun σ20 =>
  some (Sum.inl (), σ20)
def f_X2_factLine (N : Nat) (a0 : Nat) (σ : Mem) : Option ((Unit ⊕ Ex) × Mem) :=
  ob (o_gR σ [21] 9 (some a0)) fun x1 =>
  ob (o_gI σ [27] 19 x1) fun x2 =>
  if (8 : Int32) ≤ x2 then
    f_X2_factLine_b18 N  a0 (some a0) (0 : Int32) σ
  else
    f_X2_factLine_b18 N  a0 (some a0) (1 : Int32) σ
def f_X2_factHere (N : Nat) (a0 : Nat) (σ : Mem) : Option (((Option Nat) ⊕ Ex) × Mem) :=
  ob (o_at σ [21] (some a0)) fun a3 =>
  bx (f_X2_found N a3  σ) fun x1 σ2 =>
  ob (o_is σ2 [37] [28, 29, 30, 31, 32, 33, 39] x1) fun x4 =>
  if x4 = 0 then
    ob (o_at σ2 [21] (some a0)) fun a8 =>
    bd (f_X2_fail N a8 (2 : Int32) σ2) fun x6 σ7 =>
    o_th σ7 2 "GoatCourt$Refused" x6
  else
    ob (o_cc σ2 [37] x1) fun x5 =>
    some (Sum.inl x5, σ2)
def f_X2_holds (N : Nat) (a0 : Nat) (σ : Mem) : Option ((Unit ⊕ Ex) × Mem) :=
  ob (o_at σ [21] (some a0)) fun a3 =>
  bx (f_X2_begins N a3 (1 : Int32) σ) fun _ σ2 =>
  ob (o_at σ2 [21] (some a0)) fun a6 =>
  bx (f_X2_factHere N a6  σ2) fun x4 σ5 =>
  ob (o_gI σ5 [37] 0 x4) fun x7 =>
  if x7 = 0 then
    ob (o_at σ5 [21] (some a0)) fun a10 =>
    bd (f_X2_next N a10  σ5) fun _ σ9 =>
    ob (o_pI σ9 1 [37] 0 x4 (1 : Int32)) fun σ11 =>
    some (Sum.inl (), σ11)
  else
    ob (o_at σ5 [21] (some a0)) fun a14 =>
    bd (f_X2_fail N a14 (3 : Int32) σ5) fun x12 σ13 =>
    o_th σ13 2 "GoatCourt$Refused" x12
def f_X22_init (N : Nat) (a0 : Nat) (σ : Mem) : Option (Unit × Mem) :=
  o_na σ 1 (3 : Int32) fun a1 σ2 =>
  ob (o_pR σ2 [38] 0 (some a0) (some a1)) fun σ3 =>
  some ((), σ3)
def f_X2_fact (N : Nat) (a0 : Nat) (σ : Mem) : Option (((Option Nat) ⊕ Ex) × Mem) :=
  ob (o_at σ [21] (some a0)) fun a3 =>
  bx (f_X2_factHere N a3  σ) fun x1 σ2 =>
  ob (o_at σ2 [21] (some a0)) fun a6 =>
  bd (f_X2_next N a6  σ2) fun _ σ5 =>
  some (Sum.inl x1, σ5)
def f_X22_has_b31 (N : Nat) (K4 : Nat → Int32 → Int32 → Int32 → Mem → Option (Int32 × Mem)) (a0 : Nat) (l1 : Int32) (l3 : Int32) (t0 : Int32) (σ : Mem) : Option (Int32 × Mem) :=
  K4 a0 l1 t0 (l3 + (1 : Int32)) σ
def f_X22_has_b26 (N : Nat) (K4 : Nat → Int32 → Int32 → Int32 → Mem → Option (Int32 × Mem)) (a0 : Nat) (l1 : Int32) (l3 : Int32) (σ : Mem) : Option (Int32 × Mem) :=
  f_X22_has_b31 N K4 a0 l1 l3 (1 : Int32) σ
def f_X22_has_b4B (N : Nat)  (K4 : Nat → Int32 → Int32 → Int32 → Mem → Option (Int32 × Mem)) (a0 : Nat) (l1 : Int32) (l2 : Int32) (l3 : Int32) (σ : Mem) : Option (Int32 × Mem) :=
  ob (o_gI σ [38] 2 (some a0)) fun x1 =>
  if x1 ≤ l3 then
    ob (o_nr 1 l2) fun _ => some (l2, σ)
  else
    if l2 = 0 then
      ob (o_gR σ [38] 0 (some a0)) fun x2 =>
      ob (o_aI σ 1 x2 l3) fun x3 =>
      if x3 = l1 then
        f_X22_has_b26 N K4 a0 l1 l3 σ
      else
        f_X22_has_b31 N K4 a0 l1 l3 (0 : Int32) σ
    else
      f_X22_has_b26 N K4 a0 l1 l3 σ
def f_X22_has_b4 (N : Nat)  : Nat → Nat → Int32 → Int32 → Int32 → Mem → Option (Int32 × Mem)
  | 0, _, _, _, _, _ => none
  | n + 1, a0, l1, l2, l3, σ => f_X22_has_b4B N  (f_X22_has_b4 N  n) a0 l1 l2 l3 σ
def f_X22_has (N : Nat) (a0 : Nat) (i1 : Int32) (σ : Mem) : Option (Int32 × Mem) :=
  f_X22_has_b4 N  N a0 i1 (0 : Int32) (0 : Int32) σ
def f_X2_rule_b48B (N : Nat)  (K48 : Nat → Option Nat → Int32 → Mem → Option ((Unit ⊕ Ex) × Mem)) (a0 : Nat) (l1 : Option Nat) (l2 : Int32) (σ : Mem) : Option ((Unit ⊕ Ex) × Mem) :=
  if l2 = 0 then
    ob (o_gR σ [21] 9 (some a0)) fun x1 =>
    ob (o_gR σ [27] 9 x1) fun x2 =>
    ob (o_gR σ [21] 9 (some a0)) fun x3 =>
    ob (o_gI σ [27] 20 x3) fun x4 =>
    ob (o_sR σ 11 [38] x2 x4 l1) fun σ5 =>
    ob (o_gR σ5 [21] 9 (some a0)) fun x6 =>
    ob (o_gI σ5 [27] 20 x6) fun x7 =>
    ob (o_pI σ5 0 [27] 20 x6 (x7 + (1 : Int32))) fun σ8 =>
    some (Sum.inl (), σ8)
  else
    ob (o_at σ [21] (some a0)) fun a11 =>
    bx (f_X2_factHere N a11  σ) fun x9 σ10 =>
    ob (o_gI σ10 [37] 101 x9) fun x12 =>
    ob (o_at σ10 [38] l1) fun a15 =>
    bd (f_X22_has N a15 x12 σ10) fun x13 σ14 =>
    if x13 = 0 then
      ob (o_gI σ14 [38] 2 l1) fun x16 =>
      if x16 = (3 : Int32) then
        ob (o_at σ14 [21] (some a0)) fun a31 =>
        bd (f_X2_fail N a31 (5 : Int32) σ14) fun x29 σ30 =>
        o_th σ30 2 "GoatCourt$Refused" x29
      else
        ob (o_gR σ14 [38] 0 l1) fun x17 =>
        ob (o_gI σ14 [38] 2 l1) fun x18 =>
        ob (o_gI σ14 [37] 101 x9) fun x19 =>
        ob (o_sI σ14 1 x17 x18 x19) fun σ20 =>
        ob (o_gI σ20 [38] 2 l1) fun x21 =>
        ob (o_pI σ20 0 [38] 2 l1 (x21 + (1 : Int32))) fun σ22 =>
        ob (o_at σ22 [21] (some a0)) fun a25 =>
        bd (f_X2_next N a25  σ22) fun _ σ24 =>
        ob (o_at σ24 [21] (some a0)) fun a28 =>
        bd (f_X2_comma N a28  σ24) fun x26 σ27 =>
        K48 a0 l1 x26 σ27
    else
      ob (o_at σ14 [21] (some a0)) fun a34 =>
      bd (f_X2_fail N a34 (3 : Int32) σ14) fun x32 σ33 =>
      o_th σ33 2 "GoatCourt$Refused" x32
def f_X2_rule_b48 (N : Nat)  : Nat → Nat → Option Nat → Int32 → Mem → Option ((Unit ⊕ Ex) × Mem)
  | 0, _, _, _, _ => none
  | n + 1, a0, l1, l2, σ => f_X2_rule_b48B N  (f_X2_rule_b48 N  n) a0 l1 l2 σ
def f_X2_rule_b18 (N : Nat)  (a0 : Nat) (t0 : Option Nat) (t1 : Int32) (σ : Mem) : Option ((Unit ⊕ Ex) × Mem) :=
  ob (o_at σ [21] t0) fun a3 =>
  bx (f_X2_begins N a3 t1 σ) fun _ σ2 =>
  o_no σ2 38 3 fun a4 σ5 =>
  bd (f_X22_init N a4  σ5) fun _ σ7 =>
  ob (o_at σ7 [21] (some a0)) fun a10 =>
  bx (f_X2_fact N a10  σ7) fun x8 σ9 =>
  ob (o_gI σ9 [37] 101 x8) fun x11 =>
  ob (o_pI σ9 0 [38] 1 (some a4) x11) fun σ12 =>
  ob (o_at σ12 [21] (some a0)) fun a15 =>
  bx (f_X2_must N a15 (some 38) σ12) fun _ σ14 =>
  f_X2_rule_b48 N  N a0 (some a4) (1 : Int32) σ14
def f_X2_rule (N : Nat) (a0 : Nat) (σ : Mem) : Option ((Unit ⊕ Ex) × Mem) :=
  ob (o_gR σ [21] 9 (some a0)) fun x1 =>
  ob (o_gI σ [27] 20 x1) fun x2 =>
  if (8 : Int32) ≤ x2 then
    f_X2_rule_b18 N  a0 (some a0) (0 : Int32) σ
  else
    f_X2_rule_b18 N  a0 (some a0) (1 : Int32) σ
def f_X2_beginsOnce (N : Nat) (a0 : Nat) (i1 : Int32) (σ : Mem) : Option ((Unit ⊕ Ex) × Mem) :=
  if i1 = 0 then
    ob (o_gR σ [21] 9 (some a0)) fun x1 =>
    ob (o_gI σ [27] 11 x1) fun x2 =>
    if x2 = 0 then
      ob (o_at σ [21] (some a0)) fun a8 =>
      bd (f_X2_fail N a8 (6 : Int32) σ) fun x6 σ7 =>
      o_th σ7 2 "GoatCourt$Refused" x6
    else
      ob (o_at σ [21] (some a0)) fun a5 =>
      bd (f_X2_next N a5  σ) fun _ σ4 =>
      some (Sum.inl (), σ4)
  else
    ob (o_at σ [21] (some a0)) fun a11 =>
    bd (f_X2_fail N a11 (3 : Int32) σ) fun x9 σ10 =>
    o_th σ10 2 "GoatCourt$Refused" x9
def f_X2_proof_b21B (N : Nat)  (K21 : Nat → Int32 → Mem → Option ((Unit ⊕ Ex) × Mem)) (a0 : Nat) (l1 : Int32) (σ : Mem) : Option ((Unit ⊕ Ex) × Mem) :=
  if l1 = 0 then
    some (Sum.inl (), σ)
  else
    ob (o_at σ [21] (some a0)) fun a3 =>
    bx (f_X2_factHere N a3  σ) fun x1 σ2 =>
    ob (o_gR σ2 [21] 9 (some a0)) fun x4 =>
    ob (o_gI σ2 [27] 21 x4) fun x5 =>
    if x5 = (8 : Int32) then
      ob (o_at σ2 [21] (some a0)) fun a23 =>
      bd (f_X2_fail N a23 (5 : Int32) σ2) fun x21 σ22 =>
      o_th σ22 2 "GoatCourt$Refused" x21
    else
      ob (o_gR σ2 [21] 9 (some a0)) fun x6 =>
      ob (o_gR σ2 [27] 3 x6) fun x7 =>
      ob (o_gR σ2 [21] 9 (some a0)) fun x8 =>
      ob (o_gI σ2 [27] 21 x8) fun x9 =>
      ob (o_gI σ2 [37] 101 x1) fun x10 =>
      ob (o_sI σ2 1 x7 x9 x10) fun σ11 =>
      ob (o_gR σ11 [21] 9 (some a0)) fun x12 =>
      ob (o_gI σ11 [27] 21 x12) fun x13 =>
      ob (o_pI σ11 0 [27] 21 x12 (x13 + (1 : Int32))) fun σ14 =>
      ob (o_at σ14 [21] (some a0)) fun a17 =>
      bd (f_X2_next N a17  σ14) fun _ σ16 =>
      ob (o_at σ16 [21] (some a0)) fun a20 =>
      bd (f_X2_comma N a20  σ16) fun x18 σ19 =>
      K21 a0 x18 σ19
def f_X2_proof_b21 (N : Nat)  : Nat → Nat → Int32 → Mem → Option ((Unit ⊕ Ex) × Mem)
  | 0, _, _, _ => none
  | n + 1, a0, l1, σ => f_X2_proof_b21B N  (f_X2_proof_b21 N  n) a0 l1 σ
def f_X2_proof_b16 (N : Nat)  (a0 : Nat) (t0 : Option Nat) (t1 : Int32) (σ : Mem) : Option ((Unit ⊕ Ex) × Mem) :=
  ob (o_at σ [21] t0) fun a3 =>
  bx (f_X2_beginsOnce N a3 t1 σ) fun _ σ2 =>
  f_X2_proof_b21 N  N a0 (1 : Int32) σ2
def f_X2_proof (N : Nat) (a0 : Nat) (σ : Mem) : Option ((Unit ⊕ Ex) × Mem) :=
  ob (o_gR σ [21] 9 (some a0)) fun x1 =>
  ob (o_gI σ [27] 21 x1) fun x2 =>
  if x2 ≤ 0 then
    f_X2_proof_b16 N  a0 (some a0) (0 : Int32) σ
  else
    f_X2_proof_b16 N  a0 (some a0) (1 : Int32) σ
def f_X23_init (N : Nat) (a0 : Nat) (o1 : Option Nat) (i2 : Int32) (σ : Mem) : Option (Unit × Mem) :=
  bd (f_X9_init N a0 o1 i2 σ) fun _ σ2 =>
  some ((), σ2)
def f_X2_court_b18 (N : Nat)  (a0 : Nat) (t0 : Option Nat) (t1 : Int32) (σ : Mem) : Option ((Unit ⊕ Ex) × Mem) :=
  ob (o_at σ [21] t0) fun a3 =>
  bx (f_X2_begins N a3 t1 σ) fun _ σ2 =>
  o_no σ2 39 4 fun a4 σ5 =>
  ob (o_at σ5 [21] (some a0)) fun a8 =>
  bx (f_X2_newName N a8  σ5) fun x6 σ7 =>
  ob (o_gR σ7 [21] 9 (some a0)) fun x9 =>
  ob (o_gI σ7 [27] 22 x9) fun x10 =>
  bd (f_X23_init N a4 x6 x10 σ7) fun _ σ12 =>
  ob (o_at σ12 [21] (some a0)) fun a15 =>
  bx (f_X2_after N a15 (some 54) (0 : Int32) (99 : Int32) σ12) fun x13 σ14 =>
  ob (o_pI σ14 0 [39] 0 (some a4) x13) fun σ16 =>
  ob (o_at σ16 [21] (some a0)) fun a19 =>
  bx (f_X2_after N a19 (some 56) (1 : Int32) (9 : Int32) σ16) fun x17 σ18 =>
  ob (o_pI σ18 0 [39] 1 (some a4) x17) fun σ20 =>
  ob (o_gR σ20 [21] 9 (some a0)) fun x21 =>
  ob (o_gR σ20 [27] 10 x21) fun x22 =>
  ob (o_gR σ20 [21] 9 (some a0)) fun x23 =>
  ob (o_gI σ20 [27] 22 x23) fun x24 =>
  ob (o_sR σ20 12 [39] x22 x24 (some a4)) fun σ25 =>
  ob (o_gR σ25 [21] 9 (some a0)) fun x26 =>
  ob (o_gI σ25 [27] 22 x26) fun x27 =>
  ob (o_pI σ25 0 [27] 22 x26 (x27 + (1 : Int32))) fun σ28 =>
  some (Sum.inl (), σ28)
def f_X2_court (N : Nat) (a0 : Nat) (σ : Mem) : Option ((Unit ⊕ Ex) × Mem) :=
  ob (o_gR σ [21] 9 (some a0)) fun x1 =>
  ob (o_gI σ [27] 22 x1) fun x2 =>
  if (6 : Int32) ≤ x2 then
    f_X2_court_b18 N  a0 (some a0) (0 : Int32) σ
  else
    f_X2_court_b18 N  a0 (some a0) (1 : Int32) σ
def f_X2_cheese (N : Nat) (a0 : Nat) (σ : Mem) : Option ((Unit ⊕ Ex) × Mem) :=
  ob (o_gR σ [21] 9 (some a0)) fun x1 =>
  ob (o_gI σ [27] 23 x1) fun x2 =>
  ob (o_at σ [21] (some a0)) fun a5 =>
  bx (f_X2_beginsOnce N a5 x2 σ) fun _ σ4 =>
  ob (o_gR σ4 [21] 9 (some a0)) fun x6 =>
  ob (o_gR σ4 [27] 4 x6) fun x7 =>
  ob (o_at σ4 [21] (some a0)) fun a10 =>
  bx (f_X2_numbers N a10 x7 (99 : Int32) σ4) fun _ σ9 =>
  ob (o_gR σ9 [21] 9 (some a0)) fun x11 =>
  ob (o_pI σ9 1 [27] 23 x11 (1 : Int32)) fun σ12 =>
  some (Sum.inl (), σ12)
