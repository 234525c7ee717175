/-! what the methods compute -/
set_option maxRecDepth 100000
def f_X1_cheese_b59 (N : Nat) (K30 : Nat → Int32 → Int32 → Mem → Option (Int32 × Mem)) (a0 : Nat) (l4 : Int32) (t0 : Int32) (t1 : Int32) (σ : Mem) : Option (Int32 × Mem) :=
  K30 a0 (t0 + t1) (l4 + (1 : Int32)) σ
def f_X1_cheese_b30B (N : Nat)  (K30 : Nat → Int32 → Int32 → Mem → Option (Int32 × Mem)) (a0 : Nat) (l3 : Int32) (l4 : Int32) (σ : Mem) : Option (Int32 × Mem) :=
  ob (o_gR σ [20] 3 (some a0)) fun x1 =>
  ob (o_gI σ [27] 16 x1) fun x2 =>
  if ((1 : Int32) <<< (x2 &&& 31)) ≤ l4 then
    some (l3, σ)
  else
    ob (o_at σ [20] (some a0)) fun a5 =>
    bd (f_X1_isCheese N a5 l4 σ) fun x3 σ4 =>
    if x3 = 0 then
      f_X1_cheese_b59 N K30 a0 l4 l3 (0 : Int32) σ4
    else
      f_X1_cheese_b59 N K30 a0 l4 l3 (1 : Int32) σ4
def f_X1_cheese_b30 (N : Nat)  : Nat → Nat → Int32 → Int32 → Mem → Option (Int32 × Mem)
  | 0, _, _, _, _ => none
  | n + 1, a0, l3, l4, σ => f_X1_cheese_b30B N  (f_X1_cheese_b30 N  n) a0 l3 l4 σ
def f_X1_cheese (N : Nat) (a0 : Nat) (i1 : Int32) (σ : Mem) : Option (Int32 × Mem) :=
  ob (o_at σ [20] (some a0)) fun a3 =>
  bd (f_X1_anew N a3  σ) fun _ σ2 =>
  ob (o_at σ2 [20] (some a0)) fun a6 =>
  bd (f_X1_cheeseWhy N a6 i1 σ2) fun x4 σ5 =>
  if x4 = 0 then
    ob (o_at σ5 [20] (some a0)) fun a9 =>
    bd (f_X1_run N a9 i1 σ5) fun _ σ8 =>
    f_X1_cheese_b30 N  N a0 (0 : Int32) (0 : Int32) σ8
  else
    ob (o_at σ5 [20] (some a0)) fun a12 =>
    bd (f_X1_no N a12 x4 σ5) fun x10 σ11 =>
    some (x10, σ11)
def f_X7_refusesCheese (N : Nat) (a0 : Nat) (i1 : Int32) (σ : Mem) : Option (Int32 × Mem) :=
  ob (o_at σ [26] (some a0)) fun a3 =>
  bd (f_X7_isCase N a3 i1 σ) fun x1 σ2 =>
  if x1 = 0 then
    some ((1 : Int32), σ2)
  else
    ob (o_gR σ2 [26] 3 (some a0)) fun x4 =>
    ob (o_gI σ2 [40] 15 x4) fun x5 =>
    if x5 = 0 then
      some ((6 : Int32), σ2)
    else
      some ((0 : Int32), σ2)
def f_X7_isCheese_b51 (N : Nat) (K2 : Nat → Int32 → Int32 → Mem → Option (Int32 × Mem)) (K18 : Nat → Int32 → Int32 → Int32 → Int32 → Mem → Option (Int32 × Mem)) (a0 : Nat) (l1 : Int32) (l2 : Int32) (l4 : Int32) (t0 : Int32) (t1 : Int32) (σ : Mem) : Option (Int32 × Mem) :=
  K18 a0 l1 l2 (t0 + t1) (l4 + (1 : Int32)) σ
def f_X7_isCheese_b18B (N : Nat) (K2 : Nat → Int32 → Int32 → Mem → Option (Int32 × Mem)) (K18 : Nat → Int32 → Int32 → Int32 → Int32 → Mem → Option (Int32 × Mem)) (a0 : Nat) (l1 : Int32) (l2 : Int32) (l3 : Int32) (l4 : Int32) (σ : Mem) : Option (Int32 × Mem) :=
  ob (o_gR σ [26] 3 (some a0)) fun x1 =>
  ob (o_gI σ [40] 5 x1) fun x2 =>
  if x2 ≤ l4 then
    ob (o_gR σ [26] 3 (some a0)) fun x3 =>
    ob (o_gR σ [40] 37 x3) fun x4 =>
    ob (o_aI σ 1 x4 l2) fun x5 =>
    if l3 = x5 then
      K2 a0 l1 (l2 + (1 : Int32)) σ
    else
      ob (o_nr 1 (0 : Int32)) fun _ => some ((0 : Int32), σ)
  else
    bd (f_X7_bit N l1 l4 σ) fun x6 σ7 =>
    if x6 = 0 then
      f_X7_isCheese_b51 N K2 K18 a0 l1 l2 l4 l3 (0 : Int32) σ7
    else
      ob (o_at σ7 [26] (some a0)) fun a10 =>
      bd (f_X7_ateOf N a10 l4 l2 σ7) fun x8 σ9 =>
      f_X7_isCheese_b51 N K2 K18 a0 l1 l2 l4 l3 x8 σ9
def f_X7_isCheese_b18 (N : Nat) (K2 : Nat → Int32 → Int32 → Mem → Option (Int32 × Mem)) : Nat → Nat → Int32 → Int32 → Int32 → Int32 → Mem → Option (Int32 × Mem)
  | 0, _, _, _, _, _, _ => none
  | n + 1, a0, l1, l2, l3, l4, σ => f_X7_isCheese_b18B N K2 (f_X7_isCheese_b18 N K2 n) a0 l1 l2 l3 l4 σ
def f_X7_isCheese_b2B (N : Nat)  (K2 : Nat → Int32 → Int32 → Mem → Option (Int32 × Mem)) (a0 : Nat) (l1 : Int32) (l2 : Int32) (σ : Mem) : Option (Int32 × Mem) :=
  ob (o_gR σ [26] 3 (some a0)) fun x1 =>
  ob (o_gI σ [40] 1 x1) fun x2 =>
  if x2 ≤ l2 then
    ob (o_nr 1 (1 : Int32)) fun _ => some ((1 : Int32), σ)
  else
    f_X7_isCheese_b18 N K2 N a0 l1 l2 (0 : Int32) (0 : Int32) σ
def f_X7_isCheese_b2 (N : Nat)  : Nat → Nat → Int32 → Int32 → Mem → Option (Int32 × Mem)
  | 0, _, _, _, _ => none
  | n + 1, a0, l1, l2, σ => f_X7_isCheese_b2B N  (f_X7_isCheese_b2 N  n) a0 l1 l2 σ
def f_X7_isCheese (N : Nat) (a0 : Nat) (i1 : Int32) (σ : Mem) : Option (Int32 × Mem) :=
  f_X7_isCheese_b2 N  N a0 i1 (0 : Int32) σ
def f_X7_cheese_b55 (N : Nat) (K31 : Nat → Int32 → Int32 → Mem → Option (Int32 × Mem)) (a0 : Nat) (l4 : Int32) (t0 : Int32) (t1 : Int32) (σ : Mem) : Option (Int32 × Mem) :=
  K31 a0 (t0 + t1) (l4 + (1 : Int32)) σ
def f_X7_cheese_b31B (N : Nat)  (K31 : Nat → Int32 → Int32 → Mem → Option (Int32 × Mem)) (a0 : Nat) (l3 : Int32) (l4 : Int32) (σ : Mem) : Option (Int32 × Mem) :=
  ob (o_at σ [26] (some a0)) fun a3 =>
  bd (f_X7_allGoats N a3  σ) fun x1 σ2 =>
  if x1 < l4 then
    ob (o_at σ2 [26] (some a0)) fun a6 =>
    bd (f_X7_good N a6 l3 σ2) fun x4 σ5 =>
    some (x4, σ5)
  else
    ob (o_at σ2 [26] (some a0)) fun a9 =>
    bd (f_X7_isCheese N a9 l4 σ2) fun x7 σ8 =>
    if x7 = 0 then
      f_X7_cheese_b55 N K31 a0 l4 l3 (0 : Int32) σ8
    else
      f_X7_cheese_b55 N K31 a0 l4 l3 (1 : Int32) σ8
def f_X7_cheese_b31 (N : Nat)  : Nat → Nat → Int32 → Int32 → Mem → Option (Int32 × Mem)
  | 0, _, _, _, _ => none
  | n + 1, a0, l3, l4, σ => f_X7_cheese_b31B N  (f_X7_cheese_b31 N  n) a0 l3 l4 σ
def f_X7_cheese (N : Nat) (a0 : Nat) (i1 : Int32) (σ : Mem) : Option (Int32 × Mem) :=
  ob (o_pI σ 0 [26] 0 (some a0) (0 : Int32)) fun σ1 =>
  ob (o_at σ1 [26] (some a0)) fun a4 =>
  bd (f_X7_refusesCheese N a4 i1 σ1) fun x2 σ3 =>
  if x2 ≤ 0 then
    ob (o_at σ3 [26] (some a0)) fun a7 =>
    bd (f_X7_day N a7 i1 σ3) fun _ σ6 =>
    f_X7_cheese_b31 N  N a0 (0 : Int32) (0 : Int32) σ6
  else
    ob (o_at σ3 [26] (some a0)) fun a10 =>
    bd (f_X7_refused N a10 x2 σ3) fun x8 σ9 =>
    some (x8, σ9)
def f_X1_cheeseOf_b27B (N : Nat)  (K27 : Nat → Int32 → Mem → Option (Int32 × Mem)) (a0 : Nat) (l3 : Int32) (σ : Mem) : Option (Int32 × Mem) :=
  ob (o_gR σ [20] 3 (some a0)) fun x1 =>
  ob (o_gI σ [27] 16 x1) fun x2 =>
  if ((1 : Int32) <<< (x2 &&& 31)) ≤ l3 then
    some ((-2 : Int32), σ)
  else
    ob (o_at σ [20] (some a0)) fun a5 =>
    bd (f_X1_isCheese N a5 l3 σ) fun x3 σ4 =>
    if x3 = 0 then
      K27 a0 (l3 + (1 : Int32)) σ4
    else
      some (l3, σ4)
def f_X1_cheeseOf_b27 (N : Nat)  : Nat → Nat → Int32 → Mem → Option (Int32 × Mem)
  | 0, _, _, _ => none
  | n + 1, a0, l3, σ => f_X1_cheeseOf_b27B N  (f_X1_cheeseOf_b27 N  n) a0 l3 σ
def f_X1_cheeseOf (N : Nat) (a0 : Nat) (i1 : Int32) (σ : Mem) : Option (Int32 × Mem) :=
  ob (o_at σ [20] (some a0)) fun a3 =>
  bd (f_X1_anew N a3  σ) fun _ σ2 =>
  ob (o_at σ2 [20] (some a0)) fun a6 =>
  bd (f_X1_cheeseWhy N a6 i1 σ2) fun x4 σ5 =>
  if x4 = 0 then
    ob (o_at σ5 [20] (some a0)) fun a9 =>
    bd (f_X1_run N a9 i1 σ5) fun _ σ8 =>
    f_X1_cheeseOf_b27 N  N a0 (0 : Int32) σ8
  else
    ob (o_at σ5 [20] (some a0)) fun a12 =>
    bd (f_X1_no N a12 x4 σ5) fun x10 σ11 =>
    some (x10, σ11)
def f_X7_cheeseOf_b28B (N : Nat)  (K28 : Nat → Int32 → Mem → Option (Int32 × Mem)) (a0 : Nat) (l3 : Int32) (σ : Mem) : Option (Int32 × Mem) :=
  ob (o_at σ [26] (some a0)) fun a3 =>
  bd (f_X7_allGoats N a3  σ) fun x1 σ2 =>
  if x1 < l3 then
    ob (o_at σ2 [26] (some a0)) fun a6 =>
    bd (f_X7_good N a6 (-2 : Int32) σ2) fun x4 σ5 =>
    some (x4, σ5)
  else
    ob (o_at σ2 [26] (some a0)) fun a9 =>
    bd (f_X7_isCheese N a9 l3 σ2) fun x7 σ8 =>
    if x7 = 0 then
      K28 a0 (l3 + (1 : Int32)) σ8
    else
      ob (o_at σ8 [26] (some a0)) fun a12 =>
      bd (f_X7_good N a12 l3 σ8) fun x10 σ11 =>
      some (x10, σ11)
def f_X7_cheeseOf_b28 (N : Nat)  : Nat → Nat → Int32 → Mem → Option (Int32 × Mem)
  | 0, _, _, _ => none
  | n + 1, a0, l3, σ => f_X7_cheeseOf_b28B N  (f_X7_cheeseOf_b28 N  n) a0 l3 σ
def f_X7_cheeseOf (N : Nat) (a0 : Nat) (i1 : Int32) (σ : Mem) : Option (Int32 × Mem) :=
  ob (o_pI σ 0 [26] 0 (some a0) (0 : Int32)) fun σ1 =>
  ob (o_at σ1 [26] (some a0)) fun a4 =>
  bd (f_X7_refusesCheese N a4 i1 σ1) fun x2 σ3 =>
  if x2 ≤ 0 then
    ob (o_at σ3 [26] (some a0)) fun a7 =>
    bd (f_X7_day N a7 i1 σ3) fun _ σ6 =>
    f_X7_cheeseOf_b28 N  N a0 (0 : Int32) σ6
  else
    ob (o_at σ3 [26] (some a0)) fun a10 =>
    bd (f_X7_refused N a10 x2 σ3) fun x8 σ9 =>
    some (x8, σ9)
def f_X6_tries_b163 (N : Nat) (KT : Nat → Int32 → Int32 → Int64 → Int64 → Mem → Option (Unit × Mem)) (K44 : Nat → Int32 → Int32 → Int64 → Int64 → Int32 → Mem → Option (Unit × Mem)) (a0 : Nat) (l1 : Int32) (l2 : Int32) (l3 : Int64) (l5 : Int64) (l7 : Int32) (σ : Mem) : Option (Unit × Mem) :=
  K44 a0 l1 l2 l3 l5 (l7 + (1 : Int32)) σ
def f_X6_tries_b82B (N : Nat) (KT : Nat → Int32 → Int32 → Int64 → Int64 → Mem → Option (Unit × Mem)) (K44 : Nat → Int32 → Int32 → Int64 → Int64 → Int32 → Mem → Option (Unit × Mem)) (K82 : Nat → Int32 → Int32 → Int64 → Int64 → Int32 → Int64 → Int32 → Mem → Option (Unit × Mem)) (a0 : Nat) (l1 : Int32) (l2 : Int32) (l3 : Int64) (l5 : Int64) (l7 : Int32) (l8 : Int64) (l10 : Int32) (σ : Mem) : Option (Unit × Mem) :=
  ob (o_gR σ [25] 2 (some a0)) fun x1 =>
  ob (o_gI σ [27] 22 x1) fun x2 =>
  if x2 ≤ l10 then
    ob (o_gR σ [25] 2 (some a0)) fun x3 =>
    ob (o_gR σ [27] 10 x3) fun x4 =>
    ob (o_aR σ 12 x4 l7) fun x5 =>
    ob (o_gI σ [39] 0 x5) fun x6 =>
    ob (o_gR σ [25] 2 (some a0)) fun x7 =>
    ob (o_gR σ [27] 10 x7) fun x8 =>
    ob (o_aR σ 12 x8 l7) fun x9 =>
    ob (o_gI σ [39] 1 x9) fun x10 =>
    ob (o_at σ [25] (some a0)) fun a13 =>
    bd (KT a13 (l1 + (1 : Int32)) (l2 ||| ((1 : Int32) <<< (l7 &&& 31))) (l3 + (((x6.toInt64) * l5) * l8)) (l5 * (((10 : Int32) - x10).toInt64)) σ) fun _ σ12 =>
    f_X6_tries_b163 N KT K44 a0 l1 l2 l3 l5 l7 σ12
  else
    K82 a0 l1 l2 l3 l5 l7 (l8 * (10 : Int64)) (l10 + (1 : Int32)) σ
def f_X6_tries_b82 (N : Nat) (KT : Nat → Int32 → Int32 → Int64 → Int64 → Mem → Option (Unit × Mem)) (K44 : Nat → Int32 → Int32 → Int64 → Int64 → Int32 → Mem → Option (Unit × Mem)) : Nat → Nat → Int32 → Int32 → Int64 → Int64 → Int32 → Int64 → Int32 → Mem → Option (Unit × Mem)
  | 0, _, _, _, _, _, _, _, _, _ => none
  | n + 1, a0, l1, l2, l3, l5, l7, l8, l10, σ => f_X6_tries_b82B N KT K44 (f_X6_tries_b82 N KT K44 n) a0 l1 l2 l3 l5 l7 l8 l10 σ
def f_X6_tries_b44B (N : Nat) (KT : Nat → Int32 → Int32 → Int64 → Int64 → Mem → Option (Unit × Mem))  (K44 : Nat → Int32 → Int32 → Int64 → Int64 → Int32 → Mem → Option (Unit × Mem)) (a0 : Nat) (l1 : Int32) (l2 : Int32) (l3 : Int64) (l5 : Int64) (l7 : Int32) (σ : Mem) : Option (Unit × Mem) :=
  ob (o_gR σ [25] 2 (some a0)) fun x1 =>
  ob (o_gI σ [27] 22 x1) fun x2 =>
  if x2 ≤ l7 then
    some ((), σ)
  else
    bd (f_X1_has N l2 l7 σ) fun x3 σ4 =>
    if x3 = 0 then
      ob (o_gR σ4 [25] 0 (some a0)) fun x5 =>
      ob (o_sI σ4 1 x5 l1 l7) fun σ6 =>
      f_X6_tries_b82 N KT K44 N a0 l1 l2 l3 l5 l7 (1 : Int64) l1 σ6
    else
      f_X6_tries_b163 N KT K44 a0 l1 l2 l3 l5 l7 σ4
def f_X6_tries_b44 (N : Nat) (KT : Nat → Int32 → Int32 → Int64 → Int64 → Mem → Option (Unit × Mem))  : Nat → Nat → Int32 → Int32 → Int64 → Int64 → Int32 → Mem → Option (Unit × Mem)
  | 0, _, _, _, _, _, _, _ => none
  | n + 1, a0, l1, l2, l3, l5, l7, σ => f_X6_tries_b44B N KT  (f_X6_tries_b44 N KT  n) a0 l1 l2 l3 l5 l7 σ
def f_X6_triesB (N : Nat) (KT : Nat → Int32 → Int32 → Int64 → Int64 → Mem → Option (Unit × Mem)) (a0 : Nat) (i1 : Int32) (i2 : Int32) (j3 : Int64) (j5 : Int64) (σ : Mem) : Option (Unit × Mem) :=
  ob (o_gR σ [25] 2 (some a0)) fun x1 =>
  ob (o_gI σ [27] 22 x1) fun x2 =>
  if i1 = x2 then
    ob (o_gJ σ [25] 3 (some a0)) fun x3 =>
    if (lg_cmp j3 x3) < 0 then
      ob (o_pJ σ [25] 3 (some a0) j3) fun σ4 =>
      ob (o_gR σ4 [25] 0 (some a0)) fun x5 =>
      ob (o_gR σ4 [25] 1 (some a0)) fun x6 =>
      ob (o_cp σ4 1 x5 (0 : Int32) x6 (0 : Int32) i1) fun σ7 =>
      some ((), σ7)
    else
      some ((), σ)
  else
    f_X6_tries_b44 N KT  N a0 i1 i2 j3 j5 (0 : Int32) σ
def f_X6_tries (N : Nat) : Nat → Nat → Int32 → Int32 → Int64 → Int64 → Mem → Option (Unit × Mem)
  | 0, _, _, _, _, _, _ => none
  | n + 1, a0, i1, i2, j3, j5, σ => f_X6_triesB N (f_X6_tries N n) a0 i1 i2 j3 j5 σ
def f_X6_lay (N : Nat) (a0 : Nat) (o1 : Option Nat) (σ : Mem) : Option (Unit × Mem) :=
  ob (o_pR σ [25] 2 (some a0) o1) fun σ1 =>
  ob (o_pJ σ1 [25] 3 (some a0) (9223372036854775807 : Int64)) fun σ2 =>
  ob (o_at σ2 [25] (some a0)) fun a5 =>
  bd (f_X6_tries N 8 a5 (0 : Int32) (0 : Int32) (0 : Int64) (1 : Int64) σ2) fun _ σ4 =>
  some ((), σ4)
def f_X6_least (N : Nat) (a0 : Nat) (σ : Mem) : Option (Int64 × Mem) :=
  ob (o_gJ σ [25] 3 (some a0)) fun x1 =>
  some (x1, σ)
def f_X1_appeals (N : Nat) (a0 : Nat) (σ : Mem) : Option (Int64 × Mem) :=
  ob (o_at σ [20] (some a0)) fun a3 =>
  bd (f_X1_anew N a3  σ) fun _ σ2 =>
  ob (o_gR σ2 [20] 3 (some a0)) fun x4 =>
  if x4 = none then
    ob (o_at σ2 [20] (some a0)) fun a16 =>
    bd (f_X1_no N a16 (1 : Int32) σ2) fun x14 σ15 =>
    some ((x14.toInt64), σ15)
  else
    ob (o_gR σ2 [20] 13 (some a0)) fun x5 =>
    ob (o_gR σ2 [20] 3 (some a0)) fun x6 =>
    ob (o_at σ2 [25] x5) fun a9 =>
    bd (f_X6_lay N a9 x6 σ2) fun _ σ8 =>
    ob (o_gR σ8 [20] 13 (some a0)) fun x10 =>
    ob (o_at σ8 [25] x10) fun a13 =>
    bd (f_X6_least N a13  σ8) fun y11 σ12 =>
    some (y11, σ12)
def f_X7_meanOf_b80 (N : Nat) (K4 : Nat → Int64 → Int32 → Mem → Option (Int64 × Mem)) (K35 : Nat → Int64 → Int32 → Int64 → Int32 → Mem → Option (Int64 × Mem)) (a0 : Nat) (l1 : Int64) (l3 : Int32) (l6 : Int32) (t0 : Int64) (t1 : Int64) (σ : Mem) : Option (Int64 × Mem) :=
  K35 a0 l1 l3 (t0 * t1) (l6 + (1 : Int32)) σ
def f_X7_meanOf_b35B (N : Nat) (K4 : Nat → Int64 → Int32 → Mem → Option (Int64 × Mem)) (K35 : Nat → Int64 → Int32 → Int64 → Int32 → Mem → Option (Int64 × Mem)) (a0 : Nat) (l1 : Int64) (l3 : Int32) (l4 : Int64) (l6 : Int32) (σ : Mem) : Option (Int64 × Mem) :=
  ob (o_gR σ [26] 3 (some a0)) fun x1 =>
  ob (o_gI σ [40] 11 x1) fun x2 =>
  if x2 ≤ l6 then
    K4 a0 (l1 + l4) (l3 + (1 : Int32)) σ
  else
    if l3 ≤ l6 then
      f_X7_meanOf_b80 N K4 K35 a0 l1 l3 l6 l4 (10 : Int64) σ
    else
      ob (o_gR σ [26] 3 (some a0)) fun x3 =>
      ob (o_gR σ [40] 36 x3) fun x4 =>
      ob (o_gR σ [26] 37 (some a0)) fun x5 =>
      ob (o_aI σ 1 x5 l6) fun x6 =>
      ob (o_aI σ 1 x4 x6) fun x7 =>
      f_X7_meanOf_b80 N K4 K35 a0 l1 l3 l6 l4 (((10 : Int32) - x7).toInt64) σ
def f_X7_meanOf_b35 (N : Nat) (K4 : Nat → Int64 → Int32 → Mem → Option (Int64 × Mem)) : Nat → Nat → Int64 → Int32 → Int64 → Int32 → Mem → Option (Int64 × Mem)
  | 0, _, _, _, _, _, _ => none
  | n + 1, a0, l1, l3, l4, l6, σ => f_X7_meanOf_b35B N K4 (f_X7_meanOf_b35 N K4 n) a0 l1 l3 l4 l6 σ
def f_X7_meanOf_b4B (N : Nat)  (K4 : Nat → Int64 → Int32 → Mem → Option (Int64 × Mem)) (a0 : Nat) (l1 : Int64) (l3 : Int32) (σ : Mem) : Option (Int64 × Mem) :=
  ob (o_gR σ [26] 3 (some a0)) fun x1 =>
  ob (o_gI σ [40] 11 x1) fun x2 =>
  if x2 ≤ l3 then
    some (l1, σ)
  else
    ob (o_gR σ [26] 3 (some a0)) fun x3 =>
    ob (o_gR σ [40] 35 x3) fun x4 =>
    ob (o_gR σ [26] 37 (some a0)) fun x5 =>
    ob (o_aI σ 1 x5 l3) fun x6 =>
    ob (o_aI σ 1 x4 x6) fun x7 =>
    f_X7_meanOf_b35 N K4 N a0 l1 l3 (x7.toInt64) (0 : Int32) σ
def f_X7_meanOf_b4 (N : Nat)  : Nat → Nat → Int64 → Int32 → Mem → Option (Int64 × Mem)
  | 0, _, _, _, _ => none
  | n + 1, a0, l1, l3, σ => f_X7_meanOf_b4B N  (f_X7_meanOf_b4 N  n) a0 l1 l3 σ
def f_X7_meanOf (N : Nat) (a0 : Nat) (σ : Mem) : Option (Int64 × Mem) :=
  f_X7_meanOf_b4 N  N a0 (0 : Int64) (0 : Int32) σ
def f_X7_swaps (N : Nat) (a0 : Nat) (i1 : Int32) (i2 : Int32) (σ : Mem) : Option (Unit × Mem) :=
  ob (o_gR σ [26] 37 (some a0)) fun x1 =>
  ob (o_aI σ 1 x1 i1) fun x2 =>
  ob (o_gR σ [26] 37 (some a0)) fun x3 =>
  ob (o_gR σ [26] 37 (some a0)) fun x4 =>
  ob (o_aI σ 1 x4 i2) fun x5 =>
  ob (o_sI σ 1 x3 i1 x5) fun σ6 =>
  ob (o_gR σ6 [26] 37 (some a0)) fun x7 =>
  ob (o_sI σ6 1 x7 i2 x2) fun σ8 =>
  some ((), σ8)
def f_X7_turns_b78B (N : Nat)  (K78 : Nat → Int32 → Int32 → Mem → Option (Int32 × Mem)) (a0 : Nat) (l4 : Int32) (l5 : Int32) (σ : Mem) : Option (Int32 × Mem) :=
  if l5 ≤ l4 then
    ob (o_nr 1 (1 : Int32)) fun _ => some ((1 : Int32), σ)
  else
    ob (o_at σ [26] (some a0)) fun a3 =>
    bd (f_X7_swaps N a3 l4 l5 σ) fun _ σ2 =>
    K78 a0 (l4 + (1 : Int32)) (l5 + (-1 : Int32)) σ2
def f_X7_turns_b78 (N : Nat)  : Nat → Nat → Int32 → Int32 → Mem → Option (Int32 × Mem)
  | 0, _, _, _, _ => none
  | n + 1, a0, l4, l5, σ => f_X7_turns_b78B N  (f_X7_turns_b78 N  n) a0 l4 l5 σ
def f_X7_turns_b41B (N : Nat)  (K41 : Nat → Int32 → Int32 → Int32 → Mem → Option (Int32 × Mem)) (a0 : Nat) (l1 : Int32) (l2 : Int32) (l3 : Int32) (σ : Mem) : Option (Int32 × Mem) :=
  ob (o_gR σ [26] 37 (some a0)) fun x1 =>
  ob (o_aI σ 1 x1 l3) fun x2 =>
  ob (o_gR σ [26] 37 (some a0)) fun x3 =>
  ob (o_aI σ 1 x3 l2) fun x4 =>
  if x4 ≤ x2 then
    ob (o_at σ [26] (some a0)) fun a7 =>
    bd (f_X7_swaps N a7 l2 l3 σ) fun _ σ6 =>
    f_X7_turns_b78 N  N a0 (l2 + (1 : Int32)) (l1 - (1 : Int32)) σ6
  else
    K41 a0 l1 l2 (l3 + (-1 : Int32)) σ
def f_X7_turns_b41 (N : Nat)  : Nat → Nat → Int32 → Int32 → Int32 → Mem → Option (Int32 × Mem)
  | 0, _, _, _, _, _ => none
  | n + 1, a0, l1, l2, l3, σ => f_X7_turns_b41B N  (f_X7_turns_b41 N  n) a0 l1 l2 l3 σ
def f_X7_turns_b31 (N : Nat)  (a0 : Nat) (l1 : Int32) (l2 : Int32) (σ : Mem) : Option (Int32 × Mem) :=
  if 0 ≤ l2 then
    f_X7_turns_b41 N  N a0 l1 l2 (l1 - (1 : Int32)) σ
  else
    ob (o_nr 1 (0 : Int32)) fun _ => some ((0 : Int32), σ)
def f_X7_turns_b4B (N : Nat)  (K4 : Nat → Int32 → Int32 → Mem → Option (Int32 × Mem)) (a0 : Nat) (l1 : Int32) (l2 : Int32) (σ : Mem) : Option (Int32 × Mem) :=
  if l2 < 0 then
    f_X7_turns_b31 N  a0 l1 l2 σ
  else
    ob (o_gR σ [26] 37 (some a0)) fun x1 =>
    ob (o_aI σ 1 x1 l2) fun x2 =>
    ob (o_gR σ [26] 37 (some a0)) fun x3 =>
    ob (o_aI σ 1 x3 (l2 + (1 : Int32))) fun x4 =>
    if x2 ≤ x4 then
      f_X7_turns_b31 N  a0 l1 l2 σ
    else
      K4 a0 l1 (l2 + (-1 : Int32)) σ
def f_X7_turns_b4 (N : Nat)  : Nat → Nat → Int32 → Int32 → Mem → Option (Int32 × Mem)
  | 0, _, _, _, _ => none
  | n + 1, a0, l1, l2, σ => f_X7_turns_b4B N  (f_X7_turns_b4 N  n) a0 l1 l2 σ
def f_X7_turns (N : Nat) (a0 : Nat) (i1 : Int32) (σ : Mem) : Option (Int32 × Mem) :=
  f_X7_turns_b4 N  N a0 i1 (i1 - (2 : Int32)) σ
def f_X7_leastMean_b83 (N : Nat) (K27 : Nat → Int64 → Int32 → Mem → Option (Int64 × Mem)) (a0 : Nat) (l1 : Int64) (σ : Mem) : Option (Int64 × Mem) :=
  ob (o_gR σ [26] 3 (some a0)) fun x1 =>
  ob (o_gI σ [40] 11 x1) fun x2 =>
  ob (o_at σ [26] (some a0)) fun a5 =>
  bd (f_X7_turns N a5 x2 σ) fun x3 σ4 =>
  K27 a0 l1 x3 σ4
def f_X7_leastMean_b56B (N : Nat) (K27 : Nat → Int64 → Int32 → Mem → Option (Int64 × Mem)) (K56 : Nat → Int64 → Int32 → Mem → Option (Int64 × Mem)) (a0 : Nat) (l1 : Int64) (l6 : Int32) (σ : Mem) : Option (Int64 × Mem) :=
  if (6 : Int32) ≤ l6 then
    f_X7_leastMean_b83 N K27 a0 l1 σ
  else
    ob (o_gR σ [26] 38 (some a0)) fun x1 =>
    ob (o_gR σ [26] 37 (some a0)) fun x2 =>
    ob (o_aI σ 1 x2 l6) fun x3 =>
    ob (o_sI σ 1 x1 l6 x3) fun σ4 =>
    K56 a0 l1 (l6 + (1 : Int32)) σ4
def f_X7_leastMean_b56 (N : Nat) (K27 : Nat → Int64 → Int32 → Mem → Option (Int64 × Mem)) : Nat → Nat → Int64 → Int32 → Mem → Option (Int64 × Mem)
  | 0, _, _, _, _ => none
  | n + 1, a0, l1, l6, σ => f_X7_leastMean_b56B N K27 (f_X7_leastMean_b56 N K27 n) a0 l1 l6 σ
def f_X7_leastMean_b50 (N : Nat) (K27 : Nat → Int64 → Int32 → Mem → Option (Int64 × Mem)) (a0 : Nat) (l4 : Int64) (σ : Mem) : Option (Int64 × Mem) :=
  f_X7_leastMean_b56 N K27 N a0 l4 (0 : Int32) σ
def f_X7_leastMean_b27B (N : Nat)  (K27 : Nat → Int64 → Int32 → Mem → Option (Int64 × Mem)) (a0 : Nat) (l1 : Int64) (l3 : Int32) (σ : Mem) : Option (Int64 × Mem) :=
  if l3 = 0 then
    some (l1, σ)
  else
    ob (o_at σ [26] (some a0)) fun a3 =>
    bd (f_X7_meanOf N a3  σ) fun y1 σ2 =>
    if (lg_cmp l1 (0 : Int64)) < 0 then
      f_X7_leastMean_b50 N K27 a0 y1 σ2
    else
      if 0 ≤ (lg_cmp y1 l1) then
        f_X7_leastMean_b83 N K27 a0 l1 σ2
      else
        f_X7_leastMean_b50 N K27 a0 y1 σ2
def f_X7_leastMean_b27 (N : Nat)  : Nat → Nat → Int64 → Int32 → Mem → Option (Int64 × Mem)
  | 0, _, _, _, _ => none
  | n + 1, a0, l1, l3, σ => f_X7_leastMean_b27B N  (f_X7_leastMean_b27 N  n) a0 l1 l3 σ
def f_X7_leastMean_b2B (N : Nat)  (K2 : Nat → Int32 → Mem → Option (Int64 × Mem)) (a0 : Nat) (l1 : Int32) (σ : Mem) : Option (Int64 × Mem) :=
  if (6 : Int32) ≤ l1 then
    f_X7_leastMean_b27 N  N a0 (-1 : Int64) (1 : Int32) σ
  else
    ob (o_gR σ [26] 37 (some a0)) fun x1 =>
    ob (o_sI σ 1 x1 l1 l1) fun σ2 =>
    K2 a0 (l1 + (1 : Int32)) σ2
def f_X7_leastMean_b2 (N : Nat)  : Nat → Nat → Int32 → Mem → Option (Int64 × Mem)
  | 0, _, _, _ => none
  | n + 1, a0, l1, σ => f_X7_leastMean_b2B N  (f_X7_leastMean_b2 N  n) a0 l1 σ
def f_X7_leastMean (N : Nat) (a0 : Nat) (σ : Mem) : Option (Int64 × Mem) :=
  f_X7_leastMean_b2 N  N a0 (0 : Int32) σ
def f_X7_appeals (N : Nat) (a0 : Nat) (σ : Mem) : Option (Int64 × Mem) :=
  ob (o_pI σ 0 [26] 0 (some a0) (0 : Int32)) fun σ1 =>
  ob (o_gR σ1 [26] 3 (some a0)) fun x2 =>
  if x2 = none then
    ob (o_at σ1 [26] (some a0)) fun a11 =>
    bd (f_X7_refused N a11 (1 : Int32) σ1) fun x9 σ10 =>
    some ((x9.toInt64), σ10)
  else
    ob (o_at σ1 [26] (some a0)) fun a5 =>
    bd (f_X7_good N a5 (0 : Int32) σ1) fun x3 σ4 =>
    ob (o_at σ4 [26] (some a0)) fun a8 =>
    bd (f_X7_leastMean N a8  σ4) fun y6 σ7 =>
    some (y6, σ7)
def f_X6_at (N : Nat) (a0 : Nat) (i1 : Int32) (σ : Mem) : Option (Int32 × Mem) :=
  ob (o_gR σ [25] 1 (some a0)) fun x1 =>
  ob (o_aI σ 1 x1 i1) fun x2 =>
  some (x2, σ)
def f_X1_appealAt_b28 (N : Nat)  (a0 : Nat) (σ : Mem) : Option (Int32 × Mem) :=
  ob (o_at σ [20] (some a0)) fun a3 =>
  bd (f_X1_no N a3 (1 : Int32) σ) fun x1 σ2 =>
  some (x1, σ2)
def f_X1_appealAt (N : Nat) (a0 : Nat) (i1 : Int32) (σ : Mem) : Option (Int32 × Mem) :=
  ob (o_at σ [20] (some a0)) fun a3 =>
  bd (f_X1_anew N a3  σ) fun _ σ2 =>
  ob (o_gR σ2 [20] 3 (some a0)) fun x4 =>
  if x4 = none then
    f_X1_appealAt_b28 N  a0 σ2
  else
    ob (o_gR σ2 [20] 3 (some a0)) fun x5 =>
    ob (o_gI σ2 [27] 22 x5) fun x6 =>
    bd (f_X1_in N i1 (0 : Int32) (x6 - (1 : Int32)) σ2) fun x7 σ8 =>
    if x7 = 0 then
      f_X1_appealAt_b28 N  a0 σ8
    else
      ob (o_gR σ8 [20] 13 (some a0)) fun x9 =>
      ob (o_gR σ8 [20] 3 (some a0)) fun x10 =>
      ob (o_at σ8 [25] x9) fun a13 =>
      bd (f_X6_lay N a13 x10 σ8) fun _ σ12 =>
      ob (o_gR σ12 [20] 13 (some a0)) fun x14 =>
      ob (o_at σ12 [25] x14) fun a17 =>
      bd (f_X6_at N a17 i1 σ12) fun x15 σ16 =>
      some (x15, σ16)
def f_X7_appealAt_b27 (N : Nat)  (a0 : Nat) (σ : Mem) : Option (Int32 × Mem) :=
  ob (o_at σ [26] (some a0)) fun a3 =>
  bd (f_X7_refused N a3 (1 : Int32) σ) fun x1 σ2 =>
  some (x1, σ2)
def f_X7_appealAt (N : Nat) (a0 : Nat) (i1 : Int32) (σ : Mem) : Option (Int32 × Mem) :=
  ob (o_pI σ 0 [26] 0 (some a0) (0 : Int32)) fun σ1 =>
  ob (o_gR σ1 [26] 3 (some a0)) fun x2 =>
  if x2 = none then
    f_X7_appealAt_b27 N  a0 σ1
  else
    if i1 < 0 then
      f_X7_appealAt_b27 N  a0 σ1
    else
      ob (o_gR σ1 [26] 3 (some a0)) fun x3 =>
      ob (o_gI σ1 [40] 11 x3) fun x4 =>
      if i1 < x4 then
        ob (o_at σ1 [26] (some a0)) fun a7 =>
        bd (f_X7_leastMean N a7  σ1) fun y5 σ6 =>
        ob (o_gR σ6 [26] 38 (some a0)) fun x8 =>
        ob (o_aI σ6 1 x8 i1) fun x9 =>
        ob (o_at σ6 [26] (some a0)) fun a12 =>
        bd (f_X7_good N a12 x9 σ6) fun x10 σ11 =>
        some (x10, σ11)
      else
        f_X7_appealAt_b27 N  a0 σ1
def f_X4_many_b30 (N : Nat) (K4 : Nat → Int32 → Int32 → Int32 → Mem → Option (Int32 × Mem)) (a0 : Nat) (l1 : Int32) (l3 : Int32) (t0 : Int32) (t1 : Int32) (σ : Mem) : Option (Int32 × Mem) :=
  bd (f_X1_ones N t1 σ) fun x1 σ2 =>
  K4 a0 l1 (t0 + x1) (l3 + (1 : Int32)) σ2
def f_X4_many_b4B (N : Nat)  (K4 : Nat → Int32 → Int32 → Int32 → Mem → Option (Int32 × Mem)) (a0 : Nat) (l1 : Int32) (l2 : Int32) (l3 : Int32) (σ : Mem) : Option (Int32 × Mem) :=
  if (12 : Int32) ≤ l3 then
    some (l2, σ)
  else
    if l1 = 0 then
      ob (o_gR σ [23] 0 (some a0)) fun x1 =>
      ob (o_aI σ 1 x1 l3) fun x2 =>
      f_X4_many_b30 N K4 a0 l1 l3 l2 x2 σ
    else
      ob (o_gR σ [23] 1 (some a0)) fun x3 =>
      ob (o_aI σ 1 x3 l3) fun x4 =>
      f_X4_many_b30 N K4 a0 l1 l3 l2 x4 σ
def f_X4_many_b4 (N : Nat)  : Nat → Nat → Int32 → Int32 → Int32 → Mem → Option (Int32 × Mem)
  | 0, _, _, _, _, _ => none
  | n + 1, a0, l1, l2, l3, σ => f_X4_many_b4B N  (f_X4_many_b4 N  n) a0 l1 l2 l3 σ
def f_X4_many (N : Nat) (a0 : Nat) (i1 : Int32) (σ : Mem) : Option (Int32 × Mem) :=
  f_X4_many_b4 N  N a0 i1 (0 : Int32) (0 : Int32) σ
def f_X1_yes (N : Nat) (a0 : Nat) (i1 : Int32) (σ : Mem) : Option (Int32 × Mem) :=
  ob (o_at σ [20] (some a0)) fun a3 =>
  bd (f_X1_anew N a3  σ) fun _ σ2 =>
  ob (o_pI σ2 0 [20] 4 (some a0) i1) fun σ4 =>
  if i1 = 0 then
    ob (o_nr 1 (1 : Int32)) fun _ => some ((1 : Int32), σ4)
  else
    ob (o_nr 1 (0 : Int32)) fun _ => some ((0 : Int32), σ4)
def f_X1_note (N : Nat) (a0 : Nat) (σ : Mem) : Option (Unit × Mem) :=
  ob (o_gR σ [20] 10 (some a0)) fun x1 =>
  ob (o_gR σ [20] 9 (some a0)) fun x2 =>
  ob (o_at σ [23] x1) fun a5 =>
  bd (f_X4_become N a5 x2 σ) fun _ σ4 =>
  some ((), σ4)
def f_X4_change (N : Nat) (a0 : Nat) (i1 : Int32) (i2 : Int32) (i3 : Int32) (σ : Mem) : Option (Unit × Mem) :=
  if i3 = 0 then
    ob (o_gR σ [23] 0 (some a0)) fun x1 =>
    ob (o_aI σ 1 x1 i2) fun x2 =>
    ob (o_sI σ 1 x1 i2 (x2 ^^^ ((1 : Int32) <<< (i1 &&& 31)))) fun σ3 =>
    some ((), σ3)
  else
    ob (o_gR σ [23] 1 (some a0)) fun x4 =>
    ob (o_aI σ 1 x4 i2) fun x5 =>
    ob (o_sI σ 1 x4 i2 (x5 ^^^ ((1 : Int32) <<< (i1 &&& 31)))) fun σ6 =>
    some ((), σ6)
def f_X1_done_b62 (N : Nat)  (a0 : Nat) (σ : Mem) : Option (Int32 × Mem) :=
  ob (o_gR σ [20] 14 (some a0)) fun x1 =>
  ob (o_gI σ [20] 8 (some a0)) fun x2 =>
  ob (o_aR σ 5 x1 x2) fun x3 =>
  ob (o_gR σ [20] 10 (some a0)) fun x4 =>
  ob (o_at σ [23] x3) fun a7 =>
  bd (f_X4_become N a7 x4 σ) fun _ σ6 =>
  ob (o_gI σ6 [20] 8 (some a0)) fun x8 =>
  ob (o_pI σ6 0 [20] 8 (some a0) (x8 + (1 : Int32))) fun σ9 =>
  ob (o_nr 1 (1 : Int32)) fun _ => some ((1 : Int32), σ9)
def f_X1_done_b18B (N : Nat)  (K18 : Nat → Option Nat → Int32 → Mem → Option (Int32 × Mem)) (a0 : Nat) (l1 : Option Nat) (l2 : Int32) (σ : Mem) : Option (Int32 × Mem) :=
  if (16 : Int32) ≤ l2 then
    ob (o_gR σ [20] 14 (some a0)) fun x1 =>
    ob (o_sR σ 5 [23] x1 (15 : Int32) l1) fun σ2 =>
    ob (o_gI σ2 [20] 8 (some a0)) fun x3 =>
    ob (o_pI σ2 0 [20] 8 (some a0) (x3 - (1 : Int32))) fun σ4 =>
    f_X1_done_b62 N  a0 σ4
  else
    ob (o_gR σ [20] 14 (some a0)) fun x5 =>
    ob (o_gR σ [20] 14 (some a0)) fun x6 =>
    ob (o_aR σ 5 x6 l2) fun x7 =>
    ob (o_sR σ 5 [23] x5 (l2 - (1 : Int32)) x7) fun σ8 =>
    K18 a0 l1 (l2 + (1 : Int32)) σ8
def f_X1_done_b18 (N : Nat)  : Nat → Nat → Option Nat → Int32 → Mem → Option (Int32 × Mem)
  | 0, _, _, _, _ => none
  | n + 1, a0, l1, l2, σ => f_X1_done_b18B N  (f_X1_done_b18 N  n) a0 l1 l2 σ
def f_X1_done (N : Nat) (a0 : Nat) (σ : Mem) : Option (Int32 × Mem) :=
  ob (o_gI σ [20] 8 (some a0)) fun x1 =>
  if x1 = (16 : Int32) then
    ob (o_gR σ [20] 14 (some a0)) fun x2 =>
    ob (o_aR σ 5 x2 (0 : Int32)) fun x3 =>
    f_X1_done_b18 N  N a0 x3 (1 : Int32) σ
  else
    f_X1_done_b62 N  a0 σ
def f_X1_puts_b65 (N : Nat)  (a0 : Nat) (l1 : Int32) (l2 : Int32) (l4 : Int32) (t0 : Int32) (σ : Mem) : Option (Int32 × Mem) :=
  ob (o_at σ [20] (some a0)) fun a3 =>
  bd (f_X1_yes N a3 t0 σ) fun x1 σ2 =>
  if x1 = 0 then
    ob (o_nr 1 (0 : Int32)) fun _ => some ((0 : Int32), σ2)
  else
    ob (o_at σ2 [20] (some a0)) fun a6 =>
    bd (f_X1_note N a6  σ2) fun _ σ5 =>
    ob (o_gR σ5 [20] 9 (some a0)) fun x7 =>
    ob (o_at σ5 [23] x7) fun a10 =>
    bd (f_X4_change N a10 l1 l2 l4 σ5) fun _ σ9 =>
    ob (o_at σ9 [20] (some a0)) fun a13 =>
    bd (f_X1_done N a13  σ9) fun x11 σ12 =>
    ob (o_nr 1 x11) fun _ => some (x11, σ12)
def f_X1_puts_b64 (N : Nat)  (a0 : Nat) (l1 : Int32) (l2 : Int32) (l4 : Int32) (σ : Mem) : Option (Int32 × Mem) :=
  f_X1_puts_b65 N  a0 l1 l2 l4 (0 : Int32) σ
def f_X1_puts (N : Nat) (a0 : Nat) (i1 : Int32) (i2 : Int32) (i3 : Int32) (i4 : Int32) (σ : Mem) : Option (Int32 × Mem) :=
  ob (o_at σ [20] (some a0)) fun a3 =>
  bd (f_X1_isPlace N a3 i1 σ) fun x1 σ2 =>
  if x1 = 0 then
    f_X1_puts_b65 N  a0 i1 i2 i4 (1 : Int32) σ2
  else
    ob (o_at σ2 [20] (some a0)) fun a6 =>
    bd (f_X1_isHour N a6 i2 σ2) fun x4 σ5 =>
    if x4 = 0 then
      f_X1_puts_b65 N  a0 i1 i2 i4 (2 : Int32) σ5
    else
      ob (o_gR σ5 [20] 9 (some a0)) fun x7 =>
      ob (o_at σ5 [23] x7) fun a10 =>
      bd (f_X4_isPut N a10 i1 i2 i4 σ5) fun x8 σ9 =>
      if x8 = i3 then
        f_X1_puts_b65 N  a0 i1 i2 i4 (5 : Int32) σ9
      else
        if i3 = 0 then
          f_X1_puts_b64 N  a0 i1 i2 i4 σ9
        else
          ob (o_gR σ9 [20] 9 (some a0)) fun x11 =>
          ob (o_at σ9 [23] x11) fun a14 =>
          bd (f_X4_many N a14 i4 σ9) fun x12 σ13 =>
          if x12 = (4 : Int32) then
            f_X1_puts_b65 N  a0 i1 i2 i4 (3 : Int32) σ13
          else
            f_X1_puts_b64 N  a0 i1 i2 i4 σ13
def f_X1_salt (N : Nat) (a0 : Nat) (i1 : Int32) (i2 : Int32) (i3 : Int32) (σ : Mem) : Option (Int32 × Mem) :=
  ob (o_at σ [20] (some a0)) fun a3 =>
  bd (f_X1_puts N a3 i1 i2 i3 (0 : Int32) σ) fun x1 σ2 =>
  ob (o_nr 1 x1) fun _ => some (x1, σ2)
def f_X7_denied (N : Nat) (a0 : Nat) (i1 : Int32) (σ : Mem) : Option (Int32 × Mem) :=
  ob (o_at σ [26] (some a0)) fun a3 =>
  bd (f_X7_refused N a3 i1 σ) fun x1 σ2 =>
  ob (o_nr 1 (0 : Int32)) fun _ => some ((0 : Int32), σ2)
def f_X7_spots_b4B (N : Nat)  (K4 : Nat → Int32 → Int32 → Int32 → Mem → Option (Int32 × Mem)) (a0 : Nat) (l1 : Int32) (l2 : Int32) (l3 : Int32) (σ : Mem) : Option (Int32 × Mem) :=
  if (8 : Int32) ≤ l3 then
    some (l2, σ)
  else
    ob (o_gR σ [26] 18 (some a0)) fun x1 =>
    ob (o_aI σ 1 x1 (l1 + l3)) fun x2 =>
    bd (f_X7_bits N x2 σ) fun x3 σ4 =>
    K4 a0 l1 (l2 + x3) (l3 + (1 : Int32)) σ4
def f_X7_spots_b4 (N : Nat)  : Nat → Nat → Int32 → Int32 → Int32 → Mem → Option (Int32 × Mem)
  | 0, _, _, _, _, _ => none
  | n + 1, a0, l1, l2, l3, σ => f_X7_spots_b4B N  (f_X7_spots_b4 N  n) a0 l1 l2 l3 σ
def f_X7_spots (N : Nat) (a0 : Nat) (i1 : Int32) (σ : Mem) : Option (Int32 × Mem) :=
  f_X7_spots_b4 N  N a0 i1 (0 : Int32) (0 : Int32) σ
def f_X7_keeps_b51B (N : Nat)  (K51 : Nat → Int32 → Mem → Option (Unit × Mem)) (a0 : Nat) (l1 : Int32) (σ : Mem) : Option (Unit × Mem) :=
  if (18 : Int32) ≤ l1 then
    ob (o_gI σ [26] 21 (some a0)) fun x1 =>
    ob (o_pI σ 0 [26] 21 (some a0) (x1 + (1 : Int32))) fun σ2 =>
    some ((), σ2)
  else
    ob (o_gR σ [26] 19 (some a0)) fun x3 =>
    ob (o_gI σ [26] 21 (some a0)) fun x4 =>
    ob (o_gR σ [26] 18 (some a0)) fun x5 =>
    ob (o_aI σ 1 x5 l1) fun x6 =>
    ob (o_sI σ 1 x3 (((18 : Int32) * x4) + l1) x6) fun σ7 =>
    K51 a0 (l1 + (1 : Int32)) σ7
def f_X7_keeps_b51 (N : Nat)  : Nat → Nat → Int32 → Mem → Option (Unit × Mem)
  | 0, _, _, _ => none
  | n + 1, a0, l1, σ => f_X7_keeps_b51B N  (f_X7_keeps_b51 N  n) a0 l1 σ
def f_X7_keeps_b49 (N : Nat)  (a0 : Nat) (σ : Mem) : Option (Unit × Mem) :=
  f_X7_keeps_b51 N  N a0 (0 : Int32) σ
def f_X7_keeps_b11B (N : Nat)  (K11 : Nat → Int32 → Mem → Option (Unit × Mem)) (a0 : Nat) (l1 : Int32) (σ : Mem) : Option (Unit × Mem) :=
  if (270 : Int32) ≤ l1 then
    ob (o_gI σ [26] 21 (some a0)) fun x1 =>
    ob (o_pI σ 0 [26] 21 (some a0) (x1 - (1 : Int32))) fun σ2 =>
    f_X7_keeps_b49 N  a0 σ2
  else
    ob (o_gR σ [26] 19 (some a0)) fun x3 =>
    ob (o_gR σ [26] 19 (some a0)) fun x4 =>
    ob (o_aI σ 1 x4 (l1 + (18 : Int32))) fun x5 =>
    ob (o_sI σ 1 x3 l1 x5) fun σ6 =>
    K11 a0 (l1 + (1 : Int32)) σ6
def f_X7_keeps_b11 (N : Nat)  : Nat → Nat → Int32 → Mem → Option (Unit × Mem)
  | 0, _, _, _ => none
  | n + 1, a0, l1, σ => f_X7_keeps_b11B N  (f_X7_keeps_b11 N  n) a0 l1 σ
def f_X7_keeps (N : Nat) (a0 : Nat) (σ : Mem) : Option (Unit × Mem) :=
  ob (o_gI σ [26] 21 (some a0)) fun x1 =>
  if x1 = (16 : Int32) then
    f_X7_keeps_b11 N  N a0 (0 : Int32) σ
  else
    f_X7_keeps_b49 N  a0 σ
def f_X7_granted (N : Nat) (a0 : Nat) (σ : Mem) : Option (Int32 × Mem) :=
  ob (o_at σ [26] (some a0)) fun a3 =>
  bd (f_X7_good N a3 (0 : Int32) σ) fun x1 σ2 =>
  ob (o_nr 1 (1 : Int32)) fun _ => some ((1 : Int32), σ2)
def f_X7_puts_b71 (N : Nat)  (a0 : Nat) (l1 : Int32) (l2 : Int32) (l3 : Int32) (σ : Mem) : Option (Int32 × Mem) :=
  ob (o_at σ [26] (some a0)) fun a3 =>
  bd (f_X7_keeps N a3  σ) fun _ σ2 =>
  ob (o_gR σ2 [26] 18 (some a0)) fun x4 =>
  ob (o_aI σ2 1 x4 (l1 + l2)) fun x5 =>
  ob (o_sI σ2 1 x4 (l1 + l2) (x5 ^^^ ((1 : Int32) <<< (l3 &&& 31)))) fun σ6 =>
  ob (o_at σ6 [26] (some a0)) fun a9 =>
  bd (f_X7_granted N a9  σ6) fun x7 σ8 =>
  ob (o_nr 1 x7) fun _ => some (x7, σ8)
def f_X7_puts (N : Nat) (a0 : Nat) (i1 : Int32) (i2 : Int32) (i3 : Int32) (i4 : Int32) (σ : Mem) : Option (Int32 × Mem) :=
  ob (o_at σ [26] (some a0)) fun a3 =>
  bd (f_X7_isPlace N a3 i2 σ) fun x1 σ2 =>
  if x1 = 0 then
    ob (o_at σ2 [26] (some a0)) fun a25 =>
    bd (f_X7_denied N a25 (1 : Int32) σ2) fun x23 σ24 =>
    ob (o_nr 1 x23) fun _ => some (x23, σ24)
  else
    ob (o_at σ2 [26] (some a0)) fun a6 =>
    bd (f_X7_isHour N a6 i3 σ2) fun x4 σ5 =>
    if x4 = 0 then
      ob (o_at σ5 [26] (some a0)) fun a22 =>
      bd (f_X7_denied N a22 (2 : Int32) σ5) fun x20 σ21 =>
      ob (o_nr 1 x20) fun _ => some (x20, σ21)
    else
      ob (o_gR σ5 [26] 18 (some a0)) fun x7 =>
      ob (o_aI σ5 1 x7 (i1 + i2)) fun x8 =>
      bd (f_X7_bit N x8 i3 σ5) fun x9 σ10 =>
      if x9 = i4 then
        ob (o_at σ10 [26] (some a0)) fun a19 =>
        bd (f_X7_denied N a19 (5 : Int32) σ10) fun x17 σ18 =>
        ob (o_nr 1 x17) fun _ => some (x17, σ18)
      else
        if i4 = 0 then
          f_X7_puts_b71 N  a0 i1 i2 i3 σ10
        else
          ob (o_at σ10 [26] (some a0)) fun a13 =>
          bd (f_X7_spots N a13 i1 σ10) fun x11 σ12 =>
          if x11 = (4 : Int32) then
            ob (o_at σ12 [26] (some a0)) fun a16 =>
            bd (f_X7_denied N a16 (3 : Int32) σ12) fun x14 σ15 =>
            ob (o_nr 1 x14) fun _ => some (x14, σ15)
          else
            f_X7_puts_b71 N  a0 i1 i2 i3 σ12
def f_X7_salt (N : Nat) (a0 : Nat) (i1 : Int32) (i2 : Int32) (i3 : Int32) (σ : Mem) : Option (Int32 × Mem) :=
  ob (o_pI σ 0 [26] 0 (some a0) (0 : Int32)) fun σ1 =>
  ob (o_at σ1 [26] (some a0)) fun a4 =>
  bd (f_X7_puts N a4 (0 : Int32) i1 i2 i3 σ1) fun x2 σ3 =>
  ob (o_nr 1 x2) fun _ => some (x2, σ3)
def f_X1_dog (N : Nat) (a0 : Nat) (i1 : Int32) (i2 : Int32) (i3 : Int32) (σ : Mem) : Option (Int32 × Mem) :=
  ob (o_at σ [20] (some a0)) fun a3 =>
  bd (f_X1_puts N a3 i1 i2 i3 (1 : Int32) σ) fun x1 σ2 =>
  ob (o_nr 1 x1) fun _ => some (x1, σ2)
def f_X7_dog (N : Nat) (a0 : Nat) (i1 : Int32) (i2 : Int32) (i3 : Int32) (σ : Mem) : Option (Int32 × Mem) :=
  ob (o_pI σ 0 [26] 0 (some a0) (0 : Int32)) fun σ1 =>
  ob (o_at σ1 [26] (some a0)) fun a4 =>
  bd (f_X7_puts N a4 (8 : Int32) i1 i2 i3 σ1) fun x2 σ3 =>
  ob (o_nr 1 x2) fun _ => some (x2, σ3)
def f_X1_hedge_b49 (N : Nat)  (a0 : Nat) (l1 : Int32) (t0 : Option Nat) (t1 : Int32) (σ : Mem) : Option (Int32 × Mem) :=
  ob (o_at σ [20] t0) fun a3 =>
  bd (f_X1_yes N a3 t1 σ) fun x1 σ2 =>
  if x1 = 0 then
    ob (o_nr 1 (0 : Int32)) fun _ => some ((0 : Int32), σ2)
  else
    ob (o_at σ2 [20] (some a0)) fun a6 =>
    bd (f_X1_note N a6  σ2) fun _ σ5 =>
    ob (o_gR σ5 [20] 9 (some a0)) fun x7 =>
    ob (o_gI σ5 [23] 2 x7) fun x8 =>
    ob (o_pI σ5 0 [23] 2 x7 (x8 ^^^ ((1 : Int32) <<< (l1 &&& 31)))) fun σ9 =>
    ob (o_at σ9 [20] (some a0)) fun a12 =>
    bd (f_X1_done N a12  σ9) fun x10 σ11 =>
    ob (o_nr 1 x10) fun _ => some (x10, σ11)
def f_X1_hedge_b25 (N : Nat)  (a0 : Nat) (l1 : Int32) (t0 : Option Nat) (σ : Mem) : Option (Int32 × Mem) :=
  f_X1_hedge_b49 N  a0 l1 t0 (1 : Int32) σ
def f_X1_hedge (N : Nat) (a0 : Nat) (i1 : Int32) (i2 : Int32) (σ : Mem) : Option (Int32 × Mem) :=
  ob (o_gR σ [20] 3 (some a0)) fun x1 =>
  if x1 = none then
    f_X1_hedge_b25 N  a0 i1 (some a0) σ
  else
    ob (o_gR σ [20] 3 (some a0)) fun x2 =>
    ob (o_gI σ [27] 14 x2) fun x3 =>
    bd (f_X1_in N i1 (0 : Int32) (x3 - (1 : Int32)) σ) fun x4 σ5 =>
    if x4 = 0 then
      f_X1_hedge_b25 N  a0 i1 (some a0) σ5
    else
      ob (o_gR σ5 [20] 9 (some a0)) fun x6 =>
      ob (o_gI σ5 [23] 2 x6) fun x7 =>
      bd (f_X1_has N x7 i1 σ5) fun x8 σ9 =>
      if x8 = i2 then
        f_X1_hedge_b49 N  a0 i1 (some a0) (5 : Int32) σ9
      else
        f_X1_hedge_b49 N  a0 i1 (some a0) (0 : Int32) σ9
def f_X7_hedge_b27 (N : Nat)  (a0 : Nat) (σ : Mem) : Option (Int32 × Mem) :=
  ob (o_at σ [26] (some a0)) fun a3 =>
  bd (f_X7_denied N a3 (1 : Int32) σ) fun x1 σ2 =>
  ob (o_nr 1 x1) fun _ => some (x1, σ2)
def f_X7_hedge (N : Nat) (a0 : Nat) (i1 : Int32) (i2 : Int32) (σ : Mem) : Option (Int32 × Mem) :=
  ob (o_pI σ 0 [26] 0 (some a0) (0 : Int32)) fun σ1 =>
  ob (o_gR σ1 [26] 3 (some a0)) fun x2 =>
  if x2 = none then
    f_X7_hedge_b27 N  a0 σ1
  else
    if i1 < 0 then
      f_X7_hedge_b27 N  a0 σ1
    else
      ob (o_gR σ1 [26] 3 (some a0)) fun x3 =>
      ob (o_gI σ1 [40] 3 x3) fun x4 =>
      if i1 < x4 then
        ob (o_gR σ1 [26] 18 (some a0)) fun x5 =>
        ob (o_aI σ1 1 x5 (16 : Int32)) fun x6 =>
        bd (f_X7_bit N x6 i1 σ1) fun x7 σ8 =>
        if x7 = i2 then
          ob (o_at σ8 [26] (some a0)) fun a20 =>
          bd (f_X7_denied N a20 (5 : Int32) σ8) fun x18 σ19 =>
          ob (o_nr 1 x18) fun _ => some (x18, σ19)
        else
          ob (o_at σ8 [26] (some a0)) fun a11 =>
          bd (f_X7_keeps N a11  σ8) fun _ σ10 =>
          ob (o_gR σ10 [26] 18 (some a0)) fun x12 =>
          ob (o_aI σ10 1 x12 (16 : Int32)) fun x13 =>
          ob (o_sI σ10 1 x12 (16 : Int32) (x13 ^^^ ((1 : Int32) <<< (i1 &&& 31)))) fun σ14 =>
          ob (o_at σ14 [26] (some a0)) fun a17 =>
          bd (f_X7_granted N a17  σ14) fun x15 σ16 =>
          ob (o_nr 1 x15) fun _ => some (x15, σ16)
      else
        f_X7_hedge_b27 N  a0 σ1
def f_X1_hear_b33 (N : Nat)  (a0 : Nat) (l1 : Int32) (t0 : Option Nat) (t1 : Int32) (σ : Mem) : Option (Int32 × Mem) :=
  ob (o_at σ [20] t0) fun a3 =>
  bd (f_X1_yes N a3 t1 σ) fun x1 σ2 =>
  if x1 = 0 then
    ob (o_nr 1 (0 : Int32)) fun _ => some ((0 : Int32), σ2)
  else
    ob (o_at σ2 [20] (some a0)) fun a6 =>
    bd (f_X1_note N a6  σ2) fun _ σ5 =>
    ob (o_gR σ5 [20] 9 (some a0)) fun x7 =>
    ob (o_gI σ5 [23] 3 x7) fun x8 =>
    ob (o_pI σ5 0 [23] 3 x7 (x8 ^^^ ((1 : Int32) <<< (l1 &&& 31)))) fun σ9 =>
    ob (o_at σ9 [20] (some a0)) fun a12 =>
    bd (f_X1_done N a12  σ9) fun x10 σ11 =>
    ob (o_nr 1 x10) fun _ => some (x10, σ11)
def f_X1_hear (N : Nat) (a0 : Nat) (i1 : Int32) (i2 : Int32) (σ : Mem) : Option (Int32 × Mem) :=
  ob (o_at σ [20] (some a0)) fun a3 =>
  bd (f_X1_isGoat N a3 i1 σ) fun x1 σ2 =>
  if x1 = 0 then
    f_X1_hear_b33 N  a0 i1 (some a0) (1 : Int32) σ2
  else
    ob (o_gR σ2 [20] 9 (some a0)) fun x4 =>
    ob (o_gI σ2 [23] 3 x4) fun x5 =>
    bd (f_X1_has N x5 i1 σ2) fun x6 σ7 =>
    if x6 = i2 then
      f_X1_hear_b33 N  a0 i1 (some a0) (5 : Int32) σ7
    else
      f_X1_hear_b33 N  a0 i1 (some a0) (0 : Int32) σ7
def f_X7_hear (N : Nat) (a0 : Nat) (i1 : Int32) (i2 : Int32) (σ : Mem) : Option (Int32 × Mem) :=
  ob (o_pI σ 0 [26] 0 (some a0) (0 : Int32)) fun σ1 =>
  ob (o_at σ1 [26] (some a0)) fun a4 =>
  bd (f_X7_isGoat N a4 i1 σ1) fun x2 σ3 =>
  if x2 = 0 then
    ob (o_at σ3 [26] (some a0)) fun a22 =>
    bd (f_X7_denied N a22 (1 : Int32) σ3) fun x20 σ21 =>
    ob (o_nr 1 x20) fun _ => some (x20, σ21)
  else
    ob (o_at σ3 [26] (some a0)) fun a7 =>
    bd (f_X7_isHeard N a7 i1 σ3) fun x5 σ6 =>
    if x5 = i2 then
      ob (o_at σ6 [26] (some a0)) fun a19 =>
      bd (f_X7_denied N a19 (5 : Int32) σ6) fun x17 σ18 =>
      ob (o_nr 1 x17) fun _ => some (x17, σ18)
    else
      ob (o_at σ6 [26] (some a0)) fun a10 =>
      bd (f_X7_keeps N a10  σ6) fun _ σ9 =>
      ob (o_gR σ9 [26] 18 (some a0)) fun x11 =>
      ob (o_aI σ9 1 x11 (17 : Int32)) fun x12 =>
      ob (o_sI σ9 1 x11 (17 : Int32) (x12 ^^^ ((1 : Int32) <<< (i1 &&& 31)))) fun σ13 =>
      ob (o_at σ13 [26] (some a0)) fun a16 =>
      bd (f_X7_granted N a16  σ13) fun x14 σ15 =>
      ob (o_nr 1 x14) fun _ => some (x14, σ15)
def f_X1_undo_b14 (N : Nat)  (a0 : Nat) (t0 : Option Nat) (t1 : Int32) (σ : Mem) : Option (Int32 × Mem) :=
  ob (o_at σ [20] t0) fun a3 =>
  bd (f_X1_yes N a3 t1 σ) fun x1 σ2 =>
  if x1 = 0 then
    ob (o_nr 1 (0 : Int32)) fun _ => some ((0 : Int32), σ2)
  else
    ob (o_gI σ2 [20] 8 (some a0)) fun x4 =>
    ob (o_pI σ2 0 [20] 8 (some a0) (x4 - (1 : Int32))) fun σ5 =>
    ob (o_gR σ5 [20] 9 (some a0)) fun x6 =>
    ob (o_gR σ5 [20] 14 (some a0)) fun x7 =>
    ob (o_gI σ5 [20] 8 (some a0)) fun x8 =>
    ob (o_aR σ5 5 x7 x8) fun x9 =>
    ob (o_at σ5 [23] x6) fun a12 =>
    bd (f_X4_become N a12 x9 σ5) fun _ σ11 =>
    ob (o_nr 1 (1 : Int32)) fun _ => some ((1 : Int32), σ11)
def f_X1_undo (N : Nat) (a0 : Nat) (σ : Mem) : Option (Int32 × Mem) :=
  ob (o_gI σ [20] 8 (some a0)) fun x1 =>
  if x1 = 0 then
    f_X1_undo_b14 N  a0 (some a0) (6 : Int32) σ
  else
    f_X1_undo_b14 N  a0 (some a0) (0 : Int32) σ
def f_X7_undo_b19 (N : Nat)  (a0 : Nat) (σ : Mem) : Option (Int32 × Mem) :=
  ob (o_at σ [26] (some a0)) fun a3 =>
  bd (f_X7_denied N a3 (6 : Int32) σ) fun x1 σ2 =>
  ob (o_nr 1 x1) fun _ => some (x1, σ2)
def f_X7_undo_b38B (N : Nat)  (K38 : Nat → Int32 → Mem → Option (Int32 × Mem)) (a0 : Nat) (l1 : Int32) (σ : Mem) : Option (Int32 × Mem) :=
  if (18 : Int32) ≤ l1 then
    ob (o_at σ [26] (some a0)) fun a3 =>
    bd (f_X7_granted N a3  σ) fun x1 σ2 =>
    ob (o_nr 1 x1) fun _ => some (x1, σ2)
  else
    ob (o_gR σ [26] 18 (some a0)) fun x4 =>
    ob (o_gR σ [26] 19 (some a0)) fun x5 =>
    ob (o_gI σ [26] 21 (some a0)) fun x6 =>
    ob (o_aI σ 1 x5 (((18 : Int32) * x6) + l1)) fun x7 =>
    ob (o_sI σ 1 x4 l1 x7) fun σ8 =>
    K38 a0 (l1 + (1 : Int32)) σ8
def f_X7_undo_b38 (N : Nat)  : Nat → Nat → Int32 → Mem → Option (Int32 × Mem)
  | 0, _, _, _ => none
  | n + 1, a0, l1, σ => f_X7_undo_b38B N  (f_X7_undo_b38 N  n) a0 l1 σ
def f_X7_undo (N : Nat) (a0 : Nat) (σ : Mem) : Option (Int32 × Mem) :=
  ob (o_pI σ 0 [26] 0 (some a0) (0 : Int32)) fun σ1 =>
  ob (o_gR σ1 [26] 3 (some a0)) fun x2 =>
  if x2 = none then
    f_X7_undo_b19 N  a0 σ1
  else
    ob (o_gI σ1 [26] 21 (some a0)) fun x3 =>
    if x3 = 0 then
      f_X7_undo_b19 N  a0 σ1
    else
      ob (o_gI σ1 [26] 21 (some a0)) fun x4 =>
      ob (o_pI σ1 0 [26] 21 (some a0) (x4 - (1 : Int32))) fun σ5 =>
      f_X7_undo_b38 N  N a0 (0 : Int32) σ5
def f_X1_mark (N : Nat) (a0 : Nat) (σ : Mem) : Option (Int32 × Mem) :=
  ob (o_at σ [20] (some a0)) fun a3 =>
  bd (f_X1_anew N a3  σ) fun _ σ2 =>
  ob (o_gR σ2 [20] 3 (some a0)) fun x4 =>
  if x4 = none then
    ob (o_at σ2 [20] (some a0)) fun a21 =>
    bd (f_X1_no N a21 (1 : Int32) σ2) fun x19 σ20 =>
    some (x19, σ20)
  else
    ob (o_gI σ2 [20] 7 (some a0)) fun x5 =>
    if x5 = (3 : Int32) then
      ob (o_at σ2 [20] (some a0)) fun a18 =>
      bd (f_X1_no N a18 (3 : Int32) σ2) fun x16 σ17 =>
      some (x16, σ17)
    else
      ob (o_gR σ2 [20] 15 (some a0)) fun x6 =>
      ob (o_gI σ2 [20] 7 (some a0)) fun x7 =>
      ob (o_aR σ2 5 x6 x7) fun x8 =>
      ob (o_gR σ2 [20] 9 (some a0)) fun x9 =>
      ob (o_at σ2 [23] x8) fun a12 =>
      bd (f_X4_become N a12 x9 σ2) fun _ σ11 =>
      ob (o_gI σ11 [20] 7 (some a0)) fun x13 =>
      ob (o_pI σ11 0 [20] 7 (some a0) (x13 + (1 : Int32))) fun σ14 =>
      ob (o_gI σ14 [20] 7 (some a0)) fun x15 =>
      some ((x15 - (1 : Int32)), σ14)
def f_X7_mark_b34B (N : Nat)  (K34 : Nat → Int32 → Mem → Option (Int32 × Mem)) (a0 : Nat) (l1 : Int32) (σ : Mem) : Option (Int32 × Mem) :=
  if (18 : Int32) ≤ l1 then
    ob (o_gI σ [26] 22 (some a0)) fun x1 =>
    ob (o_pI σ 0 [26] 22 (some a0) (x1 + (1 : Int32))) fun σ2 =>
    ob (o_gI σ2 [26] 22 (some a0)) fun x3 =>
    ob (o_at σ2 [26] (some a0)) fun a6 =>
    bd (f_X7_good N a6 (x3 - (1 : Int32)) σ2) fun x4 σ5 =>
    some (x4, σ5)
  else
    ob (o_gR σ [26] 20 (some a0)) fun x7 =>
    ob (o_gI σ [26] 22 (some a0)) fun x8 =>
    ob (o_gR σ [26] 18 (some a0)) fun x9 =>
    ob (o_aI σ 1 x9 l1) fun x10 =>
    ob (o_sI σ 1 x7 (((18 : Int32) * x8) + l1) x10) fun σ11 =>
    K34 a0 (l1 + (1 : Int32)) σ11
def f_X7_mark_b34 (N : Nat)  : Nat → Nat → Int32 → Mem → Option (Int32 × Mem)
  | 0, _, _, _ => none
  | n + 1, a0, l1, σ => f_X7_mark_b34B N  (f_X7_mark_b34 N  n) a0 l1 σ
def f_X7_mark (N : Nat) (a0 : Nat) (σ : Mem) : Option (Int32 × Mem) :=
  ob (o_pI σ 0 [26] 0 (some a0) (0 : Int32)) fun σ1 =>
  ob (o_gR σ1 [26] 3 (some a0)) fun x2 =>
  if x2 = none then
    ob (o_at σ1 [26] (some a0)) fun a9 =>
    bd (f_X7_refused N a9 (1 : Int32) σ1) fun x7 σ8 =>
    some (x7, σ8)
  else
    ob (o_gI σ1 [26] 22 (some a0)) fun x3 =>
    if x3 = (3 : Int32) then
      ob (o_at σ1 [26] (some a0)) fun a6 =>
      bd (f_X7_refused N a6 (3 : Int32) σ1) fun x4 σ5 =>
      some (x4, σ5)
    else
      f_X7_mark_b34 N  N a0 (0 : Int32) σ1
def f_X1_back_b20 (N : Nat)  (a0 : Nat) (l1 : Int32) (t0 : Option Nat) (t1 : Int32) (σ : Mem) : Option (Int32 × Mem) :=
  ob (o_at σ [20] t0) fun a3 =>
  bd (f_X1_yes N a3 t1 σ) fun x1 σ2 =>
  if x1 = 0 then
    ob (o_nr 1 (0 : Int32)) fun _ => some ((0 : Int32), σ2)
  else
    ob (o_gR σ2 [20] 9 (some a0)) fun x4 =>
    ob (o_gR σ2 [20] 15 (some a0)) fun x5 =>
    ob (o_aR σ2 5 x5 l1) fun x6 =>
    ob (o_at σ2 [23] x4) fun a9 =>
    bd (f_X4_become N a9 x6 σ2) fun _ σ8 =>
    ob (o_pI σ8 0 [20] 8 (some a0) (0 : Int32)) fun σ10 =>
    ob (o_nr 1 (1 : Int32)) fun _ => some ((1 : Int32), σ10)
def f_X1_back (N : Nat) (a0 : Nat) (i1 : Int32) (σ : Mem) : Option (Int32 × Mem) :=
  ob (o_gI σ [20] 7 (some a0)) fun x1 =>
  bd (f_X1_in N i1 (0 : Int32) (x1 - (1 : Int32)) σ) fun x2 σ3 =>
  if x2 = 0 then
    f_X1_back_b20 N  a0 i1 (some a0) (1 : Int32) σ3
  else
    f_X1_back_b20 N  a0 i1 (some a0) (0 : Int32) σ3
def f_X7_back_b24 (N : Nat)  (a0 : Nat) (σ : Mem) : Option (Int32 × Mem) :=
  ob (o_at σ [26] (some a0)) fun a3 =>
  bd (f_X7_denied N a3 (1 : Int32) σ) fun x1 σ2 =>
  ob (o_nr 1 x1) fun _ => some (x1, σ2)
def f_X7_back_b32B (N : Nat)  (K32 : Nat → Int32 → Int32 → Mem → Option (Int32 × Mem)) (a0 : Nat) (l1 : Int32) (l2 : Int32) (σ : Mem) : Option (Int32 × Mem) :=
  if (18 : Int32) ≤ l2 then
    ob (o_pI σ 0 [26] 21 (some a0) (0 : Int32)) fun σ1 =>
    ob (o_at σ1 [26] (some a0)) fun a4 =>
    bd (f_X7_granted N a4  σ1) fun x2 σ3 =>
    ob (o_nr 1 x2) fun _ => some (x2, σ3)
  else
    ob (o_gR σ [26] 18 (some a0)) fun x5 =>
    ob (o_gR σ [26] 20 (some a0)) fun x6 =>
    ob (o_aI σ 1 x6 (((18 : Int32) * l1) + l2)) fun x7 =>
    ob (o_sI σ 1 x5 l2 x7) fun σ8 =>
    K32 a0 l1 (l2 + (1 : Int32)) σ8
def f_X7_back_b32 (N : Nat)  : Nat → Nat → Int32 → Int32 → Mem → Option (Int32 × Mem)
  | 0, _, _, _, _ => none
  | n + 1, a0, l1, l2, σ => f_X7_back_b32B N  (f_X7_back_b32 N  n) a0 l1 l2 σ
def f_X7_back (N : Nat) (a0 : Nat) (i1 : Int32) (σ : Mem) : Option (Int32 × Mem) :=
  ob (o_pI σ 0 [26] 0 (some a0) (0 : Int32)) fun σ1 =>
  ob (o_gR σ1 [26] 3 (some a0)) fun x2 =>
  if x2 = none then
    f_X7_back_b24 N  a0 σ1
  else
    if i1 < 0 then
      f_X7_back_b24 N  a0 σ1
    else
      ob (o_gI σ1 [26] 22 (some a0)) fun x3 =>
      if i1 < x3 then
        f_X7_back_b32 N  N a0 i1 (0 : Int32) σ1
      else
        f_X7_back_b24 N  a0 σ1
def f_X1_put_b105 (N : Nat)   (σ : Mem) : Option ((Int32 ⊕ Ex) × Mem) :=
  some (Sum.inr (m_N σ, "java/util/NoSuchElementException"), s_New σ 0 0 6)
def f_X1_put_b99 (N : Nat) (K5 : Nat → Int32 → Int32 → Int32 → Int32 → Mem → Option ((Int32 ⊕ Ex) × Mem)) (a0 : Nat) (l1 : Int32) (l2 : Int32) (l3 : Int32) (l4 : Int32) (σ : Mem) : Option ((Int32 ⊕ Ex) × Mem) :=
  K5 a0 l1 l2 l3 (l4 + (1 : Int32)) σ
def f_X1_put_b5B (N : Nat)  (K5 : Nat → Int32 → Int32 → Int32 → Int32 → Mem → Option ((Int32 ⊕ Ex) × Mem)) (a0 : Nat) (l1 : Int32) (l2 : Int32) (l3 : Int32) (l4 : Int32) (σ : Mem) : Option ((Int32 ⊕ Ex) × Mem) :=
  ob (o_gR σ [20] 3 (some a0)) fun x1 =>
  if x1 = none then
    f_X1_put_b105 N   σ
  else
    ob (o_gR σ [20] 3 (some a0)) fun x2 =>
    ob (o_gI σ [27] 13 x2) fun x3 =>
    ob (o_gR σ [20] 3 (some a0)) fun x4 =>
    ob (o_gI σ [27] 11 x4) fun x5 =>
    if (x3 * x5) ≤ l4 then
      f_X1_put_b105 N   σ
    else
      ob (o_gR σ [20] 9 (some a0)) fun x6 =>
      ob (o_gR σ [20] 3 (some a0)) fun x7 =>
      ob (o_gI σ [27] 11 x7) fun x8 =>
      ob (o_div l4 x8) fun x9 =>
      ob (o_gR σ [20] 3 (some a0)) fun x10 =>
      ob (o_gI σ [27] 11 x10) fun x11 =>
      ob (o_rem l4 x11) fun x12 =>
      ob (o_at σ [23] x6) fun a15 =>
      bd (f_X4_isPut N a15 x9 x12 l2 σ) fun x13 σ14 =>
      if x13 = 0 then
        f_X1_put_b99 N K5 a0 l1 l2 l3 l4 σ14
      else
        if l3 = l1 then
          ob (o_gR σ14 [20] 3 (some a0)) fun x16 =>
          ob (o_gI σ14 [27] 11 x16) fun x17 =>
          ob (o_div l4 x17) fun x18 =>
          ob (o_gR σ14 [20] 3 (some a0)) fun x19 =>
          ob (o_gI σ14 [27] 11 x19) fun x20 =>
          ob (o_rem l4 x20) fun x21 =>
          some (Sum.inl (((100 : Int32) * x18) + x21), σ14)
        else
          f_X1_put_b99 N K5 a0 l1 l2 (l3 + (1 : Int32)) l4 σ14
def f_X1_put_b5 (N : Nat)  : Nat → Nat → Int32 → Int32 → Int32 → Int32 → Mem → Option ((Int32 ⊕ Ex) × Mem)
  | 0, _, _, _, _, _, _ => none
  | n + 1, a0, l1, l2, l3, l4, σ => f_X1_put_b5B N  (f_X1_put_b5 N  n) a0 l1 l2 l3 l4 σ
def f_X1_put (N : Nat) (a0 : Nat) (i1 : Int32) (i2 : Int32) (σ : Mem) : Option ((Int32 ⊕ Ex) × Mem) :=
  f_X1_put_b5 N  N a0 i1 i2 (0 : Int32) (0 : Int32) σ
def f_X0_put (N : Nat) (o0 : Option Nat) (i1 : Int32) (i2 : Int32) (o3 : Option Nat) (σ : Mem) : Option (Int32 × Mem) :=
  ob (o_at σ [20] o0) fun a3 =>
  bh "java/util/NoSuchElementException" (f_X1_put N a3 i1 i2 σ) (fun e4 σ5 =>
    some ((1 : Int32), σ5))
  fun x1 σ2 =>
  ob (o_sJ σ2 4 o3 (0 : Int32) (x1.toInt64)) fun σ6 =>
  some ((0 : Int32), σ6)
def f_X7_put_b88 (N : Nat)  (a0 : Nat) (σ : Mem) : Option (Int32 × Mem) :=
  ob (o_pI σ 0 [26] 0 (some a0) (1 : Int32)) fun σ1 =>
  some ((0 : Int32), σ1)
def f_X7_put_b82 (N : Nat) (K10 : Nat → Int32 → Int32 → Int32 → Int32 → Mem → Option (Int32 × Mem)) (a0 : Nat) (l1 : Int32) (l2 : Int32) (l3 : Int32) (l4 : Int32) (σ : Mem) : Option (Int32 × Mem) :=
  K10 a0 l1 l2 l3 (l4 + (1 : Int32)) σ
def f_X7_put_b38 (N : Nat) (K10 : Nat → Int32 → Int32 → Int32 → Int32 → Mem → Option (Int32 × Mem)) (a0 : Nat) (l1 : Int32) (l2 : Int32) (l3 : Int32) (l4 : Int32) (t0 : Option Nat) (t1 : Int32) (σ : Mem) : Option (Int32 × Mem) :=
  ob (o_div l4 (12 : Int32)) fun x1 =>
  ob (o_aI σ 1 t0 (t1 + x1)) fun x2 =>
  ob (o_rem l4 (12 : Int32)) fun x3 =>
  bd (f_X7_bit N x2 x3 σ) fun x4 σ5 =>
  if x4 = 0 then
    f_X7_put_b82 N K10 a0 l1 l2 l3 l4 σ5
  else
    if l3 = l1 then
      ob (o_div l4 (12 : Int32)) fun x6 =>
      ob (o_rem l4 (12 : Int32)) fun x7 =>
      some ((((100 : Int32) * x6) + x7), σ5)
    else
      f_X7_put_b82 N K10 a0 l1 l2 (l3 + (1 : Int32)) l4 σ5
def f_X7_put_b10B (N : Nat)  (K10 : Nat → Int32 → Int32 → Int32 → Int32 → Mem → Option (Int32 × Mem)) (a0 : Nat) (l1 : Int32) (l2 : Int32) (l3 : Int32) (l4 : Int32) (σ : Mem) : Option (Int32 × Mem) :=
  ob (o_gR σ [26] 3 (some a0)) fun x1 =>
  if x1 = none then
    f_X7_put_b88 N  a0 σ
  else
    if (96 : Int32) ≤ l4 then
      f_X7_put_b88 N  a0 σ
    else
      ob (o_gR σ [26] 18 (some a0)) fun x2 =>
      if l2 = 0 then
        f_X7_put_b38 N K10 a0 l1 l2 l3 l4 x2 (0 : Int32) σ
      else
        f_X7_put_b38 N K10 a0 l1 l2 l3 l4 x2 (8 : Int32) σ
def f_X7_put_b10 (N : Nat)  : Nat → Nat → Int32 → Int32 → Int32 → Int32 → Mem → Option (Int32 × Mem)
  | 0, _, _, _, _, _, _ => none
  | n + 1, a0, l1, l2, l3, l4, σ => f_X7_put_b10B N  (f_X7_put_b10 N  n) a0 l1 l2 l3 l4 σ
def f_X7_put (N : Nat) (a0 : Nat) (i1 : Int32) (i2 : Int32) (σ : Mem) : Option (Int32 × Mem) :=
  ob (o_pI σ 0 [26] 0 (some a0) (0 : Int32)) fun σ1 =>
  f_X7_put_b10 N  N a0 i1 i2 (0 : Int32) (0 : Int32) σ1
def f_X7_thrown (N : Nat) (a0 : Nat) (σ : Mem) : Option (Int32 × Mem) :=
  ob (o_gI σ [26] 0 (some a0)) fun x1 =>
  some (x1, σ)
def f_X1_size (N : Nat) (a0 : Nat) (i1 : Int32) (σ : Mem) : Option (Int32 × Mem) :=
  if i1 = (14 : Int32) then
    ob (o_gI σ [20] 1 (some a0)) fun x32 =>
    some (x32, σ)
  else
    ob (o_gR σ [20] 3 (some a0)) fun x1 =>
    if x1 = none then
      bd (f_X1_in N i1 (0 : Int32) (13 : Int32) σ) fun x30 σ31 =>
      if x30 = 0 then
        some ((-1 : Int32), σ31)
      else
        some ((0 : Int32), σ31)
    else
      if i1 = (0 : Int32) then
        ob (o_gR σ [20] 3 (some a0)) fun x2 =>
        ob (o_gI σ [27] 11 x2) fun x3 =>
        some (x3, σ)
      else if i1 = (1 : Int32) then
        ob (o_gR σ [20] 3 (some a0)) fun x4 =>
        ob (o_gI σ [27] 12 x4) fun x5 =>
        some (x5, σ)
      else if i1 = (2 : Int32) then
        ob (o_gR σ [20] 3 (some a0)) fun x6 =>
        ob (o_gI σ [27] 13 x6) fun x7 =>
        some (x7, σ)
      else if i1 = (3 : Int32) then
        ob (o_gR σ [20] 3 (some a0)) fun x8 =>
        ob (o_gI σ [27] 14 x8) fun x9 =>
        some (x9, σ)
      else if i1 = (4 : Int32) then
        ob (o_gR σ [20] 3 (some a0)) fun x10 =>
        ob (o_gI σ [27] 15 x10) fun x11 =>
        some (x11, σ)
      else if i1 = (5 : Int32) then
        ob (o_gR σ [20] 3 (some a0)) fun x12 =>
        ob (o_gI σ [27] 16 x12) fun x13 =>
        some (x13, σ)
      else if i1 = (6 : Int32) then
        ob (o_gR σ [20] 3 (some a0)) fun x14 =>
        ob (o_gI σ [27] 18 x14) fun x15 =>
        some (x15, σ)
      else if i1 = (7 : Int32) then
        ob (o_gR σ [20] 3 (some a0)) fun x16 =>
        ob (o_gI σ [27] 19 x16) fun x17 =>
        some (x17, σ)
      else if i1 = (8 : Int32) then
        ob (o_gR σ [20] 3 (some a0)) fun x18 =>
        ob (o_gI σ [27] 20 x18) fun x19 =>
        some (x19, σ)
      else if i1 = (9 : Int32) then
        ob (o_gR σ [20] 3 (some a0)) fun x20 =>
        ob (o_gI σ [27] 21 x20) fun x21 =>
        some (x21, σ)
      else if i1 = (10 : Int32) then
        ob (o_gR σ [20] 3 (some a0)) fun x22 =>
        ob (o_gI σ [27] 22 x22) fun x23 =>
        some (x23, σ)
      else if i1 = (11 : Int32) then
        ob (o_gR σ [20] 3 (some a0)) fun x24 =>
        ob (o_at σ [27] x24) fun a27 =>
        bd (f_X8_cases N a27  σ) fun x25 σ26 =>
        some (x25, σ26)
      else if i1 = (12 : Int32) then
        ob (o_gI σ [20] 8 (some a0)) fun x28 =>
        some (x28, σ)
      else if i1 = (13 : Int32) then
        ob (o_gI σ [20] 7 (some a0)) fun x29 =>
        some (x29, σ)
      else
        some ((-1 : Int32), σ)
def f_X7_size (N : Nat) (a0 : Nat) (i1 : Int32) (σ : Mem) : Option (Int32 × Mem) :=
  ob (o_pI σ 0 [26] 0 (some a0) (0 : Int32)) fun σ1 =>
  if i1 = (14 : Int32) then
    ob (o_gI σ1 [26] 6 (some a0)) fun x33 =>
    some (x33, σ1)
  else
    bd (f_X7_within N i1 (0 : Int32) (13 : Int32) σ1) fun x2 σ3 =>
    if x2 = 0 then
      some ((-1 : Int32), σ3)
    else
      ob (o_gR σ3 [26] 3 (some a0)) fun x4 =>
      if x4 = none then
        some ((0 : Int32), σ3)
      else
        if i1 = (0 : Int32) then
          ob (o_gR σ3 [26] 3 (some a0)) fun x5 =>
          ob (o_gI σ3 [40] 0 x5) fun x6 =>
          some (x6, σ3)
        else if i1 = (1 : Int32) then
          ob (o_gR σ3 [26] 3 (some a0)) fun x7 =>
          ob (o_gI σ3 [40] 1 x7) fun x8 =>
          some (x8, σ3)
        else if i1 = (2 : Int32) then
          ob (o_gR σ3 [26] 3 (some a0)) fun x9 =>
          ob (o_gI σ3 [40] 2 x9) fun x10 =>
          some (x10, σ3)
        else if i1 = (3 : Int32) then
          ob (o_gR σ3 [26] 3 (some a0)) fun x11 =>
          ob (o_gI σ3 [40] 3 x11) fun x12 =>
          some (x12, σ3)
        else if i1 = (4 : Int32) then
          ob (o_gR σ3 [26] 3 (some a0)) fun x13 =>
          ob (o_gI σ3 [40] 4 x13) fun x14 =>
          some (x14, σ3)
        else if i1 = (5 : Int32) then
          ob (o_gR σ3 [26] 3 (some a0)) fun x15 =>
          ob (o_gI σ3 [40] 5 x15) fun x16 =>
          some (x16, σ3)
        else if i1 = (6 : Int32) then
          ob (o_gR σ3 [26] 3 (some a0)) fun x17 =>
          ob (o_gI σ3 [40] 7 x17) fun x18 =>
          some (x18, σ3)
        else if i1 = (7 : Int32) then
          ob (o_gR σ3 [26] 3 (some a0)) fun x19 =>
          ob (o_gI σ3 [40] 8 x19) fun x20 =>
          some (x20, σ3)
        else if i1 = (8 : Int32) then
          ob (o_gR σ3 [26] 3 (some a0)) fun x21 =>
          ob (o_gI σ3 [40] 9 x21) fun x22 =>
          some (x22, σ3)
        else if i1 = (9 : Int32) then
          ob (o_gR σ3 [26] 3 (some a0)) fun x23 =>
          ob (o_gI σ3 [40] 10 x23) fun x24 =>
          some (x24, σ3)
        else if i1 = (10 : Int32) then
          ob (o_gR σ3 [26] 3 (some a0)) fun x25 =>
          ob (o_gI σ3 [40] 11 x25) fun x26 =>
          some (x26, σ3)
        else if i1 = (11 : Int32) then
          ob (o_gR σ3 [26] 3 (some a0)) fun x27 =>
          ob (o_at σ3 [40] x27) fun a30 =>
          bd (f_X24_cases N a30  σ3) fun x28 σ29 =>
          some (x28, σ29)
        else if i1 = (12 : Int32) then
          ob (o_gI σ3 [26] 21 (some a0)) fun x31 =>
          some (x31, σ3)
        else
          ob (o_gI σ3 [26] 22 (some a0)) fun x32 =>
          some (x32, σ3)
def f_X1_trouble (N : Nat) (a0 : Nat) (σ : Mem) : Option (Int32 × Mem) :=
  ob (o_gI σ [20] 4 (some a0)) fun x1 =>
  some (x1, σ)
def f_X7_trouble (N : Nat) (a0 : Nat) (σ : Mem) : Option (Int32 × Mem) :=
  ob (o_pI σ 0 [26] 0 (some a0) (0 : Int32)) fun σ1 =>
  ob (o_gI σ1 [26] 1 (some a0)) fun x2 =>
  some (x2, σ1)
def f_L_law_b2043 (N : Nat) (K23 : Option Nat → Option Nat → Option Nat → Option Nat → Int32 → Mem → Option (Int32 × Mem)) (l0 : Option Nat) (l1 : Option Nat) (l2 : Option Nat) (l3 : Option Nat) (l4 : Int32) (σ : Mem) : Option (Int32 × Mem) :=
  K23 l0 l1 l2 l3 (l4 + (6 : Int32)) σ
def f_L_law_b260 (N : Nat) (K23 : Option Nat → Option Nat → Option Nat → Option Nat → Int32 → Mem → Option (Int32 × Mem)) (l0 : Option Nat) (l1 : Option Nat) (l2 : Option Nat) (l3 : Option Nat) (l4 : Int32) (σ : Mem) : Option (Int32 × Mem) :=
  ob (o_aI σ 1 l0 (l4 + (1 : Int32))) fun x1 =>
  ob (o_aI σ 1 l0 (l4 + (2 : Int32))) fun x2 =>
  ob (o_aI σ 1 l0 (l4 + (3 : Int32))) fun x3 =>
  ob (o_aI σ 1 l0 (l4 + (4 : Int32))) fun x4 =>
  ob (o_aI σ 1 l0 (l4 + (5 : Int32))) fun x5 =>
  ob (o_at σ [20] l1) fun a8 =>
  bd (f_X1_feed N a8 x1 x2 x3 x4 x5 σ) fun x6 σ7 =>
  ob (o_aI σ7 1 l0 (l4 + (1 : Int32))) fun x9 =>
  ob (o_aI σ7 1 l0 (l4 + (2 : Int32))) fun x10 =>
  ob (o_aI σ7 1 l0 (l4 + (3 : Int32))) fun x11 =>
  ob (o_aI σ7 1 l0 (l4 + (4 : Int32))) fun x12 =>
  ob (o_aI σ7 1 l0 (l4 + (5 : Int32))) fun x13 =>
  ob (o_at σ7 [26] l2) fun a16 =>
  bd (f_X7_feed N a16 x9 x10 x11 x12 x13 σ7) fun x14 σ15 =>
  if x6 = x14 then
    f_L_law_b2043 N K23 l0 l1 l2 l3 l4 σ15
  else
    ob (o_nr 1 (0 : Int32)) fun _ => some ((0 : Int32), σ15)
def f_L_law_b333 (N : Nat) (K23 : Option Nat → Option Nat → Option Nat → Option Nat → Int32 → Mem → Option (Int32 × Mem)) (l0 : Option Nat) (l1 : Option Nat) (l2 : Option Nat) (l3 : Option Nat) (l4 : Int32) (σ : Mem) : Option (Int32 × Mem) :=
  ob (o_aI σ 1 l0 (l4 + (1 : Int32))) fun x1 =>
  ob (o_at σ [20] l1) fun a4 =>
  bd (f_X1_hill N a4 x1 σ) fun x2 σ3 =>
  ob (o_aI σ3 1 l0 (l4 + (1 : Int32))) fun x5 =>
  ob (o_at σ3 [26] l2) fun a8 =>
  bd (f_X7_hill N a8 x5 σ3) fun x6 σ7 =>
  if x2 = x6 then
    f_L_law_b2043 N K23 l0 l1 l2 l3 l4 σ7
  else
    ob (o_nr 1 (0 : Int32)) fun _ => some ((0 : Int32), σ7)
def f_L_law_b358 (N : Nat) (K23 : Option Nat → Option Nat → Option Nat → Option Nat → Int32 → Mem → Option (Int32 × Mem)) (l0 : Option Nat) (l1 : Option Nat) (l2 : Option Nat) (l3 : Option Nat) (l4 : Int32) (σ : Mem) : Option (Int32 × Mem) :=
  ob (o_at σ [20] l1) fun a3 =>
  bd (f_X1_fault N a3  σ) fun x1 σ2 =>
  ob (o_at σ2 [26] l2) fun a6 =>
  bd (f_X7_fault N a6  σ2) fun x4 σ5 =>
  if x1 = x4 then
    f_L_law_b2043 N K23 l0 l1 l2 l3 l4 σ5
  else
    ob (o_nr 1 (0 : Int32)) fun _ => some ((0 : Int32), σ5)
def f_L_law_b371 (N : Nat) (K23 : Option Nat → Option Nat → Option Nat → Option Nat → Int32 → Mem → Option (Int32 × Mem)) (l0 : Option Nat) (l1 : Option Nat) (l2 : Option Nat) (l3 : Option Nat) (l4 : Int32) (σ : Mem) : Option (Int32 × Mem) :=
  ob (o_at σ [20] l1) fun a3 =>
  bd (f_X1_where N a3  σ) fun x1 σ2 =>
  ob (o_at σ2 [26] l2) fun a6 =>
  bd (f_X7_where N a6  σ2) fun x4 σ5 =>
  if x1 = x4 then
    f_L_law_b2043 N K23 l0 l1 l2 l3 l4 σ5
  else
    ob (o_nr 1 (0 : Int32)) fun _ => some ((0 : Int32), σ5)
def f_L_law_b384 (N : Nat) (K23 : Option Nat → Option Nat → Option Nat → Option Nat → Int32 → Mem → Option (Int32 × Mem)) (l0 : Option Nat) (l1 : Option Nat) (l2 : Option Nat) (l3 : Option Nat) (l4 : Int32) (σ : Mem) : Option (Int32 × Mem) :=
  ob (o_aI σ 1 l0 (l4 + (1 : Int32))) fun x1 =>
  ob (o_aI σ 1 l0 (l4 + (2 : Int32))) fun x2 =>
  ob (o_at σ [20] l1) fun a5 =>
  bd (f_X1_plants N a5 x1 x2 σ) fun x3 σ4 =>
  ob (o_aI σ4 1 l0 (l4 + (1 : Int32))) fun x6 =>
  ob (o_aI σ4 1 l0 (l4 + (2 : Int32))) fun x7 =>
  ob (o_at σ4 [26] l2) fun a10 =>
  bd (f_X7_plants N a10 x6 x7 σ4) fun x8 σ9 =>
  if x3 = x8 then
    f_L_law_b2043 N K23 l0 l1 l2 l3 l4 σ9
  else
    ob (o_nr 1 (0 : Int32)) fun _ => some ((0 : Int32), σ9)
def f_L_law_b421 (N : Nat) (K23 : Option Nat → Option Nat → Option Nat → Option Nat → Int32 → Mem → Option (Int32 × Mem)) (l0 : Option Nat) (l1 : Option Nat) (l2 : Option Nat) (l3 : Option Nat) (l4 : Int32) (σ : Mem) : Option (Int32 × Mem) :=
  ob (o_aI σ 1 l0 (l4 + (1 : Int32))) fun x1 =>
  ob (o_at σ [20] l1) fun a4 =>
  bd (f_X1_near N a4 x1 σ) fun x2 σ3 =>
  ob (o_aI σ3 1 l0 (l4 + (1 : Int32))) fun x5 =>
  ob (o_at σ3 [26] l2) fun a8 =>
  bd (f_X7_near N a8 x5 σ3) fun x6 σ7 =>
  if x2 = x6 then
    f_L_law_b2043 N K23 l0 l1 l2 l3 l4 σ7
  else
    ob (o_nr 1 (0 : Int32)) fun _ => some ((0 : Int32), σ7)
def f_L_law_b446 (N : Nat) (K23 : Option Nat → Option Nat → Option Nat → Option Nat → Int32 → Mem → Option (Int32 × Mem)) (l0 : Option Nat) (l1 : Option Nat) (l2 : Option Nat) (l3 : Option Nat) (l4 : Int32) (σ : Mem) : Option (Int32 × Mem) :=
  ob (o_aI σ 1 l0 (l4 + (1 : Int32))) fun x1 =>
  ob (o_aI σ 1 l0 (l4 + (2 : Int32))) fun x2 =>
  ob (o_at σ [20] l1) fun a5 =>
  bd (f_X1_goat N a5 x1 x2 σ) fun x3 σ4 =>
  ob (o_aI σ4 1 l0 (l4 + (1 : Int32))) fun x6 =>
  ob (o_aI σ4 1 l0 (l4 + (2 : Int32))) fun x7 =>
  ob (o_at σ4 [26] l2) fun a10 =>
  bd (f_X7_goat N a10 x6 x7 σ4) fun x8 σ9 =>
  if x3 = x8 then
    f_L_law_b2043 N K23 l0 l1 l2 l3 l4 σ9
  else
    ob (o_nr 1 (0 : Int32)) fun _ => some ((0 : Int32), σ9)
def f_L_law_b483 (N : Nat) (K23 : Option Nat → Option Nat → Option Nat → Option Nat → Int32 → Mem → Option (Int32 × Mem)) (l0 : Option Nat) (l1 : Option Nat) (l2 : Option Nat) (l3 : Option Nat) (l4 : Int32) (σ : Mem) : Option (Int32 × Mem) :=
  ob (o_aI σ 1 l0 (l4 + (1 : Int32))) fun x1 =>
  ob (o_aI σ 1 l0 (l4 + (2 : Int32))) fun x2 =>
  ob (o_at σ [20] l1) fun a5 =>
  bd (f_X1_likes N a5 x1 x2 σ) fun x3 σ4 =>
  ob (o_aI σ4 1 l0 (l4 + (1 : Int32))) fun x6 =>
  ob (o_aI σ4 1 l0 (l4 + (2 : Int32))) fun x7 =>
  ob (o_at σ4 [26] l2) fun a10 =>
  bd (f_X7_likes N a10 x6 x7 σ4) fun x8 σ9 =>
  if x3 = x8 then
    f_L_law_b2043 N K23 l0 l1 l2 l3 l4 σ9
  else
    ob (o_nr 1 (0 : Int32)) fun _ => some ((0 : Int32), σ9)
def f_L_law_b520 (N : Nat) (K23 : Option Nat → Option Nat → Option Nat → Option Nat → Int32 → Mem → Option (Int32 × Mem)) (l0 : Option Nat) (l1 : Option Nat) (l2 : Option Nat) (l3 : Option Nat) (l4 : Int32) (σ : Mem) : Option (Int32 × Mem) :=
  ob (o_aI σ 1 l0 (l4 + (1 : Int32))) fun x1 =>
  ob (o_aI σ 1 l0 (l4 + (2 : Int32))) fun x2 =>
  ob (o_at σ [20] l1) fun a5 =>
  bd (f_X1_clue N a5 x1 x2 σ) fun x3 σ4 =>
  ob (o_aI σ4 1 l0 (l4 + (1 : Int32))) fun x6 =>
  ob (o_aI σ4 1 l0 (l4 + (2 : Int32))) fun x7 =>
  ob (o_at σ4 [26] l2) fun a10 =>
  bd (f_X7_clue N a10 x6 x7 σ4) fun x8 σ9 =>
  if x3 = x8 then
    f_L_law_b2043 N K23 l0 l1 l2 l3 l4 σ9
  else
    ob (o_nr 1 (0 : Int32)) fun _ => some ((0 : Int32), σ9)
def f_L_law_b557 (N : Nat) (K23 : Option Nat → Option Nat → Option Nat → Option Nat → Int32 → Mem → Option (Int32 × Mem)) (l0 : Option Nat) (l1 : Option Nat) (l2 : Option Nat) (l3 : Option Nat) (l4 : Int32) (σ : Mem) : Option (Int32 × Mem) :=
  ob (o_aI σ 1 l0 (l4 + (1 : Int32))) fun x1 =>
  ob (o_aI σ 1 l0 (l4 + (2 : Int32))) fun x2 =>
  ob (o_aI σ 1 l0 (l4 + (3 : Int32))) fun x3 =>
  ob (o_at σ [20] l1) fun a6 =>
  bd (f_X1_story N a6 x1 x2 x3 σ) fun x4 σ5 =>
  ob (o_aI σ5 1 l0 (l4 + (1 : Int32))) fun x7 =>
  ob (o_aI σ5 1 l0 (l4 + (2 : Int32))) fun x8 =>
  ob (o_aI σ5 1 l0 (l4 + (3 : Int32))) fun x9 =>
  ob (o_at σ5 [26] l2) fun a12 =>
  bd (f_X7_story N a12 x7 x8 x9 σ5) fun x10 σ11 =>
  if x4 = x10 then
    f_L_law_b2043 N K23 l0 l1 l2 l3 l4 σ11
  else
    ob (o_nr 1 (0 : Int32)) fun _ => some ((0 : Int32), σ11)
def f_L_law_b606 (N : Nat) (K23 : Option Nat → Option Nat → Option Nat → Option Nat → Int32 → Mem → Option (Int32 × Mem)) (l0 : Option Nat) (l1 : Option Nat) (l2 : Option Nat) (l3 : Option Nat) (l4 : Int32) (σ : Mem) : Option (Int32 × Mem) :=
  ob (o_aI σ 1 l0 (l4 + (1 : Int32))) fun x1 =>
  ob (o_at σ [20] l1) fun a4 =>
  bd (f_X1_stories N a4 x1 σ) fun x2 σ3 =>
  ob (o_aI σ3 1 l0 (l4 + (1 : Int32))) fun x5 =>
  ob (o_at σ3 [26] l2) fun a8 =>
  bd (f_X7_stories N a8 x5 σ3) fun x6 σ7 =>
  if x2 = x6 then
    f_L_law_b2043 N K23 l0 l1 l2 l3 l4 σ7
  else
    ob (o_nr 1 (0 : Int32)) fun _ => some ((0 : Int32), σ7)
def f_L_law_b631 (N : Nat) (K23 : Option Nat → Option Nat → Option Nat → Option Nat → Int32 → Mem → Option (Int32 × Mem)) (l0 : Option Nat) (l1 : Option Nat) (l2 : Option Nat) (l3 : Option Nat) (l4 : Int32) (σ : Mem) : Option (Int32 × Mem) :=
  ob (o_aI σ 1 l0 (l4 + (1 : Int32))) fun x1 =>
  ob (o_aI σ 1 l0 (l4 + (2 : Int32))) fun x2 =>
  ob (o_at σ [20] l1) fun a5 =>
  bd (f_X1_caseOf N a5 x1 x2 σ) fun x3 σ4 =>
  ob (o_aI σ4 1 l0 (l4 + (1 : Int32))) fun x6 =>
  ob (o_aI σ4 1 l0 (l4 + (2 : Int32))) fun x7 =>
  ob (o_at σ4 [26] l2) fun a10 =>
  bd (f_X7_caseOf N a10 x6 x7 σ4) fun x8 σ9 =>
  if x3 = x8 then
    f_L_law_b2043 N K23 l0 l1 l2 l3 l4 σ9
  else
    ob (o_nr 1 (0 : Int32)) fun _ => some ((0 : Int32), σ9)
def f_L_law_b668 (N : Nat) (K23 : Option Nat → Option Nat → Option Nat → Option Nat → Int32 → Mem → Option (Int32 × Mem)) (l0 : Option Nat) (l1 : Option Nat) (l2 : Option Nat) (l3 : Option Nat) (l4 : Int32) (σ : Mem) : Option (Int32 × Mem) :=
  ob (o_aI σ 1 l0 (l4 + (1 : Int32))) fun x1 =>
  ob (o_aI σ 1 l0 (l4 + (2 : Int32))) fun x2 =>
  ob (o_aI σ 1 l0 (l4 + (3 : Int32))) fun x3 =>
  ob (o_at σ [20] l1) fun a6 =>
  bd (f_X1_at N a6 x1 x2 x3 σ) fun x4 σ5 =>
  ob (o_aI σ5 1 l0 (l4 + (1 : Int32))) fun x7 =>
  ob (o_aI σ5 1 l0 (l4 + (2 : Int32))) fun x8 =>
  ob (o_aI σ5 1 l0 (l4 + (3 : Int32))) fun x9 =>
  ob (o_at σ5 [26] l2) fun a12 =>
  bd (f_X7_at N a12 x7 x8 x9 σ5) fun x10 σ11 =>
  if x4 = x10 then
    f_L_law_b2043 N K23 l0 l1 l2 l3 l4 σ11
  else
    ob (o_nr 1 (0 : Int32)) fun _ => some ((0 : Int32), σ11)
def f_L_law_b717 (N : Nat) (K23 : Option Nat → Option Nat → Option Nat → Option Nat → Int32 → Mem → Option (Int32 × Mem)) (l0 : Option Nat) (l1 : Option Nat) (l2 : Option Nat) (l3 : Option Nat) (l4 : Int32) (σ : Mem) : Option (Int32 × Mem) :=
  ob (o_aI σ 1 l0 (l4 + (1 : Int32))) fun x1 =>
  ob (o_aI σ 1 l0 (l4 + (2 : Int32))) fun x2 =>
  ob (o_aI σ 1 l0 (l4 + (3 : Int32))) fun x3 =>
  ob (o_at σ [20] l1) fun a6 =>
  bd (f_X1_ate N a6 x1 x2 x3 σ) fun x4 σ5 =>
  ob (o_aI σ5 1 l0 (l4 + (1 : Int32))) fun x7 =>
  ob (o_aI σ5 1 l0 (l4 + (2 : Int32))) fun x8 =>
  ob (o_aI σ5 1 l0 (l4 + (3 : Int32))) fun x9 =>
  ob (o_at σ5 [26] l2) fun a12 =>
  bd (f_X7_ate N a12 x7 x8 x9 σ5) fun x10 σ11 =>
  if x4 = x10 then
    f_L_law_b2043 N K23 l0 l1 l2 l3 l4 σ11
  else
    ob (o_nr 1 (0 : Int32)) fun _ => some ((0 : Int32), σ11)
def f_L_law_b766 (N : Nat) (K23 : Option Nat → Option Nat → Option Nat → Option Nat → Int32 → Mem → Option (Int32 × Mem)) (l0 : Option Nat) (l1 : Option Nat) (l2 : Option Nat) (l3 : Option Nat) (l4 : Int32) (σ : Mem) : Option (Int32 × Mem) :=
  ob (o_aI σ 1 l0 (l4 + (1 : Int32))) fun x1 =>
  ob (o_aI σ 1 l0 (l4 + (2 : Int32))) fun x2 =>
  ob (o_aI σ 1 l0 (l4 + (3 : Int32))) fun x3 =>
  ob (o_aI σ 1 l0 (l4 + (4 : Int32))) fun x4 =>
  ob (o_at σ [20] l1) fun a7 =>
  bd (f_X1_drops N a7 x1 x2 x3 x4 σ) fun x5 σ6 =>
  ob (o_aI σ6 1 l0 (l4 + (1 : Int32))) fun x8 =>
  ob (o_aI σ6 1 l0 (l4 + (2 : Int32))) fun x9 =>
  ob (o_aI σ6 1 l0 (l4 + (3 : Int32))) fun x10 =>
  ob (o_aI σ6 1 l0 (l4 + (4 : Int32))) fun x11 =>
  ob (o_at σ6 [26] l2) fun a14 =>
  bd (f_X7_drops N a14 x8 x9 x10 x11 σ6) fun x12 σ13 =>
  if x5 = x12 then
    f_L_law_b2043 N K23 l0 l1 l2 l3 l4 σ13
  else
    ob (o_nr 1 (0 : Int32)) fun _ => some ((0 : Int32), σ13)
def f_L_law_b827 (N : Nat) (K23 : Option Nat → Option Nat → Option Nat → Option Nat → Int32 → Mem → Option (Int32 × Mem)) (l0 : Option Nat) (l1 : Option Nat) (l2 : Option Nat) (l3 : Option Nat) (l4 : Int32) (σ : Mem) : Option (Int32 × Mem) :=
  ob (o_aI σ 1 l0 (l4 + (1 : Int32))) fun x1 =>
  ob (o_aI σ 1 l0 (l4 + (2 : Int32))) fun x2 =>
  ob (o_at σ [20] l1) fun a5 =>
  bd (f_X1_flees N a5 x1 x2 σ) fun x3 σ4 =>
  ob (o_aI σ4 1 l0 (l4 + (1 : Int32))) fun x6 =>
  ob (o_aI σ4 1 l0 (l4 + (2 : Int32))) fun x7 =>
  ob (o_at σ4 [26] l2) fun a10 =>
  bd (f_X7_flees N a10 x6 x7 σ4) fun x8 σ9 =>
  if x3 = x8 then
    f_L_law_b2043 N K23 l0 l1 l2 l3 l4 σ9
  else
    ob (o_nr 1 (0 : Int32)) fun _ => some ((0 : Int32), σ9)
def f_L_law_b864 (N : Nat) (K23 : Option Nat → Option Nat → Option Nat → Option Nat → Int32 → Mem → Option (Int32 × Mem)) (l0 : Option Nat) (l1 : Option Nat) (l2 : Option Nat) (l3 : Option Nat) (l4 : Int32) (σ : Mem) : Option (Int32 × Mem) :=
  ob (o_aI σ 1 l0 (l4 + (1 : Int32))) fun x1 =>
  ob (o_aI σ 1 l0 (l4 + (2 : Int32))) fun x2 =>
  ob (o_aI σ 1 l0 (l4 + (3 : Int32))) fun x3 =>
  ob (o_at σ [20] l1) fun a6 =>
  bd (f_X1_left N a6 x1 x2 x3 σ) fun x4 σ5 =>
  ob (o_aI σ5 1 l0 (l4 + (1 : Int32))) fun x7 =>
  ob (o_aI σ5 1 l0 (l4 + (2 : Int32))) fun x8 =>
  ob (o_aI σ5 1 l0 (l4 + (3 : Int32))) fun x9 =>
  ob (o_at σ5 [26] l2) fun a12 =>
  bd (f_X7_left N a12 x7 x8 x9 σ5) fun x10 σ11 =>
  if x4 = x10 then
    f_L_law_b2043 N K23 l0 l1 l2 l3 l4 σ11
  else
    ob (o_nr 1 (0 : Int32)) fun _ => some ((0 : Int32), σ11)
def f_L_law_b913 (N : Nat) (K23 : Option Nat → Option Nat → Option Nat → Option Nat → Int32 → Mem → Option (Int32 × Mem)) (l0 : Option Nat) (l1 : Option Nat) (l2 : Option Nat) (l3 : Option Nat) (l4 : Int32) (σ : Mem) : Option (Int32 × Mem) :=
  ob (o_aI σ 1 l0 (l4 + (1 : Int32))) fun x1 =>
  ob (o_aI σ 1 l0 (l4 + (2 : Int32))) fun x2 =>
  ob (o_aI σ 1 l0 (l4 + (3 : Int32))) fun x3 =>
  ob (o_at σ [20] l1) fun a6 =>
  bd (f_X1_met N a6 x1 x2 x3 σ) fun x4 σ5 =>
  ob (o_aI σ5 1 l0 (l4 + (1 : Int32))) fun x7 =>
  ob (o_aI σ5 1 l0 (l4 + (2 : Int32))) fun x8 =>
  ob (o_aI σ5 1 l0 (l4 + (3 : Int32))) fun x9 =>
  ob (o_at σ5 [26] l2) fun a12 =>
  bd (f_X7_met N a12 x7 x8 x9 σ5) fun x10 σ11 =>
  if x4 = x10 then
    f_L_law_b2043 N K23 l0 l1 l2 l3 l4 σ11
  else
    ob (o_nr 1 (0 : Int32)) fun _ => some ((0 : Int32), σ11)
def f_L_law_b962 (N : Nat) (K23 : Option Nat → Option Nat → Option Nat → Option Nat → Int32 → Mem → Option (Int32 × Mem)) (l0 : Option Nat) (l1 : Option Nat) (l2 : Option Nat) (l3 : Option Nat) (l4 : Int32) (σ : Mem) : Option (Int32 × Mem) :=
  ob (o_aI σ 1 l0 (l4 + (1 : Int32))) fun x1 =>
  ob (o_aI σ 1 l0 (l4 + (2 : Int32))) fun x2 =>
  ob (o_at σ [20] l1) fun a5 =>
  bd (f_X1_isTrue N a5 x1 x2 σ) fun x3 σ4 =>
  ob (o_aI σ4 1 l0 (l4 + (1 : Int32))) fun x6 =>
  ob (o_aI σ4 1 l0 (l4 + (2 : Int32))) fun x7 =>
  ob (o_at σ4 [26] l2) fun a10 =>
  bd (f_X7_isTrue N a10 x6 x7 σ4) fun x8 σ9 =>
  if x3 = x8 then
    f_L_law_b2043 N K23 l0 l1 l2 l3 l4 σ9
  else
    ob (o_nr 1 (0 : Int32)) fun _ => some ((0 : Int32), σ9)
def f_L_law_b999 (N : Nat) (K23 : Option Nat → Option Nat → Option Nat → Option Nat → Int32 → Mem → Option (Int32 × Mem)) (l0 : Option Nat) (l1 : Option Nat) (l2 : Option Nat) (l3 : Option Nat) (l4 : Int32) (σ : Mem) : Option (Int32 × Mem) :=
  ob (o_at σ [20] l1) fun a3 =>
  bd (f_X1_fits N a3  σ) fun x1 σ2 =>
  ob (o_at σ2 [26] l2) fun a6 =>
  bd (f_X7_fits N a6  σ2) fun x4 σ5 =>
  if x1 = x4 then
    f_L_law_b2043 N K23 l0 l1 l2 l3 l4 σ5
  else
    ob (o_nr 1 (0 : Int32)) fun _ => some ((0 : Int32), σ5)
def f_L_law_b1012 (N : Nat) (K23 : Option Nat → Option Nat → Option Nat → Option Nat → Int32 → Mem → Option (Int32 × Mem)) (l0 : Option Nat) (l1 : Option Nat) (l2 : Option Nat) (l3 : Option Nat) (l4 : Int32) (σ : Mem) : Option (Int32 × Mem) :=
  ob (o_aI σ 1 l0 (l4 + (1 : Int32))) fun x1 =>
  ob (o_at σ [20] l1) fun a4 =>
  bd (f_X1_fit N a4 x1 σ) fun x2 σ3 =>
  ob (o_aI σ3 1 l0 (l4 + (1 : Int32))) fun x5 =>
  ob (o_at σ3 [26] l2) fun a8 =>
  bd (f_X7_fit N a8 x5 σ3) fun x6 σ7 =>
  if x2 = x6 then
    f_L_law_b2043 N K23 l0 l1 l2 l3 l4 σ7
  else
    ob (o_nr 1 (0 : Int32)) fun _ => some ((0 : Int32), σ7)
def f_L_law_b1037 (N : Nat) (K23 : Option Nat → Option Nat → Option Nat → Option Nat → Int32 → Mem → Option (Int32 × Mem)) (l0 : Option Nat) (l1 : Option Nat) (l2 : Option Nat) (l3 : Option Nat) (l4 : Int32) (σ : Mem) : Option (Int32 × Mem) :=
  ob (o_aI σ 1 l0 (l4 + (1 : Int32))) fun x1 =>
  ob (o_aI σ 1 l0 (l4 + (2 : Int32))) fun x2 =>
  ob (o_at σ [20] l1) fun a5 =>
  bd (f_X1_could N a5 x1 x2 σ) fun x3 σ4 =>
  ob (o_aI σ4 1 l0 (l4 + (1 : Int32))) fun x6 =>
  ob (o_aI σ4 1 l0 (l4 + (2 : Int32))) fun x7 =>
  ob (o_at σ4 [26] l2) fun a10 =>
  bd (f_X7_could N a10 x6 x7 σ4) fun x8 σ9 =>
  if x3 = x8 then
    f_L_law_b2043 N K23 l0 l1 l2 l3 l4 σ9
  else
    ob (o_nr 1 (0 : Int32)) fun _ => some ((0 : Int32), σ9)
def f_L_law_b1074 (N : Nat) (K23 : Option Nat → Option Nat → Option Nat → Option Nat → Int32 → Mem → Option (Int32 × Mem)) (l0 : Option Nat) (l1 : Option Nat) (l2 : Option Nat) (l3 : Option Nat) (l4 : Int32) (σ : Mem) : Option (Int32 × Mem) :=
  ob (o_aI σ 1 l0 (l4 + (1 : Int32))) fun x1 =>
  ob (o_aI σ 1 l0 (l4 + (2 : Int32))) fun x2 =>
  ob (o_at σ [20] l1) fun a5 =>
  bd (f_X1_surely N a5 x1 x2 σ) fun x3 σ4 =>
  ob (o_aI σ4 1 l0 (l4 + (1 : Int32))) fun x6 =>
  ob (o_aI σ4 1 l0 (l4 + (2 : Int32))) fun x7 =>
  ob (o_at σ4 [26] l2) fun a10 =>
  bd (f_X7_surely N a10 x6 x7 σ4) fun x8 σ9 =>
  if x3 = x8 then
    f_L_law_b2043 N K23 l0 l1 l2 l3 l4 σ9
  else
    ob (o_nr 1 (0 : Int32)) fun _ => some ((0 : Int32), σ9)
def f_L_law_b1111 (N : Nat) (K23 : Option Nat → Option Nat → Option Nat → Option Nat → Int32 → Mem → Option (Int32 × Mem)) (l0 : Option Nat) (l1 : Option Nat) (l2 : Option Nat) (l3 : Option Nat) (l4 : Int32) (σ : Mem) : Option (Int32 × Mem) :=
  ob (o_aI σ 1 l0 (l4 + (1 : Int32))) fun x1 =>
  ob (o_at σ [20] l1) fun a4 =>
  bd (f_X1_lies N a4 x1 σ) fun x2 σ3 =>
  ob (o_aI σ3 1 l0 (l4 + (1 : Int32))) fun x5 =>
  ob (o_at σ3 [26] l2) fun a8 =>
  bd (f_X7_lies N a8 x5 σ3) fun x6 σ7 =>
  if x2 = x6 then
    f_L_law_b2043 N K23 l0 l1 l2 l3 l4 σ7
  else
    ob (o_nr 1 (0 : Int32)) fun _ => some ((0 : Int32), σ7)
def f_L_law_b1136 (N : Nat) (K23 : Option Nat → Option Nat → Option Nat → Option Nat → Int32 → Mem → Option (Int32 × Mem)) (l0 : Option Nat) (l1 : Option Nat) (l2 : Option Nat) (l3 : Option Nat) (l4 : Int32) (σ : Mem) : Option (Int32 × Mem) :=
  ob (o_at σ [20] l1) fun a3 =>
  bd (f_X1_falseOnes N a3  σ) fun x1 σ2 =>
  ob (o_at σ2 [26] l2) fun a6 =>
  bd (f_X7_falseOnes N a6  σ2) fun x4 σ5 =>
  if x1 = x4 then
    f_L_law_b2043 N K23 l0 l1 l2 l3 l4 σ5
  else
    ob (o_nr 1 (0 : Int32)) fun _ => some ((0 : Int32), σ5)
def f_L_law_b1149 (N : Nat) (K23 : Option Nat → Option Nat → Option Nat → Option Nat → Int32 → Mem → Option (Int32 × Mem)) (l0 : Option Nat) (l1 : Option Nat) (l2 : Option Nat) (l3 : Option Nat) (l4 : Int32) (σ : Mem) : Option (Int32 × Mem) :=
  ob (o_aI σ 1 l0 (l4 + (1 : Int32))) fun x1 =>
  ob (o_at σ [20] l1) fun a4 =>
  bd (f_X1_odds N a4 x1 σ) fun x2 σ3 =>
  ob (o_aI σ3 1 l0 (l4 + (1 : Int32))) fun x5 =>
  ob (o_at σ3 [26] l2) fun a8 =>
  bd (f_X7_odds N a8 x5 σ3) fun x6 σ7 =>
  if x2 = x6 then
    f_L_law_b2043 N K23 l0 l1 l2 l3 l4 σ7
  else
    ob (o_nr 1 (0 : Int32)) fun _ => some ((0 : Int32), σ7)
def f_L_law_b1174 (N : Nat) (K23 : Option Nat → Option Nat → Option Nat → Option Nat → Int32 → Mem → Option (Int32 × Mem)) (l0 : Option Nat) (l1 : Option Nat) (l2 : Option Nat) (l3 : Option Nat) (l4 : Int32) (σ : Mem) : Option (Int32 × Mem) :=
  ob (o_at σ [20] l1) fun a3 =>
  bd (f_X1_likeliest N a3  σ) fun x1 σ2 =>
  ob (o_at σ2 [26] l2) fun a6 =>
  bd (f_X7_likeliest N a6  σ2) fun x4 σ5 =>
  if x1 = x4 then
    f_L_law_b2043 N K23 l0 l1 l2 l3 l4 σ5
  else
    ob (o_nr 1 (0 : Int32)) fun _ => some ((0 : Int32), σ5)
def f_L_law_b1187 (N : Nat) (K23 : Option Nat → Option Nat → Option Nat → Option Nat → Int32 → Mem → Option (Int32 × Mem)) (l0 : Option Nat) (l1 : Option Nat) (l2 : Option Nat) (l3 : Option Nat) (l4 : Int32) (σ : Mem) : Option (Int32 × Mem) :=
  ob (o_aI σ 1 l0 (l4 + (1 : Int32))) fun x1 =>
  ob (o_aI σ 1 l0 (l4 + (2 : Int32))) fun x2 =>
  ob (o_aI σ 1 l0 (l4 + (3 : Int32))) fun x3 =>
  ob (o_at σ [20] l1) fun a6 =>
  bd (f_X1_proved N a6 x1 x2 x3 σ) fun x4 σ5 =>
  ob (o_aI σ5 1 l0 (l4 + (1 : Int32))) fun x7 =>
  ob (o_aI σ5 1 l0 (l4 + (2 : Int32))) fun x8 =>
  ob (o_aI σ5 1 l0 (l4 + (3 : Int32))) fun x9 =>
  ob (o_at σ5 [26] l2) fun a12 =>
  bd (f_X7_proved N a12 x7 x8 x9 σ5) fun x10 σ11 =>
  if x4 = x10 then
    f_L_law_b2043 N K23 l0 l1 l2 l3 l4 σ11
  else
    ob (o_nr 1 (0 : Int32)) fun _ => some ((0 : Int32), σ11)
def f_L_law_b1236 (N : Nat) (K23 : Option Nat → Option Nat → Option Nat → Option Nat → Int32 → Mem → Option (Int32 × Mem)) (l0 : Option Nat) (l1 : Option Nat) (l2 : Option Nat) (l3 : Option Nat) (l4 : Int32) (σ : Mem) : Option (Int32 × Mem) :=
  ob (o_at σ [20] l1) fun a3 =>
  bd (f_X1_ask N a3  σ) fun x1 σ2 =>
  ob (o_at σ2 [26] l2) fun a6 =>
  bd (f_X7_ask N a6  σ2) fun x4 σ5 =>
  if x1 = x4 then
    f_L_law_b2043 N K23 l0 l1 l2 l3 l4 σ5
  else
    ob (o_nr 1 (0 : Int32)) fun _ => some ((0 : Int32), σ5)
def f_L_law_b1249 (N : Nat) (K23 : Option Nat → Option Nat → Option Nat → Option Nat → Int32 → Mem → Option (Int32 × Mem)) (l0 : Option Nat) (l1 : Option Nat) (l2 : Option Nat) (l3 : Option Nat) (l4 : Int32) (σ : Mem) : Option (Int32 × Mem) :=
  ob (o_at σ [20] l1) fun a3 =>
  bd (f_X1_askMost N a3  σ) fun x1 σ2 =>
  ob (o_at σ2 [26] l2) fun a6 =>
  bd (f_X7_askMost N a6  σ2) fun x4 σ5 =>
  if x1 = x4 then
    f_L_law_b2043 N K23 l0 l1 l2 l3 l4 σ5
  else
    ob (o_nr 1 (0 : Int32)) fun _ => some ((0 : Int32), σ5)
def f_L_law_b1262 (N : Nat) (K23 : Option Nat → Option Nat → Option Nat → Option Nat → Int32 → Mem → Option (Int32 × Mem)) (l0 : Option Nat) (l1 : Option Nat) (l2 : Option Nat) (l3 : Option Nat) (l4 : Int32) (σ : Mem) : Option (Int32 × Mem) :=
  ob (o_aI σ 1 l0 (l4 + (1 : Int32))) fun x1 =>
  ob (o_aI σ 1 l0 (l4 + (2 : Int32))) fun x2 =>
  ob (o_aI σ 1 l0 (l4 + (3 : Int32))) fun x3 =>
  ob (o_aI σ 1 l0 (l4 + (4 : Int32))) fun x4 =>
  ob (o_at σ [20] l1) fun a7 =>
  bd (f_X1_led N a7 x1 x2 x3 x4 σ) fun x5 σ6 =>
  ob (o_aI σ6 1 l0 (l4 + (1 : Int32))) fun x8 =>
  ob (o_aI σ6 1 l0 (l4 + (2 : Int32))) fun x9 =>
  ob (o_aI σ6 1 l0 (l4 + (3 : Int32))) fun x10 =>
  ob (o_aI σ6 1 l0 (l4 + (4 : Int32))) fun x11 =>
  ob (o_at σ6 [26] l2) fun a14 =>
  bd (f_X7_led N a14 x8 x9 x10 x11 σ6) fun x12 σ13 =>
  if x5 = x12 then
    f_L_law_b2043 N K23 l0 l1 l2 l3 l4 σ13
  else
    ob (o_nr 1 (0 : Int32)) fun _ => some ((0 : Int32), σ13)
def f_L_law_b1323 (N : Nat) (K23 : Option Nat → Option Nat → Option Nat → Option Nat → Int32 → Mem → Option (Int32 × Mem)) (l0 : Option Nat) (l1 : Option Nat) (l2 : Option Nat) (l3 : Option Nat) (l4 : Int32) (σ : Mem) : Option (Int32 × Mem) :=
  ob (o_aI σ 1 l0 (l4 + (1 : Int32))) fun x1 =>
  ob (o_aI σ 1 l0 (l4 + (2 : Int32))) fun x2 =>
  ob (o_aI σ 1 l0 (l4 + (3 : Int32))) fun x3 =>
  ob (o_aI σ 1 l0 (l4 + (4 : Int32))) fun x4 =>
  ob (o_aI σ 1 l0 (l4 + (5 : Int32))) fun x5 =>
  ob (o_at σ [20] l1) fun a8 =>
  bd (f_X1_ledAt N a8 x1 x2 x3 x4 x5 σ) fun x6 σ7 =>
  ob (o_aI σ7 1 l0 (l4 + (1 : Int32))) fun x9 =>
  ob (o_aI σ7 1 l0 (l4 + (2 : Int32))) fun x10 =>
  ob (o_aI σ7 1 l0 (l4 + (3 : Int32))) fun x11 =>
  ob (o_aI σ7 1 l0 (l4 + (4 : Int32))) fun x12 =>
  ob (o_aI σ7 1 l0 (l4 + (5 : Int32))) fun x13 =>
  ob (o_at σ7 [26] l2) fun a16 =>
  bd (f_X7_ledAt N a16 x9 x10 x11 x12 x13 σ7) fun x14 σ15 =>
  if x6 = x14 then
    f_L_law_b2043 N K23 l0 l1 l2 l3 l4 σ15
  else
    ob (o_nr 1 (0 : Int32)) fun _ => some ((0 : Int32), σ15)
def f_L_law_b1396 (N : Nat) (K23 : Option Nat → Option Nat → Option Nat → Option Nat → Int32 → Mem → Option (Int32 × Mem)) (l0 : Option Nat) (l1 : Option Nat) (l2 : Option Nat) (l3 : Option Nat) (l4 : Int32) (σ : Mem) : Option (Int32 × Mem) :=
  ob (o_aI σ 1 l0 (l4 + (1 : Int32))) fun x1 =>
  ob (o_aI σ 1 l0 (l4 + (2 : Int32))) fun x2 =>
  ob (o_aI σ 1 l0 (l4 + (3 : Int32))) fun x3 =>
  ob (o_aI σ 1 l0 (l4 + (4 : Int32))) fun x4 =>
  ob (o_at σ [20] l1) fun a7 =>
  bd (f_X1_scared N a7 x1 x2 x3 x4 σ) fun x5 σ6 =>
  ob (o_aI σ6 1 l0 (l4 + (1 : Int32))) fun x8 =>
  ob (o_aI σ6 1 l0 (l4 + (2 : Int32))) fun x9 =>
  ob (o_aI σ6 1 l0 (l4 + (3 : Int32))) fun x10 =>
  ob (o_aI σ6 1 l0 (l4 + (4 : Int32))) fun x11 =>
  ob (o_at σ6 [26] l2) fun a14 =>
  bd (f_X7_scared N a14 x8 x9 x10 x11 σ6) fun x12 σ13 =>
  if x5 = x12 then
    f_L_law_b2043 N K23 l0 l1 l2 l3 l4 σ13
  else
    ob (o_nr 1 (0 : Int32)) fun _ => some ((0 : Int32), σ13)
def f_L_law_b1457 (N : Nat) (K23 : Option Nat → Option Nat → Option Nat → Option Nat → Int32 → Mem → Option (Int32 × Mem)) (l0 : Option Nat) (l1 : Option Nat) (l2 : Option Nat) (l3 : Option Nat) (l4 : Int32) (σ : Mem) : Option (Int32 × Mem) :=
  ob (o_aI σ 1 l0 (l4 + (1 : Int32))) fun x1 =>
  ob (o_at σ [20] l1) fun a4 =>
  bd (f_X1_follows N a4 x1 σ) fun x2 σ3 =>
  ob (o_aI σ3 1 l0 (l4 + (1 : Int32))) fun x5 =>
  ob (o_at σ3 [26] l2) fun a8 =>
  bd (f_X7_follows N a8 x5 σ3) fun x6 σ7 =>
  if x2 = x6 then
    f_L_law_b2043 N K23 l0 l1 l2 l3 l4 σ7
  else
    ob (o_nr 1 (0 : Int32)) fun _ => some ((0 : Int32), σ7)
def f_L_law_b1482 (N : Nat) (K23 : Option Nat → Option Nat → Option Nat → Option Nat → Int32 → Mem → Option (Int32 × Mem)) (l0 : Option Nat) (l1 : Option Nat) (l2 : Option Nat) (l3 : Option Nat) (l4 : Int32) (σ : Mem) : Option (Int32 × Mem) :=
  ob (o_at σ [20] l1) fun a3 =>
  bd (f_X1_step N a3  σ) fun x1 σ2 =>
  ob (o_at σ2 [26] l2) fun a6 =>
  bd (f_X7_step N a6  σ2) fun x4 σ5 =>
  if x1 = x4 then
    f_L_law_b2043 N K23 l0 l1 l2 l3 l4 σ5
  else
    ob (o_nr 1 (0 : Int32)) fun _ => some ((0 : Int32), σ5)
def f_L_law_b1495 (N : Nat) (K23 : Option Nat → Option Nat → Option Nat → Option Nat → Int32 → Mem → Option (Int32 × Mem)) (l0 : Option Nat) (l1 : Option Nat) (l2 : Option Nat) (l3 : Option Nat) (l4 : Int32) (σ : Mem) : Option (Int32 × Mem) :=
  ob (o_aI σ 1 l0 (l4 + (1 : Int32))) fun x1 =>
  ob (o_at σ [20] l1) fun a4 =>
  bd (f_X1_needs N a4 x1 σ) fun x2 σ3 =>
  ob (o_aI σ3 1 l0 (l4 + (1 : Int32))) fun x5 =>
  ob (o_at σ3 [26] l2) fun a8 =>
  bd (f_X7_needs N a8 x5 σ3) fun x6 σ7 =>
  if x2 = x6 then
    f_L_law_b2043 N K23 l0 l1 l2 l3 l4 σ7
  else
    ob (o_nr 1 (0 : Int32)) fun _ => some ((0 : Int32), σ7)
def f_L_law_b1520 (N : Nat) (K23 : Option Nat → Option Nat → Option Nat → Option Nat → Int32 → Mem → Option (Int32 × Mem)) (l0 : Option Nat) (l1 : Option Nat) (l2 : Option Nat) (l3 : Option Nat) (l4 : Int32) (σ : Mem) : Option (Int32 × Mem) :=
  ob (o_aI σ 1 l0 (l4 + (1 : Int32))) fun x1 =>
  ob (o_at σ [20] l1) fun a4 =>
  bd (f_X1_enough N a4 x1 σ) fun x2 σ3 =>
  ob (o_aI σ3 1 l0 (l4 + (1 : Int32))) fun x5 =>
  ob (o_at σ3 [26] l2) fun a8 =>
  bd (f_X7_enough N a8 x5 σ3) fun x6 σ7 =>
  if x2 = x6 then
    f_L_law_b2043 N K23 l0 l1 l2 l3 l4 σ7
  else
    ob (o_nr 1 (0 : Int32)) fun _ => some ((0 : Int32), σ7)
def f_L_law_b1545 (N : Nat) (K23 : Option Nat → Option Nat → Option Nat → Option Nat → Int32 → Mem → Option (Int32 × Mem)) (l0 : Option Nat) (l1 : Option Nat) (l2 : Option Nat) (l3 : Option Nat) (l4 : Int32) (σ : Mem) : Option (Int32 × Mem) :=
  ob (o_aI σ 1 l0 (l4 + (1 : Int32))) fun x1 =>
  ob (o_at σ [20] l1) fun a4 =>
  bd (f_X1_cheese N a4 x1 σ) fun x2 σ3 =>
  ob (o_aI σ3 1 l0 (l4 + (1 : Int32))) fun x5 =>
  ob (o_at σ3 [26] l2) fun a8 =>
  bd (f_X7_cheese N a8 x5 σ3) fun x6 σ7 =>
  if x2 = x6 then
    f_L_law_b2043 N K23 l0 l1 l2 l3 l4 σ7
  else
    ob (o_nr 1 (0 : Int32)) fun _ => some ((0 : Int32), σ7)
def f_L_law_b1570 (N : Nat) (K23 : Option Nat → Option Nat → Option Nat → Option Nat → Int32 → Mem → Option (Int32 × Mem)) (l0 : Option Nat) (l1 : Option Nat) (l2 : Option Nat) (l3 : Option Nat) (l4 : Int32) (σ : Mem) : Option (Int32 × Mem) :=
  ob (o_aI σ 1 l0 (l4 + (1 : Int32))) fun x1 =>
  ob (o_at σ [20] l1) fun a4 =>
  bd (f_X1_cheeseOf N a4 x1 σ) fun x2 σ3 =>
  ob (o_aI σ3 1 l0 (l4 + (1 : Int32))) fun x5 =>
  ob (o_at σ3 [26] l2) fun a8 =>
  bd (f_X7_cheeseOf N a8 x5 σ3) fun x6 σ7 =>
  if x2 = x6 then
    f_L_law_b2043 N K23 l0 l1 l2 l3 l4 σ7
  else
    ob (o_nr 1 (0 : Int32)) fun _ => some ((0 : Int32), σ7)
def f_L_law_b1595 (N : Nat) (K23 : Option Nat → Option Nat → Option Nat → Option Nat → Int32 → Mem → Option (Int32 × Mem)) (l0 : Option Nat) (l1 : Option Nat) (l2 : Option Nat) (l3 : Option Nat) (l4 : Int32) (σ : Mem) : Option (Int32 × Mem) :=
  ob (o_at σ [20] l1) fun a3 =>
  bd (f_X1_appeals N a3  σ) fun y1 σ2 =>
  ob (o_at σ2 [26] l2) fun a6 =>
  bd (f_X7_appeals N a6  σ2) fun y4 σ5 =>
  if (lg_cmp y1 y4) = 0 then
    f_L_law_b2043 N K23 l0 l1 l2 l3 l4 σ5
  else
    ob (o_nr 1 (0 : Int32)) fun _ => some ((0 : Int32), σ5)
def f_L_law_b1609 (N : Nat) (K23 : Option Nat → Option Nat → Option Nat → Option Nat → Int32 → Mem → Option (Int32 × Mem)) (l0 : Option Nat) (l1 : Option Nat) (l2 : Option Nat) (l3 : Option Nat) (l4 : Int32) (σ : Mem) : Option (Int32 × Mem) :=
  ob (o_aI σ 1 l0 (l4 + (1 : Int32))) fun x1 =>
  ob (o_at σ [20] l1) fun a4 =>
  bd (f_X1_appealAt N a4 x1 σ) fun x2 σ3 =>
  ob (o_aI σ3 1 l0 (l4 + (1 : Int32))) fun x5 =>
  ob (o_at σ3 [26] l2) fun a8 =>
  bd (f_X7_appealAt N a8 x5 σ3) fun x6 σ7 =>
  if x2 = x6 then
    f_L_law_b2043 N K23 l0 l1 l2 l3 l4 σ7
  else
    ob (o_nr 1 (0 : Int32)) fun _ => some ((0 : Int32), σ7)
def f_L_law_b1691 (N : Nat) (K23 : Option Nat → Option Nat → Option Nat → Option Nat → Int32 → Mem → Option (Int32 × Mem)) (l0 : Option Nat) (l1 : Option Nat) (l2 : Option Nat) (l3 : Option Nat) (l4 : Int32) (t0 : Int32) (t1 : Option Nat) (t2 : Int32) (t3 : Int32) (t4 : Int32) (σ : Mem) : Option (Int32 × Mem) :=
  ob (o_at σ [26] t1) fun a3 =>
  bd (f_X7_salt N a3 t2 t3 t4 σ) fun x1 σ2 =>
  if t0 = x1 then
    f_L_law_b2043 N K23 l0 l1 l2 l3 l4 σ2
  else
    ob (o_nr 1 (0 : Int32)) fun _ => some ((0 : Int32), σ2)
def f_L_law_b1661 (N : Nat) (K23 : Option Nat → Option Nat → Option Nat → Option Nat → Int32 → Mem → Option (Int32 × Mem)) (l0 : Option Nat) (l1 : Option Nat) (l2 : Option Nat) (l3 : Option Nat) (l4 : Int32) (t0 : Option Nat) (t1 : Int32) (t2 : Int32) (t3 : Int32) (σ : Mem) : Option (Int32 × Mem) :=
  ob (o_at σ [20] t0) fun a3 =>
  bd (f_X1_salt N a3 t1 t2 t3 σ) fun x1 σ2 =>
  ob (o_aI σ2 1 l0 (l4 + (1 : Int32))) fun x4 =>
  ob (o_aI σ2 1 l0 (l4 + (2 : Int32))) fun x5 =>
  ob (o_aI σ2 1 l0 (l4 + (3 : Int32))) fun x6 =>
  if x6 = 0 then
    f_L_law_b1691 N K23 l0 l1 l2 l3 l4 x1 l2 x4 x5 (0 : Int32) σ2
  else
    f_L_law_b1691 N K23 l0 l1 l2 l3 l4 x1 l2 x4 x5 (1 : Int32) σ2
def f_L_law_b1634 (N : Nat) (K23 : Option Nat → Option Nat → Option Nat → Option Nat → Int32 → Mem → Option (Int32 × Mem)) (l0 : Option Nat) (l1 : Option Nat) (l2 : Option Nat) (l3 : Option Nat) (l4 : Int32) (σ : Mem) : Option (Int32 × Mem) :=
  ob (o_aI σ 1 l0 (l4 + (1 : Int32))) fun x1 =>
  ob (o_aI σ 1 l0 (l4 + (2 : Int32))) fun x2 =>
  ob (o_aI σ 1 l0 (l4 + (3 : Int32))) fun x3 =>
  if x3 = 0 then
    f_L_law_b1661 N K23 l0 l1 l2 l3 l4 l1 x1 x2 (0 : Int32) σ
  else
    f_L_law_b1661 N K23 l0 l1 l2 l3 l4 l1 x1 x2 (1 : Int32) σ
def f_L_law_b1756 (N : Nat) (K23 : Option Nat → Option Nat → Option Nat → Option Nat → Int32 → Mem → Option (Int32 × Mem)) (l0 : Option Nat) (l1 : Option Nat) (l2 : Option Nat) (l3 : Option Nat) (l4 : Int32) (t0 : Int32) (t1 : Option Nat) (t2 : Int32) (t3 : Int32) (t4 : Int32) (σ : Mem) : Option (Int32 × Mem) :=
  ob (o_at σ [26] t1) fun a3 =>
  bd (f_X7_dog N a3 t2 t3 t4 σ) fun x1 σ2 =>
  if t0 = x1 then
    f_L_law_b2043 N K23 l0 l1 l2 l3 l4 σ2
  else
    ob (o_nr 1 (0 : Int32)) fun _ => some ((0 : Int32), σ2)
def f_L_law_b1726 (N : Nat) (K23 : Option Nat → Option Nat → Option Nat → Option Nat → Int32 → Mem → Option (Int32 × Mem)) (l0 : Option Nat) (l1 : Option Nat) (l2 : Option Nat) (l3 : Option Nat) (l4 : Int32) (t0 : Option Nat) (t1 : Int32) (t2 : Int32) (t3 : Int32) (σ : Mem) : Option (Int32 × Mem) :=
  ob (o_at σ [20] t0) fun a3 =>
  bd (f_X1_dog N a3 t1 t2 t3 σ) fun x1 σ2 =>
  ob (o_aI σ2 1 l0 (l4 + (1 : Int32))) fun x4 =>
  ob (o_aI σ2 1 l0 (l4 + (2 : Int32))) fun x5 =>
  ob (o_aI σ2 1 l0 (l4 + (3 : Int32))) fun x6 =>
  if x6 = 0 then
    f_L_law_b1756 N K23 l0 l1 l2 l3 l4 x1 l2 x4 x5 (0 : Int32) σ2
  else
    f_L_law_b1756 N K23 l0 l1 l2 l3 l4 x1 l2 x4 x5 (1 : Int32) σ2
def f_L_law_b1699 (N : Nat) (K23 : Option Nat → Option Nat → Option Nat → Option Nat → Int32 → Mem → Option (Int32 × Mem)) (l0 : Option Nat) (l1 : Option Nat) (l2 : Option Nat) (l3 : Option Nat) (l4 : Int32) (σ : Mem) : Option (Int32 × Mem) :=
  ob (o_aI σ 1 l0 (l4 + (1 : Int32))) fun x1 =>
  ob (o_aI σ 1 l0 (l4 + (2 : Int32))) fun x2 =>
  ob (o_aI σ 1 l0 (l4 + (3 : Int32))) fun x3 =>
  if x3 = 0 then
    f_L_law_b1726 N K23 l0 l1 l2 l3 l4 l1 x1 x2 (0 : Int32) σ
  else
    f_L_law_b1726 N K23 l0 l1 l2 l3 l4 l1 x1 x2 (1 : Int32) σ
def f_L_law_b1809 (N : Nat) (K23 : Option Nat → Option Nat → Option Nat → Option Nat → Int32 → Mem → Option (Int32 × Mem)) (l0 : Option Nat) (l1 : Option Nat) (l2 : Option Nat) (l3 : Option Nat) (l4 : Int32) (t0 : Int32) (t1 : Option Nat) (t2 : Int32) (t3 : Int32) (σ : Mem) : Option (Int32 × Mem) :=
  ob (o_at σ [26] t1) fun a3 =>
  bd (f_X7_hedge N a3 t2 t3 σ) fun x1 σ2 =>
  if t0 = x1 then
    f_L_law_b2043 N K23 l0 l1 l2 l3 l4 σ2
  else
    ob (o_nr 1 (0 : Int32)) fun _ => some ((0 : Int32), σ2)
def f_L_law_b1785 (N : Nat) (K23 : Option Nat → Option Nat → Option Nat → Option Nat → Int32 → Mem → Option (Int32 × Mem)) (l0 : Option Nat) (l1 : Option Nat) (l2 : Option Nat) (l3 : Option Nat) (l4 : Int32) (t0 : Option Nat) (t1 : Int32) (t2 : Int32) (σ : Mem) : Option (Int32 × Mem) :=
  ob (o_at σ [20] t0) fun a3 =>
  bd (f_X1_hedge N a3 t1 t2 σ) fun x1 σ2 =>
  ob (o_aI σ2 1 l0 (l4 + (1 : Int32))) fun x4 =>
  ob (o_aI σ2 1 l0 (l4 + (2 : Int32))) fun x5 =>
  if x5 = 0 then
    f_L_law_b1809 N K23 l0 l1 l2 l3 l4 x1 l2 x4 (0 : Int32) σ2
  else
    f_L_law_b1809 N K23 l0 l1 l2 l3 l4 x1 l2 x4 (1 : Int32) σ2
def f_L_law_b1764 (N : Nat) (K23 : Option Nat → Option Nat → Option Nat → Option Nat → Int32 → Mem → Option (Int32 × Mem)) (l0 : Option Nat) (l1 : Option Nat) (l2 : Option Nat) (l3 : Option Nat) (l4 : Int32) (σ : Mem) : Option (Int32 × Mem) :=
  ob (o_aI σ 1 l0 (l4 + (1 : Int32))) fun x1 =>
  ob (o_aI σ 1 l0 (l4 + (2 : Int32))) fun x2 =>
  if x2 = 0 then
    f_L_law_b1785 N K23 l0 l1 l2 l3 l4 l1 x1 (0 : Int32) σ
  else
    f_L_law_b1785 N K23 l0 l1 l2 l3 l4 l1 x1 (1 : Int32) σ
def f_L_law_b1862 (N : Nat) (K23 : Option Nat → Option Nat → Option Nat → Option Nat → Int32 → Mem → Option (Int32 × Mem)) (l0 : Option Nat) (l1 : Option Nat) (l2 : Option Nat) (l3 : Option Nat) (l4 : Int32) (t0 : Int32) (t1 : Option Nat) (t2 : Int32) (t3 : Int32) (σ : Mem) : Option (Int32 × Mem) :=
  ob (o_at σ [26] t1) fun a3 =>
  bd (f_X7_hear N a3 t2 t3 σ) fun x1 σ2 =>
  if t0 = x1 then
    f_L_law_b2043 N K23 l0 l1 l2 l3 l4 σ2
  else
    ob (o_nr 1 (0 : Int32)) fun _ => some ((0 : Int32), σ2)
def f_L_law_b1838 (N : Nat) (K23 : Option Nat → Option Nat → Option Nat → Option Nat → Int32 → Mem → Option (Int32 × Mem)) (l0 : Option Nat) (l1 : Option Nat) (l2 : Option Nat) (l3 : Option Nat) (l4 : Int32) (t0 : Option Nat) (t1 : Int32) (t2 : Int32) (σ : Mem) : Option (Int32 × Mem) :=
  ob (o_at σ [20] t0) fun a3 =>
  bd (f_X1_hear N a3 t1 t2 σ) fun x1 σ2 =>
  ob (o_aI σ2 1 l0 (l4 + (1 : Int32))) fun x4 =>
  ob (o_aI σ2 1 l0 (l4 + (2 : Int32))) fun x5 =>
  if x5 = 0 then
    f_L_law_b1862 N K23 l0 l1 l2 l3 l4 x1 l2 x4 (0 : Int32) σ2
  else
    f_L_law_b1862 N K23 l0 l1 l2 l3 l4 x1 l2 x4 (1 : Int32) σ2
def f_L_law_b1817 (N : Nat) (K23 : Option Nat → Option Nat → Option Nat → Option Nat → Int32 → Mem → Option (Int32 × Mem)) (l0 : Option Nat) (l1 : Option Nat) (l2 : Option Nat) (l3 : Option Nat) (l4 : Int32) (σ : Mem) : Option (Int32 × Mem) :=
  ob (o_aI σ 1 l0 (l4 + (1 : Int32))) fun x1 =>
  ob (o_aI σ 1 l0 (l4 + (2 : Int32))) fun x2 =>
  if x2 = 0 then
    f_L_law_b1838 N K23 l0 l1 l2 l3 l4 l1 x1 (0 : Int32) σ
  else
    f_L_law_b1838 N K23 l0 l1 l2 l3 l4 l1 x1 (1 : Int32) σ
def f_L_law_b1870 (N : Nat) (K23 : Option Nat → Option Nat → Option Nat → Option Nat → Int32 → Mem → Option (Int32 × Mem)) (l0 : Option Nat) (l1 : Option Nat) (l2 : Option Nat) (l3 : Option Nat) (l4 : Int32) (σ : Mem) : Option (Int32 × Mem) :=
  ob (o_at σ [20] l1) fun a3 =>
  bd (f_X1_undo N a3  σ) fun x1 σ2 =>
  ob (o_at σ2 [26] l2) fun a6 =>
  bd (f_X7_undo N a6  σ2) fun x4 σ5 =>
  if x1 = x4 then
    f_L_law_b2043 N K23 l0 l1 l2 l3 l4 σ5
  else
    ob (o_nr 1 (0 : Int32)) fun _ => some ((0 : Int32), σ5)
def f_L_law_b1883 (N : Nat) (K23 : Option Nat → Option Nat → Option Nat → Option Nat → Int32 → Mem → Option (Int32 × Mem)) (l0 : Option Nat) (l1 : Option Nat) (l2 : Option Nat) (l3 : Option Nat) (l4 : Int32) (σ : Mem) : Option (Int32 × Mem) :=
  ob (o_at σ [20] l1) fun a3 =>
  bd (f_X1_mark N a3  σ) fun x1 σ2 =>
  ob (o_at σ2 [26] l2) fun a6 =>
  bd (f_X7_mark N a6  σ2) fun x4 σ5 =>
  if x1 = x4 then
    f_L_law_b2043 N K23 l0 l1 l2 l3 l4 σ5
  else
    ob (o_nr 1 (0 : Int32)) fun _ => some ((0 : Int32), σ5)
def f_L_law_b1896 (N : Nat) (K23 : Option Nat → Option Nat → Option Nat → Option Nat → Int32 → Mem → Option (Int32 × Mem)) (l0 : Option Nat) (l1 : Option Nat) (l2 : Option Nat) (l3 : Option Nat) (l4 : Int32) (σ : Mem) : Option (Int32 × Mem) :=
  ob (o_aI σ 1 l0 (l4 + (1 : Int32))) fun x1 =>
  ob (o_at σ [20] l1) fun a4 =>
  bd (f_X1_back N a4 x1 σ) fun x2 σ3 =>
  ob (o_aI σ3 1 l0 (l4 + (1 : Int32))) fun x5 =>
  ob (o_at σ3 [26] l2) fun a8 =>
  bd (f_X7_back N a8 x5 σ3) fun x6 σ7 =>
  if x2 = x6 then
    f_L_law_b2043 N K23 l0 l1 l2 l3 l4 σ7
  else
    ob (o_nr 1 (0 : Int32)) fun _ => some ((0 : Int32), σ7)
def f_L_law_b2002 (N : Nat) (K23 : Option Nat → Option Nat → Option Nat → Option Nat → Int32 → Mem → Option (Int32 × Mem)) (l0 : Option Nat) (l1 : Option Nat) (l2 : Option Nat) (l3 : Option Nat) (l4 : Int32) (σ : Mem) : Option (Int32 × Mem) :=
  f_L_law_b2043 N K23 l0 l1 l2 l3 l4 σ
def f_L_law_b1969 (N : Nat) (K23 : Option Nat → Option Nat → Option Nat → Option Nat → Int32 → Mem → Option (Int32 × Mem)) (l0 : Option Nat) (l1 : Option Nat) (l2 : Option Nat) (l3 : Option Nat) (l4 : Int32) (l5 : Int32) (t0 : Option Nat) (t1 : Int32) (t2 : Int32) (σ : Mem) : Option (Int32 × Mem) :=
  ob (o_at σ [26] t0) fun a3 =>
  bd (f_X7_put N a3 t1 t2 σ) fun x1 σ2 =>
  ob (o_at σ2 [26] l2) fun a6 =>
  bd (f_X7_thrown N a6  σ2) fun x4 σ5 =>
  if x4 = l5 then
    if l5 = 0 then
      ob (o_aJ σ5 4 l3 (0 : Int32)) fun x7 =>
      if (lg_cmp x7 (x1.toInt64)) = 0 then
        f_L_law_b2002 N K23 l0 l1 l2 l3 l4 σ5
      else
        ob (o_nr 1 (0 : Int32)) fun _ => some ((0 : Int32), σ5)
    else
      f_L_law_b2002 N K23 l0 l1 l2 l3 l4 σ5
  else
    ob (o_nr 1 (0 : Int32)) fun _ => some ((0 : Int32), σ5)
def f_L_law_b1942 (N : Nat) (K23 : Option Nat → Option Nat → Option Nat → Option Nat → Int32 → Mem → Option (Int32 × Mem)) (l0 : Option Nat) (l1 : Option Nat) (l2 : Option Nat) (l3 : Option Nat) (l4 : Int32) (t0 : Option Nat) (t1 : Int32) (t2 : Int32) (σ : Mem) : Option (Int32 × Mem) :=
  bd (f_X0_put N t0 t1 t2 l3 σ) fun x1 σ2 =>
  ob (o_aI σ2 1 l0 (l4 + (1 : Int32))) fun x3 =>
  ob (o_aI σ2 1 l0 (l4 + (2 : Int32))) fun x4 =>
  if x4 = 0 then
    f_L_law_b1969 N K23 l0 l1 l2 l3 l4 x1 l2 x3 (0 : Int32) σ2
  else
    f_L_law_b1969 N K23 l0 l1 l2 l3 l4 x1 l2 x3 (1 : Int32) σ2
def f_L_law_b1921 (N : Nat) (K23 : Option Nat → Option Nat → Option Nat → Option Nat → Int32 → Mem → Option (Int32 × Mem)) (l0 : Option Nat) (l1 : Option Nat) (l2 : Option Nat) (l3 : Option Nat) (l4 : Int32) (σ : Mem) : Option (Int32 × Mem) :=
  ob (o_aI σ 1 l0 (l4 + (1 : Int32))) fun x1 =>
  ob (o_aI σ 1 l0 (l4 + (2 : Int32))) fun x2 =>
  if x2 = 0 then
    f_L_law_b1942 N K23 l0 l1 l2 l3 l4 l1 x1 (0 : Int32) σ
  else
    f_L_law_b1942 N K23 l0 l1 l2 l3 l4 l1 x1 (1 : Int32) σ
def f_L_law_b2005 (N : Nat) (K23 : Option Nat → Option Nat → Option Nat → Option Nat → Int32 → Mem → Option (Int32 × Mem)) (l0 : Option Nat) (l1 : Option Nat) (l2 : Option Nat) (l3 : Option Nat) (l4 : Int32) (σ : Mem) : Option (Int32 × Mem) :=
  ob (o_aI σ 1 l0 (l4 + (1 : Int32))) fun x1 =>
  ob (o_at σ [20] l1) fun a4 =>
  bd (f_X1_size N a4 x1 σ) fun x2 σ3 =>
  ob (o_aI σ3 1 l0 (l4 + (1 : Int32))) fun x5 =>
  ob (o_at σ3 [26] l2) fun a8 =>
  bd (f_X7_size N a8 x5 σ3) fun x6 σ7 =>
  if x2 = x6 then
    f_L_law_b2043 N K23 l0 l1 l2 l3 l4 σ7
  else
    ob (o_nr 1 (0 : Int32)) fun _ => some ((0 : Int32), σ7)
def f_L_law_b2030 (N : Nat) (K23 : Option Nat → Option Nat → Option Nat → Option Nat → Int32 → Mem → Option (Int32 × Mem)) (l0 : Option Nat) (l1 : Option Nat) (l2 : Option Nat) (l3 : Option Nat) (l4 : Int32) (σ : Mem) : Option (Int32 × Mem) :=
  ob (o_at σ [20] l1) fun a3 =>
  bd (f_X1_trouble N a3  σ) fun x1 σ2 =>
  ob (o_at σ2 [26] l2) fun a6 =>
  bd (f_X7_trouble N a6  σ2) fun x4 σ5 =>
  if x1 = x4 then
    f_L_law_b2043 N K23 l0 l1 l2 l3 l4 σ5
  else
    ob (o_nr 1 (0 : Int32)) fun _ => some ((0 : Int32), σ5)
def f_L_law_b23B (N : Nat)  (K23 : Option Nat → Option Nat → Option Nat → Option Nat → Int32 → Mem → Option (Int32 × Mem)) (l0 : Option Nat) (l1 : Option Nat) (l2 : Option Nat) (l3 : Option Nat) (l4 : Int32) (σ : Mem) : Option (Int32 × Mem) :=
  ob (o_len σ l0) fun x1 =>
  if (x1 - (6 : Int32)) < l4 then
    ob (o_nr 1 (1 : Int32)) fun _ => some ((1 : Int32), σ)
  else
    ob (o_aI σ 1 l0 l4) fun x2 =>
    if (x2 &&& (63 : Int32)) = (0 : Int32) then
      f_L_law_b260 N K23 l0 l1 l2 l3 l4 σ
    else if (x2 &&& (63 : Int32)) = (1 : Int32) then
      f_L_law_b333 N K23 l0 l1 l2 l3 l4 σ
    else if (x2 &&& (63 : Int32)) = (2 : Int32) then
      f_L_law_b358 N K23 l0 l1 l2 l3 l4 σ
    else if (x2 &&& (63 : Int32)) = (3 : Int32) then
      f_L_law_b371 N K23 l0 l1 l2 l3 l4 σ
    else if (x2 &&& (63 : Int32)) = (4 : Int32) then
      f_L_law_b384 N K23 l0 l1 l2 l3 l4 σ
    else if (x2 &&& (63 : Int32)) = (5 : Int32) then
      f_L_law_b421 N K23 l0 l1 l2 l3 l4 σ
    else if (x2 &&& (63 : Int32)) = (6 : Int32) then
      f_L_law_b446 N K23 l0 l1 l2 l3 l4 σ
    else if (x2 &&& (63 : Int32)) = (7 : Int32) then
      f_L_law_b483 N K23 l0 l1 l2 l3 l4 σ
    else if (x2 &&& (63 : Int32)) = (8 : Int32) then
      f_L_law_b520 N K23 l0 l1 l2 l3 l4 σ
    else if (x2 &&& (63 : Int32)) = (9 : Int32) then
      f_L_law_b557 N K23 l0 l1 l2 l3 l4 σ
    else if (x2 &&& (63 : Int32)) = (10 : Int32) then
      f_L_law_b606 N K23 l0 l1 l2 l3 l4 σ
    else if (x2 &&& (63 : Int32)) = (11 : Int32) then
      f_L_law_b631 N K23 l0 l1 l2 l3 l4 σ
    else if (x2 &&& (63 : Int32)) = (12 : Int32) then
      f_L_law_b668 N K23 l0 l1 l2 l3 l4 σ
    else if (x2 &&& (63 : Int32)) = (13 : Int32) then
      f_L_law_b717 N K23 l0 l1 l2 l3 l4 σ
    else if (x2 &&& (63 : Int32)) = (14 : Int32) then
      f_L_law_b766 N K23 l0 l1 l2 l3 l4 σ
    else if (x2 &&& (63 : Int32)) = (15 : Int32) then
      f_L_law_b827 N K23 l0 l1 l2 l3 l4 σ
    else if (x2 &&& (63 : Int32)) = (16 : Int32) then
      f_L_law_b864 N K23 l0 l1 l2 l3 l4 σ
    else if (x2 &&& (63 : Int32)) = (17 : Int32) then
      f_L_law_b913 N K23 l0 l1 l2 l3 l4 σ
    else if (x2 &&& (63 : Int32)) = (18 : Int32) then
      f_L_law_b962 N K23 l0 l1 l2 l3 l4 σ
    else if (x2 &&& (63 : Int32)) = (19 : Int32) then
      f_L_law_b999 N K23 l0 l1 l2 l3 l4 σ
    else if (x2 &&& (63 : Int32)) = (20 : Int32) then
      f_L_law_b1012 N K23 l0 l1 l2 l3 l4 σ
    else if (x2 &&& (63 : Int32)) = (21 : Int32) then
      f_L_law_b1037 N K23 l0 l1 l2 l3 l4 σ
    else if (x2 &&& (63 : Int32)) = (22 : Int32) then
      f_L_law_b1074 N K23 l0 l1 l2 l3 l4 σ
    else if (x2 &&& (63 : Int32)) = (23 : Int32) then
      f_L_law_b1111 N K23 l0 l1 l2 l3 l4 σ
    else if (x2 &&& (63 : Int32)) = (24 : Int32) then
      f_L_law_b1136 N K23 l0 l1 l2 l3 l4 σ
    else if (x2 &&& (63 : Int32)) = (25 : Int32) then
      f_L_law_b1149 N K23 l0 l1 l2 l3 l4 σ
    else if (x2 &&& (63 : Int32)) = (26 : Int32) then
      f_L_law_b1174 N K23 l0 l1 l2 l3 l4 σ
    else if (x2 &&& (63 : Int32)) = (27 : Int32) then
      f_L_law_b1187 N K23 l0 l1 l2 l3 l4 σ
    else if (x2 &&& (63 : Int32)) = (28 : Int32) then
      f_L_law_b1236 N K23 l0 l1 l2 l3 l4 σ
    else if (x2 &&& (63 : Int32)) = (29 : Int32) then
      f_L_law_b1249 N K23 l0 l1 l2 l3 l4 σ
    else if (x2 &&& (63 : Int32)) = (30 : Int32) then
      f_L_law_b1262 N K23 l0 l1 l2 l3 l4 σ
    else if (x2 &&& (63 : Int32)) = (31 : Int32) then
      f_L_law_b1323 N K23 l0 l1 l2 l3 l4 σ
    else if (x2 &&& (63 : Int32)) = (32 : Int32) then
      f_L_law_b1396 N K23 l0 l1 l2 l3 l4 σ
    else if (x2 &&& (63 : Int32)) = (33 : Int32) then
      f_L_law_b1457 N K23 l0 l1 l2 l3 l4 σ
    else if (x2 &&& (63 : Int32)) = (34 : Int32) then
      f_L_law_b1482 N K23 l0 l1 l2 l3 l4 σ
    else if (x2 &&& (63 : Int32)) = (35 : Int32) then
      f_L_law_b1495 N K23 l0 l1 l2 l3 l4 σ
    else if (x2 &&& (63 : Int32)) = (36 : Int32) then
      f_L_law_b1520 N K23 l0 l1 l2 l3 l4 σ
    else if (x2 &&& (63 : Int32)) = (37 : Int32) then
      f_L_law_b1545 N K23 l0 l1 l2 l3 l4 σ
    else if (x2 &&& (63 : Int32)) = (38 : Int32) then
      f_L_law_b1570 N K23 l0 l1 l2 l3 l4 σ
    else if (x2 &&& (63 : Int32)) = (39 : Int32) then
      f_L_law_b1595 N K23 l0 l1 l2 l3 l4 σ
    else if (x2 &&& (63 : Int32)) = (40 : Int32) then
      f_L_law_b1609 N K23 l0 l1 l2 l3 l4 σ
    else if (x2 &&& (63 : Int32)) = (41 : Int32) then
      f_L_law_b1634 N K23 l0 l1 l2 l3 l4 σ
    else if (x2 &&& (63 : Int32)) = (42 : Int32) then
      f_L_law_b1699 N K23 l0 l1 l2 l3 l4 σ
    else if (x2 &&& (63 : Int32)) = (43 : Int32) then
      f_L_law_b1764 N K23 l0 l1 l2 l3 l4 σ
    else if (x2 &&& (63 : Int32)) = (44 : Int32) then
      f_L_law_b1817 N K23 l0 l1 l2 l3 l4 σ
    else if (x2 &&& (63 : Int32)) = (45 : Int32) then
      f_L_law_b1870 N K23 l0 l1 l2 l3 l4 σ
    else if (x2 &&& (63 : Int32)) = (46 : Int32) then
      f_L_law_b1883 N K23 l0 l1 l2 l3 l4 σ
    else if (x2 &&& (63 : Int32)) = (47 : Int32) then
      f_L_law_b1896 N K23 l0 l1 l2 l3 l4 σ
    else if (x2 &&& (63 : Int32)) = (48 : Int32) then
      f_L_law_b1921 N K23 l0 l1 l2 l3 l4 σ
    else if (x2 &&& (63 : Int32)) = (49 : Int32) then
      f_L_law_b2005 N K23 l0 l1 l2 l3 l4 σ
    else if (x2 &&& (63 : Int32)) = (50 : Int32) then
      f_L_law_b2030 N K23 l0 l1 l2 l3 l4 σ
    else
      f_L_law_b2043 N K23 l0 l1 l2 l3 l4 σ
def f_L_law_b23 (N : Nat)  : Nat → Option Nat → Option Nat → Option Nat → Option Nat → Int32 → Mem → Option (Int32 × Mem)
  | 0, _, _, _, _, _, _ => none
  | n + 1, l0, l1, l2, l3, l4, σ => f_L_law_b23B N  (f_L_law_b23 N  n) l0 l1 l2 l3 l4 σ
def f_L_law (N : Nat) (o0 : Option Nat) (σ : Mem) : Option (Int32 × Mem) :=
  o_no σ 20 23 fun a1 σ2 =>
  bd (f_X1_init N a1  σ2) fun _ σ4 =>
  o_no σ4 26 39 fun a5 σ6 =>
  bd (f_X7_init N a5  σ6) fun _ σ8 =>
  o_na σ8 4 (1 : Int32) fun a9 σ10 =>
  f_L_law_b23 N  N o0 (some a1) (some a5) (some a9) (0 : Int32) σ10
