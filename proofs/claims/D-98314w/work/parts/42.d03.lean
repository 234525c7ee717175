/-! what the methods compute -/
set_option maxRecDepth 100000
def f_X7_fits_b55 (N : Nat) (K26 : Nat → Int32 → Int32 → Mem → Option (Int32 × Mem)) (a0 : Nat) (l2 : Int32) (t0 : Int32) (t1 : Int32) (σ : Mem) : Option (Int32 × Mem) :=
  K26 a0 (t0 + t1) (l2 + (1 : Int32)) σ
def f_X7_fits_b26B (N : Nat)  (K26 : Nat → Int32 → Int32 → Mem → Option (Int32 × Mem)) (a0 : Nat) (l1 : Int32) (l2 : Int32) (σ : Mem) : Option (Int32 × Mem) :=
  ob (o_gR σ [26] 3 (some a0)) fun x1 =>
  ob (o_at σ [40] x1) fun a4 =>
  bd (f_X24_cases N a4  σ) fun x2 σ3 =>
  if x2 ≤ l2 then
    ob (o_at σ3 [26] (some a0)) fun a7 =>
    bd (f_X7_good N a7 l1 σ3) fun x5 σ6 =>
    some (x5, σ6)
  else
    ob (o_at σ3 [26] (some a0)) fun a10 =>
    bd (f_X7_heard N a10  σ3) fun x8 σ9 =>
    ob (o_at σ9 [26] (some a0)) fun a13 =>
    bd (f_X7_areTrue N a13 l2 x8 σ9) fun x11 σ12 =>
    if x11 = 0 then
      f_X7_fits_b55 N K26 a0 l2 l1 (0 : Int32) σ12
    else
      f_X7_fits_b55 N K26 a0 l2 l1 (1 : Int32) σ12
def f_X7_fits_b26 (N : Nat)  : Nat → Nat → Int32 → Int32 → Mem → Option (Int32 × Mem)
  | 0, _, _, _, _ => none
  | n + 1, a0, l1, l2, σ => f_X7_fits_b26B N  (f_X7_fits_b26 N  n) a0 l1 l2 σ
def f_X7_fits (N : Nat) (a0 : Nat) (σ : Mem) : Option (Int32 × Mem) :=
  ob (o_pI σ 0 [26] 0 (some a0) (0 : Int32)) fun σ1 =>
  ob (o_gR σ1 [26] 3 (some a0)) fun x2 =>
  if x2 = none then
    ob (o_at σ1 [26] (some a0)) fun a8 =>
    bd (f_X7_refused N a8 (1 : Int32) σ1) fun x6 σ7 =>
    some (x6, σ7)
  else
    ob (o_at σ1 [26] (some a0)) fun a5 =>
    bd (f_X7_laysHonest N a5  σ1) fun _ σ4 =>
    f_X7_fits_b26 N  N a0 (0 : Int32) (0 : Int32) σ4
def f_X1_fit_b15 (N : Nat)  (a0 : Nat) (σ : Mem) : Option (Int32 × Mem) :=
  ob (o_at σ [20] (some a0)) fun a3 =>
  bd (f_X1_no N a3 (1 : Int32) σ) fun x1 σ2 =>
  some (x1, σ2)
def f_X1_fit (N : Nat) (a0 : Nat) (i1 : Int32) (σ : Mem) : Option (Int32 × Mem) :=
  ob (o_at σ [20] (some a0)) fun a3 =>
  bd (f_X1_anew N a3  σ) fun _ σ2 =>
  ob (o_gR σ2 [20] 3 (some a0)) fun x4 =>
  if x4 = none then
    f_X1_fit_b15 N  a0 σ2
  else
    if 0 ≤ i1 then
      ob (o_at σ2 [20] (some a0)) fun a7 =>
      bd (f_X1_layHeard N a7  σ2) fun _ σ6 =>
      ob (o_gI σ6 [20] 18 (some a0)) fun x8 =>
      if x8 ≤ i1 then
        ob (o_at σ6 [20] (some a0)) fun a11 =>
        bd (f_X1_no N a11 (1 : Int32) σ6) fun x9 σ10 =>
        some (x9, σ10)
      else
        ob (o_gR σ6 [20] 17 (some a0)) fun x12 =>
        ob (o_aI σ6 1 x12 i1) fun x13 =>
        some (x13, σ6)
    else
      f_X1_fit_b15 N  a0 σ2
def f_X7_fit_b66 (N : Nat) (K26 : Nat → Int32 → Int32 → Int32 → Mem → Option (Int32 × Mem)) (a0 : Nat) (l1 : Int32) (l2 : Int32) (l3 : Int32) (σ : Mem) : Option (Int32 × Mem) :=
  K26 a0 l1 l2 (l3 + (1 : Int32)) σ
def f_X7_fit_b26B (N : Nat)  (K26 : Nat → Int32 → Int32 → Int32 → Mem → Option (Int32 × Mem)) (a0 : Nat) (l1 : Int32) (l2 : Int32) (l3 : Int32) (σ : Mem) : Option (Int32 × Mem) :=
  ob (o_gR σ [26] 3 (some a0)) fun x1 =>
  ob (o_at σ [40] x1) fun a4 =>
  bd (f_X24_cases N a4  σ) fun x2 σ3 =>
  if x2 ≤ l3 then
    ob (o_at σ3 [26] (some a0)) fun a7 =>
    bd (f_X7_refused N a7 (1 : Int32) σ3) fun x5 σ6 =>
    some (x5, σ6)
  else
    ob (o_at σ3 [26] (some a0)) fun a10 =>
    bd (f_X7_heard N a10  σ3) fun x8 σ9 =>
    ob (o_at σ9 [26] (some a0)) fun a13 =>
    bd (f_X7_areTrue N a13 l3 x8 σ9) fun x11 σ12 =>
    if x11 = 0 then
      f_X7_fit_b66 N K26 a0 l1 l2 l3 σ12
    else
      if l2 = l1 then
        ob (o_at σ12 [26] (some a0)) fun a16 =>
        bd (f_X7_good N a16 l3 σ12) fun x14 σ15 =>
        some (x14, σ15)
      else
        f_X7_fit_b66 N K26 a0 l1 (l2 + (1 : Int32)) l3 σ12
def f_X7_fit_b26 (N : Nat)  : Nat → Nat → Int32 → Int32 → Int32 → Mem → Option (Int32 × Mem)
  | 0, _, _, _, _, _ => none
  | n + 1, a0, l1, l2, l3, σ => f_X7_fit_b26B N  (f_X7_fit_b26 N  n) a0 l1 l2 l3 σ
def f_X7_fit (N : Nat) (a0 : Nat) (i1 : Int32) (σ : Mem) : Option (Int32 × Mem) :=
  ob (o_pI σ 0 [26] 0 (some a0) (0 : Int32)) fun σ1 =>
  ob (o_gR σ1 [26] 3 (some a0)) fun x2 =>
  if x2 = none then
    ob (o_at σ1 [26] (some a0)) fun a8 =>
    bd (f_X7_refused N a8 (1 : Int32) σ1) fun x6 σ7 =>
    some (x6, σ7)
  else
    ob (o_at σ1 [26] (some a0)) fun a5 =>
    bd (f_X7_laysHonest N a5  σ1) fun _ σ4 =>
    f_X7_fit_b26 N  N a0 i1 (0 : Int32) (0 : Int32) σ4
def f_X1_hourWhy (N : Nat) (a0 : Nat) (i1 : Int32) (i2 : Int32) (σ : Mem) : Option (Int32 × Mem) :=
  ob (o_at σ [20] (some a0)) fun a3 =>
  bd (f_X1_isPerson N a3 i1 σ) fun x1 σ2 =>
  if x1 = 0 then
    some ((1 : Int32), σ2)
  else
    ob (o_at σ2 [20] (some a0)) fun a6 =>
    bd (f_X1_isHour N a6 i2 σ2) fun x4 σ5 =>
    if x4 = 0 then
      some ((2 : Int32), σ5)
    else
      some ((0 : Int32), σ5)
def f_X1_couldBe_b58 (N : Nat) (K5 : Nat → Int32 → Int32 → Int32 → Int32 → Mem → Option (Int32 × Mem)) (a0 : Nat) (l1 : Int32) (l2 : Int32) (l3 : Int32) (l4 : Int32) (σ : Mem) : Option (Int32 × Mem) :=
  K5 a0 l1 l2 l3 (l4 + (1 : Int32)) σ
def f_X1_couldBe_b5B (N : Nat)  (K5 : Nat → Int32 → Int32 → Int32 → Int32 → Mem → Option (Int32 × Mem)) (a0 : Nat) (l1 : Int32) (l2 : Int32) (l3 : Int32) (l4 : Int32) (σ : Mem) : Option (Int32 × Mem) :=
  ob (o_gI σ [20] 18 (some a0)) fun x1 =>
  if x1 ≤ l4 then
    some (l3, σ)
  else
    ob (o_gR σ [20] 3 (some a0)) fun x2 =>
    ob (o_gR σ [20] 17 (some a0)) fun x3 =>
    ob (o_aI σ 1 x3 l4) fun x4 =>
    ob (o_at σ [27] x2) fun a7 =>
    bd (f_X8_storyOf N a7 x4 l1 σ) fun x5 σ6 =>
    if x5 = (-2 : Int32) then
      f_X1_couldBe_b58 N K5 a0 l1 l2 l3 l4 σ6
    else
      ob (o_gR σ6 [20] 3 (some a0)) fun x8 =>
      ob (o_gR σ6 [27] 5 x8) fun x9 =>
      ob (o_aR σ6 7 x9 l1) fun x10 =>
      ob (o_at σ6 [29] x10) fun a13 =>
      bd (f_X11_at N a13 x5 l2 σ6) fun x11 σ12 =>
      f_X1_couldBe_b58 N K5 a0 l1 l2 (l3 ||| ((1 : Int32) <<< (x11 &&& 31))) l4 σ12
def f_X1_couldBe_b5 (N : Nat)  : Nat → Nat → Int32 → Int32 → Int32 → Int32 → Mem → Option (Int32 × Mem)
  | 0, _, _, _, _, _, _ => none
  | n + 1, a0, l1, l2, l3, l4, σ => f_X1_couldBe_b5B N  (f_X1_couldBe_b5 N  n) a0 l1 l2 l3 l4 σ
def f_X1_couldBe (N : Nat) (a0 : Nat) (i1 : Int32) (i2 : Int32) (σ : Mem) : Option (Int32 × Mem) :=
  f_X1_couldBe_b5 N  N a0 i1 i2 (0 : Int32) (0 : Int32) σ
def f_X1_could (N : Nat) (a0 : Nat) (i1 : Int32) (i2 : Int32) (σ : Mem) : Option (Int32 × Mem) :=
  ob (o_at σ [20] (some a0)) fun a3 =>
  bd (f_X1_anew N a3  σ) fun _ σ2 =>
  ob (o_at σ2 [20] (some a0)) fun a6 =>
  bd (f_X1_hourWhy N a6 i1 i2 σ2) fun x4 σ5 =>
  if x4 = 0 then
    ob (o_at σ5 [20] (some a0)) fun a9 =>
    bd (f_X1_layHeard N a9  σ5) fun _ σ8 =>
    ob (o_at σ8 [20] (some a0)) fun a12 =>
    bd (f_X1_couldBe N a12 i1 i2 σ8) fun x10 σ11 =>
    some (x10, σ11)
  else
    ob (o_at σ5 [20] (some a0)) fun a15 =>
    bd (f_X1_no N a15 x4 σ5) fun x13 σ14 =>
    some (x13, σ14)
def f_X7_refusesPerson (N : Nat) (a0 : Nat) (i1 : Int32) (i2 : Int32) (σ : Mem) : Option (Int32 × Mem) :=
  ob (o_at σ [26] (some a0)) fun a3 =>
  bd (f_X7_isPerson N a3 i1 σ) fun x1 σ2 =>
  if x1 = 0 then
    some ((1 : Int32), σ2)
  else
    ob (o_at σ2 [26] (some a0)) fun a6 =>
    bd (f_X7_isHour N a6 i2 σ2) fun x4 σ5 =>
    if x4 = 0 then
      some ((2 : Int32), σ5)
    else
      some ((0 : Int32), σ5)
def f_X7_couldBe_b58 (N : Nat) (K6 : Nat → Int32 → Int32 → Int32 → Int32 → Int32 → Mem → Option (Int32 × Mem)) (a0 : Nat) (l1 : Int32) (l2 : Int32) (l3 : Int32) (l4 : Int32) (l5 : Int32) (σ : Mem) : Option (Int32 × Mem) :=
  K6 a0 l1 l2 l3 l4 (l5 + (1 : Int32)) σ
def f_X7_couldBe_b6B (N : Nat)  (K6 : Nat → Int32 → Int32 → Int32 → Int32 → Int32 → Mem → Option (Int32 × Mem)) (a0 : Nat) (l1 : Int32) (l2 : Int32) (l3 : Int32) (l4 : Int32) (l5 : Int32) (σ : Mem) : Option (Int32 × Mem) :=
  ob (o_gR σ [26] 3 (some a0)) fun x1 =>
  ob (o_at σ [40] x1) fun a4 =>
  bd (f_X24_cases N a4  σ) fun x2 σ3 =>
  if x2 ≤ l5 then
    some (l4, σ3)
  else
    ob (o_gR σ3 [26] 3 (some a0)) fun x5 =>
    ob (o_gR σ3 [40] 19 x5) fun x6 =>
    ob (o_aI σ3 1 x6 l1) fun x7 =>
    if x7 ≤ 0 then
      f_X7_couldBe_b58 N K6 a0 l1 l2 l3 l4 l5 σ3
    else
      ob (o_at σ3 [26] (some a0)) fun a10 =>
      bd (f_X7_areTrue N a10 l5 l3 σ3) fun x8 σ9 =>
      if x8 = 0 then
        f_X7_couldBe_b58 N K6 a0 l1 l2 l3 l4 l5 σ9
      else
        ob (o_gR σ9 [26] 3 (some a0)) fun x11 =>
        ob (o_at σ9 [40] x11) fun a14 =>
        bd (f_X24_placeIn N a14 l5 l1 l2 σ9) fun x12 σ13 =>
        f_X7_couldBe_b58 N K6 a0 l1 l2 l3 (l4 ||| ((1 : Int32) <<< (x12 &&& 31))) l5 σ13
def f_X7_couldBe_b6 (N : Nat)  : Nat → Nat → Int32 → Int32 → Int32 → Int32 → Int32 → Mem → Option (Int32 × Mem)
  | 0, _, _, _, _, _, _, _ => none
  | n + 1, a0, l1, l2, l3, l4, l5, σ => f_X7_couldBe_b6B N  (f_X7_couldBe_b6 N  n) a0 l1 l2 l3 l4 l5 σ
def f_X7_couldBe (N : Nat) (a0 : Nat) (i1 : Int32) (i2 : Int32) (i3 : Int32) (σ : Mem) : Option (Int32 × Mem) :=
  f_X7_couldBe_b6 N  N a0 i1 i2 i3 (0 : Int32) (0 : Int32) σ
def f_X7_could (N : Nat) (a0 : Nat) (i1 : Int32) (i2 : Int32) (σ : Mem) : Option (Int32 × Mem) :=
  ob (o_pI σ 0 [26] 0 (some a0) (0 : Int32)) fun σ1 =>
  ob (o_at σ1 [26] (some a0)) fun a4 =>
  bd (f_X7_refusesPerson N a4 i1 i2 σ1) fun x2 σ3 =>
  if x2 ≤ 0 then
    ob (o_at σ3 [26] (some a0)) fun a7 =>
    bd (f_X7_laysHonest N a7  σ3) fun _ σ6 =>
    ob (o_at σ6 [26] (some a0)) fun a10 =>
    bd (f_X7_heard N a10  σ6) fun x8 σ9 =>
    ob (o_at σ9 [26] (some a0)) fun a13 =>
    bd (f_X7_couldBe N a13 i1 i2 x8 σ9) fun x11 σ12 =>
    ob (o_at σ12 [26] (some a0)) fun a16 =>
    bd (f_X7_good N a16 x11 σ12) fun x14 σ15 =>
    some (x14, σ15)
  else
    ob (o_at σ3 [26] (some a0)) fun a19 =>
    bd (f_X7_refused N a19 x2 σ3) fun x17 σ18 =>
    some (x17, σ18)
def f_X1_surely_b36B (N : Nat)  (K36 : Nat → Int32 → Int32 → Mem → Option (Int32 × Mem)) (a0 : Nat) (l4 : Int32) (l5 : Int32) (σ : Mem) : Option (Int32 × Mem) :=
  ob (o_gR σ [20] 3 (some a0)) fun x1 =>
  ob (o_gI σ [27] 13 x1) fun x2 =>
  if x2 ≤ l5 then
    some ((-2 : Int32), σ)
  else
    if l4 = ((1 : Int32) <<< (l5 &&& 31)) then
      some (l5, σ)
    else
      K36 a0 l4 (l5 + (1 : Int32)) σ
def f_X1_surely_b36 (N : Nat)  : Nat → Nat → Int32 → Int32 → Mem → Option (Int32 × Mem)
  | 0, _, _, _, _ => none
  | n + 1, a0, l4, l5, σ => f_X1_surely_b36B N  (f_X1_surely_b36 N  n) a0 l4 l5 σ
def f_X1_surely (N : Nat) (a0 : Nat) (i1 : Int32) (i2 : Int32) (σ : Mem) : Option (Int32 × Mem) :=
  ob (o_at σ [20] (some a0)) fun a3 =>
  bd (f_X1_anew N a3  σ) fun _ σ2 =>
  ob (o_at σ2 [20] (some a0)) fun a6 =>
  bd (f_X1_hourWhy N a6 i1 i2 σ2) fun x4 σ5 =>
  if x4 = 0 then
    ob (o_at σ5 [20] (some a0)) fun a9 =>
    bd (f_X1_layHeard N a9  σ5) fun _ σ8 =>
    ob (o_at σ8 [20] (some a0)) fun a12 =>
    bd (f_X1_couldBe N a12 i1 i2 σ8) fun x10 σ11 =>
    f_X1_surely_b36 N  N a0 x10 (0 : Int32) σ11
  else
    ob (o_at σ5 [20] (some a0)) fun a15 =>
    bd (f_X1_no N a15 x4 σ5) fun x13 σ14 =>
    some (x13, σ14)
def f_X7_surely_b41B (N : Nat)  (K41 : Nat → Int32 → Int32 → Mem → Option (Int32 × Mem)) (a0 : Nat) (l4 : Int32) (l5 : Int32) (σ : Mem) : Option (Int32 × Mem) :=
  ob (o_gR σ [26] 3 (some a0)) fun x1 =>
  ob (o_gI σ [40] 2 x1) fun x2 =>
  if x2 ≤ l5 then
    ob (o_at σ [26] (some a0)) fun a5 =>
    bd (f_X7_good N a5 (-2 : Int32) σ) fun x3 σ4 =>
    some (x3, σ4)
  else
    if l4 = ((1 : Int32) <<< (l5 &&& 31)) then
      ob (o_at σ [26] (some a0)) fun a8 =>
      bd (f_X7_good N a8 l5 σ) fun x6 σ7 =>
      some (x6, σ7)
    else
      K41 a0 l4 (l5 + (1 : Int32)) σ
def f_X7_surely_b41 (N : Nat)  : Nat → Nat → Int32 → Int32 → Mem → Option (Int32 × Mem)
  | 0, _, _, _, _ => none
  | n + 1, a0, l4, l5, σ => f_X7_surely_b41B N  (f_X7_surely_b41 N  n) a0 l4 l5 σ
def f_X7_surely (N : Nat) (a0 : Nat) (i1 : Int32) (i2 : Int32) (σ : Mem) : Option (Int32 × Mem) :=
  ob (o_pI σ 0 [26] 0 (some a0) (0 : Int32)) fun σ1 =>
  ob (o_at σ1 [26] (some a0)) fun a4 =>
  bd (f_X7_refusesPerson N a4 i1 i2 σ1) fun x2 σ3 =>
  if x2 ≤ 0 then
    ob (o_at σ3 [26] (some a0)) fun a7 =>
    bd (f_X7_laysHonest N a7  σ3) fun _ σ6 =>
    ob (o_at σ6 [26] (some a0)) fun a10 =>
    bd (f_X7_heard N a10  σ6) fun x8 σ9 =>
    ob (o_at σ9 [26] (some a0)) fun a13 =>
    bd (f_X7_couldBe N a13 i1 i2 x8 σ9) fun x11 σ12 =>
    f_X7_surely_b41 N  N a0 x11 (0 : Int32) σ12
  else
    ob (o_at σ3 [26] (some a0)) fun a16 =>
    bd (f_X7_refused N a16 x2 σ3) fun x14 σ15 =>
    some (x14, σ15)
def f_X1_lies_b89 (N : Nat) (K41 : Nat → Int32 → Int32 → Int32 → Mem → Option (Int32 × Mem)) (a0 : Nat) (l1 : Int32) (l2 : Int32) (l3 : Int32) (σ : Mem) : Option (Int32 × Mem) :=
  K41 a0 l1 l2 (l3 + (1 : Int32)) σ
def f_X1_lies_b41B (N : Nat)  (K41 : Nat → Int32 → Int32 → Int32 → Mem → Option (Int32 × Mem)) (a0 : Nat) (l1 : Int32) (l2 : Int32) (l3 : Int32) (σ : Mem) : Option (Int32 × Mem) :=
  ob (o_gI σ [20] 18 (some a0)) fun x1 =>
  if x1 ≤ l3 then
    some (l2, σ)
  else
    ob (o_gR σ [20] 3 (some a0)) fun x2 =>
    ob (o_gR σ [20] 17 (some a0)) fun x3 =>
    ob (o_aI σ 1 x3 l3) fun x4 =>
    ob (o_at σ [27] x2) fun a7 =>
    bd (f_X8_storyOf N a7 x4 l1 σ) fun x5 σ6 =>
    if x5 = (-2 : Int32) then
      f_X1_lies_b89 N K41 a0 l1 l2 l3 σ6
    else
      ob (o_gR σ6 [20] 3 (some a0)) fun x8 =>
      ob (o_gR σ6 [20] 17 (some a0)) fun x9 =>
      ob (o_aI σ6 1 x9 l3) fun x10 =>
      ob (o_at σ6 [27] x8) fun a13 =>
      bd (f_X8_storyOf N a13 x10 l1 σ6) fun x11 σ12 =>
      f_X1_lies_b89 N K41 a0 l1 (l2 &&& (((1 : Int32) <<< (x11 &&& 31)) ^^^ (-1 : Int32))) l3 σ12
def f_X1_lies_b41 (N : Nat)  : Nat → Nat → Int32 → Int32 → Int32 → Mem → Option (Int32 × Mem)
  | 0, _, _, _, _, _ => none
  | n + 1, a0, l1, l2, l3, σ => f_X1_lies_b41B N  (f_X1_lies_b41 N  n) a0 l1 l2 l3 σ
def f_X1_lies (N : Nat) (a0 : Nat) (i1 : Int32) (σ : Mem) : Option (Int32 × Mem) :=
  ob (o_at σ [20] (some a0)) fun a3 =>
  bd (f_X1_anew N a3  σ) fun _ σ2 =>
  ob (o_at σ2 [20] (some a0)) fun a6 =>
  bd (f_X1_isPerson N a6 i1 σ2) fun x4 σ5 =>
  if x4 = 0 then
    ob (o_at σ5 [20] (some a0)) fun a16 =>
    bd (f_X1_no N a16 (1 : Int32) σ5) fun x14 σ15 =>
    some (x14, σ15)
  else
    ob (o_at σ5 [20] (some a0)) fun a9 =>
    bd (f_X1_layHeard N a9  σ5) fun _ σ8 =>
    ob (o_gR σ8 [20] 3 (some a0)) fun x10 =>
    ob (o_gR σ8 [27] 5 x10) fun x11 =>
    ob (o_aR σ8 7 x11 i1) fun x12 =>
    ob (o_gI σ8 [29] 2 x12) fun x13 =>
    f_X1_lies_b41 N  N a0 i1 (((1 : Int32) <<< (x13 &&& 31)) - (1 : Int32)) (0 : Int32) σ8
def f_X7_lies_b90 (N : Nat) (K39 : Nat → Int32 → Int32 → Int32 → Mem → Option (Int32 × Mem)) (a0 : Nat) (l1 : Int32) (l2 : Int32) (l3 : Int32) (σ : Mem) : Option (Int32 × Mem) :=
  K39 a0 l1 l2 (l3 + (1 : Int32)) σ
def f_X7_lies_b39B (N : Nat)  (K39 : Nat → Int32 → Int32 → Int32 → Mem → Option (Int32 × Mem)) (a0 : Nat) (l1 : Int32) (l2 : Int32) (l3 : Int32) (σ : Mem) : Option (Int32 × Mem) :=
  ob (o_gR σ [26] 3 (some a0)) fun x1 =>
  ob (o_at σ [40] x1) fun a4 =>
  bd (f_X24_cases N a4  σ) fun x2 σ3 =>
  if x2 ≤ l3 then
    ob (o_at σ3 [26] (some a0)) fun a7 =>
    bd (f_X7_good N a7 l2 σ3) fun x5 σ6 =>
    some (x5, σ6)
  else
    ob (o_gR σ3 [26] 3 (some a0)) fun x8 =>
    ob (o_gR σ3 [40] 19 x8) fun x9 =>
    ob (o_aI σ3 1 x9 l1) fun x10 =>
    if x10 ≤ 0 then
      f_X7_lies_b90 N K39 a0 l1 l2 l3 σ3
    else
      ob (o_at σ3 [26] (some a0)) fun a13 =>
      bd (f_X7_heard N a13  σ3) fun x11 σ12 =>
      ob (o_at σ12 [26] (some a0)) fun a16 =>
      bd (f_X7_areTrue N a16 l3 x11 σ12) fun x14 σ15 =>
      if x14 = 0 then
        f_X7_lies_b90 N K39 a0 l1 l2 l3 σ15
      else
        ob (o_gR σ15 [26] 3 (some a0)) fun x17 =>
        ob (o_at σ15 [40] x17) fun a20 =>
        bd (f_X24_storyOf N a20 l3 l1 σ15) fun x18 σ19 =>
        f_X7_lies_b90 N K39 a0 l1 (l2 &&& (((1 : Int32) <<< (x18 &&& 31)) ^^^ (-1 : Int32))) l3 σ19
def f_X7_lies_b39 (N : Nat)  : Nat → Nat → Int32 → Int32 → Int32 → Mem → Option (Int32 × Mem)
  | 0, _, _, _, _, _ => none
  | n + 1, a0, l1, l2, l3, σ => f_X7_lies_b39B N  (f_X7_lies_b39 N  n) a0 l1 l2 l3 σ
def f_X7_lies (N : Nat) (a0 : Nat) (i1 : Int32) (σ : Mem) : Option (Int32 × Mem) :=
  ob (o_pI σ 0 [26] 0 (some a0) (0 : Int32)) fun σ1 =>
  ob (o_at σ1 [26] (some a0)) fun a4 =>
  bd (f_X7_isPerson N a4 i1 σ1) fun x2 σ3 =>
  if x2 = 0 then
    ob (o_at σ3 [26] (some a0)) fun a13 =>
    bd (f_X7_refused N a13 (1 : Int32) σ3) fun x11 σ12 =>
    some (x11, σ12)
  else
    ob (o_at σ3 [26] (some a0)) fun a7 =>
    bd (f_X7_laysHonest N a7  σ3) fun _ σ6 =>
    ob (o_gR σ6 [26] 3 (some a0)) fun x8 =>
    ob (o_gR σ6 [40] 19 x8) fun x9 =>
    ob (o_aI σ6 1 x9 i1) fun x10 =>
    f_X7_lies_b39 N  N a0 i1 (((1 : Int32) <<< (x10 &&& 31)) - (1 : Int32)) (0 : Int32) σ6
def f_X1_ones_b4B (N : Nat)  (K4 : Int32 → Int32 → Mem → Option (Int32 × Mem)) (l1 : Int32) (l2 : Int32) (σ : Mem) : Option (Int32 × Mem) :=
  if l2 = 0 then
    some (l1, σ)
  else
    K4 (l1 + (1 : Int32)) (l2 &&& (l2 - (1 : Int32))) σ
def f_X1_ones_b4 (N : Nat)  : Nat → Int32 → Int32 → Mem → Option (Int32 × Mem)
  | 0, _, _, _ => none
  | n + 1, l1, l2, σ => f_X1_ones_b4B N  (f_X1_ones_b4 N  n) l1 l2 σ
def f_X1_ones (N : Nat) (i0 : Int32) (σ : Mem) : Option (Int32 × Mem) :=
  f_X1_ones_b4 N  N (0 : Int32) i0 σ
def f_X1_isFewer_b27 (N : Nat)   (σ : Mem) : Option (Int32 × Mem) :=
  ob (o_nr 1 (1 : Int32)) fun _ => some ((1 : Int32), σ)
def f_X1_isFewer_b31 (N : Nat)   (σ : Mem) : Option (Int32 × Mem) :=
  ob (o_nr 1 (0 : Int32)) fun _ => some ((0 : Int32), σ)
def f_X1_isFewer (N : Nat) (i0 : Int32) (i1 : Int32) (σ : Mem) : Option (Int32 × Mem) :=
  bd (f_X1_ones N i0 σ) fun x1 σ2 =>
  bd (f_X1_ones N i1 σ2) fun x3 σ4 =>
  if x1 < x3 then
    f_X1_isFewer_b27 N   σ4
  else
    bd (f_X1_ones N i0 σ4) fun x5 σ6 =>
    bd (f_X1_ones N i1 σ6) fun x7 σ8 =>
    if x5 = x7 then
      if i1 ≤ i0 then
        f_X1_isFewer_b31 N   σ8
      else
        f_X1_isFewer_b27 N   σ8
    else
      f_X1_isFewer_b31 N   σ8
def f_X1_falseOnes_b80 (N : Nat) (K41 : Nat → Int32 → Int32 → Int32 → Mem → Option (Int32 × Mem)) (a0 : Nat) (l1 : Int32) (l2 : Int32) (l3 : Int32) (σ : Mem) : Option (Int32 × Mem) :=
  K41 a0 l1 l2 (l3 + (1 : Int32)) σ
def f_X1_falseOnes_b41B (N : Nat)  (K41 : Nat → Int32 → Int32 → Int32 → Mem → Option (Int32 × Mem)) (a0 : Nat) (l1 : Int32) (l2 : Int32) (l3 : Int32) (σ : Mem) : Option (Int32 × Mem) :=
  ob (o_gR σ [20] 3 (some a0)) fun x1 =>
  ob (o_at σ [27] x1) fun a4 =>
  bd (f_X8_cases N a4  σ) fun x2 σ3 =>
  if x2 ≤ l3 then
    some (l2, σ3)
  else
    ob (o_gR σ3 [20] 16 (some a0)) fun x5 =>
    ob (o_aI σ3 1 x5 l3) fun x6 =>
    bd (f_X1_isFewer N (l1 &&& (x6 ^^^ (-1 : Int32))) l2 σ3) fun x7 σ8 =>
    if x7 = 0 then
      f_X1_falseOnes_b80 N K41 a0 l1 l2 l3 σ8
    else
      ob (o_gR σ8 [20] 16 (some a0)) fun x9 =>
      ob (o_aI σ8 1 x9 l3) fun x10 =>
      f_X1_falseOnes_b80 N K41 a0 l1 (l1 &&& (x10 ^^^ (-1 : Int32))) l3 σ8
def f_X1_falseOnes_b41 (N : Nat)  : Nat → Nat → Int32 → Int32 → Int32 → Mem → Option (Int32 × Mem)
  | 0, _, _, _, _, _ => none
  | n + 1, a0, l1, l2, l3, σ => f_X1_falseOnes_b41B N  (f_X1_falseOnes_b41 N  n) a0 l1 l2 l3 σ
def f_X1_falseOnes (N : Nat) (a0 : Nat) (σ : Mem) : Option (Int32 × Mem) :=
  ob (o_at σ [20] (some a0)) fun a3 =>
  bd (f_X1_anew N a3  σ) fun _ σ2 =>
  ob (o_gR σ2 [20] 3 (some a0)) fun x4 =>
  if x4 = none then
    ob (o_at σ2 [20] (some a0)) fun a16 =>
    bd (f_X1_no N a16 (1 : Int32) σ2) fun x14 σ15 =>
    some (x14, σ15)
  else
    ob (o_at σ2 [20] (some a0)) fun a7 =>
    bd (f_X1_layTruth N a7  σ2) fun _ σ6 =>
    ob (o_gR σ6 [20] 9 (some a0)) fun x8 =>
    ob (o_gI σ6 [23] 3 x8) fun x9 =>
    ob (o_gR σ6 [20] 3 (some a0)) fun x10 =>
    ob (o_at σ6 [27] x10) fun a13 =>
    bd (f_X8_clueGoats N a13  σ6) fun x11 σ12 =>
    f_X1_falseOnes_b41 N  N a0 (x9 &&& x11) (x9 &&& x11) (0 : Int32) σ12
def f_X7_anyFits_b2B (N : Nat)  (K2 : Nat → Int32 → Int32 → Mem → Option (Int32 × Mem)) (a0 : Nat) (l1 : Int32) (l2 : Int32) (σ : Mem) : Option (Int32 × Mem) :=
  ob (o_gR σ [26] 3 (some a0)) fun x1 =>
  ob (o_at σ [40] x1) fun a4 =>
  bd (f_X24_cases N a4  σ) fun x2 σ3 =>
  if x2 ≤ l2 then
    ob (o_nr 1 (0 : Int32)) fun _ => some ((0 : Int32), σ3)
  else
    ob (o_at σ3 [26] (some a0)) fun a7 =>
    bd (f_X7_areTrue N a7 l2 l1 σ3) fun x5 σ6 =>
    if x5 = 0 then
      K2 a0 l1 (l2 + (1 : Int32)) σ6
    else
      ob (o_nr 1 (1 : Int32)) fun _ => some ((1 : Int32), σ6)
def f_X7_anyFits_b2 (N : Nat)  : Nat → Nat → Int32 → Int32 → Mem → Option (Int32 × Mem)
  | 0, _, _, _, _ => none
  | n + 1, a0, l1, l2, σ => f_X7_anyFits_b2B N  (f_X7_anyFits_b2 N  n) a0 l1 l2 σ
def f_X7_anyFits (N : Nat) (a0 : Nat) (i1 : Int32) (σ : Mem) : Option (Int32 × Mem) :=
  f_X7_anyFits_b2 N  N a0 i1 (0 : Int32) σ
def f_X7_falseOnes_b80 (N : Nat) (K27 : Nat → Int32 → Int32 → Mem → Option (Int32 × Mem)) (a0 : Nat) (l1 : Int32) (l2 : Int32) (σ : Mem) : Option (Int32 × Mem) :=
  K27 a0 l1 (l2 + (1 : Int32)) σ
def f_X7_falseOnes_b63 (N : Nat) (K27 : Nat → Int32 → Int32 → Mem → Option (Int32 × Mem)) (a0 : Nat) (l1 : Int32) (l2 : Int32) (σ : Mem) : Option (Int32 × Mem) :=
  ob (o_at σ [26] (some a0)) fun a3 =>
  bd (f_X7_heard N a3  σ) fun x1 σ2 =>
  ob (o_at σ2 [26] (some a0)) fun a6 =>
  bd (f_X7_anyFits N a6 (x1 &&& (l2 ^^^ (-1 : Int32))) σ2) fun x4 σ5 =>
  if x4 = 0 then
    f_X7_falseOnes_b80 N K27 a0 l1 l2 σ5
  else
    f_X7_falseOnes_b80 N K27 a0 l2 l2 σ5
def f_X7_falseOnes_b27B (N : Nat)  (K27 : Nat → Int32 → Int32 → Mem → Option (Int32 × Mem)) (a0 : Nat) (l1 : Int32) (l2 : Int32) (σ : Mem) : Option (Int32 × Mem) :=
  ob (o_at σ [26] (some a0)) fun a3 =>
  bd (f_X7_allGoats N a3  σ) fun x1 σ2 =>
  if x1 < l2 then
    ob (o_at σ2 [26] (some a0)) fun a6 =>
    bd (f_X7_good N a6 l1 σ2) fun x4 σ5 =>
    some (x4, σ5)
  else
    ob (o_at σ2 [26] (some a0)) fun a9 =>
    bd (f_X7_heard N a9  σ2) fun x7 σ8 =>
    if (l2 &&& (x7 ^^^ (-1 : Int32))) = 0 then
      if l1 = (-2 : Int32) then
        f_X7_falseOnes_b63 N K27 a0 l1 l2 σ8
      else
        bd (f_X7_bits N l2 σ8) fun x10 σ11 =>
        bd (f_X7_bits N l1 σ11) fun x12 σ13 =>
        if x12 ≤ x10 then
          f_X7_falseOnes_b80 N K27 a0 l1 l2 σ13
        else
          f_X7_falseOnes_b63 N K27 a0 l1 l2 σ13
    else
      f_X7_falseOnes_b80 N K27 a0 l1 l2 σ8
def f_X7_falseOnes_b27 (N : Nat)  : Nat → Nat → Int32 → Int32 → Mem → Option (Int32 × Mem)
  | 0, _, _, _, _ => none
  | n + 1, a0, l1, l2, σ => f_X7_falseOnes_b27B N  (f_X7_falseOnes_b27 N  n) a0 l1 l2 σ
def f_X7_falseOnes (N : Nat) (a0 : Nat) (σ : Mem) : Option (Int32 × Mem) :=
  ob (o_pI σ 0 [26] 0 (some a0) (0 : Int32)) fun σ1 =>
  ob (o_gR σ1 [26] 3 (some a0)) fun x2 =>
  if x2 = none then
    ob (o_at σ1 [26] (some a0)) fun a8 =>
    bd (f_X7_refused N a8 (1 : Int32) σ1) fun x6 σ7 =>
    some (x6, σ7)
  else
    ob (o_at σ1 [26] (some a0)) fun a5 =>
    bd (f_X7_laysHonest N a5  σ1) fun _ σ4 =>
    f_X7_falseOnes_b27 N  N a0 (-2 : Int32) (0 : Int32) σ4
def f_X1_oddsOf_b91 (N : Nat) (K21 : Nat → Int32 → Int32 → Int32 → Int32 → Mem → Option (Int32 × Mem)) (a0 : Nat) (l1 : Int32) (l2 : Int32) (l3 : Int32) (l4 : Int32) (σ : Mem) : Option (Int32 × Mem) :=
  K21 a0 l1 l2 l3 (l4 + (1 : Int32)) σ
def f_X1_oddsOf_b89 (N : Nat) (K21 : Nat → Int32 → Int32 → Int32 → Int32 → Mem → Option (Int32 × Mem)) (a0 : Nat) (l1 : Int32) (l2 : Int32) (l4 : Int32) (t0 : Int32) (t1 : Int32) (σ : Mem) : Option (Int32 × Mem) :=
  f_X1_oddsOf_b91 N K21 a0 l1 l2 (t0 * t1) l4 σ
def f_X1_oddsOf_b21B (N : Nat)  (K21 : Nat → Int32 → Int32 → Int32 → Int32 → Mem → Option (Int32 × Mem)) (a0 : Nat) (l1 : Int32) (l2 : Int32) (l3 : Int32) (l4 : Int32) (σ : Mem) : Option (Int32 × Mem) :=
  ob (o_gR σ [20] 3 (some a0)) fun x1 =>
  ob (o_gI σ [27] 16 x1) fun x2 =>
  if x2 ≤ l4 then
    some (l3, σ)
  else
    bd (f_X1_has N l2 l4 σ) fun x3 σ4 =>
    if x3 = 0 then
      f_X1_oddsOf_b91 N K21 a0 l1 l2 l3 l4 σ4
    else
      ob (o_gR σ4 [20] 16 (some a0)) fun x5 =>
      ob (o_aI σ4 1 x5 l1) fun x6 =>
      bd (f_X1_has N x6 l4 σ4) fun x7 σ8 =>
      if x7 = 0 then
        ob (o_gR σ8 [20] 3 (some a0)) fun x9 =>
        ob (o_gR σ8 [27] 6 x9) fun x10 =>
        ob (o_aR σ8 8 x10 l4) fun x11 =>
        ob (o_gI σ8 [30, 31, 32, 33] 105 x11) fun x12 =>
        f_X1_oddsOf_b89 N K21 a0 l1 l2 l4 l3 ((10 : Int32) - x12) σ8
      else
        ob (o_gR σ8 [20] 3 (some a0)) fun x13 =>
        ob (o_gR σ8 [27] 6 x13) fun x14 =>
        ob (o_aR σ8 8 x14 l4) fun x15 =>
        ob (o_gI σ8 [30, 31, 32, 33] 105 x15) fun x16 =>
        f_X1_oddsOf_b89 N K21 a0 l1 l2 l4 l3 x16 σ8
def f_X1_oddsOf_b21 (N : Nat)  : Nat → Nat → Int32 → Int32 → Int32 → Int32 → Mem → Option (Int32 × Mem)
  | 0, _, _, _, _, _, _ => none
  | n + 1, a0, l1, l2, l3, l4, σ => f_X1_oddsOf_b21B N  (f_X1_oddsOf_b21 N  n) a0 l1 l2 l3 l4 σ
def f_X1_oddsOf (N : Nat) (a0 : Nat) (i1 : Int32) (σ : Mem) : Option (Int32 × Mem) :=
  ob (o_gR σ [20] 9 (some a0)) fun x1 =>
  ob (o_gI σ [23] 3 x1) fun x2 =>
  ob (o_gR σ [20] 3 (some a0)) fun x3 =>
  ob (o_at σ [27] x3) fun a6 =>
  bd (f_X8_clueGoats N a6  σ) fun x4 σ5 =>
  f_X1_oddsOf_b21 N  N a0 i1 (x2 &&& x4) (1 : Int32) (0 : Int32) σ5
def f_X1_odds (N : Nat) (a0 : Nat) (i1 : Int32) (σ : Mem) : Option (Int32 × Mem) :=
  ob (o_at σ [20] (some a0)) fun a3 =>
  bd (f_X1_anew N a3  σ) fun _ σ2 =>
  ob (o_at σ2 [20] (some a0)) fun a6 =>
  bd (f_X1_isCase N a6 i1 σ2) fun x4 σ5 =>
  if x4 = 0 then
    ob (o_at σ5 [20] (some a0)) fun a15 =>
    bd (f_X1_no N a15 (1 : Int32) σ5) fun x13 σ14 =>
    some (x13, σ14)
  else
    ob (o_at σ5 [20] (some a0)) fun a9 =>
    bd (f_X1_layTruth N a9  σ5) fun _ σ8 =>
    ob (o_at σ8 [20] (some a0)) fun a12 =>
    bd (f_X1_oddsOf N a12 i1 σ8) fun x10 σ11 =>
    some (x10, σ11)
def f_X7_oddsOf_b118 (N : Nat) (K4 : Nat → Int32 → Int32 → Int32 → Mem → Option (Int32 × Mem)) (a0 : Nat) (l1 : Int32) (l2 : Int32) (l3 : Int32) (σ : Mem) : Option (Int32 × Mem) :=
  K4 a0 l1 l2 (l3 + (1 : Int32)) σ
def f_X7_oddsOf_b116 (N : Nat) (K4 : Nat → Int32 → Int32 → Int32 → Mem → Option (Int32 × Mem)) (a0 : Nat) (l1 : Int32) (l3 : Int32) (t0 : Int32) (t1 : Int32) (σ : Mem) : Option (Int32 × Mem) :=
  f_X7_oddsOf_b118 N K4 a0 l1 (t0 * t1) l3 σ
def f_X7_oddsOf_b57 (N : Nat) (K4 : Nat → Int32 → Int32 → Int32 → Mem → Option (Int32 × Mem)) (K21 : Nat → Int32 → Int32 → Int32 → Int32 → Int32 → Mem → Option (Int32 × Mem)) (a0 : Nat) (l1 : Int32) (l2 : Int32) (l3 : Int32) (l5 : Int32) (t0 : Int32) (σ : Mem) : Option (Int32 × Mem) :=
  K21 a0 l1 l2 l3 t0 (l5 + (1 : Int32)) σ
def f_X7_oddsOf_b52 (N : Nat) (K4 : Nat → Int32 → Int32 → Int32 → Mem → Option (Int32 × Mem)) (K21 : Nat → Int32 → Int32 → Int32 → Int32 → Int32 → Mem → Option (Int32 × Mem)) (a0 : Nat) (l1 : Int32) (l2 : Int32) (l3 : Int32) (l5 : Int32) (σ : Mem) : Option (Int32 × Mem) :=
  f_X7_oddsOf_b57 N K4 K21 a0 l1 l2 l3 l5 (1 : Int32) σ
def f_X7_oddsOf_b21B (N : Nat) (K4 : Nat → Int32 → Int32 → Int32 → Mem → Option (Int32 × Mem)) (K21 : Nat → Int32 → Int32 → Int32 → Int32 → Int32 → Mem → Option (Int32 × Mem)) (a0 : Nat) (l1 : Int32) (l2 : Int32) (l3 : Int32) (l4 : Int32) (l5 : Int32) (σ : Mem) : Option (Int32 × Mem) :=
  ob (o_gR σ [26] 3 (some a0)) fun x1 =>
  ob (o_gI σ [40] 7 x1) fun x2 =>
  if x2 ≤ l5 then
    if l4 = 0 then
      f_X7_oddsOf_b118 N K4 a0 l1 l2 l3 σ
    else
      ob (o_at σ [26] (some a0)) fun a5 =>
      bd (f_X7_isHeard N a5 l3 σ) fun x3 σ4 =>
      if x3 = 0 then
        f_X7_oddsOf_b118 N K4 a0 l1 l2 l3 σ4
      else
        ob (o_gR σ4 [26] 29 (some a0)) fun x6 =>
        ob (o_aI σ4 1 x6 l1) fun x7 =>
        bd (f_X7_bit N x7 l3 σ4) fun x8 σ9 =>
        if x8 = 0 then
          ob (o_gR σ9 [26] 3 (some a0)) fun x10 =>
          ob (o_gR σ9 [40] 26 x10) fun x11 =>
          ob (o_aI σ9 1 x11 l3) fun x12 =>
          f_X7_oddsOf_b116 N K4 a0 l1 l3 l2 ((10 : Int32) - x12) σ9
        else
          ob (o_gR σ9 [26] 3 (some a0)) fun x13 =>
          ob (o_gR σ9 [40] 26 x13) fun x14 =>
          ob (o_aI σ9 1 x14 l3) fun x15 =>
          f_X7_oddsOf_b116 N K4 a0 l1 l3 l2 x15 σ9
  else
    if l4 = 0 then
      ob (o_gR σ [26] 3 (some a0)) fun x16 =>
      ob (o_gR σ [40] 29 x16) fun x17 =>
      ob (o_aI σ 1 x17 l5) fun x18 =>
      if x18 = l3 then
        f_X7_oddsOf_b52 N K4 K21 a0 l1 l2 l3 l5 σ
      else
        f_X7_oddsOf_b57 N K4 K21 a0 l1 l2 l3 l5 (0 : Int32) σ
    else
      f_X7_oddsOf_b52 N K4 K21 a0 l1 l2 l3 l5 σ
def f_X7_oddsOf_b21 (N : Nat) (K4 : Nat → Int32 → Int32 → Int32 → Mem → Option (Int32 × Mem)) : Nat → Nat → Int32 → Int32 → Int32 → Int32 → Int32 → Mem → Option (Int32 × Mem)
  | 0, _, _, _, _, _, _, _ => none
  | n + 1, a0, l1, l2, l3, l4, l5, σ => f_X7_oddsOf_b21B N K4 (f_X7_oddsOf_b21 N K4 n) a0 l1 l2 l3 l4 l5 σ
def f_X7_oddsOf_b4B (N : Nat)  (K4 : Nat → Int32 → Int32 → Int32 → Mem → Option (Int32 × Mem)) (a0 : Nat) (l1 : Int32) (l2 : Int32) (l3 : Int32) (σ : Mem) : Option (Int32 × Mem) :=
  ob (o_gR σ [26] 3 (some a0)) fun x1 =>
  ob (o_gI σ [40] 5 x1) fun x2 =>
  if x2 ≤ l3 then
    some (l2, σ)
  else
    f_X7_oddsOf_b21 N K4 N a0 l1 l2 l3 (0 : Int32) (0 : Int32) σ
def f_X7_oddsOf_b4 (N : Nat)  : Nat → Nat → Int32 → Int32 → Int32 → Mem → Option (Int32 × Mem)
  | 0, _, _, _, _, _ => none
  | n + 1, a0, l1, l2, l3, σ => f_X7_oddsOf_b4B N  (f_X7_oddsOf_b4 N  n) a0 l1 l2 l3 σ
def f_X7_oddsOf (N : Nat) (a0 : Nat) (i1 : Int32) (σ : Mem) : Option (Int32 × Mem) :=
  f_X7_oddsOf_b4 N  N a0 i1 (1 : Int32) (0 : Int32) σ
def f_X7_odds (N : Nat) (a0 : Nat) (i1 : Int32) (σ : Mem) : Option (Int32 × Mem) :=
  ob (o_pI σ 0 [26] 0 (some a0) (0 : Int32)) fun σ1 =>
  ob (o_at σ1 [26] (some a0)) fun a4 =>
  bd (f_X7_isCase N a4 i1 σ1) fun x2 σ3 =>
  if x2 = 0 then
    ob (o_at σ3 [26] (some a0)) fun a16 =>
    bd (f_X7_refused N a16 (1 : Int32) σ3) fun x14 σ15 =>
    some (x14, σ15)
  else
    ob (o_at σ3 [26] (some a0)) fun a7 =>
    bd (f_X7_laysHonest N a7  σ3) fun _ σ6 =>
    ob (o_at σ6 [26] (some a0)) fun a10 =>
    bd (f_X7_oddsOf N a10 i1 σ6) fun x8 σ9 =>
    ob (o_at σ9 [26] (some a0)) fun a13 =>
    bd (f_X7_good N a13 x8 σ9) fun x11 σ12 =>
    some (x11, σ12)
def f_X1_likeliest_b51 (N : Nat) (K25 : Nat → Int32 → Int32 → Mem → Option (Int32 × Mem)) (a0 : Nat) (l1 : Int32) (l2 : Int32) (σ : Mem) : Option (Int32 × Mem) :=
  K25 a0 l1 (l2 + (1 : Int32)) σ
def f_X1_likeliest_b25B (N : Nat)  (K25 : Nat → Int32 → Int32 → Mem → Option (Int32 × Mem)) (a0 : Nat) (l1 : Int32) (l2 : Int32) (σ : Mem) : Option (Int32 × Mem) :=
  ob (o_gR σ [20] 3 (some a0)) fun x1 =>
  ob (o_at σ [27] x1) fun a4 =>
  bd (f_X8_cases N a4  σ) fun x2 σ3 =>
  if x2 ≤ l2 then
    some (l1, σ3)
  else
    ob (o_at σ3 [20] (some a0)) fun a7 =>
    bd (f_X1_oddsOf N a7 l2 σ3) fun x5 σ6 =>
    ob (o_at σ6 [20] (some a0)) fun a10 =>
    bd (f_X1_oddsOf N a10 l1 σ6) fun x8 σ9 =>
    if x5 ≤ x8 then
      f_X1_likeliest_b51 N K25 a0 l1 l2 σ9
    else
      f_X1_likeliest_b51 N K25 a0 l2 l2 σ9
def f_X1_likeliest_b25 (N : Nat)  : Nat → Nat → Int32 → Int32 → Mem → Option (Int32 × Mem)
  | 0, _, _, _, _ => none
  | n + 1, a0, l1, l2, σ => f_X1_likeliest_b25B N  (f_X1_likeliest_b25 N  n) a0 l1 l2 σ
def f_X1_likeliest (N : Nat) (a0 : Nat) (σ : Mem) : Option (Int32 × Mem) :=
  ob (o_at σ [20] (some a0)) fun a3 =>
  bd (f_X1_anew N a3  σ) fun _ σ2 =>
  ob (o_gR σ2 [20] 3 (some a0)) fun x4 =>
  if x4 = none then
    ob (o_at σ2 [20] (some a0)) fun a10 =>
    bd (f_X1_no N a10 (1 : Int32) σ2) fun x8 σ9 =>
    some (x8, σ9)
  else
    ob (o_at σ2 [20] (some a0)) fun a7 =>
    bd (f_X1_layTruth N a7  σ2) fun _ σ6 =>
    f_X1_likeliest_b25 N  N a0 (0 : Int32) (1 : Int32) σ6
def f_X7_likeliest_b52 (N : Nat) (K26 : Nat → Int32 → Int32 → Mem → Option (Int32 × Mem)) (a0 : Nat) (l1 : Int32) (l2 : Int32) (σ : Mem) : Option (Int32 × Mem) :=
  K26 a0 l1 (l2 + (1 : Int32)) σ
def f_X7_likeliest_b26B (N : Nat)  (K26 : Nat → Int32 → Int32 → Mem → Option (Int32 × Mem)) (a0 : Nat) (l1 : Int32) (l2 : Int32) (σ : Mem) : Option (Int32 × Mem) :=
  ob (o_gR σ [26] 3 (some a0)) fun x1 =>
  ob (o_at σ [40] x1) fun a4 =>
  bd (f_X24_cases N a4  σ) fun x2 σ3 =>
  if x2 ≤ l2 then
    ob (o_at σ3 [26] (some a0)) fun a7 =>
    bd (f_X7_good N a7 l1 σ3) fun x5 σ6 =>
    some (x5, σ6)
  else
    ob (o_at σ3 [26] (some a0)) fun a10 =>
    bd (f_X7_oddsOf N a10 l2 σ3) fun x8 σ9 =>
    ob (o_at σ9 [26] (some a0)) fun a13 =>
    bd (f_X7_oddsOf N a13 l1 σ9) fun x11 σ12 =>
    if x8 ≤ x11 then
      f_X7_likeliest_b52 N K26 a0 l1 l2 σ12
    else
      f_X7_likeliest_b52 N K26 a0 l2 l2 σ12
def f_X7_likeliest_b26 (N : Nat)  : Nat → Nat → Int32 → Int32 → Mem → Option (Int32 × Mem)
  | 0, _, _, _, _ => none
  | n + 1, a0, l1, l2, σ => f_X7_likeliest_b26B N  (f_X7_likeliest_b26 N  n) a0 l1 l2 σ
def f_X7_likeliest (N : Nat) (a0 : Nat) (σ : Mem) : Option (Int32 × Mem) :=
  ob (o_pI σ 0 [26] 0 (some a0) (0 : Int32)) fun σ1 =>
  ob (o_gR σ1 [26] 3 (some a0)) fun x2 =>
  if x2 = none then
    ob (o_at σ1 [26] (some a0)) fun a8 =>
    bd (f_X7_refused N a8 (1 : Int32) σ1) fun x6 σ7 =>
    some (x6, σ7)
  else
    ob (o_at σ1 [26] (some a0)) fun a5 =>
    bd (f_X7_laysHonest N a5  σ1) fun _ σ4 =>
    f_X7_likeliest_b26 N  N a0 (0 : Int32) (1 : Int32) σ4
def f_X1_proved_b20 (N : Nat)  (a0 : Nat) (σ : Mem) : Option (Int32 × Mem) :=
  ob (o_at σ [20] (some a0)) fun a3 =>
  bd (f_X1_no N a3 (1 : Int32) σ) fun x1 σ2 =>
  some (x1, σ2)
def f_X1_proved_b107 (N : Nat) (K51 : Nat → Int32 → Int32 → Int32 → Int32 → Int32 → Mem → Option (Int32 × Mem)) (a0 : Nat) (l1 : Int32) (l2 : Int32) (l3 : Int32) (l4 : Int32) (l5 : Int32) (σ : Mem) : Option (Int32 × Mem) :=
  K51 a0 l1 l2 l3 l4 (l5 + (1 : Int32)) σ
def f_X1_proved_b85 (N : Nat) (K51 : Nat → Int32 → Int32 → Int32 → Int32 → Int32 → Mem → Option (Int32 × Mem)) (a0 : Nat) (l1 : Int32) (l2 : Int32) (l3 : Int32) (l4 : Int32) (l5 : Int32) (σ : Mem) : Option (Int32 × Mem) :=
  ob (o_at σ [20] (some a0)) fun a3 =>
  bd (f_X1_layFits N a3 l5 σ) fun _ σ2 =>
  ob (o_at σ2 [20] (some a0)) fun a6 =>
  bd (f_X1_couldBe N a6 l1 l3 σ2) fun x4 σ5 =>
  if x4 = ((1 : Int32) <<< (l2 &&& 31)) then
    f_X1_proved_b107 N K51 a0 l1 l2 l3 l5 l5 σ5
  else
    f_X1_proved_b107 N K51 a0 l1 l2 l3 l4 l5 σ5
def f_X1_proved_b51B (N : Nat)  (K51 : Nat → Int32 → Int32 → Int32 → Int32 → Int32 → Mem → Option (Int32 × Mem)) (a0 : Nat) (l1 : Int32) (l2 : Int32) (l3 : Int32) (l4 : Int32) (l5 : Int32) (σ : Mem) : Option (Int32 × Mem) :=
  ob (o_gR σ [20] 3 (some a0)) fun x1 =>
  ob (o_gI σ [27] 16 x1) fun x2 =>
  if ((1 : Int32) <<< (x2 &&& 31)) ≤ l5 then
    some (l4, σ)
  else
    if l4 = (-2 : Int32) then
      f_X1_proved_b85 N K51 a0 l1 l2 l3 l4 l5 σ
    else
      bd (f_X1_isFewer N l5 l4 σ) fun x3 σ4 =>
      if x3 = 0 then
        f_X1_proved_b107 N K51 a0 l1 l2 l3 l4 l5 σ4
      else
        f_X1_proved_b85 N K51 a0 l1 l2 l3 l4 l5 σ4
def f_X1_proved_b51 (N : Nat)  : Nat → Nat → Int32 → Int32 → Int32 → Int32 → Int32 → Mem → Option (Int32 × Mem)
  | 0, _, _, _, _, _, _, _ => none
  | n + 1, a0, l1, l2, l3, l4, l5, σ => f_X1_proved_b51B N  (f_X1_proved_b51 N  n) a0 l1 l2 l3 l4 l5 σ
def f_X1_proved (N : Nat) (a0 : Nat) (i1 : Int32) (i2 : Int32) (i3 : Int32) (σ : Mem) : Option (Int32 × Mem) :=
  ob (o_at σ [20] (some a0)) fun a3 =>
  bd (f_X1_anew N a3  σ) fun _ σ2 =>
  ob (o_at σ2 [20] (some a0)) fun a6 =>
  bd (f_X1_isPerson N a6 i1 σ2) fun x4 σ5 =>
  if x4 = 0 then
    f_X1_proved_b20 N  a0 σ5
  else
    ob (o_at σ5 [20] (some a0)) fun a9 =>
    bd (f_X1_isPlace N a9 i2 σ5) fun x7 σ8 =>
    if x7 = 0 then
      f_X1_proved_b20 N  a0 σ8
    else
      ob (o_at σ8 [20] (some a0)) fun a12 =>
      bd (f_X1_isHour N a12 i3 σ8) fun x10 σ11 =>
      if x10 = 0 then
        ob (o_at σ11 [20] (some a0)) fun a18 =>
        bd (f_X1_no N a18 (2 : Int32) σ11) fun x16 σ17 =>
        some (x16, σ17)
      else
        ob (o_at σ11 [20] (some a0)) fun a15 =>
        bd (f_X1_layTruth N a15  σ11) fun _ σ14 =>
        f_X1_proved_b51 N  N a0 i1 i2 i3 (-2 : Int32) (0 : Int32) σ14
def f_X7_proved_b97 (N : Nat) (K50 : Nat → Int32 → Int32 → Int32 → Int32 → Int32 → Mem → Option (Int32 × Mem)) (a0 : Nat) (l1 : Int32) (l2 : Int32) (l3 : Int32) (l5 : Int32) (l6 : Int32) (σ : Mem) : Option (Int32 × Mem) :=
  K50 a0 l1 l2 l3 l5 (l6 + (1 : Int32)) σ
def f_X7_proved_b79 (N : Nat) (K50 : Nat → Int32 → Int32 → Int32 → Int32 → Int32 → Mem → Option (Int32 × Mem)) (a0 : Nat) (l1 : Int32) (l2 : Int32) (l3 : Int32) (l5 : Int32) (l6 : Int32) (σ : Mem) : Option (Int32 × Mem) :=
  ob (o_at σ [26] (some a0)) fun a3 =>
  bd (f_X7_couldBe N a3 l1 l3 l6 σ) fun x1 σ2 =>
  if x1 = ((1 : Int32) <<< (l2 &&& 31)) then
    f_X7_proved_b97 N K50 a0 l1 l2 l3 l6 l6 σ2
  else
    f_X7_proved_b97 N K50 a0 l1 l2 l3 l5 l6 σ2
def f_X7_proved_b50B (N : Nat)  (K50 : Nat → Int32 → Int32 → Int32 → Int32 → Int32 → Mem → Option (Int32 × Mem)) (a0 : Nat) (l1 : Int32) (l2 : Int32) (l3 : Int32) (l5 : Int32) (l6 : Int32) (σ : Mem) : Option (Int32 × Mem) :=
  ob (o_at σ [26] (some a0)) fun a3 =>
  bd (f_X7_allGoats N a3  σ) fun x1 σ2 =>
  if x1 < l6 then
    ob (o_at σ2 [26] (some a0)) fun a6 =>
    bd (f_X7_good N a6 l5 σ2) fun x4 σ5 =>
    some (x4, σ5)
  else
    if l5 = (-2 : Int32) then
      f_X7_proved_b79 N K50 a0 l1 l2 l3 l5 l6 σ2
    else
      bd (f_X7_bits N l6 σ2) fun x7 σ8 =>
      bd (f_X7_bits N l5 σ8) fun x9 σ10 =>
      if x9 ≤ x7 then
        f_X7_proved_b97 N K50 a0 l1 l2 l3 l5 l6 σ10
      else
        f_X7_proved_b79 N K50 a0 l1 l2 l3 l5 l6 σ10
def f_X7_proved_b50 (N : Nat)  : Nat → Nat → Int32 → Int32 → Int32 → Int32 → Int32 → Mem → Option (Int32 × Mem)
  | 0, _, _, _, _, _, _, _ => none
  | n + 1, a0, l1, l2, l3, l5, l6, σ => f_X7_proved_b50B N  (f_X7_proved_b50 N  n) a0 l1 l2 l3 l5 l6 σ
def f_X7_proved (N : Nat) (a0 : Nat) (i1 : Int32) (i2 : Int32) (i3 : Int32) (σ : Mem) : Option (Int32 × Mem) :=
  ob (o_pI σ 0 [26] 0 (some a0) (0 : Int32)) fun σ1 =>
  ob (o_at σ1 [26] (some a0)) fun a4 =>
  bd (f_X7_isPlace N a4 i2 σ1) fun x2 σ3 =>
  if x2 = 0 then
    ob (o_at σ3 [26] (some a0)) fun a16 =>
    bd (f_X7_refused N a16 (1 : Int32) σ3) fun x14 σ15 =>
    some (x14, σ15)
  else
    ob (o_at σ3 [26] (some a0)) fun a7 =>
    bd (f_X7_refusesPerson N a7 i1 i3 σ3) fun x5 σ6 =>
    if x5 ≤ 0 then
      ob (o_at σ6 [26] (some a0)) fun a10 =>
      bd (f_X7_laysHonest N a10  σ6) fun _ σ9 =>
      f_X7_proved_b50 N  N a0 i1 i2 i3 (-2 : Int32) (0 : Int32) σ9
    else
      ob (o_at σ6 [26] (some a0)) fun a13 =>
      bd (f_X7_refused N a13 x5 σ6) fun x11 σ12 =>
      some (x11, σ12)
def f_X1_tryAsk_b29B (N : Nat)  (K29 : Nat → Int32 → Int32 → Int32 → Int32 → Mem → Option (Unit × Mem)) (a0 : Nat) (l1 : Int32) (l2 : Int32) (l3 : Int32) (l4 : Int32) (σ : Mem) : Option (Unit × Mem) :=
  ob (o_gI σ [20] 18 (some a0)) fun x1 =>
  if x1 ≤ l4 then
    ob (o_gI σ [20] 20 (some a0)) fun x2 =>
    if l3 < x2 then
      ob (o_pI σ 0 [20] 19 (some a0) (((100 : Int32) * l1) + l2)) fun σ3 =>
      ob (o_pI σ3 0 [20] 20 (some a0) l3) fun σ4 =>
      some ((), σ4)
    else
      some ((), σ)
  else
    ob (o_gR σ [20] 17 (some a0)) fun x5 =>
    ob (o_aI σ 1 x5 l4) fun x6 =>
    ob (o_at σ [20] (some a0)) fun a9 =>
    bd (f_X1_run N a9 x6 σ) fun _ σ8 =>
    ob (o_gR σ8 [20] 21 (some a0)) fun x10 =>
    ob (o_gR σ8 [20] 12 (some a0)) fun x11 =>
    ob (o_at σ8 [24] x11) fun a14 =>
    bd (f_X5_at N a14 l1 l2 σ8) fun x12 σ13 =>
    ob (o_aI σ13 1 x10 x12) fun x15 =>
    ob (o_sI σ13 1 x10 x12 (x15 + (1 : Int32))) fun σ16 =>
    ob (o_gR σ16 [20] 21 (some a0)) fun x17 =>
    ob (o_gR σ16 [20] 12 (some a0)) fun x18 =>
    ob (o_at σ16 [24] x18) fun a21 =>
    bd (f_X5_at N a21 l1 l2 σ16) fun x19 σ20 =>
    ob (o_aI σ20 1 x17 x19) fun x22 =>
    K29 a0 l1 l2 (if l3 < x22 then x22 else l3) (l4 + (1 : Int32)) σ20
def f_X1_tryAsk_b29 (N : Nat)  : Nat → Nat → Int32 → Int32 → Int32 → Int32 → Mem → Option (Unit × Mem)
  | 0, _, _, _, _, _, _ => none
  | n + 1, a0, l1, l2, l3, l4, σ => f_X1_tryAsk_b29B N  (f_X1_tryAsk_b29 N  n) a0 l1 l2 l3 l4 σ
def f_X1_tryAsk_b5B (N : Nat)  (K5 : Nat → Int32 → Int32 → Int32 → Int32 → Mem → Option (Unit × Mem)) (a0 : Nat) (l1 : Int32) (l2 : Int32) (l3 : Int32) (l4 : Int32) (σ : Mem) : Option (Unit × Mem) :=
  if (8 : Int32) ≤ l4 then
    f_X1_tryAsk_b29 N  N a0 l1 l2 l3 (0 : Int32) σ
  else
    ob (o_gR σ [20] 21 (some a0)) fun x1 =>
    ob (o_sI σ 1 x1 l4 (0 : Int32)) fun σ2 =>
    K5 a0 l1 l2 l3 (l4 + (1 : Int32)) σ2
def f_X1_tryAsk_b5 (N : Nat)  : Nat → Nat → Int32 → Int32 → Int32 → Int32 → Mem → Option (Unit × Mem)
  | 0, _, _, _, _, _, _ => none
  | n + 1, a0, l1, l2, l3, l4, σ => f_X1_tryAsk_b5B N  (f_X1_tryAsk_b5 N  n) a0 l1 l2 l3 l4 σ
def f_X1_tryAsk (N : Nat) (a0 : Nat) (i1 : Int32) (i2 : Int32) (σ : Mem) : Option (Unit × Mem) :=
  f_X1_tryAsk_b5 N  N a0 i1 i2 (0 : Int32) (0 : Int32) σ
def f_X1_askWhy_b59B (N : Nat) (K46 : Nat → Int32 → Mem → Option (Int32 × Mem)) (K59 : Nat → Int32 → Int32 → Mem → Option (Int32 × Mem)) (a0 : Nat) (l1 : Int32) (l2 : Int32) (σ : Mem) : Option (Int32 × Mem) :=
  ob (o_gR σ [20] 3 (some a0)) fun x1 =>
  ob (o_gI σ [27] 11 x1) fun x2 =>
  if x2 ≤ l2 then
    K46 a0 (l1 + (1 : Int32)) σ
  else
    ob (o_at σ [20] (some a0)) fun a5 =>
    bd (f_X1_tryAsk N a5 l1 l2 σ) fun _ σ4 =>
    K59 a0 l1 (l2 + (1 : Int32)) σ4
def f_X1_askWhy_b59 (N : Nat) (K46 : Nat → Int32 → Mem → Option (Int32 × Mem)) : Nat → Nat → Int32 → Int32 → Mem → Option (Int32 × Mem)
  | 0, _, _, _, _ => none
  | n + 1, a0, l1, l2, σ => f_X1_askWhy_b59B N K46 (f_X1_askWhy_b59 N K46 n) a0 l1 l2 σ
def f_X1_askWhy_b46B (N : Nat)  (K46 : Nat → Int32 → Mem → Option (Int32 × Mem)) (a0 : Nat) (l1 : Int32) (σ : Mem) : Option (Int32 × Mem) :=
  ob (o_gR σ [20] 3 (some a0)) fun x1 =>
  ob (o_gI σ [27] 16 x1) fun x2 =>
  if x2 ≤ l1 then
    some ((0 : Int32), σ)
  else
    f_X1_askWhy_b59 N K46 N a0 l1 (0 : Int32) σ
def f_X1_askWhy_b46 (N : Nat)  : Nat → Nat → Int32 → Mem → Option (Int32 × Mem)
  | 0, _, _, _ => none
  | n + 1, a0, l1, σ => f_X1_askWhy_b46B N  (f_X1_askWhy_b46 N  n) a0 l1 σ
def f_X1_askWhy (N : Nat) (a0 : Nat) (σ : Mem) : Option (Int32 × Mem) :=
  ob (o_gR σ [20] 3 (some a0)) fun x1 =>
  if x1 = none then
    some ((1 : Int32), σ)
  else
    ob (o_at σ [20] (some a0)) fun a4 =>
    bd (f_X1_layHeard N a4  σ) fun _ σ3 =>
    ob (o_gI σ3 [20] 18 (some a0)) fun x5 =>
    if x5 < (2 : Int32) then
      some ((6 : Int32), σ3)
    else
      ob (o_gR σ3 [20] 3 (some a0)) fun x6 =>
      ob (o_gI σ3 [27] 16 x6) fun x7 =>
      if x7 = 0 then
        some ((6 : Int32), σ3)
      else
        ob (o_gI σ3 [20] 18 (some a0)) fun x8 =>
        ob (o_pI σ3 0 [20] 20 (some a0) (x8 + (1 : Int32))) fun σ9 =>
        f_X1_askWhy_b46 N  N a0 (0 : Int32) σ9
def f_X1_ask (N : Nat) (a0 : Nat) (σ : Mem) : Option (Int32 × Mem) :=
  ob (o_at σ [20] (some a0)) fun a3 =>
  bd (f_X1_anew N a3  σ) fun _ σ2 =>
  ob (o_at σ2 [20] (some a0)) fun a6 =>
  bd (f_X1_askWhy N a6  σ2) fun x4 σ5 =>
  if x4 = 0 then
    ob (o_gI σ5 [20] 19 (some a0)) fun x7 =>
    some (x7, σ5)
  else
    ob (o_at σ5 [20] (some a0)) fun a10 =>
    bd (f_X1_no N a10 x4 σ5) fun x8 σ9 =>
    some (x8, σ9)
def f_X7_asks_b270 (N : Nat) (K117 : Nat → Int32 → Int32 → Mem → Option (Int32 × Mem)) (K130 : Nat → Int32 → Int32 → Int32 → Mem → Option (Int32 × Mem)) (a0 : Nat) (l1 : Int32) (l2 : Int32) (l3 : Int32) (σ : Mem) : Option (Int32 × Mem) :=
  K130 a0 l1 l2 (l3 + (1 : Int32)) σ
def f_X7_asks_b234 (N : Nat) (K117 : Nat → Int32 → Int32 → Mem → Option (Int32 × Mem)) (K130 : Nat → Int32 → Int32 → Int32 → Mem → Option (Int32 × Mem)) (K171 : Nat → Int32 → Int32 → Int32 → Int32 → Int32 → Mem → Option (Int32 × Mem)) (a0 : Nat) (l1 : Int32) (l2 : Int32) (l3 : Int32) (l5 : Int32) (t0 : Int32) (σ : Mem) : Option (Int32 × Mem) :=
  K171 a0 l1 l2 l3 t0 (l5 + (1 : Int32)) σ
def f_X7_asks_b171B (N : Nat) (K117 : Nat → Int32 → Int32 → Mem → Option (Int32 × Mem)) (K130 : Nat → Int32 → Int32 → Int32 → Mem → Option (Int32 × Mem)) (K171 : Nat → Int32 → Int32 → Int32 → Int32 → Int32 → Mem → Option (Int32 × Mem)) (a0 : Nat) (l1 : Int32) (l2 : Int32) (l3 : Int32) (l4 : Int32) (l5 : Int32) (σ : Mem) : Option (Int32 × Mem) :=
  if l1 ≤ l5 then
    ob (o_gI σ [26] 31 (some a0)) fun x1 =>
    if l4 < x1 then
      ob (o_pI σ 0 [26] 31 (some a0) l4) fun σ2 =>
      ob (o_pI σ2 0 [26] 30 (some a0) (((100 : Int32) * l2) + l3)) fun σ3 =>
      f_X7_asks_b270 N K117 K130 a0 l1 l2 l3 σ3
    else
      f_X7_asks_b270 N K117 K130 a0 l1 l2 l3 σ
  else
    ob (o_gR σ [26] 33 (some a0)) fun x4 =>
    ob (o_aI σ 1 x4 ((((l5 * (6 : Int32)) * (12 : Int32)) + ((12 : Int32) * l2)) + l3)) fun x5 =>
    ob (o_gR σ [26] 34 (some a0)) fun x6 =>
    ob (o_aI σ 1 x6 x5) fun x7 =>
    ob (o_sI σ 1 x6 x5 (x7 + (1 : Int32))) fun σ8 =>
    ob (o_gR σ8 [26] 34 (some a0)) fun x9 =>
    ob (o_aI σ8 1 x9 x5) fun x10 =>
    if x10 ≤ l4 then
      f_X7_asks_b234 N K117 K130 K171 a0 l1 l2 l3 l5 l4 σ8
    else
      ob (o_gR σ8 [26] 34 (some a0)) fun x11 =>
      ob (o_aI σ8 1 x11 x5) fun x12 =>
      f_X7_asks_b234 N K117 K130 K171 a0 l1 l2 l3 l5 x12 σ8
def f_X7_asks_b171 (N : Nat) (K117 : Nat → Int32 → Int32 → Mem → Option (Int32 × Mem)) (K130 : Nat → Int32 → Int32 → Int32 → Mem → Option (Int32 × Mem)) : Nat → Nat → Int32 → Int32 → Int32 → Int32 → Int32 → Mem → Option (Int32 × Mem)
  | 0, _, _, _, _, _, _, _ => none
  | n + 1, a0, l1, l2, l3, l4, l5, σ => f_X7_asks_b171B N K117 K130 (f_X7_asks_b171 N K117 K130 n) a0 l1 l2 l3 l4 l5 σ
def f_X7_asks_b147B (N : Nat) (K117 : Nat → Int32 → Int32 → Mem → Option (Int32 × Mem)) (K130 : Nat → Int32 → Int32 → Int32 → Mem → Option (Int32 × Mem)) (K147 : Nat → Int32 → Int32 → Int32 → Int32 → Int32 → Mem → Option (Int32 × Mem)) (a0 : Nat) (l1 : Int32) (l2 : Int32) (l3 : Int32) (l4 : Int32) (l5 : Int32) (σ : Mem) : Option (Int32 × Mem) :=
  if (8 : Int32) ≤ l5 then
    f_X7_asks_b171 N K117 K130 N a0 l1 l2 l3 l4 (0 : Int32) σ
  else
    ob (o_gR σ [26] 34 (some a0)) fun x1 =>
    ob (o_sI σ 1 x1 l5 (0 : Int32)) fun σ2 =>
    K147 a0 l1 l2 l3 l4 (l5 + (1 : Int32)) σ2
def f_X7_asks_b147 (N : Nat) (K117 : Nat → Int32 → Int32 → Mem → Option (Int32 × Mem)) (K130 : Nat → Int32 → Int32 → Int32 → Mem → Option (Int32 × Mem)) : Nat → Nat → Int32 → Int32 → Int32 → Int32 → Int32 → Mem → Option (Int32 × Mem)
  | 0, _, _, _, _, _, _, _ => none
  | n + 1, a0, l1, l2, l3, l4, l5, σ => f_X7_asks_b147B N K117 K130 (f_X7_asks_b147 N K117 K130 n) a0 l1 l2 l3 l4 l5 σ
def f_X7_asks_b130B (N : Nat) (K117 : Nat → Int32 → Int32 → Mem → Option (Int32 × Mem)) (K130 : Nat → Int32 → Int32 → Int32 → Mem → Option (Int32 × Mem)) (a0 : Nat) (l1 : Int32) (l2 : Int32) (l3 : Int32) (σ : Mem) : Option (Int32 × Mem) :=
  ob (o_gR σ [26] 3 (some a0)) fun x1 =>
  ob (o_gI σ [40] 0 x1) fun x2 =>
  if x2 ≤ l3 then
    K117 a0 l1 (l2 + (1 : Int32)) σ
  else
    f_X7_asks_b147 N K117 K130 N a0 l1 l2 l3 (0 : Int32) (0 : Int32) σ
def f_X7_asks_b130 (N : Nat) (K117 : Nat → Int32 → Int32 → Mem → Option (Int32 × Mem)) : Nat → Nat → Int32 → Int32 → Int32 → Mem → Option (Int32 × Mem)
  | 0, _, _, _, _, _ => none
  | n + 1, a0, l1, l2, l3, σ => f_X7_asks_b130B N K117 (f_X7_asks_b130 N K117 n) a0 l1 l2 l3 σ
def f_X7_asks_b117B (N : Nat)  (K117 : Nat → Int32 → Int32 → Mem → Option (Int32 × Mem)) (a0 : Nat) (l1 : Int32) (l2 : Int32) (σ : Mem) : Option (Int32 × Mem) :=
  ob (o_gR σ [26] 3 (some a0)) fun x1 =>
  ob (o_gI σ [40] 5 x1) fun x2 =>
  if x2 ≤ l2 then
    some ((0 : Int32), σ)
  else
    f_X7_asks_b130 N K117 N a0 l1 l2 (0 : Int32) σ
def f_X7_asks_b117 (N : Nat)  : Nat → Nat → Int32 → Int32 → Mem → Option (Int32 × Mem)
  | 0, _, _, _, _ => none
  | n + 1, a0, l1, l2, σ => f_X7_asks_b117B N  (f_X7_asks_b117 N  n) a0 l1 l2 σ
def f_X7_asks_b85 (N : Nat) (K17 : Nat → Int32 → Int32 → Mem → Option (Int32 × Mem)) (a0 : Nat) (l1 : Int32) (l2 : Int32) (σ : Mem) : Option (Int32 × Mem) :=
  K17 a0 l1 (l2 + (1 : Int32)) σ
def f_X7_asks_b50B (N : Nat) (K17 : Nat → Int32 → Int32 → Mem → Option (Int32 × Mem)) (K50 : Nat → Int32 → Int32 → Int32 → Mem → Option (Int32 × Mem)) (a0 : Nat) (l1 : Int32) (l2 : Int32) (l3 : Int32) (σ : Mem) : Option (Int32 × Mem) :=
  if (72 : Int32) ≤ l3 then
    f_X7_asks_b85 N K17 a0 (l1 + (1 : Int32)) l2 σ
  else
    ob (o_gR σ [26] 33 (some a0)) fun x1 =>
    ob (o_gR σ [26] 23 (some a0)) fun x2 =>
    ob (o_aI σ 1 x2 l3) fun x3 =>
    ob (o_sI σ 1 x1 (((l1 * (6 : Int32)) * (12 : Int32)) + l3) x3) fun σ4 =>
    K50 a0 l1 l2 (l3 + (1 : Int32)) σ4
def f_X7_asks_b50 (N : Nat) (K17 : Nat → Int32 → Int32 → Mem → Option (Int32 × Mem)) : Nat → Nat → Int32 → Int32 → Int32 → Mem → Option (Int32 × Mem)
  | 0, _, _, _, _, _ => none
  | n + 1, a0, l1, l2, l3, σ => f_X7_asks_b50B N K17 (f_X7_asks_b50 N K17 n) a0 l1 l2 l3 σ
def f_X7_asks_b17B (N : Nat)  (K17 : Nat → Int32 → Int32 → Mem → Option (Int32 × Mem)) (a0 : Nat) (l1 : Int32) (l2 : Int32) (σ : Mem) : Option (Int32 × Mem) :=
  ob (o_gR σ [26] 3 (some a0)) fun x1 =>
  ob (o_at σ [40] x1) fun a4 =>
  bd (f_X24_cases N a4  σ) fun x2 σ3 =>
  if x2 ≤ l2 then
    if l1 < (2 : Int32) then
      some ((6 : Int32), σ3)
    else
      ob (o_gR σ3 [26] 3 (some a0)) fun x5 =>
      ob (o_gI σ3 [40] 5 x5) fun x6 =>
      if x6 = 0 then
        some ((6 : Int32), σ3)
      else
        ob (o_pI σ3 0 [26] 31 (some a0) (82 : Int32)) fun σ7 =>
        f_X7_asks_b117 N  N a0 l1 (0 : Int32) σ7
  else
    ob (o_at σ3 [26] (some a0)) fun a10 =>
    bd (f_X7_heard N a10  σ3) fun x8 σ9 =>
    ob (o_at σ9 [26] (some a0)) fun a13 =>
    bd (f_X7_areTrue N a13 l2 x8 σ9) fun x11 σ12 =>
    if x11 = 0 then
      f_X7_asks_b85 N K17 a0 l1 l2 σ12
    else
      ob (o_at σ12 [26] (some a0)) fun a16 =>
      bd (f_X7_day N a16 l2 σ12) fun _ σ15 =>
      f_X7_asks_b50 N K17 N a0 l1 l2 (0 : Int32) σ15
def f_X7_asks_b17 (N : Nat)  : Nat → Nat → Int32 → Int32 → Mem → Option (Int32 × Mem)
  | 0, _, _, _, _ => none
  | n + 1, a0, l1, l2, σ => f_X7_asks_b17B N  (f_X7_asks_b17 N  n) a0 l1 l2 σ
def f_X7_asks (N : Nat) (a0 : Nat) (σ : Mem) : Option (Int32 × Mem) :=
  ob (o_gR σ [26] 3 (some a0)) fun x1 =>
  if x1 = none then
    some ((1 : Int32), σ)
  else
    ob (o_at σ [26] (some a0)) fun a4 =>
    bd (f_X7_laysHonest N a4  σ) fun _ σ3 =>
    f_X7_asks_b17 N  N a0 (0 : Int32) (0 : Int32) σ3
def f_X7_ask (N : Nat) (a0 : Nat) (σ : Mem) : Option (Int32 × Mem) :=
  ob (o_pI σ 0 [26] 0 (some a0) (0 : Int32)) fun σ1 =>
  ob (o_at σ1 [26] (some a0)) fun a4 =>
  bd (f_X7_asks N a4  σ1) fun x2 σ3 =>
  if x2 ≤ 0 then
    ob (o_gI σ3 [26] 30 (some a0)) fun x5 =>
    ob (o_at σ3 [26] (some a0)) fun a8 =>
    bd (f_X7_good N a8 x5 σ3) fun x6 σ7 =>
    some (x6, σ7)
  else
    ob (o_at σ3 [26] (some a0)) fun a11 =>
    bd (f_X7_refused N a11 x2 σ3) fun x9 σ10 =>
    some (x9, σ10)
def f_X1_askMost (N : Nat) (a0 : Nat) (σ : Mem) : Option (Int32 × Mem) :=
  ob (o_at σ [20] (some a0)) fun a3 =>
  bd (f_X1_anew N a3  σ) fun _ σ2 =>
  ob (o_at σ2 [20] (some a0)) fun a6 =>
  bd (f_X1_askWhy N a6  σ2) fun x4 σ5 =>
  if x4 = 0 then
    ob (o_gI σ5 [20] 20 (some a0)) fun x7 =>
    some (x7, σ5)
  else
    ob (o_at σ5 [20] (some a0)) fun a10 =>
    bd (f_X1_no N a10 x4 σ5) fun x8 σ9 =>
    some (x8, σ9)
def f_X7_askMost (N : Nat) (a0 : Nat) (σ : Mem) : Option (Int32 × Mem) :=
  ob (o_pI σ 0 [26] 0 (some a0) (0 : Int32)) fun σ1 =>
  ob (o_at σ1 [26] (some a0)) fun a4 =>
  bd (f_X7_asks N a4  σ1) fun x2 σ3 =>
  if x2 ≤ 0 then
    ob (o_gI σ3 [26] 31 (some a0)) fun x5 =>
    ob (o_at σ3 [26] (some a0)) fun a8 =>
    bd (f_X7_good N a8 x5 σ3) fun x6 σ7 =>
    some (x6, σ7)
  else
    ob (o_at σ3 [26] (some a0)) fun a11 =>
    bd (f_X7_refused N a11 x2 σ3) fun x9 σ10 =>
    some (x9, σ10)
def f_X1_luredWhy_b24 (N : Nat)   (σ : Mem) : Option (Int32 × Mem) :=
  some ((1 : Int32), σ)
def f_X1_luredWhy (N : Nat) (a0 : Nat) (i1 : Int32) (i2 : Int32) (i3 : Int32) (i4 : Int32) (σ : Mem) : Option (Int32 × Mem) :=
  ob (o_at σ [20] (some a0)) fun a3 =>
  bd (f_X1_isCase N a3 i1 σ) fun x1 σ2 =>
  if x1 = 0 then
    f_X1_luredWhy_b24 N   σ2
  else
    ob (o_at σ2 [20] (some a0)) fun a6 =>
    bd (f_X1_isGoat N a6 i2 σ2) fun x4 σ5 =>
    if x4 = 0 then
      f_X1_luredWhy_b24 N   σ5
    else
      ob (o_at σ5 [20] (some a0)) fun a9 =>
      bd (f_X1_isPlace N a9 i3 σ5) fun x7 σ8 =>
      if x7 = 0 then
        f_X1_luredWhy_b24 N   σ8
      else
        ob (o_at σ8 [20] (some a0)) fun a12 =>
        bd (f_X1_isHour N a12 i4 σ8) fun x10 σ11 =>
        if x10 = 0 then
          some ((2 : Int32), σ11)
        else
          some ((0 : Int32), σ11)
def f_X4_become (N : Nat) (a0 : Nat) (o1 : Option Nat) (σ : Mem) : Option (Unit × Mem) :=
  ob (o_gR σ [23] 0 o1) fun x1 =>
  ob (o_gR σ [23] 0 (some a0)) fun x2 =>
  ob (o_cp σ 1 x1 (0 : Int32) x2 (0 : Int32) (12 : Int32)) fun σ3 =>
  ob (o_gR σ3 [23] 1 o1) fun x4 =>
  ob (o_gR σ3 [23] 1 (some a0)) fun x5 =>
  ob (o_cp σ3 1 x4 (0 : Int32) x5 (0 : Int32) (12 : Int32)) fun σ6 =>
  ob (o_gI σ6 [23] 2 o1) fun x7 =>
  ob (o_pI σ6 0 [23] 2 (some a0) x7) fun σ8 =>
  ob (o_gI σ8 [23] 3 o1) fun x9 =>
  ob (o_pI σ8 0 [23] 3 (some a0) x9) fun σ10 =>
  some ((), σ10)
def f_X1_comes (N : Nat) (a0 : Nat) (i1 : Int32) (i2 : Int32) (i3 : Int32) (i4 : Int32) (σ : Mem) : Option (Int32 × Mem) :=
  ob (o_gR σ [20] 12 (some a0)) fun x1 =>
  ob (o_gR σ [20] 3 (some a0)) fun x2 =>
  ob (o_gR σ [20] 11 (some a0)) fun x3 =>
  ob (o_at σ [24] x1) fun a6 =>
  bd (f_X5_run N a6 x2 x3 i1 σ) fun _ σ5 =>
  ob (o_gR σ5 [20] 12 (some a0)) fun x7 =>
  ob (o_at σ5 [24] x7) fun a10 =>
  bd (f_X5_at N a10 i2 i4 σ5) fun x8 σ9 =>
  if x8 = i3 then
    ob (o_nr 1 (1 : Int32)) fun _ => some ((1 : Int32), σ9)
  else
    ob (o_nr 1 (0 : Int32)) fun _ => some ((0 : Int32), σ9)
def f_X4_add (N : Nat) (a0 : Nat) (i1 : Int32) (i2 : Int32) (i3 : Int32) (σ : Mem) : Option (Unit × Mem) :=
  if i3 = 0 then
    ob (o_gR σ [23] 0 (some a0)) fun x1 =>
    ob (o_aI σ 1 x1 i2) fun x2 =>
    ob (o_sI σ 1 x1 i2 (x2 ||| ((1 : Int32) <<< (i1 &&& 31)))) fun σ3 =>
    some ((), σ3)
  else
    ob (o_gR σ [23] 1 (some a0)) fun x4 =>
    ob (o_aI σ 1 x4 i2) fun x5 =>
    ob (o_sI σ 1 x4 i2 (x5 ||| ((1 : Int32) <<< (i1 &&& 31)))) fun σ6 =>
    some ((), σ6)
def f_X1_lure (N : Nat) (a0 : Nat) (i1 : Int32) (i2 : Int32) (σ : Mem) : Option (Unit × Mem) :=
  ob (o_gR σ [20] 11 (some a0)) fun x1 =>
  ob (o_gR σ [20] 3 (some a0)) fun x2 =>
  ob (o_gI σ [27] 11 x2) fun x3 =>
  ob (o_div i1 x3) fun x4 =>
  ob (o_gR σ [20] 3 (some a0)) fun x5 =>
  ob (o_gI σ [27] 11 x5) fun x6 =>
  ob (o_rem i1 x6) fun x7 =>
  ob (o_at σ [23] x1) fun a10 =>
  bd (f_X4_add N a10 x4 x7 i2 σ) fun _ σ9 =>
  some ((), σ9)
def f_X1_lured_b142B (N : Nat) (K117 : Nat → Int32 → Int32 → Int32 → Int32 → Int32 → Int32 → Mem → Option (Int32 × Mem)) (K142 : Nat → Int32 → Int32 → Int32 → Int32 → Int32 → Int32 → Mem → Option (Int32 × Mem)) (a0 : Nat) (l1 : Int32) (l2 : Int32) (l3 : Int32) (l4 : Int32) (l5 : Int32) (l6 : Int32) (σ : Mem) : Option (Int32 × Mem) :=
  ob (o_gR σ [20] 22 (some a0)) fun x1 =>
  ob (o_aI σ 1 x1 (1 : Int32)) fun x2 =>
  if l6 ≤ x2 then
    ob (o_gR σ [20] 22 (some a0)) fun x3 =>
    ob (o_aI σ 1 x3 (0 : Int32)) fun x4 =>
    ob (o_sI σ 1 x3 (0 : Int32) (x4 + (1 : Int32))) fun σ5 =>
    K117 a0 l1 l2 l3 l4 l5 l6 σ5
  else
    ob (o_gR σ [20] 11 (some a0)) fun x6 =>
    ob (o_gR σ [20] 9 (some a0)) fun x7 =>
    ob (o_at σ [23] x6) fun a10 =>
    bd (f_X4_become N a10 x7 σ) fun _ σ9 =>
    ob (o_gR σ9 [20] 22 (some a0)) fun x11 =>
    ob (o_aI σ9 1 x11 (0 : Int32)) fun x12 =>
    ob (o_at σ9 [20] (some a0)) fun a15 =>
    bd (f_X1_lure N a15 x12 l5 σ9) fun _ σ14 =>
    ob (o_gR σ14 [20] 22 (some a0)) fun x16 =>
    ob (o_aI σ14 1 x16 (1 : Int32)) fun x17 =>
    ob (o_at σ14 [20] (some a0)) fun a20 =>
    bd (f_X1_lure N a20 x17 l5 σ14) fun _ σ19 =>
    ob (o_at σ19 [20] (some a0)) fun a23 =>
    bd (f_X1_comes N a23 l1 l2 l3 l4 σ19) fun x21 σ22 =>
    if x21 = 0 then
      ob (o_gR σ22 [20] 22 (some a0)) fun x24 =>
      ob (o_aI σ22 1 x24 (1 : Int32)) fun x25 =>
      ob (o_sI σ22 1 x24 (1 : Int32) (x25 + (1 : Int32))) fun σ26 =>
      K142 a0 l1 l2 l3 l4 l5 l6 σ26
    else
      some ((2 : Int32), σ22)
def f_X1_lured_b142 (N : Nat) (K117 : Nat → Int32 → Int32 → Int32 → Int32 → Int32 → Int32 → Mem → Option (Int32 × Mem)) : Nat → Nat → Int32 → Int32 → Int32 → Int32 → Int32 → Int32 → Mem → Option (Int32 × Mem)
  | 0, _, _, _, _, _, _, _, _ => none
  | n + 1, a0, l1, l2, l3, l4, l5, l6, σ => f_X1_lured_b142B N K117 (f_X1_lured_b142 N K117 n) a0 l1 l2 l3 l4 l5 l6 σ
def f_X1_lured_b117B (N : Nat)  (K117 : Nat → Int32 → Int32 → Int32 → Int32 → Int32 → Int32 → Mem → Option (Int32 × Mem)) (a0 : Nat) (l1 : Int32) (l2 : Int32) (l3 : Int32) (l4 : Int32) (l5 : Int32) (l6 : Int32) (σ : Mem) : Option (Int32 × Mem) :=
  ob (o_gR σ [20] 22 (some a0)) fun x1 =>
  ob (o_aI σ 1 x1 (0 : Int32)) fun x2 =>
  if l6 ≤ x2 then
    some ((-2 : Int32), σ)
  else
    ob (o_gR σ [20] 22 (some a0)) fun x3 =>
    ob (o_gR σ [20] 22 (some a0)) fun x4 =>
    ob (o_aI σ 1 x4 (0 : Int32)) fun x5 =>
    ob (o_sI σ 1 x3 (1 : Int32) (x5 + (1 : Int32))) fun σ6 =>
    f_X1_lured_b142 N K117 N a0 l1 l2 l3 l4 l5 l6 σ6
def f_X1_lured_b117 (N : Nat)  : Nat → Nat → Int32 → Int32 → Int32 → Int32 → Int32 → Int32 → Mem → Option (Int32 × Mem)
  | 0, _, _, _, _, _, _, _, _ => none
  | n + 1, a0, l1, l2, l3, l4, l5, l6, σ => f_X1_lured_b117B N  (f_X1_lured_b117 N  n) a0 l1 l2 l3 l4 l5 l6 σ
def f_X1_lured_b49B (N : Nat)  (K49 : Nat → Int32 → Int32 → Int32 → Int32 → Int32 → Int32 → Mem → Option (Int32 × Mem)) (a0 : Nat) (l1 : Int32) (l2 : Int32) (l3 : Int32) (l4 : Int32) (l5 : Int32) (l6 : Int32) (σ : Mem) : Option (Int32 × Mem) :=
  ob (o_gR σ [20] 22 (some a0)) fun x1 =>
  ob (o_aI σ 1 x1 (0 : Int32)) fun x2 =>
  if l6 ≤ x2 then
    ob (o_gR σ [20] 22 (some a0)) fun x3 =>
    ob (o_sI σ 1 x3 (0 : Int32) (0 : Int32)) fun σ4 =>
    f_X1_lured_b117 N  N a0 l1 l2 l3 l4 l5 l6 σ4
  else
    ob (o_gR σ [20] 11 (some a0)) fun x5 =>
    ob (o_gR σ [20] 9 (some a0)) fun x6 =>
    ob (o_at σ [23] x5) fun a9 =>
    bd (f_X4_become N a9 x6 σ) fun _ σ8 =>
    ob (o_gR σ8 [20] 22 (some a0)) fun x10 =>
    ob (o_aI σ8 1 x10 (0 : Int32)) fun x11 =>
    ob (o_at σ8 [20] (some a0)) fun a14 =>
    bd (f_X1_lure N a14 x11 l5 σ8) fun _ σ13 =>
    ob (o_at σ13 [20] (some a0)) fun a17 =>
    bd (f_X1_comes N a17 l1 l2 l3 l4 σ13) fun x15 σ16 =>
    if x15 = 0 then
      ob (o_gR σ16 [20] 22 (some a0)) fun x18 =>
      ob (o_aI σ16 1 x18 (0 : Int32)) fun x19 =>
      ob (o_sI σ16 1 x18 (0 : Int32) (x19 + (1 : Int32))) fun σ20 =>
      K49 a0 l1 l2 l3 l4 l5 l6 σ20
    else
      some ((1 : Int32), σ16)
def f_X1_lured_b49 (N : Nat)  : Nat → Nat → Int32 → Int32 → Int32 → Int32 → Int32 → Int32 → Mem → Option (Int32 × Mem)
  | 0, _, _, _, _, _, _, _, _ => none
  | n + 1, a0, l1, l2, l3, l4, l5, l6, σ => f_X1_lured_b49B N  (f_X1_lured_b49 N  n) a0 l1 l2 l3 l4 l5 l6 σ
def f_X1_lured (N : Nat) (a0 : Nat) (i1 : Int32) (i2 : Int32) (i3 : Int32) (i4 : Int32) (i5 : Int32) (σ : Mem) : Option (Int32 × Mem) :=
  ob (o_gR σ [20] 11 (some a0)) fun x1 =>
  ob (o_gR σ [20] 9 (some a0)) fun x2 =>
  ob (o_at σ [23] x1) fun a5 =>
  bd (f_X4_become N a5 x2 σ) fun _ σ4 =>
  ob (o_at σ4 [20] (some a0)) fun a8 =>
  bd (f_X1_comes N a8 i1 i2 i3 i4 σ4) fun x6 σ7 =>
  if x6 = 0 then
    ob (o_gR σ7 [20] 3 (some a0)) fun x9 =>
    ob (o_gI σ7 [27] 13 x9) fun x10 =>
    ob (o_gR σ7 [20] 3 (some a0)) fun x11 =>
    ob (o_gI σ7 [27] 11 x11) fun x12 =>
    ob (o_gR σ7 [20] 22 (some a0)) fun x13 =>
    ob (o_sI σ7 1 x13 (0 : Int32) (0 : Int32)) fun σ14 =>
    f_X1_lured_b49 N  N a0 i1 i2 i3 i4 i5 (x10 * x12) σ14
  else
    some ((0 : Int32), σ7)
def f_X1_led (N : Nat) (a0 : Nat) (i1 : Int32) (i2 : Int32) (i3 : Int32) (i4 : Int32) (σ : Mem) : Option (Int32 × Mem) :=
  ob (o_at σ [20] (some a0)) fun a3 =>
  bd (f_X1_anew N a3  σ) fun _ σ2 =>
  ob (o_at σ2 [20] (some a0)) fun a6 =>
  bd (f_X1_luredWhy N a6 i1 i2 i3 i4 σ2) fun x4 σ5 =>
  if x4 = 0 then
    ob (o_at σ5 [20] (some a0)) fun a9 =>
    bd (f_X1_lured N a9 i1 i2 i3 i4 (0 : Int32) σ5) fun x7 σ8 =>
    some (x7, σ8)
  else
    ob (o_at σ5 [20] (some a0)) fun a12 =>
    bd (f_X1_no N a12 x4 σ5) fun x10 σ11 =>
    some (x10, σ11)
def f_X7_refusesLed_b24 (N : Nat)   (σ : Mem) : Option (Int32 × Mem) :=
  some ((1 : Int32), σ)
def f_X7_refusesLed (N : Nat) (a0 : Nat) (i1 : Int32) (i2 : Int32) (i3 : Int32) (i4 : Int32) (σ : Mem) : Option (Int32 × Mem) :=
  ob (o_at σ [26] (some a0)) fun a3 =>
  bd (f_X7_isCase N a3 i1 σ) fun x1 σ2 =>
  if x1 = 0 then
    f_X7_refusesLed_b24 N   σ2
  else
    ob (o_at σ2 [26] (some a0)) fun a6 =>
    bd (f_X7_isGoat N a6 i2 σ2) fun x4 σ5 =>
    if x4 = 0 then
      f_X7_refusesLed_b24 N   σ5
    else
      ob (o_at σ5 [26] (some a0)) fun a9 =>
      bd (f_X7_isPlace N a9 i3 σ5) fun x7 σ8 =>
      if x7 = 0 then
        f_X7_refusesLed_b24 N   σ8
      else
        ob (o_at σ8 [26] (some a0)) fun a12 =>
        bd (f_X7_isHour N a12 i4 σ8) fun x10 σ11 =>
        if x10 = 0 then
          some ((2 : Int32), σ11)
        else
          some ((0 : Int32), σ11)
def f_X7_isThere (N : Nat) (a0 : Nat) (i1 : Int32) (i2 : Int32) (i3 : Int32) (i4 : Int32) (σ : Mem) : Option (Int32 × Mem) :=
  ob (o_at σ [26] (some a0)) fun a3 =>
  bd (f_X7_day N a3 i1 σ) fun _ σ2 =>
  ob (o_gR σ2 [26] 23 (some a0)) fun x4 =>
  ob (o_aI σ2 1 x4 (((12 : Int32) * i2) + i4)) fun x5 =>
  if x5 = i3 then
    ob (o_nr 1 (1 : Int32)) fun _ => some ((1 : Int32), σ2)
  else
    ob (o_nr 1 (0 : Int32)) fun _ => some ((0 : Int32), σ2)
def f_X7_isSpot_b53 (N : Nat)   (σ : Mem) : Option (Int32 × Mem) :=
  ob (o_nr 1 (0 : Int32)) fun _ => some ((0 : Int32), σ)
def f_X7_isSpot (N : Nat) (a0 : Nat) (i1 : Int32) (i2 : Int32) (σ : Mem) : Option (Int32 × Mem) :=
  ob (o_rem i2 (12 : Int32)) fun x1 =>
  ob (o_gR σ [26] 3 (some a0)) fun x2 =>
  ob (o_gI σ [40] 0 x2) fun x3 =>
  if x3 ≤ x1 then
    f_X7_isSpot_b53 N   σ
  else
    ob (o_div i2 (12 : Int32)) fun x4 =>
    ob (o_gR σ [26] 3 (some a0)) fun x5 =>
    ob (o_gI σ [40] 2 x5) fun x6 =>
    if x6 ≤ x4 then
      f_X7_isSpot_b53 N   σ
    else
      ob (o_gR σ [26] 18 (some a0)) fun x7 =>
      ob (o_div i2 (12 : Int32)) fun x8 =>
      ob (o_aI σ 1 x7 (i1 + x8)) fun x9 =>
      ob (o_rem i2 (12 : Int32)) fun x10 =>
      bd (f_X7_bit N x9 x10 σ) fun x11 σ12 =>
      if x11 = 0 then
        ob (o_nr 1 (1 : Int32)) fun _ => some ((1 : Int32), σ12)
      else
        f_X7_isSpot_b53 N   σ12
def f_X7_turn (N : Nat) (a0 : Nat) (i1 : Int32) (i2 : Int32) (σ : Mem) : Option (Unit × Mem) :=
  ob (o_gR σ [26] 18 (some a0)) fun x1 =>
  ob (o_div i2 (12 : Int32)) fun x2 =>
  ob (o_aI σ 1 x1 (i1 + x2)) fun x3 =>
  ob (o_rem i2 (12 : Int32)) fun x4 =>
  ob (o_sI σ 1 x1 (i1 + x2) (x3 ^^^ ((1 : Int32) <<< (x4 &&& 31)))) fun σ5 =>
  some ((), σ5)
def f_X7_fewest_b188 (N : Nat) (K86 : Nat → Int32 → Int32 → Int32 → Int32 → Int32 → Int32 → Mem → Option (Int32 × Mem)) (K99 : Nat → Int32 → Int32 → Int32 → Int32 → Int32 → Int32 → Int32 → Mem → Option (Int32 × Mem)) (a0 : Nat) (l1 : Int32) (l2 : Int32) (l3 : Int32) (l4 : Int32) (l5 : Int32) (l6 : Int32) (l7 : Int32) (σ : Mem) : Option (Int32 × Mem) :=
  K99 a0 l1 l2 l3 l4 l5 l6 (l7 + (1 : Int32)) σ
def f_X7_fewest_b99B (N : Nat) (K86 : Nat → Int32 → Int32 → Int32 → Int32 → Int32 → Int32 → Mem → Option (Int32 × Mem)) (K99 : Nat → Int32 → Int32 → Int32 → Int32 → Int32 → Int32 → Int32 → Mem → Option (Int32 × Mem)) (a0 : Nat) (l1 : Int32) (l2 : Int32) (l3 : Int32) (l4 : Int32) (l5 : Int32) (l6 : Int32) (l7 : Int32) (σ : Mem) : Option (Int32 × Mem) :=
  if (96 : Int32) ≤ l7 then
    K86 a0 l1 l2 l3 l4 l5 (l6 + (1 : Int32)) σ
  else
    ob (o_at σ [26] (some a0)) fun a3 =>
    bd (f_X7_isSpot N a3 l1 l6 σ) fun x1 σ2 =>
    if x1 = 0 then
      f_X7_fewest_b188 N K86 K99 a0 l1 l2 l3 l4 l5 l6 l7 σ2
    else
      ob (o_at σ2 [26] (some a0)) fun a6 =>
      bd (f_X7_isSpot N a6 l1 l7 σ2) fun x4 σ5 =>
      if x4 = 0 then
        f_X7_fewest_b188 N K86 K99 a0 l1 l2 l3 l4 l5 l6 l7 σ5
      else
        ob (o_at σ5 [26] (some a0)) fun a9 =>
        bd (f_X7_turn N a9 l1 l6 σ5) fun _ σ8 =>
        ob (o_at σ8 [26] (some a0)) fun a12 =>
        bd (f_X7_turn N a12 l1 l7 σ8) fun _ σ11 =>
        ob (o_at σ11 [26] (some a0)) fun a15 =>
        bd (f_X7_isThere N a15 l2 l3 l4 l5 σ11) fun x13 σ14 =>
        ob (o_at σ14 [26] (some a0)) fun a18 =>
        bd (f_X7_turn N a18 l1 l7 σ14) fun _ σ17 =>
        ob (o_at σ17 [26] (some a0)) fun a21 =>
        bd (f_X7_turn N a21 l1 l6 σ17) fun _ σ20 =>
        ob (o_pI σ20 0 [26] 35 (some a0) l6) fun σ22 =>
        ob (o_pI σ22 0 [26] 36 (some a0) l7) fun σ23 =>
        if x13 = 0 then
          f_X7_fewest_b188 N K86 K99 a0 l1 l2 l3 l4 l5 l6 l7 σ23
        else
          some ((2 : Int32), σ23)
def f_X7_fewest_b99 (N : Nat) (K86 : Nat → Int32 → Int32 → Int32 → Int32 → Int32 → Int32 → Mem → Option (Int32 × Mem)) : Nat → Nat → Int32 → Int32 → Int32 → Int32 → Int32 → Int32 → Int32 → Mem → Option (Int32 × Mem)
  | 0, _, _, _, _, _, _, _, _, _ => none
  | n + 1, a0, l1, l2, l3, l4, l5, l6, l7, σ => f_X7_fewest_b99B N K86 (f_X7_fewest_b99 N K86 n) a0 l1 l2 l3 l4 l5 l6 l7 σ
def f_X7_fewest_b86B (N : Nat)  (K86 : Nat → Int32 → Int32 → Int32 → Int32 → Int32 → Int32 → Mem → Option (Int32 × Mem)) (a0 : Nat) (l1 : Int32) (l2 : Int32) (l3 : Int32) (l4 : Int32) (l5 : Int32) (l6 : Int32) (σ : Mem) : Option (Int32 × Mem) :=
  if (96 : Int32) ≤ l6 then
    some ((-2 : Int32), σ)
  else
    f_X7_fewest_b99 N K86 N a0 l1 l2 l3 l4 l5 l6 (l6 + (1 : Int32)) σ
def f_X7_fewest_b86 (N : Nat)  : Nat → Nat → Int32 → Int32 → Int32 → Int32 → Int32 → Int32 → Mem → Option (Int32 × Mem)
  | 0, _, _, _, _, _, _, _, _ => none
  | n + 1, a0, l1, l2, l3, l4, l5, l6, σ => f_X7_fewest_b86B N  (f_X7_fewest_b86 N  n) a0 l1 l2 l3 l4 l5 l6 σ
def f_X7_fewest_b77 (N : Nat) (K18 : Nat → Int32 → Int32 → Int32 → Int32 → Int32 → Int32 → Mem → Option (Int32 × Mem)) (a0 : Nat) (l1 : Int32) (l2 : Int32) (l3 : Int32) (l4 : Int32) (l5 : Int32) (l6 : Int32) (σ : Mem) : Option (Int32 × Mem) :=
  K18 a0 l1 l2 l3 l4 l5 (l6 + (1 : Int32)) σ
def f_X7_fewest_b18B (N : Nat)  (K18 : Nat → Int32 → Int32 → Int32 → Int32 → Int32 → Int32 → Mem → Option (Int32 × Mem)) (a0 : Nat) (l1 : Int32) (l2 : Int32) (l3 : Int32) (l4 : Int32) (l5 : Int32) (l6 : Int32) (σ : Mem) : Option (Int32 × Mem) :=
  if (96 : Int32) ≤ l6 then
    f_X7_fewest_b86 N  N a0 l1 l2 l3 l4 l5 (0 : Int32) σ
  else
    ob (o_at σ [26] (some a0)) fun a3 =>
    bd (f_X7_isSpot N a3 l1 l6 σ) fun x1 σ2 =>
    if x1 = 0 then
      f_X7_fewest_b77 N K18 a0 l1 l2 l3 l4 l5 l6 σ2
    else
      ob (o_at σ2 [26] (some a0)) fun a6 =>
      bd (f_X7_turn N a6 l1 l6 σ2) fun _ σ5 =>
      ob (o_at σ5 [26] (some a0)) fun a9 =>
      bd (f_X7_isThere N a9 l2 l3 l4 l5 σ5) fun x7 σ8 =>
      ob (o_at σ8 [26] (some a0)) fun a12 =>
      bd (f_X7_turn N a12 l1 l6 σ8) fun _ σ11 =>
      ob (o_pI σ11 0 [26] 35 (some a0) l6) fun σ13 =>
      if x7 = 0 then
        f_X7_fewest_b77 N K18 a0 l1 l2 l3 l4 l5 l6 σ13
      else
        some ((1 : Int32), σ13)
def f_X7_fewest_b18 (N : Nat)  : Nat → Nat → Int32 → Int32 → Int32 → Int32 → Int32 → Int32 → Mem → Option (Int32 × Mem)
  | 0, _, _, _, _, _, _, _, _ => none
  | n + 1, a0, l1, l2, l3, l4, l5, l6, σ => f_X7_fewest_b18B N  (f_X7_fewest_b18 N  n) a0 l1 l2 l3 l4 l5 l6 σ
def f_X7_fewest (N : Nat) (a0 : Nat) (i1 : Int32) (i2 : Int32) (i3 : Int32) (i4 : Int32) (i5 : Int32) (σ : Mem) : Option (Int32 × Mem) :=
  ob (o_at σ [26] (some a0)) fun a3 =>
  bd (f_X7_isThere N a3 i2 i3 i4 i5 σ) fun x1 σ2 =>
  if x1 = 0 then
    f_X7_fewest_b18 N  N a0 i1 i2 i3 i4 i5 (0 : Int32) σ2
  else
    some ((0 : Int32), σ2)
def f_X7_led (N : Nat) (a0 : Nat) (i1 : Int32) (i2 : Int32) (i3 : Int32) (i4 : Int32) (σ : Mem) : Option (Int32 × Mem) :=
  ob (o_pI σ 0 [26] 0 (some a0) (0 : Int32)) fun σ1 =>
  ob (o_at σ1 [26] (some a0)) fun a4 =>
  bd (f_X7_refusesLed N a4 i1 i2 i3 i4 σ1) fun x2 σ3 =>
  if x2 ≤ 0 then
    ob (o_at σ3 [26] (some a0)) fun a7 =>
    bd (f_X7_fewest N a7 (0 : Int32) i1 i2 i3 i4 σ3) fun x5 σ6 =>
    ob (o_at σ6 [26] (some a0)) fun a10 =>
    bd (f_X7_good N a10 x5 σ6) fun x8 σ9 =>
    some (x8, σ9)
  else
    ob (o_at σ3 [26] (some a0)) fun a13 =>
    bd (f_X7_refused N a13 x2 σ3) fun x11 σ12 =>
    some (x11, σ12)
def f_X1_ledAt (N : Nat) (a0 : Nat) (i1 : Int32) (i2 : Int32) (i3 : Int32) (i4 : Int32) (i5 : Int32) (σ : Mem) : Option (Int32 × Mem) :=
  ob (o_at σ [20] (some a0)) fun a3 =>
  bd (f_X1_anew N a3  σ) fun _ σ2 =>
  ob (o_at σ2 [20] (some a0)) fun a6 =>
  bd (f_X1_luredWhy N a6 i1 i2 i3 i4 σ2) fun x4 σ5 =>
  if x4 = 0 then
    ob (o_at σ5 [20] (some a0)) fun a9 =>
    bd (f_X1_lured N a9 i1 i2 i3 i4 (0 : Int32) σ5) fun x7 σ8 =>
    bd (f_X1_in N i5 (0 : Int32) (x7 - (1 : Int32)) σ8) fun x10 σ11 =>
    if x10 = 0 then
      ob (o_at σ11 [20] (some a0)) fun a14 =>
      bd (f_X1_no N a14 (1 : Int32) σ11) fun x12 σ13 =>
      some (x12, σ13)
    else
      ob (o_gR σ11 [20] 22 (some a0)) fun x15 =>
      ob (o_aI σ11 1 x15 i5) fun x16 =>
      ob (o_gR σ11 [20] 3 (some a0)) fun x17 =>
      ob (o_gI σ11 [27] 11 x17) fun x18 =>
      ob (o_div x16 x18) fun x19 =>
      ob (o_gR σ11 [20] 22 (some a0)) fun x20 =>
      ob (o_aI σ11 1 x20 i5) fun x21 =>
      ob (o_gR σ11 [20] 3 (some a0)) fun x22 =>
      ob (o_gI σ11 [27] 11 x22) fun x23 =>
      ob (o_rem x21 x23) fun x24 =>
      some ((((100 : Int32) * x19) + x24), σ11)
  else
    ob (o_at σ5 [20] (some a0)) fun a27 =>
    bd (f_X1_no N a27 x4 σ5) fun x25 σ26 =>
    some (x25, σ26)
def f_X7_ledAt_b52 (N : Nat)  (a0 : Nat) (σ : Mem) : Option (Int32 × Mem) :=
  ob (o_at σ [26] (some a0)) fun a3 =>
  bd (f_X7_refused N a3 (1 : Int32) σ) fun x1 σ2 =>
  some (x1, σ2)
def f_X7_ledAt_b74 (N : Nat)  (a0 : Nat) (t0 : Int32) (σ : Mem) : Option (Int32 × Mem) :=
  ob (o_div t0 (12 : Int32)) fun x1 =>
  ob (o_rem t0 (12 : Int32)) fun x2 =>
  ob (o_at σ [26] (some a0)) fun a5 =>
  bd (f_X7_good N a5 (((100 : Int32) * x1) + x2) σ) fun x3 σ4 =>
  some (x3, σ4)
def f_X7_ledAt (N : Nat) (a0 : Nat) (i1 : Int32) (i2 : Int32) (i3 : Int32) (i4 : Int32) (i5 : Int32) (σ : Mem) : Option (Int32 × Mem) :=
  ob (o_pI σ 0 [26] 0 (some a0) (0 : Int32)) fun σ1 =>
  ob (o_at σ1 [26] (some a0)) fun a4 =>
  bd (f_X7_refusesLed N a4 i1 i2 i3 i4 σ1) fun x2 σ3 =>
  if x2 ≤ 0 then
    ob (o_at σ3 [26] (some a0)) fun a7 =>
    bd (f_X7_fewest N a7 (0 : Int32) i1 i2 i3 i4 σ3) fun x5 σ6 =>
    if i5 < 0 then
      f_X7_ledAt_b52 N  a0 σ6
    else
      if i5 < x5 then
        if i5 = 0 then
          ob (o_gI σ6 [26] 35 (some a0)) fun x9 =>
          f_X7_ledAt_b74 N  a0 x9 σ6
        else
          ob (o_gI σ6 [26] 36 (some a0)) fun x8 =>
          f_X7_ledAt_b74 N  a0 x8 σ6
      else
        f_X7_ledAt_b52 N  a0 σ6
  else
    ob (o_at σ3 [26] (some a0)) fun a12 =>
    bd (f_X7_refused N a12 x2 σ3) fun x10 σ11 =>
    some (x10, σ11)
def f_X1_scared (N : Nat) (a0 : Nat) (i1 : Int32) (i2 : Int32) (i3 : Int32) (i4 : Int32) (σ : Mem) : Option (Int32 × Mem) :=
  ob (o_at σ [20] (some a0)) fun a3 =>
  bd (f_X1_anew N a3  σ) fun _ σ2 =>
  ob (o_at σ2 [20] (some a0)) fun a6 =>
  bd (f_X1_luredWhy N a6 i1 i2 i3 i4 σ2) fun x4 σ5 =>
  if x4 = 0 then
    ob (o_at σ5 [20] (some a0)) fun a9 =>
    bd (f_X1_lured N a9 i1 i2 i3 i4 (1 : Int32) σ5) fun x7 σ8 =>
    some (x7, σ8)
  else
    ob (o_at σ5 [20] (some a0)) fun a12 =>
    bd (f_X1_no N a12 x4 σ5) fun x10 σ11 =>
    some (x10, σ11)
def f_X7_scared (N : Nat) (a0 : Nat) (i1 : Int32) (i2 : Int32) (i3 : Int32) (i4 : Int32) (σ : Mem) : Option (Int32 × Mem) :=
  ob (o_pI σ 0 [26] 0 (some a0) (0 : Int32)) fun σ1 =>
  ob (o_at σ1 [26] (some a0)) fun a4 =>
  bd (f_X7_refusesLed N a4 i1 i2 i3 i4 σ1) fun x2 σ3 =>
  if x2 ≤ 0 then
    ob (o_at σ3 [26] (some a0)) fun a7 =>
    bd (f_X7_fewest N a7 (8 : Int32) i1 i2 i3 i4 σ3) fun x5 σ6 =>
    ob (o_at σ6 [26] (some a0)) fun a10 =>
    bd (f_X7_good N a10 x5 σ6) fun x8 σ9 =>
    some (x8, σ9)
  else
    ob (o_at σ3 [26] (some a0)) fun a13 =>
    bd (f_X7_refused N a13 x2 σ3) fun x11 σ12 =>
    some (x11, σ12)
def f_X1_isFact_b28 (N : Nat)   (σ : Mem) : Option (Int32 × Mem) :=
  ob (o_nr 1 (0 : Int32)) fun _ => some ((0 : Int32), σ)
def f_X1_isFact (N : Nat) (a0 : Nat) (i1 : Int32) (σ : Mem) : Option (Int32 × Mem) :=
  ob (o_gR σ [20] 3 (some a0)) fun x1 =>
  if x1 = none then
    f_X1_isFact_b28 N   σ
  else
    ob (o_gR σ [20] 3 (some a0)) fun x2 =>
    ob (o_gI σ [27] 19 x2) fun x3 =>
    bd (f_X1_in N i1 (0 : Int32) (x3 - (1 : Int32)) σ) fun x4 σ5 =>
    if x4 = 0 then
      f_X1_isFact_b28 N   σ5
    else
      ob (o_nr 1 (1 : Int32)) fun _ => some ((1 : Int32), σ5)
def f_X8_holding_b32 (N : Nat) (K4 : Nat → Int32 → Int32 → Mem → Option (Int32 × Mem)) (a0 : Nat) (l2 : Int32) (t0 : Int32) (t1 : Int32) (σ : Mem) : Option (Int32 × Mem) :=
  K4 a0 (t0 ||| t1) (l2 + (1 : Int32)) σ
def f_X8_holding_b4B (N : Nat)  (K4 : Nat → Int32 → Int32 → Mem → Option (Int32 × Mem)) (a0 : Nat) (l1 : Int32) (l2 : Int32) (σ : Mem) : Option (Int32 × Mem) :=
  ob (o_gI σ [27] 19 (some a0)) fun x1 =>
  if x1 ≤ l2 then
    some (l1, σ)
  else
    ob (o_gR σ [27] 8 (some a0)) fun x2 =>
    ob (o_aR σ 10 x2 l2) fun x3 =>
    ob (o_gI σ [37] 0 x3) fun x4 =>
    if x4 = 0 then
      f_X8_holding_b32 N K4 a0 l2 l1 (0 : Int32) σ
    else
      f_X8_holding_b32 N K4 a0 l2 l1 ((1 : Int32) <<< (l2 &&& 31)) σ
def f_X8_holding_b4 (N : Nat)  : Nat → Nat → Int32 → Int32 → Mem → Option (Int32 × Mem)
  | 0, _, _, _, _ => none
  | n + 1, a0, l1, l2, σ => f_X8_holding_b4B N  (f_X8_holding_b4 N  n) a0 l1 l2 σ
def f_X8_holding (N : Nat) (a0 : Nat) (σ : Mem) : Option (Int32 × Mem) :=
  f_X8_holding_b4 N  N a0 (0 : Int32) (0 : Int32) σ
def f_X1_allRules (N : Nat) (a0 : Nat) (σ : Mem) : Option (Int32 × Mem) :=
  ob (o_gR σ [20] 3 (some a0)) fun x1 =>
  ob (o_gI σ [27] 20 x1) fun x2 =>
  some ((((1 : Int32) <<< (x2 &&& 31)) - (1 : Int32)), σ)
def f_X22_follows_b35 (N : Nat) (K4 : Nat → Int32 → Int32 → Int32 → Mem → Option (Int32 × Mem)) (a0 : Nat) (l1 : Int32) (l3 : Int32) (t0 : Int32) (σ : Mem) : Option (Int32 × Mem) :=
  K4 a0 l1 t0 (l3 + (1 : Int32)) σ
def f_X22_follows_b34 (N : Nat) (K4 : Nat → Int32 → Int32 → Int32 → Mem → Option (Int32 × Mem)) (a0 : Nat) (l1 : Int32) (l3 : Int32) (σ : Mem) : Option (Int32 × Mem) :=
  f_X22_follows_b35 N K4 a0 l1 l3 (0 : Int32) σ
def f_X22_follows_b4B (N : Nat)  (K4 : Nat → Int32 → Int32 → Int32 → Mem → Option (Int32 × Mem)) (a0 : Nat) (l1 : Int32) (l2 : Int32) (l3 : Int32) (σ : Mem) : Option (Int32 × Mem) :=
  ob (o_gI σ [38] 2 (some a0)) fun x1 =>
  if x1 ≤ l3 then
    ob (o_nr 1 l2) fun _ => some (l2, σ)
  else
    if l2 = 0 then
      f_X22_follows_b34 N K4 a0 l1 l3 σ
    else
      ob (o_gR σ [38] 0 (some a0)) fun x2 =>
      ob (o_aI σ 1 x2 l3) fun x3 =>
      if ((l1 >>> (x3 &&& 31)) &&& (1 : Int32)) = (1 : Int32) then
        f_X22_follows_b35 N K4 a0 l1 l3 (1 : Int32) σ
      else
        f_X22_follows_b34 N K4 a0 l1 l3 σ
def f_X22_follows_b4 (N : Nat)  : Nat → Nat → Int32 → Int32 → Int32 → Mem → Option (Int32 × Mem)
  | 0, _, _, _, _, _ => none
  | n + 1, a0, l1, l2, l3, σ => f_X22_follows_b4B N  (f_X22_follows_b4 N  n) a0 l1 l2 l3 σ
def f_X22_follows (N : Nat) (a0 : Nat) (i1 : Int32) (σ : Mem) : Option (Int32 × Mem) :=
  f_X22_follows_b4 N  N a0 i1 (1 : Int32) (0 : Int32) σ
def f_X8_closure_b86 (N : Nat) (K5 : Nat → Int32 → Int32 → Int32 → Mem → Option (Int32 × Mem)) (K16 : Nat → Int32 → Int32 → Int32 → Int32 → Mem → Option (Int32 × Mem)) (a0 : Nat) (l2 : Int32) (l3 : Int32) (l4 : Int32) (l5 : Int32) (σ : Mem) : Option (Int32 × Mem) :=
  K16 a0 l2 l3 l4 (l5 + (1 : Int32)) σ
def f_X8_closure_b16B (N : Nat) (K5 : Nat → Int32 → Int32 → Int32 → Mem → Option (Int32 × Mem)) (K16 : Nat → Int32 → Int32 → Int32 → Int32 → Mem → Option (Int32 × Mem)) (a0 : Nat) (l2 : Int32) (l3 : Int32) (l4 : Int32) (l5 : Int32) (σ : Mem) : Option (Int32 × Mem) :=
  ob (o_gI σ [27] 20 (some a0)) fun x1 =>
  if x1 ≤ l5 then
    K5 a0 l2 l3 l4 σ
  else
    bd (f_X1_has N l2 l5 σ) fun x2 σ3 =>
    if x2 = 0 then
      f_X8_closure_b86 N K5 K16 a0 l2 l3 l4 l5 σ3
    else
      ob (o_gR σ3 [27] 9 (some a0)) fun x4 =>
      ob (o_aR σ3 11 x4 l5) fun x5 =>
      ob (o_gI σ3 [38] 1 x5) fun x6 =>
      bd (f_X1_has N l3 x6 σ3) fun x7 σ8 =>
      if x7 = 0 then
        ob (o_gR σ8 [27] 9 (some a0)) fun x9 =>
        ob (o_aR σ8 11 x9 l5) fun x10 =>
        ob (o_at σ8 [38] x10) fun a13 =>
        bd (f_X22_follows N a13 l3 σ8) fun x11 σ12 =>
        if x11 = 0 then
          f_X8_closure_b86 N K5 K16 a0 l2 l3 l4 l5 σ12
        else
          ob (o_gR σ12 [27] 9 (some a0)) fun x14 =>
          ob (o_aR σ12 11 x14 l5) fun x15 =>
          ob (o_gI σ12 [38] 1 x15) fun x16 =>
          f_X8_closure_b86 N K5 K16 a0 l2 (l3 ||| ((1 : Int32) <<< (x16 &&& 31))) (1 : Int32) l5 σ12
      else
        f_X8_closure_b86 N K5 K16 a0 l2 l3 l4 l5 σ8
def f_X8_closure_b16 (N : Nat) (K5 : Nat → Int32 → Int32 → Int32 → Mem → Option (Int32 × Mem)) : Nat → Nat → Int32 → Int32 → Int32 → Int32 → Mem → Option (Int32 × Mem)
  | 0, _, _, _, _, _, _ => none
  | n + 1, a0, l2, l3, l4, l5, σ => f_X8_closure_b16B N K5 (f_X8_closure_b16 N K5 n) a0 l2 l3 l4 l5 σ
def f_X8_closure_b5B (N : Nat)  (K5 : Nat → Int32 → Int32 → Int32 → Mem → Option (Int32 × Mem)) (a0 : Nat) (l2 : Int32) (l3 : Int32) (l4 : Int32) (σ : Mem) : Option (Int32 × Mem) :=
  if l4 = 0 then
    some (l3, σ)
  else
    f_X8_closure_b16 N K5 N a0 l2 l3 (0 : Int32) (0 : Int32) σ
def f_X8_closure_b5 (N : Nat)  : Nat → Nat → Int32 → Int32 → Int32 → Mem → Option (Int32 × Mem)
  | 0, _, _, _, _, _ => none
  | n + 1, a0, l2, l3, l4, σ => f_X8_closure_b5B N  (f_X8_closure_b5 N  n) a0 l2 l3 l4 σ
def f_X8_closure (N : Nat) (a0 : Nat) (i1 : Int32) (i2 : Int32) (σ : Mem) : Option (Int32 × Mem) :=
  f_X8_closure_b5 N  N a0 i2 i1 (1 : Int32) σ
def f_X1_doesFollow (N : Nat) (a0 : Nat) (i1 : Int32) (i2 : Int32) (i3 : Int32) (σ : Mem) : Option (Int32 × Mem) :=
  ob (o_gR σ [20] 3 (some a0)) fun x1 =>
  ob (o_at σ [27] x1) fun a4 =>
  bd (f_X8_closure N a4 i2 i3 σ) fun x2 σ3 =>
  bd (f_X1_has N x2 i1 σ3) fun x5 σ6 =>
  ob (o_nr 1 x5) fun _ => some (x5, σ6)
def f_X1_follows (N : Nat) (a0 : Nat) (i1 : Int32) (σ : Mem) : Option (Int32 × Mem) :=
  ob (o_at σ [20] (some a0)) fun a3 =>
  bd (f_X1_anew N a3  σ) fun _ σ2 =>
  ob (o_at σ2 [20] (some a0)) fun a6 =>
  bd (f_X1_isFact N a6 i1 σ2) fun x4 σ5 =>
  if x4 = 0 then
    ob (o_at σ5 [20] (some a0)) fun a9 =>
    bd (f_X1_no N a9 (1 : Int32) σ5) fun x7 σ8 =>
    some (x7, σ8)
  else
    ob (o_gR σ5 [20] 3 (some a0)) fun x10 =>
    ob (o_at σ5 [27] x10) fun a13 =>
    bd (f_X8_holding N a13  σ5) fun x11 σ12 =>
    ob (o_at σ12 [20] (some a0)) fun a16 =>
    bd (f_X1_allRules N a16  σ12) fun x14 σ15 =>
    ob (o_at σ15 [20] (some a0)) fun a19 =>
    bd (f_X1_doesFollow N a19 i1 x11 x14 σ15) fun x17 σ18 =>
    if x17 = 0 then
      some ((0 : Int32), σ18)
    else
      some ((1 : Int32), σ18)
def f_X7_isFact_b26 (N : Nat)   (σ : Mem) : Option (Int32 × Mem) :=
  ob (o_nr 1 (0 : Int32)) fun _ => some ((0 : Int32), σ)
def f_X7_isFact (N : Nat) (a0 : Nat) (i1 : Int32) (σ : Mem) : Option (Int32 × Mem) :=
  ob (o_gR σ [26] 3 (some a0)) fun x1 =>
  if x1 = none then
    f_X7_isFact_b26 N   σ
  else
    if i1 < 0 then
      f_X7_isFact_b26 N   σ
    else
      ob (o_gR σ [26] 3 (some a0)) fun x2 =>
      ob (o_gI σ [40] 8 x2) fun x3 =>
      if x3 ≤ i1 then
        f_X7_isFact_b26 N   σ
      else
        ob (o_nr 1 (1 : Int32)) fun _ => some ((1 : Int32), σ)
def f_X7_following_b83 (N : Nat) (K5 : Nat → Int32 → Int32 → Int32 → Mem → Option (Int32 × Mem)) (a0 : Nat) (l2 : Int32) (l3 : Int32) (t0 : Int32) (σ : Mem) : Option (Int32 × Mem) :=
  K5 a0 l2 l3 t0 σ
def f_X7_following_b66 (N : Nat) (K5 : Nat → Int32 → Int32 → Int32 → Mem → Option (Int32 × Mem)) (K16 : Nat → Int32 → Int32 → Int32 → Int32 → Mem → Option (Int32 × Mem)) (a0 : Nat) (l2 : Int32) (l3 : Int32) (l5 : Int32) (l6 : Int32) (σ : Mem) : Option (Int32 × Mem) :=
  K16 a0 l2 l3 l5 (l6 + (1 : Int32)) σ
def f_X7_following_b16B (N : Nat) (K5 : Nat → Int32 → Int32 → Int32 → Mem → Option (Int32 × Mem)) (K16 : Nat → Int32 → Int32 → Int32 → Int32 → Mem → Option (Int32 × Mem)) (a0 : Nat) (l2 : Int32) (l3 : Int32) (l5 : Int32) (l6 : Int32) (σ : Mem) : Option (Int32 × Mem) :=
  ob (o_gR σ [26] 3 (some a0)) fun x1 =>
  ob (o_gI σ [40] 9 x1) fun x2 =>
  if x2 ≤ l6 then
    if l3 = l5 then
      f_X7_following_b83 N K5 a0 l2 l3 (0 : Int32) σ
    else
      f_X7_following_b83 N K5 a0 l2 l3 (1 : Int32) σ
  else
    if l6 = l2 then
      f_X7_following_b66 N K5 K16 a0 l2 l3 l5 l6 σ
    else
      ob (o_gR σ [26] 3 (some a0)) fun x3 =>
      ob (o_gR σ [40] 33 x3) fun x4 =>
      ob (o_aI σ 1 x4 l6) fun x5 =>
      if (x5 &&& (l3 ^^^ (-1 : Int32))) = 0 then
        ob (o_gR σ [26] 3 (some a0)) fun x6 =>
        ob (o_gR σ [40] 32 x6) fun x7 =>
        ob (o_aI σ 1 x7 l6) fun x8 =>
        f_X7_following_b66 N K5 K16 a0 l2 (l3 ||| ((1 : Int32) <<< (x8 &&& 31))) l5 l6 σ
      else
        f_X7_following_b66 N K5 K16 a0 l2 l3 l5 l6 σ
def f_X7_following_b16 (N : Nat) (K5 : Nat → Int32 → Int32 → Int32 → Mem → Option (Int32 × Mem)) : Nat → Nat → Int32 → Int32 → Int32 → Int32 → Mem → Option (Int32 × Mem)
  | 0, _, _, _, _, _, _ => none
  | n + 1, a0, l2, l3, l5, l6, σ => f_X7_following_b16B N K5 (f_X7_following_b16 N K5 n) a0 l2 l3 l5 l6 σ
def f_X7_following_b5B (N : Nat)  (K5 : Nat → Int32 → Int32 → Int32 → Mem → Option (Int32 × Mem)) (a0 : Nat) (l2 : Int32) (l3 : Int32) (l4 : Int32) (σ : Mem) : Option (Int32 × Mem) :=
  if l4 = 0 then
    some (l3, σ)
  else
    f_X7_following_b16 N K5 N a0 l2 l3 l3 (0 : Int32) σ
def f_X7_following_b5 (N : Nat)  : Nat → Nat → Int32 → Int32 → Int32 → Mem → Option (Int32 × Mem)
  | 0, _, _, _, _, _ => none
  | n + 1, a0, l2, l3, l4, σ => f_X7_following_b5B N  (f_X7_following_b5 N  n) a0 l2 l3 l4 σ
def f_X7_following (N : Nat) (a0 : Nat) (i1 : Int32) (i2 : Int32) (σ : Mem) : Option (Int32 × Mem) :=
  f_X7_following_b5 N  N a0 i2 i1 (1 : Int32) σ
def f_X7_followsNow (N : Nat) (a0 : Nat) (i1 : Int32) (σ : Mem) : Option (Int32 × Mem) :=
  ob (o_gR σ [26] 3 (some a0)) fun x1 =>
  ob (o_gI σ [40] 13 x1) fun x2 =>
  ob (o_at σ [26] (some a0)) fun a5 =>
  bd (f_X7_following N a5 x2 (-1 : Int32) σ) fun x3 σ4 =>
  bd (f_X7_bit N x3 i1 σ4) fun x6 σ7 =>
  ob (o_nr 1 x6) fun _ => some (x6, σ7)
def f_X7_follows_b27 (N : Nat)  (t0 : Option Nat) (t1 : Int32) (σ : Mem) : Option (Int32 × Mem) :=
  ob (o_at σ [26] t0) fun a3 =>
  bd (f_X7_good N a3 t1 σ) fun x1 σ2 =>
  some (x1, σ2)
def f_X7_follows (N : Nat) (a0 : Nat) (i1 : Int32) (σ : Mem) : Option (Int32 × Mem) :=
  ob (o_pI σ 0 [26] 0 (some a0) (0 : Int32)) fun σ1 =>
  ob (o_at σ1 [26] (some a0)) fun a4 =>
  bd (f_X7_isFact N a4 i1 σ1) fun x2 σ3 =>
  if x2 = 0 then
    ob (o_at σ3 [26] (some a0)) fun a7 =>
    bd (f_X7_refused N a7 (1 : Int32) σ3) fun x5 σ6 =>
    some (x5, σ6)
  else
    ob (o_at σ3 [26] (some a0)) fun a10 =>
    bd (f_X7_followsNow N a10 i1 σ3) fun x8 σ9 =>
    if x8 = 0 then
      f_X7_follows_b27 N  (some a0) (0 : Int32) σ9
    else
      f_X7_follows_b27 N  (some a0) (1 : Int32) σ9
def f_X1_isRight_b71 (N : Nat) (K16 : Nat → Int32 → Int32 → Int32 → Int32 → Mem → Option (Int32 × Mem)) (a0 : Nat) (l1 : Int32) (l2 : Int32) (l4 : Int32) (t0 : Int32) (σ : Mem) : Option (Int32 × Mem) :=
  K16 a0 l1 l2 t0 (l4 + (1 : Int32)) σ
def f_X1_isRight_b66 (N : Nat) (K16 : Nat → Int32 → Int32 → Int32 → Int32 → Mem → Option (Int32 × Mem)) (a0 : Nat) (l1 : Int32) (l2 : Int32) (l4 : Int32) (σ : Mem) : Option (Int32 × Mem) :=
  f_X1_isRight_b71 N K16 a0 l1 l2 l4 (1 : Int32) σ
def f_X1_isRight_b70 (N : Nat) (K16 : Nat → Int32 → Int32 → Int32 → Int32 → Mem → Option (Int32 × Mem)) (a0 : Nat) (l1 : Int32) (l2 : Int32) (l4 : Int32) (σ : Mem) : Option (Int32 × Mem) :=
  f_X1_isRight_b71 N K16 a0 l1 l2 l4 (0 : Int32) σ
def f_X1_isRight_b16B (N : Nat)  (K16 : Nat → Int32 → Int32 → Int32 → Int32 → Mem → Option (Int32 × Mem)) (a0 : Nat) (l1 : Int32) (l2 : Int32) (l3 : Int32) (l4 : Int32) (σ : Mem) : Option (Int32 × Mem) :=
  ob (o_gR σ [20] 3 (some a0)) fun x1 =>
  ob (o_gI σ [27] 20 x1) fun x2 =>
  if x2 ≤ l4 then
    ob (o_nr 1 l3) fun _ => some (l3, σ)
  else
    if l3 = 0 then
      ob (o_gR σ [20] 3 (some a0)) fun x3 =>
      ob (o_gR σ [27] 9 x3) fun x4 =>
      ob (o_aR σ 11 x4 l4) fun x5 =>
      ob (o_gI σ [38] 1 x5) fun x6 =>
      if x6 = l1 then
        ob (o_gR σ [20] 3 (some a0)) fun x7 =>
        ob (o_gR σ [27] 9 x7) fun x8 =>
        ob (o_aR σ 11 x8 l4) fun x9 =>
        ob (o_at σ [38] x9) fun a12 =>
        bd (f_X22_follows N a12 l2 σ) fun x10 σ11 =>
        if x10 = 0 then
          f_X1_isRight_b70 N K16 a0 l1 l2 l4 σ11
        else
          f_X1_isRight_b66 N K16 a0 l1 l2 l4 σ11
      else
        f_X1_isRight_b70 N K16 a0 l1 l2 l4 σ
    else
      f_X1_isRight_b66 N K16 a0 l1 l2 l4 σ
def f_X1_isRight_b16 (N : Nat)  : Nat → Nat → Int32 → Int32 → Int32 → Int32 → Mem → Option (Int32 × Mem)
  | 0, _, _, _, _, _, _ => none
  | n + 1, a0, l1, l2, l3, l4, σ => f_X1_isRight_b16B N  (f_X1_isRight_b16 N  n) a0 l1 l2 l3 l4 σ
def f_X1_isRight (N : Nat) (a0 : Nat) (i1 : Int32) (i2 : Int32) (σ : Mem) : Option (Int32 × Mem) :=
  ob (o_gR σ [20] 3 (some a0)) fun x1 =>
  ob (o_gR σ [27] 8 x1) fun x2 =>
  ob (o_aR σ 10 x2 i1) fun x3 =>
  ob (o_gI σ [37] 0 x3) fun x4 =>
  f_X1_isRight_b16 N  N a0 i1 i2 x4 (0 : Int32) σ
def f_X1_step_b38B (N : Nat)  (K38 : Nat → Int32 → Int32 → Mem → Option (Int32 × Mem)) (a0 : Nat) (l1 : Int32) (l2 : Int32) (σ : Mem) : Option (Int32 × Mem) :=
  ob (o_gR σ [20] 3 (some a0)) fun x1 =>
  ob (o_gI σ [27] 21 x1) fun x2 =>
  if x2 ≤ l2 then
    some ((-2 : Int32), σ)
  else
    ob (o_gR σ [20] 3 (some a0)) fun x3 =>
    ob (o_gR σ [27] 3 x3) fun x4 =>
    ob (o_aI σ 1 x4 l2) fun x5 =>
    ob (o_at σ [20] (some a0)) fun a8 =>
    bd (f_X1_isRight N a8 x5 l1 σ) fun x6 σ7 =>
    if x6 = 0 then
      some (l2, σ7)
    else
      ob (o_gR σ7 [20] 3 (some a0)) fun x9 =>
      ob (o_gR σ7 [27] 3 x9) fun x10 =>
      ob (o_aI σ7 1 x10 l2) fun x11 =>
      K38 a0 (l1 ||| ((1 : Int32) <<< (x11 &&& 31))) (l2 + (1 : Int32)) σ7
def f_X1_step_b38 (N : Nat)  : Nat → Nat → Int32 → Int32 → Mem → Option (Int32 × Mem)
  | 0, _, _, _, _ => none
  | n + 1, a0, l1, l2, σ => f_X1_step_b38B N  (f_X1_step_b38 N  n) a0 l1 l2 σ
def f_X1_step (N : Nat) (a0 : Nat) (σ : Mem) : Option (Int32 × Mem) :=
  ob (o_at σ [20] (some a0)) fun a3 =>
  bd (f_X1_anew N a3  σ) fun _ σ2 =>
  ob (o_gR σ2 [20] 3 (some a0)) fun x4 =>
  if x4 = none then
    ob (o_at σ2 [20] (some a0)) fun a12 =>
    bd (f_X1_no N a12 (1 : Int32) σ2) fun x10 σ11 =>
    some (x10, σ11)
  else
    ob (o_gR σ2 [20] 3 (some a0)) fun x5 =>
    ob (o_gI σ2 [27] 21 x5) fun x6 =>
    if x6 = 0 then
      ob (o_at σ2 [20] (some a0)) fun a9 =>
      bd (f_X1_no N a9 (6 : Int32) σ2) fun x7 σ8 =>
      some (x7, σ8)
    else
      f_X1_step_b38 N  N a0 (0 : Int32) (0 : Int32) σ2
def f_X7_step_b133 (N : Nat) (K39 : Nat → Int32 → Int32 → Mem → Option (Int32 × Mem)) (K73 : Nat → Int32 → Int32 → Int32 → Int32 → Mem → Option (Int32 × Mem)) (a0 : Nat) (l1 : Int32) (l2 : Int32) (l4 : Int32) (t0 : Int32) (σ : Mem) : Option (Int32 × Mem) :=
  K73 a0 l1 l2 t0 (l4 + (1 : Int32)) σ
def f_X7_step_b128 (N : Nat) (K39 : Nat → Int32 → Int32 → Mem → Option (Int32 × Mem)) (K73 : Nat → Int32 → Int32 → Int32 → Int32 → Mem → Option (Int32 × Mem)) (a0 : Nat) (l1 : Int32) (l2 : Int32) (l4 : Int32) (σ : Mem) : Option (Int32 × Mem) :=
  f_X7_step_b133 N K39 K73 a0 l1 l2 l4 (1 : Int32) σ
def f_X7_step_b132 (N : Nat) (K39 : Nat → Int32 → Int32 → Mem → Option (Int32 × Mem)) (K73 : Nat → Int32 → Int32 → Int32 → Int32 → Mem → Option (Int32 × Mem)) (a0 : Nat) (l1 : Int32) (l2 : Int32) (l4 : Int32) (σ : Mem) : Option (Int32 × Mem) :=
  f_X7_step_b133 N K39 K73 a0 l1 l2 l4 (0 : Int32) σ
def f_X7_step_b73B (N : Nat) (K39 : Nat → Int32 → Int32 → Mem → Option (Int32 × Mem)) (K73 : Nat → Int32 → Int32 → Int32 → Int32 → Mem → Option (Int32 × Mem)) (a0 : Nat) (l1 : Int32) (l2 : Int32) (l3 : Int32) (l4 : Int32) (σ : Mem) : Option (Int32 × Mem) :=
  ob (o_gR σ [26] 3 (some a0)) fun x1 =>
  ob (o_gI σ [40] 9 x1) fun x2 =>
  if x2 ≤ l4 then
    if l3 = 0 then
      ob (o_at σ [26] (some a0)) fun a8 =>
      bd (f_X7_good N a8 l2 σ) fun x6 σ7 =>
      some (x6, σ7)
    else
      ob (o_gR σ [26] 3 (some a0)) fun x3 =>
      ob (o_gR σ [40] 34 x3) fun x4 =>
      ob (o_aI σ 1 x4 l2) fun x5 =>
      K39 a0 (l1 ||| ((1 : Int32) <<< (x5 &&& 31))) (l2 + (1 : Int32)) σ
  else
    if l3 = 0 then
      ob (o_gR σ [26] 3 (some a0)) fun x9 =>
      ob (o_gR σ [40] 32 x9) fun x10 =>
      ob (o_aI σ 1 x10 l4) fun x11 =>
      ob (o_gR σ [26] 3 (some a0)) fun x12 =>
      ob (o_gR σ [40] 34 x12) fun x13 =>
      ob (o_aI σ 1 x13 l2) fun x14 =>
      if x11 = x14 then
        ob (o_gR σ [26] 3 (some a0)) fun x15 =>
        ob (o_gR σ [40] 33 x15) fun x16 =>
        ob (o_aI σ 1 x16 l4) fun x17 =>
        if (x17 &&& (l1 ^^^ (-1 : Int32))) = 0 then
          f_X7_step_b128 N K39 K73 a0 l1 l2 l4 σ
        else
          f_X7_step_b132 N K39 K73 a0 l1 l2 l4 σ
      else
        f_X7_step_b132 N K39 K73 a0 l1 l2 l4 σ
    else
      f_X7_step_b128 N K39 K73 a0 l1 l2 l4 σ
def f_X7_step_b73 (N : Nat) (K39 : Nat → Int32 → Int32 → Mem → Option (Int32 × Mem)) : Nat → Nat → Int32 → Int32 → Int32 → Int32 → Mem → Option (Int32 × Mem)
  | 0, _, _, _, _, _, _ => none
  | n + 1, a0, l1, l2, l3, l4, σ => f_X7_step_b73B N K39 (f_X7_step_b73 N K39 n) a0 l1 l2 l3 l4 σ
def f_X7_step_b39B (N : Nat)  (K39 : Nat → Int32 → Int32 → Mem → Option (Int32 × Mem)) (a0 : Nat) (l1 : Int32) (l2 : Int32) (σ : Mem) : Option (Int32 × Mem) :=
  ob (o_gR σ [26] 3 (some a0)) fun x1 =>
  ob (o_gI σ [40] 10 x1) fun x2 =>
  if x2 ≤ l2 then
    ob (o_at σ [26] (some a0)) fun a5 =>
    bd (f_X7_good N a5 (-2 : Int32) σ) fun x3 σ4 =>
    some (x3, σ4)
  else
    ob (o_gR σ [26] 3 (some a0)) fun x6 =>
    ob (o_gI σ [40] 13 x6) fun x7 =>
    ob (o_gR σ [26] 3 (some a0)) fun x8 =>
    ob (o_gR σ [40] 34 x8) fun x9 =>
    ob (o_aI σ 1 x9 l2) fun x10 =>
    bd (f_X7_bit N x7 x10 σ) fun x11 σ12 =>
    f_X7_step_b73 N K39 N a0 l1 l2 x11 (0 : Int32) σ12
def f_X7_step_b39 (N : Nat)  : Nat → Nat → Int32 → Int32 → Mem → Option (Int32 × Mem)
  | 0, _, _, _, _ => none
  | n + 1, a0, l1, l2, σ => f_X7_step_b39B N  (f_X7_step_b39 N  n) a0 l1 l2 σ
def f_X7_step (N : Nat) (a0 : Nat) (σ : Mem) : Option (Int32 × Mem) :=
  ob (o_pI σ 0 [26] 0 (some a0) (0 : Int32)) fun σ1 =>
  ob (o_gR σ1 [26] 3 (some a0)) fun x2 =>
  if x2 = none then
    ob (o_at σ1 [26] (some a0)) fun a10 =>
    bd (f_X7_refused N a10 (1 : Int32) σ1) fun x8 σ9 =>
    some (x8, σ9)
  else
    ob (o_gR σ1 [26] 3 (some a0)) fun x3 =>
    ob (o_gI σ1 [40] 14 x3) fun x4 =>
    if x4 = 0 then
      ob (o_at σ1 [26] (some a0)) fun a7 =>
      bd (f_X7_refused N a7 (6 : Int32) σ1) fun x5 σ6 =>
      some (x5, σ6)
    else
      f_X7_step_b39 N  N a0 (0 : Int32) (0 : Int32) σ1
def f_X1_needs_b88 (N : Nat) (K44 : Nat → Int32 → Int32 → Int32 → Mem → Option (Int32 × Mem)) (a0 : Nat) (l1 : Int32) (l3 : Int32) (t0 : Int32) (t1 : Int32) (σ : Mem) : Option (Int32 × Mem) :=
  K44 a0 l1 (t0 ||| t1) (l3 + (1 : Int32)) σ
def f_X1_needs_b44B (N : Nat)  (K44 : Nat → Int32 → Int32 → Int32 → Mem → Option (Int32 × Mem)) (a0 : Nat) (l1 : Int32) (l2 : Int32) (l3 : Int32) (σ : Mem) : Option (Int32 × Mem) :=
  ob (o_gR σ [20] 3 (some a0)) fun x1 =>
  ob (o_gI σ [27] 20 x1) fun x2 =>
  if x2 ≤ l3 then
    some (l2, σ)
  else
    ob (o_gR σ [20] 3 (some a0)) fun x3 =>
    ob (o_at σ [27] x3) fun a6 =>
    bd (f_X8_holding N a6  σ) fun x4 σ5 =>
    ob (o_at σ5 [20] (some a0)) fun a9 =>
    bd (f_X1_allRules N a9  σ5) fun x7 σ8 =>
    ob (o_at σ8 [20] (some a0)) fun a12 =>
    bd (f_X1_doesFollow N a12 l1 x4 (x7 &&& (((1 : Int32) <<< (l3 &&& 31)) ^^^ (-1 : Int32))) σ8) fun x10 σ11 =>
    if x10 = 0 then
      f_X1_needs_b88 N K44 a0 l1 l3 l2 ((1 : Int32) <<< (l3 &&& 31)) σ11
    else
      f_X1_needs_b88 N K44 a0 l1 l3 l2 (0 : Int32) σ11
def f_X1_needs_b44 (N : Nat)  : Nat → Nat → Int32 → Int32 → Int32 → Mem → Option (Int32 × Mem)
  | 0, _, _, _, _, _ => none
  | n + 1, a0, l1, l2, l3, σ => f_X1_needs_b44B N  (f_X1_needs_b44 N  n) a0 l1 l2 l3 σ
def f_X1_needs (N : Nat) (a0 : Nat) (i1 : Int32) (σ : Mem) : Option (Int32 × Mem) :=
  ob (o_at σ [20] (some a0)) fun a3 =>
  bd (f_X1_anew N a3  σ) fun _ σ2 =>
  ob (o_at σ2 [20] (some a0)) fun a6 =>
  bd (f_X1_isFact N a6 i1 σ2) fun x4 σ5 =>
  if x4 = 0 then
    ob (o_at σ5 [20] (some a0)) fun a19 =>
    bd (f_X1_no N a19 (1 : Int32) σ5) fun x17 σ18 =>
    some (x17, σ18)
  else
    ob (o_gR σ5 [20] 3 (some a0)) fun x7 =>
    ob (o_at σ5 [27] x7) fun a10 =>
    bd (f_X8_holding N a10  σ5) fun x8 σ9 =>
    ob (o_at σ9 [20] (some a0)) fun a13 =>
    bd (f_X1_allRules N a13  σ9) fun x11 σ12 =>
    ob (o_at σ12 [20] (some a0)) fun a16 =>
    bd (f_X1_doesFollow N a16 i1 x8 x11 σ12) fun x14 σ15 =>
    if x14 = 0 then
      some ((-2 : Int32), σ15)
    else
      f_X1_needs_b44 N  N a0 i1 (0 : Int32) (0 : Int32) σ15
def f_X7_needs_b76 (N : Nat) (K38 : Nat → Int32 → Int32 → Int32 → Mem → Option (Int32 × Mem)) (a0 : Nat) (l1 : Int32) (l3 : Int32) (t0 : Int32) (t1 : Int32) (σ : Mem) : Option (Int32 × Mem) :=
  K38 a0 l1 (t0 ||| t1) (l3 + (1 : Int32)) σ
def f_X7_needs_b38B (N : Nat)  (K38 : Nat → Int32 → Int32 → Int32 → Mem → Option (Int32 × Mem)) (a0 : Nat) (l1 : Int32) (l2 : Int32) (l3 : Int32) (σ : Mem) : Option (Int32 × Mem) :=
  ob (o_gR σ [26] 3 (some a0)) fun x1 =>
  ob (o_gI σ [40] 9 x1) fun x2 =>
  if x2 ≤ l3 then
    ob (o_at σ [26] (some a0)) fun a5 =>
    bd (f_X7_good N a5 l2 σ) fun x3 σ4 =>
    some (x3, σ4)
  else
    ob (o_gR σ [26] 3 (some a0)) fun x6 =>
    ob (o_gI σ [40] 13 x6) fun x7 =>
    ob (o_at σ [26] (some a0)) fun a10 =>
    bd (f_X7_following N a10 x7 l3 σ) fun x8 σ9 =>
    bd (f_X7_bit N x8 l1 σ9) fun x11 σ12 =>
    if x11 = 0 then
      f_X7_needs_b76 N K38 a0 l1 l3 l2 ((1 : Int32) <<< (l3 &&& 31)) σ12
    else
      f_X7_needs_b76 N K38 a0 l1 l3 l2 (0 : Int32) σ12
def f_X7_needs_b38 (N : Nat)  : Nat → Nat → Int32 → Int32 → Int32 → Mem → Option (Int32 × Mem)
  | 0, _, _, _, _, _ => none
  | n + 1, a0, l1, l2, l3, σ => f_X7_needs_b38B N  (f_X7_needs_b38 N  n) a0 l1 l2 l3 σ
def f_X7_needs (N : Nat) (a0 : Nat) (i1 : Int32) (σ : Mem) : Option (Int32 × Mem) :=
  ob (o_pI σ 0 [26] 0 (some a0) (0 : Int32)) fun σ1 =>
  ob (o_at σ1 [26] (some a0)) fun a4 =>
  bd (f_X7_isFact N a4 i1 σ1) fun x2 σ3 =>
  if x2 = 0 then
    ob (o_at σ3 [26] (some a0)) fun a13 =>
    bd (f_X7_refused N a13 (1 : Int32) σ3) fun x11 σ12 =>
    some (x11, σ12)
  else
    ob (o_at σ3 [26] (some a0)) fun a7 =>
    bd (f_X7_followsNow N a7 i1 σ3) fun x5 σ6 =>
    if x5 = 0 then
      ob (o_at σ6 [26] (some a0)) fun a10 =>
      bd (f_X7_good N a10 (-2 : Int32) σ6) fun x8 σ9 =>
      some (x8, σ9)
    else
      f_X7_needs_b38 N  N a0 i1 (0 : Int32) (0 : Int32) σ6
def f_X1_enough_b90 (N : Nat) (K32 : Nat → Int32 → Int32 → Int32 → Int32 → Mem → Option (Int32 × Mem)) (a0 : Nat) (l1 : Int32) (l2 : Int32) (l3 : Int32) (l4 : Int32) (σ : Mem) : Option (Int32 × Mem) :=
  K32 a0 l1 l2 l3 (l4 + (1 : Int32)) σ
def f_X1_enough_b73 (N : Nat) (K32 : Nat → Int32 → Int32 → Int32 → Int32 → Mem → Option (Int32 × Mem)) (a0 : Nat) (l1 : Int32) (l2 : Int32) (l3 : Int32) (l4 : Int32) (σ : Mem) : Option (Int32 × Mem) :=
  ob (o_at σ [20] (some a0)) fun a3 =>
  bd (f_X1_allRules N a3  σ) fun x1 σ2 =>
  ob (o_at σ2 [20] (some a0)) fun a6 =>
  bd (f_X1_doesFollow N a6 l1 l4 x1 σ2) fun x4 σ5 =>
  if x4 = 0 then
    f_X1_enough_b90 N K32 a0 l1 l2 l3 l4 σ5
  else
    f_X1_enough_b90 N K32 a0 l1 l2 l4 l4 σ5
def f_X1_enough_b32B (N : Nat)  (K32 : Nat → Int32 → Int32 → Int32 → Int32 → Mem → Option (Int32 × Mem)) (a0 : Nat) (l1 : Int32) (l2 : Int32) (l3 : Int32) (l4 : Int32) (σ : Mem) : Option (Int32 × Mem) :=
  ob (o_gR σ [20] 3 (some a0)) fun x1 =>
  ob (o_gI σ [27] 19 x1) fun x2 =>
  if ((1 : Int32) <<< (x2 &&& 31)) ≤ l4 then
    some (l3, σ)
  else
    if (l4 &&& (l2 ^^^ (-1 : Int32))) = 0 then
      if l3 = (-2 : Int32) then
        f_X1_enough_b73 N K32 a0 l1 l2 l3 l4 σ
      else
        bd (f_X1_isFewer N l4 l3 σ) fun x3 σ4 =>
        if x3 = 0 then
          f_X1_enough_b90 N K32 a0 l1 l2 l3 l4 σ4
        else
          f_X1_enough_b73 N K32 a0 l1 l2 l3 l4 σ4
    else
      f_X1_enough_b90 N K32 a0 l1 l2 l3 l4 σ
def f_X1_enough_b32 (N : Nat)  : Nat → Nat → Int32 → Int32 → Int32 → Int32 → Mem → Option (Int32 × Mem)
  | 0, _, _, _, _, _, _ => none
  | n + 1, a0, l1, l2, l3, l4, σ => f_X1_enough_b32B N  (f_X1_enough_b32 N  n) a0 l1 l2 l3 l4 σ
def f_X1_enough (N : Nat) (a0 : Nat) (i1 : Int32) (σ : Mem) : Option (Int32 × Mem) :=
  ob (o_at σ [20] (some a0)) fun a3 =>
  bd (f_X1_anew N a3  σ) fun _ σ2 =>
  ob (o_at σ2 [20] (some a0)) fun a6 =>
  bd (f_X1_isFact N a6 i1 σ2) fun x4 σ5 =>
  if x4 = 0 then
    ob (o_at σ5 [20] (some a0)) fun a13 =>
    bd (f_X1_no N a13 (1 : Int32) σ5) fun x11 σ12 =>
    some (x11, σ12)
  else
    ob (o_gR σ5 [20] 3 (some a0)) fun x7 =>
    ob (o_at σ5 [27] x7) fun a10 =>
    bd (f_X8_holding N a10  σ5) fun x8 σ9 =>
    f_X1_enough_b32 N  N a0 i1 x8 (-2 : Int32) (0 : Int32) σ9
def f_X7_enough_b83 (N : Nat) (K24 : Nat → Int32 → Int32 → Int32 → Mem → Option (Int32 × Mem)) (a0 : Nat) (l1 : Int32) (l2 : Int32) (l3 : Int32) (σ : Mem) : Option (Int32 × Mem) :=
  K24 a0 l1 l2 (l3 + (1 : Int32)) σ
def f_X7_enough_b68 (N : Nat) (K24 : Nat → Int32 → Int32 → Int32 → Mem → Option (Int32 × Mem)) (a0 : Nat) (l1 : Int32) (l2 : Int32) (l3 : Int32) (σ : Mem) : Option (Int32 × Mem) :=
  ob (o_at σ [26] (some a0)) fun a3 =>
  bd (f_X7_following N a3 l3 (-1 : Int32) σ) fun x1 σ2 =>
  bd (f_X7_bit N x1 l1 σ2) fun x4 σ5 =>
  if x4 = 0 then
    f_X7_enough_b83 N K24 a0 l1 l2 l3 σ5
  else
    f_X7_enough_b83 N K24 a0 l1 l3 l3 σ5
def f_X7_enough_b24B (N : Nat)  (K24 : Nat → Int32 → Int32 → Int32 → Mem → Option (Int32 × Mem)) (a0 : Nat) (l1 : Int32) (l2 : Int32) (l3 : Int32) (σ : Mem) : Option (Int32 × Mem) :=
  ob (o_gR σ [26] 3 (some a0)) fun x1 =>
  ob (o_gI σ [40] 8 x1) fun x2 =>
  if ((1 : Int32) <<< (x2 &&& 31)) ≤ l3 then
    ob (o_at σ [26] (some a0)) fun a5 =>
    bd (f_X7_good N a5 l2 σ) fun x3 σ4 =>
    some (x3, σ4)
  else
    ob (o_gR σ [26] 3 (some a0)) fun x6 =>
    ob (o_gI σ [40] 13 x6) fun x7 =>
    if (l3 &&& (x7 ^^^ (-1 : Int32))) = 0 then
      if l2 = (-2 : Int32) then
        f_X7_enough_b68 N K24 a0 l1 l2 l3 σ
      else
        bd (f_X7_bits N l3 σ) fun x8 σ9 =>
        bd (f_X7_bits N l2 σ9) fun x10 σ11 =>
        if x10 ≤ x8 then
          f_X7_enough_b83 N K24 a0 l1 l2 l3 σ11
        else
          f_X7_enough_b68 N K24 a0 l1 l2 l3 σ11
    else
      f_X7_enough_b83 N K24 a0 l1 l2 l3 σ
def f_X7_enough_b24 (N : Nat)  : Nat → Nat → Int32 → Int32 → Int32 → Mem → Option (Int32 × Mem)
  | 0, _, _, _, _, _ => none
  | n + 1, a0, l1, l2, l3, σ => f_X7_enough_b24B N  (f_X7_enough_b24 N  n) a0 l1 l2 l3 σ
def f_X7_enough (N : Nat) (a0 : Nat) (i1 : Int32) (σ : Mem) : Option (Int32 × Mem) :=
  ob (o_pI σ 0 [26] 0 (some a0) (0 : Int32)) fun σ1 =>
  ob (o_at σ1 [26] (some a0)) fun a4 =>
  bd (f_X7_isFact N a4 i1 σ1) fun x2 σ3 =>
  if x2 = 0 then
    ob (o_at σ3 [26] (some a0)) fun a7 =>
    bd (f_X7_refused N a7 (1 : Int32) σ3) fun x5 σ6 =>
    some (x5, σ6)
  else
    f_X7_enough_b24 N  N a0 i1 (-2 : Int32) (0 : Int32) σ3
def f_X1_cheeseWhy (N : Nat) (a0 : Nat) (i1 : Int32) (σ : Mem) : Option (Int32 × Mem) :=
  ob (o_at σ [20] (some a0)) fun a3 =>
  bd (f_X1_isCase N a3 i1 σ) fun x1 σ2 =>
  if x1 = 0 then
    some ((1 : Int32), σ2)
  else
    ob (o_gR σ2 [20] 3 (some a0)) fun x4 =>
    ob (o_gI σ2 [27] 23 x4) fun x5 =>
    if x5 = 0 then
      some ((6 : Int32), σ2)
    else
      some ((0 : Int32), σ2)
def f_X1_isCheese_b90 (N : Nat) (K4 : Nat → Int32 → Int32 → Int32 → Mem → Option (Int32 × Mem)) (a0 : Nat) (l1 : Int32) (l3 : Int32) (t0 : Int32) (σ : Mem) : Option (Int32 × Mem) :=
  K4 a0 l1 t0 (l3 + (1 : Int32)) σ
def f_X1_isCheese_b89 (N : Nat) (K4 : Nat → Int32 → Int32 → Int32 → Mem → Option (Int32 × Mem)) (a0 : Nat) (l1 : Int32) (l3 : Int32) (σ : Mem) : Option (Int32 × Mem) :=
  f_X1_isCheese_b90 N K4 a0 l1 l3 (0 : Int32) σ
def f_X1_isCheese_b58 (N : Nat) (K4 : Nat → Int32 → Int32 → Int32 → Mem → Option (Int32 × Mem)) (K21 : Nat → Int32 → Int32 → Int32 → Int32 → Int32 → Mem → Option (Int32 × Mem)) (a0 : Nat) (l1 : Int32) (l2 : Int32) (l3 : Int32) (l5 : Int32) (t0 : Int32) (t1 : Int32) (σ : Mem) : Option (Int32 × Mem) :=
  K21 a0 l1 l2 l3 (t0 + t1) (l5 + (1 : Int32)) σ
def f_X1_isCheese_b21B (N : Nat) (K4 : Nat → Int32 → Int32 → Int32 → Mem → Option (Int32 × Mem)) (K21 : Nat → Int32 → Int32 → Int32 → Int32 → Int32 → Mem → Option (Int32 × Mem)) (a0 : Nat) (l1 : Int32) (l2 : Int32) (l3 : Int32) (l4 : Int32) (l5 : Int32) (σ : Mem) : Option (Int32 × Mem) :=
  ob (o_gR σ [20] 3 (some a0)) fun x1 =>
  ob (o_gI σ [27] 16 x1) fun x2 =>
  if x2 ≤ l5 then
    if l2 = 0 then
      f_X1_isCheese_b89 N K4 a0 l1 l3 σ
    else
      ob (o_gR σ [20] 3 (some a0)) fun x3 =>
      ob (o_gR σ [27] 4 x3) fun x4 =>
      ob (o_aI σ 1 x4 l3) fun x5 =>
      if l4 = x5 then
        f_X1_isCheese_b90 N K4 a0 l1 l3 (1 : Int32) σ
      else
        f_X1_isCheese_b89 N K4 a0 l1 l3 σ
  else
    bd (f_X1_has N l1 l5 σ) fun x6 σ7 =>
    if x6 = 0 then
      f_X1_isCheese_b58 N K4 K21 a0 l1 l2 l3 l5 l4 (0 : Int32) σ7
    else
      ob (o_gR σ7 [20] 12 (some a0)) fun x8 =>
      ob (o_at σ7 [24] x8) fun a11 =>
      bd (f_X5_ate N a11 l5 l3 σ7) fun x9 σ10 =>
      f_X1_isCheese_b58 N K4 K21 a0 l1 l2 l3 l5 l4 x9 σ10
def f_X1_isCheese_b21 (N : Nat) (K4 : Nat → Int32 → Int32 → Int32 → Mem → Option (Int32 × Mem)) : Nat → Nat → Int32 → Int32 → Int32 → Int32 → Int32 → Mem → Option (Int32 × Mem)
  | 0, _, _, _, _, _, _, _ => none
  | n + 1, a0, l1, l2, l3, l4, l5, σ => f_X1_isCheese_b21B N K4 (f_X1_isCheese_b21 N K4 n) a0 l1 l2 l3 l4 l5 σ
def f_X1_isCheese_b4B (N : Nat)  (K4 : Nat → Int32 → Int32 → Int32 → Mem → Option (Int32 × Mem)) (a0 : Nat) (l1 : Int32) (l2 : Int32) (l3 : Int32) (σ : Mem) : Option (Int32 × Mem) :=
  ob (o_gR σ [20] 3 (some a0)) fun x1 =>
  ob (o_gI σ [27] 12 x1) fun x2 =>
  if x2 ≤ l3 then
    ob (o_nr 1 l2) fun _ => some (l2, σ)
  else
    f_X1_isCheese_b21 N K4 N a0 l1 l2 l3 (0 : Int32) (0 : Int32) σ
def f_X1_isCheese_b4 (N : Nat)  : Nat → Nat → Int32 → Int32 → Int32 → Mem → Option (Int32 × Mem)
  | 0, _, _, _, _, _ => none
  | n + 1, a0, l1, l2, l3, σ => f_X1_isCheese_b4B N  (f_X1_isCheese_b4 N  n) a0 l1 l2 l3 σ
def f_X1_isCheese (N : Nat) (a0 : Nat) (i1 : Int32) (σ : Mem) : Option (Int32 × Mem) :=
  f_X1_isCheese_b4 N  N a0 i1 (1 : Int32) (0 : Int32) σ
