set_option maxRecDepth 100000
abbrev clsL : List vw_C := [(RX1, TX1, 23), (RX2, TX2, 10), (RX3, TX3, 8), (RX4, TX4, 4), (RX5, TX5, 10), (RX6, TX6, 4), (RX7, TX7, 39), (RX8, TX8, 24), (RX10, TX10, 4), (RX11, TX11, 5), (RX13, TX13, 7), (RX14, TX14, 7), (RX15, TX15, 7), (RX16, TX16, 8), (RX18, TX18, 3), (RX19, TX19, 3), (RX20, TX20, 3), (RX21, TX21, 3), (RX22, TX22, 3), (RX23, TX23, 4), (RX24, TX24, 41), (RJ3, TJ3, 4)]
def tyC : Nat → Nat → FieldType := fun ci => match ci with
  | 0 => tyX1
  | 1 => tyX2
  | 2 => tyX3
  | 3 => tyX4
  | 4 => tyX5
  | 5 => tyX6
  | 6 => tyX7
  | 7 => tyX8
  | 8 => tyX10
  | 9 => tyX11
  | 10 => tyX13
  | 11 => tyX14
  | 12 => tyX15
  | 13 => tyX16
  | 14 => tyX18
  | 15 => tyX19
  | 16 => tyX20
  | 17 => tyX21
  | 18 => tyX22
  | 19 => tyX23
  | 20 => tyX24
  | _ => tyJ3
def fidC : Nat → Nat → Nat := fun ci => match ci with
  | 0 => (fun k => k)
  | 1 => (fun k => k)
  | 2 => (fun k => match k with | 0 => 110 | 1 => 111 | 2 => 112 | 3 => 113 | 4 => 114 | 5 => 115 | 6 => 0 | _ => 1)
  | 3 => (fun k => k)
  | 4 => (fun k => k)
  | 5 => (fun k => k)
  | 6 => (fun k => k)
  | 7 => (fun k => k)
  | 8 => (fun k => match k with | 0 => 100 | 1 => 101 | 2 => 0 | _ => 1)
  | 9 => (fun k => match k with | 0 => 100 | 1 => 101 | 2 => 0 | 3 => 1 | _ => 2)
  | 10 => (fun k => match k with | 0 => 102 | 1 => 103 | 2 => 104 | 3 => 105 | 4 => 106 | 5 => 100 | _ => 101)
  | 11 => (fun k => match k with | 0 => 102 | 1 => 103 | 2 => 104 | 3 => 105 | 4 => 106 | 5 => 100 | _ => 101)
  | 12 => (fun k => match k with | 0 => 102 | 1 => 103 | 2 => 104 | 3 => 105 | 4 => 106 | 5 => 100 | _ => 101)
  | 13 => (fun k => match k with | 0 => 102 | 1 => 103 | 2 => 104 | 3 => 105 | 4 => 106 | 5 => 100 | 6 => 101 | _ => 0)
  | 14 => (fun k => match k with | 0 => 107 | 1 => 108 | _ => 109)
  | 15 => (fun k => match k with | 0 => 107 | 1 => 108 | _ => 109)
  | 16 => (fun k => match k with | 0 => 107 | 1 => 108 | _ => 109)
  | 17 => (fun k => match k with | 0 => 100 | 1 => 101 | _ => 0)
  | 18 => (fun k => k)
  | 19 => (fun k => match k with | 0 => 100 | 1 => 101 | 2 => 0 | _ => 1)
  | 20 => (fun k => k)
  | _ => (fun k => k)
/-- the texts of the String constants: bytes, hash, hashIsZero -/
def kStrs : List (List Int32 × Int32 × Int32) := [([], 0, 1), ([104, 105, 108, 108], 3202625, 0), ([112, 108, 97, 99, 101], 106748167, 0), ([112, 97, 116, 104], 3433509, 0), ([112, 101, 114, 115, 111, 110], -991716523, 0), ([115, 116, 111, 114, 121], 109770997, 0), ([103, 111, 97, 116], 3178267, 0), ([102, 101, 97, 114, 115], 97304899, 0), ([102, 111, 117, 110, 100], 97621890, 0), ([115, 101, 101, 110], 3526267, 0), ([115, 104, 105, 101, 100], 109407315, 0), ([102, 97, 99, 116], 3135084, 0), ([104, 111, 108, 100, 115], 99459988, 0), ([114, 117, 108, 101], 3512060, 0), ([112, 114, 111, 111, 102], 106940740, 0), ([99, 111, 117, 114, 116], 94851467, 0), ([99, 104, 101, 101, 115, 101], -1361525545, 0), ([104, 111, 117, 114, 115], 99469071, 0), ([112, 108, 97, 110, 116, 115], -985762968, 0), ([105, 102], 3357, 0), ([112, 108, 97, 105, 110], 106748362, 0), ([115, 104, 121], 113860, 0), ([98, 105, 108, 108, 121], 93740370, 0), ([107, 105, 100], 106182, 0), ([108, 105, 107, 101, 115], 102974396, 0), ([97, 116], 3123, 0), ([116, 114, 117, 115, 116], 110640728, 0), ([99, 111, 115, 116, 115], 94849606, 0), ([119, 105, 110, 115], 3649559, 0)]
def kLdc : List (String × Nat × String × Nat) := [("java/lang/String", 7, "", 0), ("GoatCourt$Reader", 59, "", 0), ("GoatCourt$Reader", 90, "hill", 2), ("GoatCourt$Reader", 92, "place", 4), ("GoatCourt$Reader", 94, "path", 6), ("GoatCourt$Reader", 96, "person", 8), ("GoatCourt$Reader", 98, "story", 10), ("GoatCourt$Reader", 100, "goat", 12), ("GoatCourt$Reader", 102, "fears", 14), ("GoatCourt$Reader", 104, "found", 16), ("GoatCourt$Reader", 106, "seen", 18), ("GoatCourt$Reader", 108, "shied", 20), ("GoatCourt$Reader", 110, "fact", 22), ("GoatCourt$Reader", 112, "holds", 24), ("GoatCourt$Reader", 114, "rule", 26), ("GoatCourt$Reader", 116, "proof", 28), ("GoatCourt$Reader", 118, "court", 30), ("GoatCourt$Reader", 120, "cheese", 32), ("GoatCourt$Reader", 220, "hours", 34), ("GoatCourt$Reader", 225, "plants", 36), ("GoatCourt$Reader", 122, "if", 38), ("GoatCourt$Reader", 290, "plain", 40), ("GoatCourt$Reader", 295, "shy", 42), ("GoatCourt$Reader", 300, "billy", 44), ("GoatCourt$Reader", 305, "kid", 46), ("GoatCourt$Reader", 332, "likes", 48), ("GoatCourt$Reader", 336, "at", 50), ("GoatCourt$Reader", 339, "trust", 52), ("GoatCourt$Reader", 426, "costs", 54), ("GoatCourt$Reader", 430, "wins", 56), ("GoatCourtModel", 159, "hill", 2), ("GoatCourtModel", 286, "hours", 34), ("GoatCourtModel", 291, "plants", 36), ("GoatCourtModel", 161, "place", 4), ("GoatCourtModel", 162, "path", 6), ("GoatCourtModel", 164, "person", 8), ("GoatCourtModel", 166, "story", 10), ("GoatCourtModel", 168, "goat", 12), ("GoatCourtModel", 170, "fears", 14), ("GoatCourtModel", 172, "found", 16), ("GoatCourtModel", 174, "seen", 18), ("GoatCourtModel", 176, "shied", 20), ("GoatCourtModel", 178, "fact", 22), ("GoatCourtModel", 180, "holds", 24), ("GoatCourtModel", 182, "rule", 26), ("GoatCourtModel", 184, "proof", 28), ("GoatCourtModel", 186, "court", 30), ("GoatCourtModel", 188, "cheese", 32), ("GoatCourtModel", 190, "if", 38), ("GoatCourtModel", 331, "plain", 40), ("GoatCourtModel", 333, "shy", 42), ("GoatCourtModel", 335, "billy", 44), ("GoatCourtModel", 337, "kid", 46), ("GoatCourtModel", 339, "likes", 48), ("GoatCourtModel", 343, "at", 50), ("GoatCourtModel", 345, "trust", 52), ("GoatCourtModel", 422, "costs", 54), ("GoatCourtModel", 424, "wins", 56)]
def kNc : List (String × String) := [("GoatCourt$Person", "GoatCourt$Place"), ("GoatCourt$Plain", "GoatCourt$Place"), ("GoatCourt$Shy", "GoatCourt$Place"), ("GoatCourt$Billy", "GoatCourt$Place"), ("GoatCourt$Kid", "GoatCourt$Place"), ("GoatCourt$Fact", "GoatCourt$Place"), ("GoatCourt$Court", "GoatCourt$Place"), ("GoatCourt$Place", "GoatCourt$Person"), ("GoatCourt$Plain", "GoatCourt$Person"), ("GoatCourt$Shy", "GoatCourt$Person"), ("GoatCourt$Billy", "GoatCourt$Person"), ("GoatCourt$Kid", "GoatCourt$Person"), ("GoatCourt$Fact", "GoatCourt$Person"), ("GoatCourt$Court", "GoatCourt$Person"), ("GoatCourt$Place", "GoatCourt$Goat"), ("GoatCourt$Person", "GoatCourt$Goat"), ("GoatCourt$Fact", "GoatCourt$Goat"), ("GoatCourt$Court", "GoatCourt$Goat"), ("GoatCourt$Place", "GoatCourt$Fact"), ("GoatCourt$Person", "GoatCourt$Fact"), ("GoatCourt$Plain", "GoatCourt$Fact"), ("GoatCourt$Shy", "GoatCourt$Fact"), ("GoatCourt$Billy", "GoatCourt$Fact"), ("GoatCourt$Kid", "GoatCourt$Fact"), ("GoatCourt$Court", "GoatCourt$Fact")]
def kSi : List (String × String × String × Int32) := [("java/lang/String", "COMPACT_STRINGS", "Z", 1), ("java/lang/StringUTF16", "$assertionsDisabled", "Z", 1), ("java/lang/StringUTF16", "HI_BYTE_SHIFT", "I", 0), ("java/lang/StringUTF16", "LO_BYTE_SHIFT", "I", 8)]
/-! THE MACHINE BEHIND A MEMORY PICTURE -/
set_option maxRecDepth 100000
/-- a method: name, code, locals, answer, handlers, frames and locals that it may need -/
abbrev Mth : Type := MethodName × ByteArray × Nat × Option FieldType × List (Nat × Nat × Nat × Nat) × Nat × Nat
abbrev mY (M : Mth) : MethodName := M.1
abbrev mCc (M : Mth) : ByteArray := M.2.1
abbrev mNL (M : Mth) : Nat := M.2.2.1
abbrev mRet (M : Mth) : Option FieldType := M.2.2.2.1
abbrev mHH (M : Mth) : List (Nat × Nat × Nat × Nat) := M.2.2.2.2.1
abbrev mRf (M : Mth) : Nat := M.2.2.2.2.2.1
abbrev mRl (M : Mth) : Nat := M.2.2.2.2.2.2
/-- what is fixed in a run: the launch, class and slot numbers, array classes, constants' addresses, statics' values, the script (its length, its ints), the state at the law's start -/
abbrev Gx : Type := Launch × va_G × (Nat → ClassId) × (Nat → Nat) × (Nat → Option Nat) × (Nat × (Nat → Int32)) × State
abbrev gL (G : Gx) : Launch := G.1
abbrev gD (G : Gx) : va_G := G.2.1
abbrev gA (G : Gx) : Nat → ClassId := G.2.2.1
abbrev gk (G : Gx) : Nat → Nat := G.2.2.2.1
abbrev gst (G : Gx) : Nat → Option Nat := G.2.2.2.2.1
abbrev gX (G : Gx) : Nat × (Nat → Int32) := G.2.2.2.2.2.1
abbrev gs (G : Gx) : State := G.2.2.2.2.2.2
def gb (G : Gx) : Nat := (gs G).heap.size
def ad (G : Gx) (a : Nat) : Nat := if a < 1000 then gk G a else gb G + (a - 1000)
def val (G : Gx) (v : LV) : Value := match v with
  | .inl x => .int x
  | .inr (.inl y) => .long y
  | .inr (.inr o) => va_rf (o.map (ad G))
theorem val_cat (G : Gx) (v : LV) : (val G v).category = lvc v := by
  obtain x | y | o := v
  · rfl
  · rfl
  · cases o <;> rfl
theorem val_cats (G : Gx) (st : List LV) : ((st.map (val G)).map fun v => v.category).sum = (st.map lvc).sum := by
  rw [List.map_map]
  congr 1
  exact List.map_congr_left fun v _ => val_cat G v
def tcode (ty : FieldType) : Nat := match ty with
  | .long => 1
  | .object _ => 2
  | .array _ => 2
  | _ => 0
def fvv (G : Gx) (σ : Mem) (a t j : Nat) : Value := match t with
  | 0 => .int (m_I σ a j)
  | 1 => .long (m_J σ a j)
  | _ => va_rf ((m_R σ a j).map (ad G))
def elV (G : Gx) (σ : Mem) (a k : Nat) : Nat → Value := fun j => if k ≤ 3 then .int (m_I σ a j) else if k = 4 then .long (m_J σ a j) else va_rf ((m_R σ a j).map (ad G))
def kTy : Nat → FieldType := fun k => match k with
  | 1 => .int
  | 2 => .byte
  | 3 => .char
  | 4 => .long
  | 5 => .object "GoatCourt$Ground"
  | 6 => .object "GoatCourt$Place"
  | 7 => .object "GoatCourt$Person"
  | 8 => .object "GoatCourt$Goat"
  | 9 => .object "GoatCourt$Clue"
  | 10 => .object "GoatCourt$Fact"
  | 11 => .object "GoatCourt$Rule"
  | _ => .object "GoatCourt$Court"
def tyL (G : Gx) : List (ClassId × FieldType) := (List.range 12).map (fun i => (gA G (i + 1), kTy (i + 1)))
theorem tyL_at (G : Gx) {k : Nat} (h1 : 1 ≤ k) (h2 : k ≤ 12) : (tyL G)[k - 1]? = some (gA G k, kTy k) := by
  unfold tyL
  rw [List.getElem?_map, List.getElem?_range (by omega)]
  show some (gA G (k - 1 + 1), kTy (k - 1 + 1)) = _
  rw [Nat.sub_add_cancel h1]
/-- the class tables' own facts -/
theorem clsOK : ∀ (ci : Nat) (r : vw_C), clsL[ci]? = some r → (∀ w ∈ u_ws r.1 r.2.1 r.2.2, w ∈ lw_all) ∧ (∀ k, k < r.2.2 → parseFieldDescriptor (r.2.1 k).2.2.1 = some (tyC ci k)) ∧ (∀ a, a < r.2.2 → ∀ b, b < r.2.2 → a ≠ b → (r.2.1 a).2.1 ≠ (r.2.1 b).2.1) ∧ (∀ a, a < r.2.2 → ∀ b, b < r.2.2 → a ≠ b → fidC ci a ≠ fidC ci b) ∧ (∀ k, k < r.2.2 → defaultValue (tyC ci k) = (match tcode (tyC ci k) with | 0 => .int 0 | 1 => .long 0 | _ => .null)) := by
  intro ci r h
  match ci, h with
  | 0, h => cases h; exact ⟨in_X1, tyX1_ok, nmX1, by decide +kernel, by decide +kernel⟩
  | 1, h => cases h; exact ⟨in_X2, tyX2_ok, nmX2, by decide +kernel, by decide +kernel⟩
  | 2, h => cases h; exact ⟨in_X3, tyX3_ok, nmX3, by decide +kernel, by decide +kernel⟩
  | 3, h => cases h; exact ⟨in_X4, tyX4_ok, nmX4, by decide +kernel, by decide +kernel⟩
  | 4, h => cases h; exact ⟨in_X5, tyX5_ok, nmX5, by decide +kernel, by decide +kernel⟩
  | 5, h => cases h; exact ⟨in_X6, tyX6_ok, nmX6, by decide +kernel, by decide +kernel⟩
  | 6, h => cases h; exact ⟨in_X7, tyX7_ok, nmX7, by decide +kernel, by decide +kernel⟩
  | 7, h => cases h; exact ⟨in_X8, tyX8_ok, nmX8, by decide +kernel, by decide +kernel⟩
  | 8, h => cases h; exact ⟨in_X10, tyX10_ok, nmX10, by decide +kernel, by decide +kernel⟩
  | 9, h => cases h; exact ⟨in_X11, tyX11_ok, nmX11, by decide +kernel, by decide +kernel⟩
  | 10, h => cases h; exact ⟨in_X13, tyX13_ok, nmX13, by decide +kernel, by decide +kernel⟩
  | 11, h => cases h; exact ⟨in_X14, tyX14_ok, nmX14, by decide +kernel, by decide +kernel⟩
  | 12, h => cases h; exact ⟨in_X15, tyX15_ok, nmX15, by decide +kernel, by decide +kernel⟩
  | 13, h => cases h; exact ⟨in_X16, tyX16_ok, nmX16, by decide +kernel, by decide +kernel⟩
  | 14, h => cases h; exact ⟨in_X18, tyX18_ok, nmX18, by decide +kernel, by decide +kernel⟩
  | 15, h => cases h; exact ⟨in_X19, tyX19_ok, nmX19, by decide +kernel, by decide +kernel⟩
  | 16, h => cases h; exact ⟨in_X20, tyX20_ok, nmX20, by decide +kernel, by decide +kernel⟩
  | 17, h => cases h; exact ⟨in_X21, tyX21_ok, nmX21, by decide +kernel, by decide +kernel⟩
  | 18, h => cases h; exact ⟨in_X22, tyX22_ok, nmX22, by decide +kernel, by decide +kernel⟩
  | 19, h => cases h; exact ⟨in_X23, tyX23_ok, nmX23, by decide +kernel, by decide +kernel⟩
  | 20, h => cases h; exact ⟨in_X24, tyX24_ok, nmX24, by decide +kernel, by decide +kernel⟩
  | 21, h => cases h; exact ⟨in_J3, tyJ3_ok, nmJ3, by decide +kernel, by decide +kernel⟩
  | n + 22, h => cases h
/-- an object cell, to be read -/
def rdO (G : Gx) (σ : Mem) (H : Heap) (a ci N : Nat) : Prop := ∃ cell : Cell, H[ad G a]? = some cell ∧ cell.cls = (gD G).1 ci ∧ cell.vm ≠ .unknown ∧ cell.vm.isStatics = false ∧ ∀ k, k < N → cell.slots[(gD G).2 ci k]? = some (fvv G σ a (tcode (tyC ci k)) (fidC ci k))
/-- an object cell of ours -/
def okO (G : Gx) (σ : Mem) (H : Heap) (a ci N : Nat) : Prop := t_OB (ad G a) ((gD G).1 ci) N ((gD G).2 ci) H (fun k => fvv G σ a (tcode (tyC ci k)) (fidC ci k))
def okAt (G : Gx) (σ : Mem) (H : Heap) (a : Nat) : Prop :=
  ((m_T σ a).1 < 20 → 1 ≤ (m_T σ a).1 ∧ (m_T σ a).1 ≤ 12 ∧ H[ad G a]? = some (arrV (gA G (m_T σ a).1) (m_T σ a).2 (elV G σ a (m_T σ a).1))) ∧
  (20 ≤ (m_T σ a).1 → ∃ r : vw_C, clsL[(m_T σ a).1 - 20]? = some r ∧ okO G σ H a ((m_T σ a).1 - 20) r.2.2)
/-- the memory's constants: String number i at 2 i, its bytes at 2 i + 1 -/
def kT (a : Nat) : Nat × Nat := if a < 2 * kStrs.length then (if a % 2 = 0 then (41, 0) else (2, (kStrs.getD (a / 2) ([], 0, 0)).1.length)) else (0, 0)
def kR (a j : Nat) : Option Nat := if a < 2 * kStrs.length ∧ a % 2 = 0 ∧ j = 0 then some (a + 1) else none
def kI (a j : Nat) : Int32 := if a % 2 = 0 then (if j = 2 then (kStrs.getD (a / 2) ([], 0, 0)).2.1 else if j = 3 then (kStrs.getD (a / 2) ([], 0, 0)).2.2 else 0) else (kStrs.getD (a / 2) ([], 0, 0)).1.getD j 0
/-- the script is the constant 998 -/
def kTg (G : Gx) (a : Nat) : Nat × Nat := if a = 998 then (1, (gX G).1) else kT a
def kIg (G : Gx) (a j : Nat) : Int32 := if a = 998 then (gX G).2 j else kI a j
def kRg (G : Gx) (a j : Nat) : Option Nat := if a = 999 then gst G j else kR a j
/-- the memory is as σ says -/
def mSt (G : Gx) (σ : Mem) (H : Heap) : Prop :=
  H.size + 1000 = gb G + m_N σ ∧ 1000 ≤ m_N σ ∧ (∀ a, 1000 ≤ a → (m_T σ a).1 ≠ 0 → a < m_N σ ∧ okAt G σ H a) ∧ (∀ a, a < 1000 → m_T σ a = kTg G a ∧ ∀ j, m_R σ a j = kRg G a j ∧ m_I σ a j = kIg G a j)
def wA (G : Gx) : Addr → Prop := fun q => gb G ≤ q
/-- a state of the run: warmed from the start, nothing old written -/
def GI (G : Gx) (U : State) : Prop := (gs G).WarmedH U.vm ∧ gb G ≤ U.heap.size ∧ ∀ q, q < gb G → U.heap[q]? = (gs G).heap[q]?
/-- a constant's cell -/
def kOK (G : Gx) (a : Nat) : Prop :=
  ((kTg G a).1 = 41 → ∃ cell : Cell, (gs G).heap[gk G a]? = some cell ∧ cell.cls = (gD G).1 21 ∧ cell.vm ≠ .unknown ∧ cell.vm.isStatics = false ∧ ∀ k, k < 4 → cell.slots[(gD G).2 21 k]? = some (if k = 0 then va_rf ((kR a 0).map (gk G)) else .int (kIg G a k))) ∧
  (∀ k, (k = 1 ∨ k = 2) → (kTg G a).1 = k → ∃ cell : Cell, (gs G).heap[gk G a]? = some cell ∧ (gs G).isArrayOf cell (kTy k) ∧ cell.vm ≠ .unknown ∧ cell.vm.isStatics = false ∧ cell.slots.size = (kTg G a).2 ∧ ∀ j, j < (kTg G a).2 → cell.slots[j]? = some (.int (kIg G a j)))
/-- the statics: which, by number -/
def kSt : List (String × String × String) := [("java/lang/Throwable", "UNASSIGNED_STACK", "[Ljava/lang/StackTraceElement;"), ("java/lang/Throwable", "SUPPRESSED_SENTINEL", "Ljava/util/List;"), ("jdk/internal/util/Preconditions", "SIOOBE_FORMATTER", "Ljava/util/function/BiFunction;")]
/-- what holds of the start -/
def G0 (G : Gx) : Prop :=
  va_K (gD G) clsL (tyL G) (gs G) ∧ (∀ w ∈ lw_tbl, w.onTables = true → va_Nw w (gs G)) ∧ (∀ a, gk G a < gb G) ∧ (∀ a, a < 1000 → kOK G a) ∧
  (∀ C, C ∈ ["GoatCourt$Ground", "GoatCourt$Place", "GoatCourt$Person", "GoatCourt$Goat", "GoatCourt$Clue", "GoatCourt$Fact", "GoatCourt$Rule", "GoatCourt$Court"] → va_AO C (gs G)) ∧
  (∀ q ∈ kNc, va_Nc q.1 q.2 (gs G)) ∧ (∀ q ∈ kLdc, vk_R q.1 q.2.1 q.2.2.1 (gk G q.2.2.2) (gs G)) ∧
  (∀ q ∈ kSi, va_Z q.1 q.2.1 q.2.2.1 (.int q.2.2.2) (wA G) (gs G) (gs G).heap) ∧
  (∀ (j : Nat) (q : String × String × String), kSt[j]? = some q → va_Z q.1 q.2.1 q.2.2 (va_rf ((gst G j).map (ad G))) (wA G) (gs G) (gs G).heap) ∧ (∀ j b, gst G j = some b → b < 1000) ∧
  (gL G).stackTraces = false ∧ vx_Zq Bundle.tN "UNASSIGNED_STACK" Bundle.steD (wA G) (gs G) (gs G).heap ∧ vx_Zq Bundle.tN "SUPPRESSED_SENTINEL" Bundle.listD (wA G) (gs G) (gs G).heap
theorem GI.warm {G : Gx} {s U : State} (h : GI G s) (hW : s.WarmedH U.vm) (hz : s.heap.size ≤ U.heap.size) (hq : ∀ q, q < s.heap.size → ¬ wA G q → U.heap[q]? = s.heap[q]?) : GI G U :=
  ⟨State.WarmedH.trans h.1 hW, Nat.le_trans h.2.1 hz, fun q hl => (hq q (Nat.lt_of_lt_of_le hl h.2.1) (Nat.not_le.mpr hl)).trans (h.2.2 q hl)⟩
theorem ad_lo {G : Gx} {a : Nat} (h : a < 1000) : ad G a = gk G a := if_pos h
theorem ad_hi {G : Gx} {a : Nat} (h : 1000 ≤ a) : ad G a = gb G + (a - 1000) := if_neg (Nat.not_lt.mpr h)
theorem ad_wA {G : Gx} {a : Nat} (h : 1000 ≤ a) : wA G (ad G a) := by
  rw [ad_hi h]
  exact Nat.le_add_right _ _
theorem ad_ne {G : Gx} (h0 : G0 G) {a b : Nat} (ha : 1000 ≤ a) (h : b ≠ a) : ad G b ≠ ad G a := by
  rw [ad_hi ha]
  rcases Nat.lt_or_ge b 1000 with hb | hb
  · rw [ad_lo hb]
    have := h0.2.2.1 b
    omega
  · rw [ad_hi hb]
    omega
/-! locals by a list -/
def lget : List (Option LV) → Nat → Option LV
  | [], _ => none
  | x :: _, 0 => x
  | _ :: l, n + 1 => lget l n
/-- a long is spoilt by what is stored into its second half -/
def lclr (x : Option LV) : Option LV := match x with
  | some (.inr (.inl _)) => none
  | y => y
def lset : List (Option LV) → Nat → LV → List (Option LV)
  | [], _, _ => []
  | _ :: l, 0, v => some v :: l
  | x :: l, 1, v => lclr x :: lset l 0 v
  | x :: l, n + 2, v => x :: lset l (n + 1) v
def lnone : List (Option LV) → List (Option LV)
  | [] => []
  | _ :: l => none :: l
/-- a long is stored: its two places -/
def lsetL : List (Option LV) → Nat → LV → List (Option LV)
  | [], _, _ => []
  | _ :: l, 0, v => some v :: lnone l
  | x :: l, 1, v => lclr x :: lsetL l 0 v
  | x :: l, n + 2, v => x :: lsetL l (n + 1) v
def lOK (G : Gx) (nL : Nat) (ls : Array Slot) (L : List (Option LV)) : Prop := ls.size = nL ∧ lv_wf ls ∧ ∀ i v, lget L i = some v → ls[i]? = some (.val (val G v))
def lasc (G : Gx) (L : List (Option LV)) : List (Nat × Value) := (List.range L.length).filterMap (fun j => (lget L j).map (fun w => (j, val G w)))
theorem lget_lt {L : List (Option LV)} {i : Nat} {v : LV} (h : lget L i = some v) : i < L.length := by
  induction L generalizing i with
  | nil => cases h
  | cons x l ih =>
    cases i with
    | zero => exact Nat.zero_lt_succ _
    | succ n => exact Nat.succ_lt_succ (ih h)
theorem lasc_mem {G : Gx} {L : List (Option LV)} {q : Nat × Value} : q ∈ lasc G L ↔ ∃ w, lget L q.1 = some w ∧ q.2 = val G w := by
  unfold lasc
  rw [List.mem_filterMap]
  constructor
  · rintro ⟨j, -, h⟩
    cases hj : lget L j with
    | none => rw [hj] at h; cases h
    | some w =>
      rw [hj] at h
      cases h
      exact ⟨w, hj, rfl⟩
  · rintro ⟨w, h1, h2⟩
    exact ⟨q.1, List.mem_range.mpr (lget_lt h1), by rw [h1]; show some (q.1, val G w) = some q; rw [← h2]⟩
theorem lOK.has {G : Gx} {nL : Nat} {ls : Array Slot} {L : List (Option LV)} (h : lOK G nL ls L) : lv_has ls nL (lasc G L) :=
  ⟨h.1, h.2.1, fun q hq => by
    obtain ⟨w, h1, h2⟩ := lasc_mem.mp hq
    rw [h2]
    exact h.2.2 _ _ h1⟩
theorem lget_lset : ∀ (L : List (Option LV)) (i : Nat) (v : LV) (j : Nat) (w : LV), lget (lset L i v) j = some w → (j = i ∧ w = v) ∨ (j ≠ i ∧ lget L j = some w ∧ ¬ (j + 1 = i ∧ lvc w = 2))
  | [], _, _, _, _, h => by cases h
  | x :: l, 0, v, j, w, h => by
    cases j with
    | zero => left; exact ⟨rfl, (Option.some.inj h).symm⟩
    | succ n => right; exact ⟨by omega, h, by omega⟩
  | x :: l, 1, v, j, w, h => by
    cases j with
    | zero =>
      right
      have hx : lclr x = some w := h
      refine ⟨by omega, ?_, fun q => ?_⟩
      · obtain _ | y | y | y := x <;> first | (cases hx; done) | exact hx
      · obtain _ | y | y | y := x <;> cases hx <;> (have := q.2; cases this)
    | succ n =>
      rcases lget_lset l 0 v n w h with ⟨h1, h2⟩ | ⟨h1, h2, h3⟩
      · left; exact ⟨by omega, h2⟩
      · right; exact ⟨by omega, h2, by omega⟩
  | x :: l, m + 2, v, j, w, h => by
    cases j with
    | zero => right; exact ⟨by omega, h, by omega⟩
    | succ n =>
      rcases lget_lset l (m + 1) v n w h with ⟨h1, h2⟩ | ⟨h1, h2, h3⟩
      · left; exact ⟨by omega, h2⟩
      · right; exact ⟨by omega, h2, fun q => h3 ⟨by omega, q.2⟩⟩
theorem lget_lnone (l : List (Option LV)) (j : Nat) (w : LV) (h : lget (lnone l) j = some w) : j ≠ 0 ∧ lget l j = some w := by
  cases l with
  | nil => cases h
  | cons x l =>
    cases j with
    | zero => cases h
    | succ n => exact ⟨by omega, h⟩
theorem lget_lsetL : ∀ (L : List (Option LV)) (i : Nat) (v : LV) (j : Nat) (w : LV), lget (lsetL L i v) j = some w → (j = i ∧ w = v) ∨ (j ≠ i ∧ j ≠ i + 1 ∧ lget L j = some w ∧ ¬ (j + 1 = i ∧ lvc w = 2))
  | [], _, _, _, _, h => by cases h
  | x :: l, 0, v, j, w, h => by
    cases j with
    | zero => left; exact ⟨rfl, (Option.some.inj h).symm⟩
    | succ n =>
      obtain ⟨h1, h2⟩ := lget_lnone l n w h
      right; exact ⟨by omega, by omega, h2, by omega⟩
  | x :: l, 1, v, j, w, h => by
    cases j with
    | zero =>
      right
      have hx : lclr x = some w := h
      refine ⟨by omega, by omega, ?_, fun q => ?_⟩
      · obtain _ | y | y | y := x <;> first | (cases hx; done) | exact hx
      · obtain _ | y | y | y := x <;> cases hx <;> (have := q.2; cases this)
    | succ n =>
      rcases lget_lsetL l 0 v n w h with ⟨h1, h2⟩ | ⟨h1, h1', h2, h3⟩
      · left; exact ⟨by omega, h2⟩
      · right; exact ⟨by omega, by omega, h2, by omega⟩
  | x :: l, m + 2, v, j, w, h => by
    cases j with
    | zero => right; exact ⟨by omega, by omega, h, by omega⟩
    | succ n =>
      rcases lget_lsetL l (m + 1) v n w h with ⟨h1, h2⟩ | ⟨h1, h1', h2, h3⟩
      · left; exact ⟨by omega, h2⟩
      · right; exact ⟨by omega, by omega, h2, fun q => h3 ⟨by omega, q.2⟩⟩
theorem lOK.set {G : Gx} {nL i : Nat} {ls : Array Slot} {L : List (Option LV)} {v : LV} (h : lv_has ls nL ((i, val G v) :: (lasc G L).filter (fun q => !(q.1 == i) && !(q.1 + 1 == i && q.2.category == 2)))) : lOK G nL ls (lset L i v) := by
  refine ⟨h.1, h.2.1, fun j w hj => ?_⟩
  rcases lget_lset L i v j w hj with ⟨h1, h2⟩ | ⟨h1, h2, h3⟩
  · rw [h1, h2]
    exact h.2.2 _ List.mem_cons_self
  · refine h.2.2 (j, val G w) (List.mem_cons_of_mem _ (List.mem_filter.mpr ⟨lasc_mem.mpr ⟨w, h2, rfl⟩, ?_⟩))
    simp only [Bool.and_eq_true, Bool.not_eq_true', beq_eq_false_iff_ne, ne_eq, Bool.and_eq_false_iff, val_cat]
    refine ⟨h1, ?_⟩
    by_cases h4 : j + 1 = i
    · right
      exact fun q => h3 ⟨h4, q⟩
    · left
      exact h4
theorem lOK.setL {G : Gx} {nL i : Nat} {ls : Array Slot} {L : List (Option LV)} {v : LV} (h : lv_has ls nL ((i, val G v) :: (lasc G L).filter (fun q => !(q.1 == i) && (!(q.1 == i + 1) && !(q.1 + 1 == i && q.2.category == 2))))) : lOK G nL ls (lsetL L i v) := by
  refine ⟨h.1, h.2.1, fun j w hj => ?_⟩
  rcases lget_lsetL L i v j w hj with ⟨h1, h2⟩ | ⟨h1, h1', h2, h3⟩
  · rw [h1, h2]
    exact h.2.2 _ List.mem_cons_self
  · refine h.2.2 (j, val G w) (List.mem_cons_of_mem _ (List.mem_filter.mpr ⟨lasc_mem.mpr ⟨w, h2, rfl⟩, ?_⟩))
    simp only [Bool.and_eq_true, Bool.not_eq_true', beq_eq_false_iff_ne, ne_eq, Bool.and_eq_false_iff, val_cat]
    refine ⟨h1, h1', ?_⟩
    by_cases h4 : j + 1 = i
    · right
      exact fun q => h3 ⟨h4, q⟩
    · left
      exact h4
/-- less is known: the locals of a place where ways meet -/
def lle : List (Option LV) → List (Option LV) → Prop
  | [], _ => True
  | none :: _, [] => True
  | some _ :: _, [] => False
  | none :: l, _ :: k => lle l k
  | some v :: l, w :: k => w = some v ∧ lle l k
theorem lle_nil : ∀ (l : List (Option LV)) (i : Nat) (v : LV), lle l [] → lget l i = some v → i ≠ 0 ∨ False
  | [], _, _, _, h => by cases h
  | none :: l, 0, _, _, h => by cases h
  | none :: l, n + 1, _, _, _ => Or.inl (by omega)
  | some _ :: _, _, _, h, _ => False.elim h
theorem lle_get : ∀ (L K : List (Option LV)) (i : Nat) (v : LV), L.length ≤ K.length → lle L K → lget L i = some v → lget K i = some v
  | [], _, _, _, _, _, h => by cases h
  | none :: l, [], _, _, hl, _, _ => absurd hl (by simp)
  | some x :: l, [], _, _, hl, _, _ => absurd hl (by simp)
  | none :: l, _ :: k, 0, _, _, _, h => by cases h
  | none :: l, _ :: k, n + 1, v, hl, h, g => lle_get l k n v (by simpa using hl) h g
  | some x :: l, w :: k, 0, v, _, h, g => by
    show w = some v
    rw [h.1]
    exact g
  | some x :: l, w :: k, n + 1, v, hl, h, g => lle_get l k n v (by simpa using hl) h.2 g
theorem lOK.le {G : Gx} {nL : Nat} {ls : Array Slot} {L K : List (Option LV)} (h : lOK G nL ls K) (hl : L.length ≤ K.length) (hk : lle L K) : lOK G nL ls L := ⟨h.1, h.2.1, fun i v g => h.2.2 i v (lle_get L K i v hl hk g)⟩
/-- the locals with which a method begins -/
def largs : List LV → List (Option LV)
  | [] => []
  | .inr (.inl y) :: vs => some (.inr (.inl y)) :: none :: largs vs
  | v :: vs => some v :: largs vs
theorem largs_get (G : Gx) : ∀ (vs : List LV) (o i : Nat) (v : LV), lget (largs vs) i = some v → (o + i, val G v) ∈ lv_args o (vs.map (val G))
  | [], _, _, _, h => by cases h
  | .inl x :: vs, o, i, v, h => by
    show (o + i, val G v) ∈ (o, Value.int x) :: lv_args (o + 1) (vs.map (val G))
    cases i with
    | zero =>
      have : vI x = v := Option.some.inj h
      subst this
      exact List.mem_cons_self
    | succ n =>
      have := largs_get G vs (o + 1) n v h
      rw [show o + (n + 1) = o + 1 + n by omega]
      exact List.mem_cons_of_mem _ this
  | .inr (.inl y) :: vs, o, i, v, h => by
    show (o + i, val G v) ∈ (o, Value.long y) :: lv_args (o + 2) (vs.map (val G))
    match i, h with
    | 0, h =>
      have : vL y = v := Option.some.inj h
      subst this
      exact List.mem_cons_self
    | 1, h => cases h
    | n + 2, h =>
      have := largs_get G vs (o + 2) n v h
      rw [show o + (n + 2) = o + 2 + n by omega]
      exact List.mem_cons_of_mem _ this
  | .inr (.inr r) :: vs, o, i, v, h => by
    have hc : (val G (vR r)).category = 1 := val_cat G (vR r)
    show (o + i, val G v) ∈ (o, val G (vR r)) :: lv_args (if (val G (vR r)).category = 2 then o + 2 else o + 1) (vs.map (val G))
    rw [hc, if_neg (by decide)]
    cases i with
    | zero =>
      have : vR r = v := Option.some.inj h
      subst this
      exact List.mem_cons_self
    | succ n =>
      have := largs_get G vs (o + 1) n v h
      rw [show o + (n + 1) = o + 1 + n by omega]
      exact List.mem_cons_of_mem _ this
theorem lg_len (G : Gx) (vs : List LV) : (lg_sl (vs.map (val G))).length = (vs.map lvc).sum := by
  induction vs with
  | nil => rfl
  | cons v vs ih =>
    show (lg_sl (val G v :: vs.map (val G))).length = lvc v + (vs.map lvc).sum
    rw [← ih, ← val_cat G v]
    unfold lg_sl
    rw [List.flatMap_cons, List.length_append]
    congr 1
    rw [val_cat G v]
    obtain x | y | r := v <;> rfl
theorem lOK.entry (G : Gx) (vs : List LV) {n : Nat} (h : (vs.map lvc).sum ≤ n) : lOK G n ((lg_sl (vs.map (val G)) ++ List.replicate (n - (lg_sl (vs.map (val G))).length) Slot.unset).toArray) (largs vs) := by
  have h1 := lv_entry (vs.map (val G)) (n := n) (by rw [lg_len]; exact h)
  refine ⟨h1.1, h1.2.1, fun i v g => ?_⟩
  have := largs_get G vs 0 i v g
  rw [Nat.zero_add] at this
  exact h1.2.2 _ this

