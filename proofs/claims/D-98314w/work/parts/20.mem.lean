/-! MEMORY PICTURES: a memory is kinds, references, ints, longs of all cells, the next address, the slots used -/
set_option maxRecDepth 100000
abbrev LV : Type := Int32 ⊕ (Int64 ⊕ Option Nat)
abbrev vI (x : Int32) : LV := Sum.inl x
abbrev vL (x : Int64) : LV := Sum.inr (Sum.inl x)
abbrev vR (o : Option Nat) : LV := Sum.inr (Sum.inr o)
def lvc (v : LV) : Nat := match v with
  | .inl _ => 1
  | .inr (.inl _) => 2
  | .inr (.inr _) => 1
abbrev Ex : Type := Nat × String
abbrev Out : Type := Option LV ⊕ Ex
abbrev Mem : Type := (Nat → Nat × Nat) × (Nat → Nat → Option Nat) × (Nat → Nat → Int32) × (Nat → Nat → Int64) × Nat × Nat
def m_T (σ : Mem) (a : Nat) : Nat × Nat := σ.1 a
def m_R (σ : Mem) (a k : Nat) : Option Nat := σ.2.1 a k
def m_I (σ : Mem) (a k : Nat) : Int32 := σ.2.2.1 a k
def m_J (σ : Mem) (a k : Nat) : Int64 := σ.2.2.2.1 a k
def m_N (σ : Mem) : Nat := σ.2.2.2.2.1
def m_S (σ : Mem) : Nat := σ.2.2.2.2.2
/-- one place of a map of maps is set -/
def up2 {α : Type} (f : Nat → Nat → α) (a k : Nat) (v : α) : Nat → Nat → α := fun b j => if b = a ∧ j = k then v else f b j
/-- a whole row is set -/
def row2 {α : Type} (f : Nat → Nat → α) (a : Nat) (g : Nat → α) : Nat → Nat → α := fun b j => if b = a then g j else f b j
def s_R (σ : Mem) (a k : Nat) (v : Option Nat) : Mem := (σ.1, up2 σ.2.1 a k v, σ.2.2)
def s_I (σ : Mem) (a k : Nat) (v : Int32) : Mem := (σ.1, σ.2.1, up2 σ.2.2.1 a k v, σ.2.2.2)
def s_J (σ : Mem) (a k : Nat) (v : Int64) : Mem := (σ.1, σ.2.1, σ.2.2.1, up2 σ.2.2.2.1 a k v, σ.2.2.2.2)
def s_Row (σ : Mem) (a : Nat) (g : Nat → Int32) : Mem := (σ.1, σ.2.1, row2 σ.2.2.1 a g, σ.2.2.2)
/-- a new cell of a kind, of a length, of so many slots -/
def s_New (σ : Mem) (kd len sl : Nat) : Mem := (fun b => if b = m_N σ then (kd, len) else σ.1 b, row2 σ.2.1 (m_N σ) (fun _ => none), row2 σ.2.2.1 (m_N σ) (fun _ => 0), row2 σ.2.2.2.1 (m_N σ) (fun _ => 0), m_N σ + 1, m_S σ + sl)
/-! the sequencing: what fails has no meaning -/
def ob {α β : Type} (x : Option α) (k : α → Option β) : Option β := match x with
  | none => none
  | some a => k a
def bd {α β : Type} (x : Option (α × Mem)) (k : α → Mem → Option β) : Option β := match x with
  | none => none
  | some (a, σ) => k a σ
/-- of a callee that may throw: what it throws goes on -/
def bx {α β : Type} (x : Option ((α ⊕ Ex) × Mem)) (k : α → Mem → Option ((β ⊕ Ex) × Mem)) : Option ((β ⊕ Ex) × Mem) := match x with
  | none => none
  | some (.inl a, σ) => k a σ
  | some (.inr e, σ) => some (.inr e, σ)
/-- of a callee whose exceptions are caught -/
def bh {α β : Type} (E : String) (x : Option ((α ⊕ Ex) × Mem)) (h : Nat → Mem → Option β) (k : α → Mem → Option β) : Option β := match x with
  | none => none
  | some (.inl a, σ) => k a σ
  | some (.inr e, σ) => if e.2 = E then h e.1 σ else none
theorem ob_some {α β : Type} (a : α) (k : α → Option β) : ob (some a) k = k a := rfl
theorem ob_none {α β : Type} (k : α → Option β) : ob none k = none := rfl
theorem bd_some {α β : Type} (a : α) (σ : Mem) (k : α → Mem → Option β) : bd (some (a, σ)) k = k a σ := rfl
theorem bd_none {α β : Type} (k : α → Mem → Option β) : bd none k = none := rfl
theorem bx_some {α β : Type} (a : α) (σ : Mem) (k : α → Mem → Option ((β ⊕ Ex) × Mem)) : bx (some (.inl a, σ)) k = k a σ := rfl
theorem bx_thr {α β : Type} (e : Ex) (σ : Mem) (k : α → Mem → Option ((β ⊕ Ex) × Mem)) : bx (some (.inr e, σ)) k = some (.inr e, σ) := rfl
theorem bh_some {α β : Type} (E : String) (a : α) (σ : Mem) (k : α → Mem → Option β) (h : Nat → Mem → Option β) : bh E (some (.inl a, σ)) h k = k a σ := rfl
theorem bh_thr {α β : Type} (E : String) (a : Nat) (σ : Mem) (k : α → Mem → Option β) (h : Nat → Mem → Option β) : bh E (some (.inr (a, E), σ)) h k = h a σ := if_pos rfl
/-! operations -/
/-- an index within -/
def inb (i : Int32) (n : Nat) : Bool := decide (¬ i < 0) && decide (i.toNatClampNeg < n)
/-- the address of an object of one of the kinds -/
def o_at (σ : Mem) (ks : List Nat) (o : Option Nat) : Option Nat := match o with
  | none => none
  | some a => if (m_T σ a).1 ∈ ks then some a else none
def o_gI (σ : Mem) (ks : List Nat) (j : Nat) (o : Option Nat) : Option Int32 := ob (o_at σ ks o) fun a => some (m_I σ a j)
def o_gJ (σ : Mem) (ks : List Nat) (j : Nat) (o : Option Nat) : Option Int64 := ob (o_at σ ks o) fun a => some (m_J σ a j)
def o_gR (σ : Mem) (ks : List Nat) (j : Nat) (o : Option Nat) : Option (Option Nat) := ob (o_at σ ks o) fun a => some (m_R σ a j)
/-- what a field of type code t keeps as it is: 0 int, 1 boolean, 2 byte -/
def nok (t : Nat) (v : Int32) : Bool := match t with
  | 0 => true
  | 1 => decide (v = 0) || decide (v = 1)
  | _ => decide (v.toInt8.toInt32 = v)
def o_pI (σ : Mem) (t : Nat) (ks : List Nat) (j : Nat) (o : Option Nat) (v : Int32) : Option Mem := ob (o_at σ ks o) fun a => if 1000 ≤ a ∧ nok t v = true then some (s_I σ a j v) else none
def o_pJ (σ : Mem) (ks : List Nat) (j : Nat) (o : Option Nat) (v : Int64) : Option Mem := ob (o_at σ ks o) fun a => if 1000 ≤ a then some (s_J σ a j v) else none
def o_pR (σ : Mem) (ks : List Nat) (j : Nat) (o : Option Nat) (v : Option Nat) : Option Mem := ob (o_at σ ks o) fun a => if 1000 ≤ a then some (s_R σ a j v) else none
def o_len (σ : Mem) (o : Option Nat) : Option Int32 := ob (o_at σ [1, 2, 3, 4, 5, 6, 7, 8, 9, 10, 11, 12] o) fun a => some (Int32.ofNat (m_T σ a).2)
/-- the place of an element: its array's address, its index -/
def o_el (σ : Mem) (k : Nat) (o : Option Nat) (i : Int32) : Option (Nat × Nat) := ob (o_at σ [k] o) fun a => if inb i (m_T σ a).2 = true then some (a, i.toNatClampNeg) else none
def o_aI (σ : Mem) (k : Nat) (o : Option Nat) (i : Int32) : Option Int32 := ob (o_el σ k o i) fun q => some (m_I σ q.1 q.2)
def o_aJ (σ : Mem) (k : Nat) (o : Option Nat) (i : Int32) : Option Int64 := ob (o_el σ k o i) fun q => some (m_J σ q.1 q.2)
def o_aR (σ : Mem) (k : Nat) (o : Option Nat) (i : Int32) : Option (Option Nat) := ob (o_el σ k o i) fun q => some (m_R σ q.1 q.2)
/-- an element of an array of one of several kinds -/
def o_aRm (σ : Mem) (ks : List Nat) (o : Option Nat) (i : Int32) : Option (Option Nat) := ob (o_at σ ks o) fun a => if inb i (m_T σ a).2 = true then some (m_R σ a i.toNatClampNeg) else none
/-- what an array of a kind keeps of an int -/
def nar (k : Nat) (v : Int32) : Int32 := match k with
  | 2 => v.toInt8.toInt32
  | 3 => (v.toUInt32 % 65536).toInt32
  | _ => v
def o_sI (σ : Mem) (k : Nat) (o : Option Nat) (i v : Int32) : Option Mem := ob (o_el σ k o i) fun q => if 1000 ≤ q.1 then some (s_I σ q.1 q.2 (nar k v)) else none
def o_sJ (σ : Mem) (k : Nat) (o : Option Nat) (i : Int32) (v : Int64) : Option Mem := ob (o_el σ k o i) fun q => if 1000 ≤ q.1 then some (s_J σ q.1 q.2 v) else none
def o_vok (σ : Mem) (ks : List Nat) (v : Option Nat) : Bool := match v with
  | none => false
  | some b => decide (1000 ≤ b) && decide ((m_T σ b).1 ∈ ks)
/-- an object of one of the kinds ks is put into an array of kind k -/
def o_sR (σ : Mem) (k : Nat) (ks : List Nat) (o : Option Nat) (i : Int32) (v : Option Nat) : Option Mem := ob (o_el σ k o i) fun q => if 1000 ≤ q.1 ∧ o_vok σ ks v = true then some (s_R σ q.1 q.2 v) else none
/-- a new array -/
def o_na {β : Type} (σ : Mem) (k : Nat) (n : Int32) (f : Nat → Mem → Option β) : Option β := if ¬ n < 0 ∧ n.toNatClampNeg ≤ 60000 then f (m_N σ) (s_New σ k n.toNatClampNeg n.toNatClampNeg) else none
/-- a new object of kind k with n fields -/
def o_no {β : Type} (σ : Mem) (k n : Nat) (f : Nat → Mem → Option β) : Option β := f (m_N σ) (s_New σ k 0 n)
/-- System.arraycopy of rows of ints -/
def o_cp (σ : Mem) (k : Nat) (o : Option Nat) (sp : Int32) (o2 : Option Nat) (dp n : Int32) : Option Mem := ob (o_at σ [k] o) fun a => ob (o_at σ [k] o2) fun b =>
  if 1000 ≤ a ∧ 1000 ≤ b ∧ ¬ sp < 0 ∧ ¬ dp < 0 ∧ ¬ n < 0 ∧ sp.toNatClampNeg + n.toNatClampNeg ≤ (m_T σ a).2 ∧ dp.toNatClampNeg + n.toNatClampNeg ≤ (m_T σ b).2 then
    some (s_Row σ b (fun j => if dp.toNatClampNeg ≤ j ∧ j < dp.toNatClampNeg + n.toNatClampNeg then m_I σ a (sp.toNatClampNeg + (j - dp.toNatClampNeg)) else m_I σ b j)) else none
/-- instanceof: of the kinds ks, or not of them (ns) -/
def o_is (σ : Mem) (ks ns : List Nat) (o : Option Nat) : Option Int32 := match o with
  | none => some 0
  | some a => if (m_T σ a).1 ∈ ks then some 1 else if (m_T σ a).1 ∈ ns then some 0 else none
/-- checkcast -/
def o_cc (σ : Mem) (ks : List Nat) (o : Option Nat) : Option (Option Nat) := match o with
  | none => some none
  | some a => if (m_T σ a).1 ∈ ks then some (some a) else none
/-- are two references the same: of two constants that isn't said -/
def o_eq (o o2 : Option Nat) : Option Bool := match o, o2 with
  | some a, some b => if a = b then some true else if 1000 ≤ a ∨ 1000 ≤ b then some false else none
  | none, none => some true
  | _, _ => some false
/-- a division -/
def o_div (x y : Int32) : Option Int32 := if y = 0 then none else some (x / y)
def o_rem (x y : Int32) : Option Int32 := if y = 0 then none else some (x - x / y * y)

/-! laws of the maps -/
section
variable (σ : Mem) (a b k j : Nat)
theorem m_T_s_R (v : Option Nat) : m_T (s_R σ a k v) b = m_T σ b := rfl
theorem m_R_s_R (v : Option Nat) : m_R (s_R σ a k v) b j = if b = a ∧ j = k then v else m_R σ b j := rfl
theorem m_I_s_R (v : Option Nat) : m_I (s_R σ a k v) b j = m_I σ b j := rfl
theorem m_J_s_R (v : Option Nat) : m_J (s_R σ a k v) b j = m_J σ b j := rfl
theorem m_N_s_R (v : Option Nat) : m_N (s_R σ a k v) = m_N σ := rfl
theorem m_S_s_R (v : Option Nat) : m_S (s_R σ a k v) = m_S σ := rfl
theorem m_T_s_I (v : Int32) : m_T (s_I σ a k v) b = m_T σ b := rfl
theorem m_R_s_I (v : Int32) : m_R (s_I σ a k v) b j = m_R σ b j := rfl
theorem m_I_s_I (v : Int32) : m_I (s_I σ a k v) b j = if b = a ∧ j = k then v else m_I σ b j := rfl
theorem m_J_s_I (v : Int32) : m_J (s_I σ a k v) b j = m_J σ b j := rfl
theorem m_N_s_I (v : Int32) : m_N (s_I σ a k v) = m_N σ := rfl
theorem m_S_s_I (v : Int32) : m_S (s_I σ a k v) = m_S σ := rfl
theorem m_T_s_J (v : Int64) : m_T (s_J σ a k v) b = m_T σ b := rfl
theorem m_R_s_J (v : Int64) : m_R (s_J σ a k v) b j = m_R σ b j := rfl
theorem m_I_s_J (v : Int64) : m_I (s_J σ a k v) b j = m_I σ b j := rfl
theorem m_J_s_J (v : Int64) : m_J (s_J σ a k v) b j = if b = a ∧ j = k then v else m_J σ b j := rfl
theorem m_N_s_J (v : Int64) : m_N (s_J σ a k v) = m_N σ := rfl
theorem m_S_s_J (v : Int64) : m_S (s_J σ a k v) = m_S σ := rfl
theorem m_T_s_Row (g : Nat → Int32) : m_T (s_Row σ a g) b = m_T σ b := rfl
theorem m_R_s_Row (g : Nat → Int32) : m_R (s_Row σ a g) b j = m_R σ b j := rfl
theorem m_I_s_Row (g : Nat → Int32) : m_I (s_Row σ a g) b j = if b = a then g j else m_I σ b j := rfl
theorem m_J_s_Row (g : Nat → Int32) : m_J (s_Row σ a g) b j = m_J σ b j := rfl
theorem m_N_s_Row (g : Nat → Int32) : m_N (s_Row σ a g) = m_N σ := rfl
theorem m_S_s_Row (g : Nat → Int32) : m_S (s_Row σ a g) = m_S σ := rfl
theorem m_T_s_New (kd len sl : Nat) : m_T (s_New σ kd len sl) b = if b = m_N σ then (kd, len) else m_T σ b := rfl
theorem m_R_s_New (kd len sl : Nat) : m_R (s_New σ kd len sl) b j = if b = m_N σ then none else m_R σ b j := rfl
theorem m_I_s_New (kd len sl : Nat) : m_I (s_New σ kd len sl) b j = if b = m_N σ then 0 else m_I σ b j := rfl
theorem m_J_s_New (kd len sl : Nat) : m_J (s_New σ kd len sl) b j = if b = m_N σ then 0 else m_J σ b j := rfl
theorem m_N_s_New (kd len sl : Nat) : m_N (s_New σ kd len sl) = m_N σ + 1 := rfl
theorem m_S_s_New (kd len sl : Nat) : m_S (s_New σ kd len sl) = m_S σ + sl := rfl
end
theorem o_at_some {σ : Mem} {ks : List Nat} {a : Nat} (h : (m_T σ a).1 ∈ ks) : o_at σ ks (some a) = some a := if_pos h
theorem o_at_eq {σ : Mem} {ks : List Nat} {o : Option Nat} {a : Nat} (h : o_at σ ks o = some a) : o = some a ∧ (m_T σ a).1 ∈ ks := by
  unfold o_at at h
  cases o with
  | none => cases h
  | some b =>
    dsimp only at h
    split at h
    · cases h
      exact ⟨rfl, by assumption⟩
    · cases h
theorem ob_eq {α β : Type} {x : Option α} {k : α → Option β} {r : β} (h : ob x k = some r) : ∃ a, x = some a ∧ k a = some r := by
  cases x with
  | none => cases h
  | some a => exact ⟨a, rfl, h⟩
theorem bd_eq {α β : Type} {x : Option (α × Mem)} {k : α → Mem → Option β} {r : β} (h : bd x k = some r) : ∃ a σ, x = some (a, σ) ∧ k a σ = some r := by
  cases x with
  | none => cases h
  | some a => exact ⟨a.1, a.2, rfl, h⟩
theorem inb_in {i : Int32} {n : Nat} (h : inb i n = true) : vp_in i n := by
  unfold inb at h
  simp only [Bool.and_eq_true, decide_eq_true_eq] at h
  intro q
  rcases q with q | q
  · exact h.1 q
  · exact absurd h.2 (Nat.not_lt.mpr q)
theorem inb_nI {k n : Nat} (hk : k < 2 ^ 31) : inb (nI k) n = decide (k < n) := by
  unfold inb
  rw [nI_clamp hk]
  simp [nI_pos hk]
