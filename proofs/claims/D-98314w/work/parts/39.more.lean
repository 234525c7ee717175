set_option maxRecDepth 100000
/-! WHAT IS LEFT: arraycopy, narrow answers, catching, several callees -/
theorem r_cut {P X : Prop} (h : P → X) (k : P) : X := h k
/-- an index beyond a table that begins at 0 -/
theorem tsw_out (n : Nat) (x : Int32) {hi : Int} (hn : hi + 1 = (n : Int) ∧ n < 2 ^ 31) (h : ∀ k, k < n → ¬ x = Int32.ofNat k) : x.toInt < 0 ∨ hi < x.toInt := by
  obtain ⟨h1, h2⟩ := hn
  rcases Int.lt_or_le x.toInt 0 with h0 | h0
  · exact Or.inl h0
  · refine Or.inr (Int.not_le.mp fun hle => ?_)
    have hk : x.toInt.toNat < n := by omega
    refine h _ hk (Int32.toInt_inj.mp ?_)
    rw [Int32.toInt_ofNat_of_lt (by omega)]
    omega
/-- of an answer's type: 1 boolean, 2 byte, 3 char -/
def nrT : Nat → FieldType := fun t => match t with
  | 1 => .boolean
  | 2 => .byte
  | _ => .char
def nokR (t : Nat) (v : Int32) : Bool := match t with
  | 1 => decide (v = 0) || decide (v = 1)
  | 2 => decide (v.toInt8.toInt32 = v)
  | _ => decide (v.toUInt32.toUInt16.toUInt32.toInt32 = v)
def o_nr (t : Nat) (v : Int32) : Option Unit := if nokR t v = true then some () else none
theorem nokR_narrow {t : Nat} {v : Int32} (h : nokR t v = true) : narrow (nrT t) (.int v) = .int v := by
  unfold nokR at h
  unfold nrT
  split at h
  · simp only [Bool.or_eq_true, decide_eq_true_eq] at h
    rcases h with rfl | rfl
    · show Value.int (0 &&& 1) = _
      congr 1
    · show Value.int (1 &&& 1) = _
      congr 1
  · simp only [decide_eq_true_eq] at h
    show Value.int v.toInt8.toInt32 = _
    rw [h]
  · simp only [decide_eq_true_eq] at h
    show Value.int v.toUInt32.toUInt16.toUInt32.toInt32 = _
    rw [h]
section
variable {G : Gx} {M : Mth} {α : Type} {ρ : α → Out} {σ : Mem} {pc q : Nat} {L : List (Option LV)} {st : List LV} {f : Option (α × Mem)}
theorem r_ireturnN {t : Nat} {v : Int32} (hr : mRet M = some (nrT t)) (d : decode (mCc M) pc = .ok (.ireturn, 1)) : Runs G M rhoI σ pc L [vI v] (ob (o_nr t v) fun _ => some (v, σ)) := by
  refine r_ob fun z hz => ?_
  unfold o_nr at hz
  split at hz
  · rename_i h
    exact r_ireturn hr (nokR_narrow h) d
  · cases hz
theorem r_ireturnNX {t : Nat} {v : Int32} (hr : mRet M = some (nrT t)) (d : decode (mCc M) pc = .ok (.ireturn, 1)) : Runs G M (rhoX rhoI) σ pc L [vI v] (ob (o_nr t v) fun _ => some (.inl v, σ)) := by
  refine r_ob fun z hz => ?_
  unfold o_nr at hz
  split at hz
  · rename_i h
    exact r_ireturnX hr (nokR_narrow h) d
  · cases hz
theorem r_mmax {idx : Nat} {x y : Int32} (w1 : Cond.methodLink (mY M).cls idx Lib.Math.max.name ∈ lw_all) (w2 : Cond.static Lib.Math.max.name ∈ lw_all) (w3 : Cond.initialized "java/lang/Math" ∈ lw_all) (w4 : Cond.code Lib.Math.max.name Lib.Math.max.code 2 (some .int) ∈ lw_all) (hf : 1 ≤ mRf M) (hlo : (st.map lvc).sum + 13 ≤ mRl M) (d : decode (mCc M) pc = .ok (.invokestatic idx, 3)) (hq : pc + 3 = q) (k : Runs G M ρ σ q L (vI (if x < y then y else x) :: st) f) : Runs G M ρ σ pc L (vI y :: vI x :: st) f := by
  subst hq
  intro r0 σf hf0
  obtain ⟨k1, k2⟩ := k r0 σf hf0
  refine ⟨k1, ?_⟩
  intro p e R s m args below meth c n0 s0 C h1 h2 h3 h4 H locs ls hl hm hS
  have hRf := C.2.2.2.2.2.2.2.2.2.1
  have hRl := C.2.2.2.2.2.2.2.2.2.2.1
  have l1 := k1.1
  have l2 := k1.2
  exact va_mmax C.1 C.2.1 (by rw [C.2.2.1]; exact hl.1.symm) C.own (C.ts _ w1) (C.ts _ w2) (C.ts _ w3) (C.ts _ w4) (by omega) (by rw [val_cats]; omega) (by omega) (by omega) d (k2 p e R s m args below meth c n0 s0 C h1 h2 h3 h4 H locs ls hl hm hS)
theorem r_mmin {idx : Nat} {x y : Int32} (w1 : Cond.methodLink (mY M).cls idx Lib.Math.min.name ∈ lw_all) (w2 : Cond.static Lib.Math.min.name ∈ lw_all) (w3 : Cond.initialized "java/lang/Math" ∈ lw_all) (w4 : Cond.code Lib.Math.min.name Lib.Math.min.code 2 (some .int) ∈ lw_all) (hf : 1 ≤ mRf M) (hlo : (st.map lvc).sum + 13 ≤ mRl M) (d : decode (mCc M) pc = .ok (.invokestatic idx, 3)) (hq : pc + 3 = q) (k : Runs G M ρ σ q L (vI (if y < x then y else x) :: st) f) : Runs G M ρ σ pc L (vI y :: vI x :: st) f := by
  subst hq
  intro r0 σf hf0
  obtain ⟨k1, k2⟩ := k r0 σf hf0
  refine ⟨k1, ?_⟩
  intro p e R s m args below meth c n0 s0 C h1 h2 h3 h4 H locs ls hl hm hS
  have hRf := C.2.2.2.2.2.2.2.2.2.1
  have hRl := C.2.2.2.2.2.2.2.2.2.2.1
  have l1 := k1.1
  have l2 := k1.2
  exact va_mmin C.1 C.2.1 (by rw [C.2.2.1]; exact hl.1.symm) C.own (C.ts _ w1) (C.ts _ w2) (C.ts _ w3) (C.ts _ w4) (by omega) (by rw [val_cats]; omega) (by omega) (by omega) d (k2 p e R s m args below meth c n0 s0 C h1 h2 h3 h4 H locs ls hl hm hS)
/-! several callees -/
def Cb (G : Gx) (M : Mth) {β : Type} (ρ1 : β → Out) (σ : Mem) (pc : Nat) (stk rest : List LV) (fy : Option (β × Mem)) : Prop := ∃ (My : Mth) (As : List LV), Ct G My ρ1 As σ fy ∧ CL G M σ pc stk rest My As
theorem Cb_ite {β : Type} {ρ1 : β → Out} {stk rest : List LV} {c : Prop} [Decidable c] {f1 f2 : Option (β × Mem)} (h1 : c → Cb G M ρ1 σ pc stk rest f1) (h2 : ¬ c → Cb G M ρ1 σ pc stk rest f2) : Cb G M ρ1 σ pc stk rest (if c then f1 else f2) := by
  by_cases h : c
  · rw [if_pos h]; exact h1 h
  · rw [if_neg h]; exact h2 h
theorem r_callKI {stk rest : List LV} {fy : Option (Int32 × Mem)} {k : Int32 → Mem → Option (α × Mem)} (hc : Cb G M rhoI σ pc stk rest fy) (hq : pc + 3 = q) (kk : ∀ r σ1, Runs G M ρ σ1 q L (vI r :: rest) (k r σ1)) : Runs G M ρ σ pc L stk (bd fy k) := by
  obtain ⟨My, As, h1, h2⟩ := hc
  exact r_callI h1 h2 hq kk
theorem r_callKL {stk rest : List LV} {fy : Option (Int64 × Mem)} {k : Int64 → Mem → Option (α × Mem)} (hc : Cb G M rhoL σ pc stk rest fy) (hq : pc + 3 = q) (kk : ∀ r σ1, Runs G M ρ σ1 q L (vL r :: rest) (k r σ1)) : Runs G M ρ σ pc L stk (bd fy k) := by
  obtain ⟨My, As, h1, h2⟩ := hc
  exact r_callL h1 h2 hq kk
theorem r_callKR {stk rest : List LV} {fy : Option (Option Nat × Mem)} {k : Option Nat → Mem → Option (α × Mem)} (hc : Cb G M rhoR σ pc stk rest fy) (hq : pc + 3 = q) (kk : ∀ r σ1, Runs G M ρ σ1 q L (vR r :: rest) (k r σ1)) : Runs G M ρ σ pc L stk (bd fy k) := by
  obtain ⟨My, As, h1, h2⟩ := hc
  exact r_callR h1 h2 hq kk
theorem r_callKV {stk rest : List LV} {fy : Option (Unit × Mem)} {k : Unit → Mem → Option (α × Mem)} (hc : Cb G M rhoV σ pc stk rest fy) (hq : pc + 3 = q) (kk : ∀ r σ1, Runs G M ρ σ1 q L rest (k r σ1)) : Runs G M ρ σ pc L stk (bd fy k) := by
  obtain ⟨My, As, h1, h2⟩ := hc
  exact r_callV h1 h2 hq kk
/-! a call that may throw, caught here -/
/-- the handler of this place: the only one of the method; E is its class -/
def HC (M : Mth) (pc hpc : Nat) (E : String) : Prop := ∃ a b ct, mHH M = [(a, b, hpc, ct)] ∧ a ≤ pc ∧ pc < b ∧ ct ≠ 0 ∧ Cond.classLink (mY M).cls ct E ∈ lw_all ∧ Cond.castable E E ∈ lw_tbl
theorem c_bh {β : Type} {ρ1 : β ⊕ Ex → Out} {fy : Option ((β ⊕ Ex) × Mem)} {ex : Ex} {σ1 : Mem} {stk rest : List LV} {My : Mth} {As : List LV} {hpc : Nat} {E : String} (hH : HC M pc hpc E) (hE : ex.2 = E) (hc : Ct G My ρ1 As σ fy) (hcl : CL G M σ pc stk rest My As) (hf : fy = some (.inr ex, σ1)) (hv : ρ1 (.inr ex) = .inr ex) (k : Runs G M ρ σ1 hpc L [vR (some ex.1)] f) : Runs G M ρ σ pc L stk f := by
  intro r σf hf2
  obtain ⟨k1, k2⟩ := k r σf hf2
  obtain ⟨c1, c2⟩ := hc _ _ hf
  have l1 := c1.1
  have l2 := c1.2
  have l3 := k1.1
  have l4 := k1.2
  obtain ⟨a, b, ct, g1, g2, g3, g4, g5, g6⟩ := hH
  refine ⟨Le.tr c1 k1, ?_⟩
  intro p e R s m args below meth c n0 s0 C h1 h2 h3 h4 H locs ls hl hm hS
  rw [hv] at c2
  obtain ⟨as, hr⟩ := hcl _ _ c2 p e R s m args below meth c (m_N σ - n0) (m_S σ - s0) C (by omega) (by omega) H locs ls hl.1 hm hS
  refine c_thr hr hS fun H1 locs1 ce hm1 hS1 hce hcv hfc => ?_
  have htab : c.exceptionTable.toList = [⟨a, b, hpc, ct⟩] := by rw [C.2.2.2.2.2.2.2.2.1, g1]; rfl
  have hcast : (Cond.castable E E).before args s = true := va_Nw.use rfl (va_Nw.warmC C.gi.1 (C.g0.2.1 _ g6 rfl))
  subst hE
  refine vx_catch (own := (mY M).cls) (name := ex.2) (E := ex.2) (ce := ce) C.own [] ⟨a, b, hpc, ct⟩ [] htab (fun z hz => nomatch hz) ?_ g4 (C.ts _ g5) hcast hce hcv hfc ?_
  · show (decide (a ≤ pc) && decide (pc < b)) = true
    simp [g2, g3]
  · have := k2 p e R s m args below meth c n0 s0 C (by omega) (by omega) h3 h4 H1 locs1 ls hl hm1 hS1
    rw [show m_N σ1 - n0 = m_N σ - n0 + (m_N σ1 - m_N σ) by omega, show m_S σ1 - s0 = m_S σ - s0 + (m_S σ1 - m_S σ) by omega] at this
    exact this
theorem r_bhI {stk rest : List LV} {My : Mth} {As : List LV} {fy : Option ((Int32 ⊕ Ex) × Mem)} {hpc : Nat} {E : String} {k : Int32 → Mem → Option (α × Mem)} {h : Nat → Mem → Option (α × Mem)} (hH : HC M pc hpc E) (hc : Ct G My (rhoX rhoI) As σ fy) (hcl : CL G M σ pc stk rest My As) (hq : pc + 3 = q) (kh : ∀ e σ1, Runs G M ρ σ1 hpc L [vR (some e)] (h e σ1)) (kk : ∀ r σ1, Runs G M ρ σ1 q L (vI r :: rest) (k r σ1)) : Runs G M ρ σ pc L stk (bh E fy h k) := by
  subst hq
  cases fy with
  | none => exact r_none
  | some z =>
    obtain ⟨r0 | ex, σ1⟩ := z
    · exact c_bd hc hcl rfl (v := some (vI r0)) rfl (kk r0 σ1)
    · show Runs G M ρ σ pc L stk (if ex.2 = E then h ex.1 σ1 else none)
      by_cases he : ex.2 = E
      · rw [if_pos he]
        exact c_bh hH he hc hcl rfl rfl (kh ex.1 σ1)
      · rw [if_neg he]
        exact r_none
theorem r_bhR {stk rest : List LV} {My : Mth} {As : List LV} {fy : Option ((Option Nat ⊕ Ex) × Mem)} {hpc : Nat} {E : String} {k : Option Nat → Mem → Option (α × Mem)} {h : Nat → Mem → Option (α × Mem)} (hH : HC M pc hpc E) (hc : Ct G My (rhoX rhoR) As σ fy) (hcl : CL G M σ pc stk rest My As) (hq : pc + 3 = q) (kh : ∀ e σ1, Runs G M ρ σ1 hpc L [vR (some e)] (h e σ1)) (kk : ∀ r σ1, Runs G M ρ σ1 q L (vR r :: rest) (k r σ1)) : Runs G M ρ σ pc L stk (bh E fy h k) := by
  subst hq
  cases fy with
  | none => exact r_none
  | some z =>
    obtain ⟨r0 | ex, σ1⟩ := z
    · exact c_bd hc hcl rfl (v := some (vR r0)) rfl (kk r0 σ1)
    · show Runs G M ρ σ pc L stk (if ex.2 = E then h ex.1 σ1 else none)
      by_cases he : ex.2 = E
      · rw [if_pos he]
        exact c_bh hH he hc hcl rfl rfl (kh ex.1 σ1)
      · rw [if_neg he]
        exact r_none
theorem r_bhV {stk rest : List LV} {My : Mth} {As : List LV} {fy : Option ((Unit ⊕ Ex) × Mem)} {hpc : Nat} {E : String} {k : Unit → Mem → Option (α × Mem)} {h : Nat → Mem → Option (α × Mem)} (hH : HC M pc hpc E) (hc : Ct G My (rhoX rhoV) As σ fy) (hcl : CL G M σ pc stk rest My As) (hq : pc + 3 = q) (kh : ∀ e σ1, Runs G M ρ σ1 hpc L [vR (some e)] (h e σ1)) (kk : ∀ r σ1, Runs G M ρ σ1 q L rest (k r σ1)) : Runs G M ρ σ pc L stk (bh E fy h k) := by
  subst hq
  cases fy with
  | none => exact r_none
  | some z =>
    obtain ⟨r0 | ex, σ1⟩ := z
    · exact c_bd hc hcl rfl (v := none) rfl (kk r0 σ1)
    · show Runs G M ρ σ pc L stk (if ex.2 = E then h ex.1 σ1 else none)
      by_cases he : ex.2 = E
      · rw [if_pos he]
        exact c_bh hH he hc hcl rfl rfl (kh ex.1 σ1)
      · rw [if_neg he]
        exact r_none
theorem row2_ne {α : Type} {f : Nat → Nat → α} {a b j : Nat} {g : Nat → α} (h : b ≠ a) : row2 f a g b j = f b j := if_neg h
/-- System.arraycopy of two int arrays -/
theorem r_copy {idx : Nat} {sp dp n : Int32} {o o2 : Option Nat} {F : Mem → Option (α × Mem)} (w1 : Cond.methodLink (mY M).cls idx arraycopyName ∈ lw_all) (w2 : Cond.native arraycopyName ∈ lw_all) (w3 : Cond.static arraycopyName ∈ lw_all) (w4 : Cond.initialized "java/lang/System" ∈ lw_all) (hf : 1 ≤ mRf M) (hlo : (st.map lvc).sum + (nativeFrameWords "java/lang/System" "arraycopy" 5 + 11) ≤ mRl M) (d : decode (mCc M) pc = .ok (.invokestatic idx, 3)) (hq : pc + 3 = q) (k : ∀ σ', Runs G M ρ σ' q L st (F σ')) : Runs G M ρ σ pc L (vI n :: vI dp :: vR o2 :: vI sp :: vR o :: st) (ob (o_cp σ 1 o sp o2 dp n) F) := by
  subst hq
  refine r_ob fun σ' hx => ?_
  obtain ⟨a, e1, hx1⟩ := ob_eq hx
  obtain ⟨b, e2, hx2⟩ := ob_eq hx1
  obtain ⟨rfl, ka⟩ := o_at_eq e1
  obtain ⟨rfl, kb⟩ := o_at_eq e2
  have ka : (m_T σ a).1 = 1 := List.mem_singleton.mp ka
  have kb : (m_T σ b).1 = 1 := List.mem_singleton.mp kb
  split at hx2
  case isFalse => cases hx2
  rename_i hc
  obtain ⟨a1, b1, c1, c2, c3, c4, c5⟩ := hc
  have hs : σ' = s_Row σ b (fun j => if dp.toNatClampNeg ≤ j ∧ j < dp.toNatClampNeg + n.toNatClampNeg then m_I σ a (sp.toNatClampNeg + (j - dp.toNatClampNeg)) else m_I σ b j) := (Option.some.inj hx2).symm
  subst hs
  intro r0 σf hf0
  obtain ⟨k1, k2⟩ := k _ r0 σf hf0
  refine ⟨k1, ?_⟩
  intro p e R s m args below meth c n0 s0 C h1 h2 h3 h4 H locs ls hl hm hS
  have hRf := C.2.2.2.2.2.2.2.2.2.1
  have hRl := C.2.2.2.2.2.2.2.2.2.2.1
  have nn : ∀ z : Int32, ¬ z < 0 → z.toInt = (z.toNatClampNeg : Int) := by
    intro z hz
    have hz0 : (0 : Int) ≤ z.toInt := by
      have := Int32.not_lt.mp hz
      simpa using Int32.le_iff_toInt_le.mp this
    show z.toInt = ((z.toInt.toNat : Nat) : Int)
    omega
  obtain ⟨-, -, hc0⟩ := (hm.2.2.1 a a1 (by omega)).2.1 (by omega)
  obtain ⟨-, -, hc1⟩ := (hm.2.2.1 b b1 (by omega)).2.1 (by omega)
  rw [ka] at hc0
  rw [kb] at hc1
  have hisA : ∀ N f, s.isArrayOf (arrV (gA G 1) N f) (kTy 1) := (C.K.2 0 _ (tyL_at G (k := 1) (by omega) (by omega))).1
  obtain ⟨-, k0, hk0, cm0, hkk0⟩ := hisA (m_T σ a).2 (elV G σ a 1)
  intro T hT X
  have ev : ∀ x j, elV G σ x 1 j = .int (m_I σ x j) := fun x j => rfl
  obtain ⟨vm', X', step⟩ := X.arraycopy C.1 C.own (C.ts _ w1) (C.ts _ w2) (C.ts _ w3) (C.ts _ w4) (src := ad G a) (dst := ad G b) (cs := arrV (gA G 1) (m_T σ a).2 (elV G σ a 1)) (cd := arrV (gA G 1) (m_T σ b).2 (elV G σ b 1)) (srcPos := sp) (destPos := dp) (n := n) (by rw [hT]; exact hc0) (by rw [hT]; exact hc1)
    (fun _ h => by cases h) (fun _ h => by cases h) (fun h => by cases h) (fun h => by cases h) hk0 hk0 hkk0 hkk0 (by simp [kTy, refKind]) c1 c2 c3
    (by rw [nn sp c1, nn n c3, arrV_size]; omega)
    (by rw [nn dp c2, nn n c3, arrV_size]; omega)
    (fun vm₁ _ i hi => by
      have e : (arrV (gA G 1) (m_T σ a).2 (elV G σ a 1)).slots.getD (sp.toNatClampNeg + i) .null = .int (m_I σ a (sp.toNatClampNeg + i)) := by
        rw [Array.getD_eq_getD_getElem?, arrV_read _ _ (by omega)]
        rfl
      refine ⟨?_, ?_⟩
      · rw [e]
        rfl
      · rw [e]
        exact trivial)
    (g := F0 m pc ls (.int n :: .int dp :: .ref (ad G b) :: .int sp :: .ref (ad G a) :: st.map (val G))) rfl (by rw [C.2.2.1]; exact hl.1) (rest := st.map (val G)) rfl (by rw [C.2.1]; exact d) (by omega) (by show 2 * 0 + _ + _ ≤ _; rw [val_cats]; omega)
  have e1 : copied (arrV (gA G 1) (m_T σ a).2 (elV G σ a 1)) (arrV (gA G 1) (m_T σ b).2 (elV G σ b 1)) sp dp n = arrV (gA G 1) (m_T σ b).2 (fun j => .int (va_cpy (m_I σ a) (m_I σ b) sp.toNatClampNeg dp.toNatClampNeg n.toNatClampNeg j)) := va_copied (fun z => .int z) (gA G 1) (gA G 1) (m_I σ a) (m_I σ b) c4
  rw [e1] at X' step
  generalize hNC : arrV (gA G 1) (m_T σ b).2 (fun j => .int (va_cpy (m_I σ a) (m_I σ b) sp.toNatClampNeg dp.toNatClampNeg n.toNatClampNeg j)) = NC at X' step
  have hlt : ad G b < H.size := (Array.getElem?_eq_some_iff.mp hc1).1
  have hheap : ((T.setVm vm').setCell (ad G b) NC).heap = H.setIfInBounds (ad G b) NC := by rw [← hT]; rfl
  have oq : ∀ q : Nat, q ≠ ad G b → (H.setIfInBounds (ad G b) NC)[q]? = H[q]? := fun q hq => by simp [Array.getElem?_setIfInBounds, Ne.symm hq]
  have z : (H.setIfInBounds (ad G b) NC).size = H.size := by simp
  have hS1 : va_S (wA G) s.heap (H.setIfInBounds (ad G b) NC) (locs ++ ((arrV (gA G 1) (m_T σ a).2 (elV G σ a 1)).stretch sp.toNatClampNeg n.toNatClampNeg).zipIdx.map fun q => ⟨ad G b, dp.toNatClampNeg + q.2⟩) := by
    refine ⟨by rw [z]; exact hS.1, fun q g1 g2 => ?_, fun q hq => ?_⟩
    · rw [oq q (fun e => g2 (by rw [e]; exact ad_wA b1))]
      exact hS.2.1 q g1 g2
    · rcases List.mem_append.mp hq with h | h
      · exact hS.2.2 q h
      · obtain ⟨y, -, hy⟩ := List.mem_map.mp h
        rw [← hy]
        exact ad_wA b1
  have hok : okAt G (s_Row σ b (fun j => if dp.toNatClampNeg ≤ j ∧ j < dp.toNatClampNeg + n.toNatClampNeg then m_I σ a (sp.toNatClampNeg + (j - dp.toNatClampNeg)) else m_I σ b j)) (H.setIfInBounds (ad G b) NC) b := by
    refine ⟨fun _ => ⟨by show 1 ≤ (m_T σ b).1; omega, by show (m_T σ b).1 ≤ 12; omega, ?_⟩, fun h => ?_⟩
    · show (H.setIfInBounds (ad G b) NC)[ad G b]? = some (arrV (gA G (m_T σ b).1) (m_T σ b).2 (elV G (s_Row σ b _) b (m_T σ b).1))
      rw [kb, ← hNC]
      rw [Array.getElem?_setIfInBounds_self_of_lt hlt]
      congr 2
      funext j
      show Value.int _ = Value.int (m_I (s_Row σ b _) b j)
      rw [m_I_s_Row, if_pos rfl]
      rfl
    · have : 20 ≤ (m_T σ b).1 := h
      omega
  obtain ⟨t, q1, q2⟩ := k2 p e R s m args below meth c n0 s0 C h1 h2 h3 h4 _ _ ls hl (mSt_set C.g0 hm b1 z oq (fun x => rfl) rfl (fun x hx j => ⟨rfl, (m_I_s_Row _ _ _ _ _).trans (if_neg hx), rfl⟩) hok) hS1 _ hheap X'
  exact ⟨t, step t q1, q2⟩
end
section
variable {G : Gx} {M : Mth} {σ : Mem} {pc : Nat}
theorem wsM_cons {My : Mth} (h : mHH My ≠ []) : wsM My = wsW_ (mY My) (mCc My) (mNL My) (mRet My) (mHH My) := by
  unfold wsM
  split
  · exact absurd (by assumption) h
  · rename_i h1
    rw [h1]
/-- calls of a method with handlers -/
theorem cl_VX {My : Mth} {idx n a ci : Nat} {As rest : List LV} {stk : List LV} {r : vw_C} (hst : stk = As.reverse ++ vR (some a) :: rest) (hh : mHH My ≠ []) (w1 : Cond.methodLink (mY M).cls idx (mY My) ∈ lw_all) (w2 : Cond.instanceMethod (mY My) ∈ lw_all) (w3 : Cond.selects (mY My).cls (mY My) (mY My) ∈ lw_all) (w4 : Cond.initialized (mY My).cls ∈ lw_all) (w5 : Cond.codeWith (mY My) (mCc My) (mNL My) (mRet My) (mHH My) ∈ lw_all) (hd : HdOK My n) (hR : RmOK M My) (hk : (m_T σ a).1 = 20 + ci) (hc : clsL[ci]? = some r) (hr : r.1 = (mY My).cls) (hn : As.length = n) (hcat : (rest.map lvc).sum ≤ 8) (d : decode (mCc M) pc = .ok (.invokevirtual idx, 3)) : CL G M σ pc stk rest My (vR (some a) :: As) := by
  subst hst
  intro o σ1 hM p e R s m args below meth c cells slots C hf1 hf2 H locs ls hls hm hS
  unfold MC at hM
  rw [wsM_cons hh] at hM
  obtain ⟨cell, v1, v2, v3⟩ := rcv_of C hm hS hk hc
  have hRf := C.2.2.2.2.2.2.2.2.2.1
  have hRl := C.2.2.2.2.2.2.2.2.2.2.1
  obtain ⟨r1, r2⟩ := hR
  refine ⟨(Value.ref (ad G a) :: As.map (val G)).toArray, vx_runVX (b := ad G a) (C := (mY My).cls) (As := As.map (val G)) (rest := rest.map (val G)) (hh := mHH My) ⟨C.1, C.2.1, C.2.2.1, C.own, C.ts⟩ hM (vx_cwVW n C.ts (lw_VW w1 w2 w3 w4 w5) rfl rfl rfl ⟨rfl, hd⟩ ⟨by show mRf My + 1 ≤ _; omega, by show _ + mRl My ≤ _; omega⟩) ⟨PcO.blind, ⟨cell, v1, v2, by rw [← hr]; exact v3⟩, pre_state C hm hS⟩ rfl (by rw [List.length_map]; exact hn) hls ?_ ?_ d ⟨hf1, hf2⟩⟩
  · show (As.reverse ++ vR (some a) :: rest).map (val G) = _
    rw [List.map_append, List.map_reverse]
    rfl
  · show 2 * 0 + _ ≤ 8
    rw [val_cats]
    omega
theorem cl_SX {My : Mth} {idx n : Nat} {As rest : List LV} {stk : List LV} (hst : stk = As.reverse ++ rest) (hh : mHH My ≠ []) (w1 : Cond.methodLink (mY M).cls idx (mY My) ∈ lw_all) (w2 : Cond.static (mY My) ∈ lw_all) (w4 : Cond.initialized (mY My).cls ∈ lw_all) (w5 : Cond.codeWith (mY My) (mCc My) (mNL My) (mRet My) (mHH My) ∈ lw_all) (hd : HdOK My n) (hR : RmOK M My) (hn : As.length = n) (hcat : (rest.map lvc).sum ≤ 8) (d : decode (mCc M) pc = .ok (.invokestatic idx, 3)) : CL G M σ pc stk rest My As := by
  subst hst
  intro o σ1 hM p e R s m args below meth c cells slots C hf1 hf2 H locs ls hls hm hS
  unfold MC at hM
  rw [wsM_cons hh] at hM
  have hRf := C.2.2.2.2.2.2.2.2.2.1
  have hRl := C.2.2.2.2.2.2.2.2.2.2.1
  obtain ⟨r1, r2⟩ := hR
  refine ⟨(As.map (val G)).toArray, vx_runSX (As := As.map (val G)) (rest := rest.map (val G)) (hh := mHH My) ⟨C.1, C.2.1, C.2.2.1, C.own, C.ts⟩ hM (vx_cwSW n C.ts (lw_SW w1 w2 w4 w5) rfl rfl rfl hd ⟨by show mRf My + 1 ≤ _; omega, by show _ + mRl My ≤ _; omega⟩) ⟨PcO.blind, pre_state C hm hS⟩ rfl (by rw [List.length_map]; exact hn) hls ?_ ?_ d ⟨hf1, hf2⟩⟩
  · show (As.reverse ++ rest).map (val G) = _
    rw [List.map_append, List.map_reverse]
  · show 2 * 0 + _ ≤ 8
    rw [val_cats]
    omega
/-- a method with handlers -/
theorem Ct_ofH {α : Type} {ρ : α → Out} {As : List LV} {f : Option (α × Mem)} (h0 : G0 G) (hy : plainName (mY M).cls = true) (hh : mHH M ≠ []) (hA : (As.map lvc).sum ≤ mNL M) {L0 : List (Option LV)} (hL0 : lpad (largs As) (mNL M) = L0) (k : Runs G M ρ σ 0 L0 [] f) : Ct G M ρ As σ f := by
  intro r σf hf
  subst hL0
  obtain ⟨k1, k2⟩ := k r σf hf
  refine ⟨k1, ?_⟩
  unfold MC
  rw [wsM_cons hh]
  refine vx_ofWH (cc := mCc M) (maxL := mNL M) (ret := mRet M) (hh := mHH M) hy rfl ?_
  intro p e s m args below meth c s₁ B hml hv
  obtain ⟨rfl, hgi, hm⟩ := hv
  have hts := atoms_spec (ws := wsW_ (mY M) (mCc M) (mNL M) (mRet M) (mHH M)) B.pre
  have hl := lOK.entry G As hA
  rw [lg_entry_eq]
  have hs := k2 p e (headSpec (wsW_ (mY M) (mCc M) (mNL M) (mRet M) (mHH M)) { frames := mRf M, cells := m_N σf - m_N σ, slots := m_S σf - m_S σ, locals := mRl M }).room s m _ below meth c (m_N σ) (m_S σ) ⟨B.exec, B.bytes, hml, findClass_of_methodNamed B.named, fun w h => hts w (List.mem_cons_of_mem _ h), B.returns, B.notSynchronized, (name_of_methodNamed B.named B.method).1, vx_table (x := mY M) B (hts _ List.mem_cons_self), Nat.le_refl _, Nat.le_refl _, h0, hgi⟩ (Nat.le_refl _) (Nat.le_refl _) (Nat.le_refl _) (Nat.le_refl _) s.heap [] _ (hl.pad _) hm va_S.rf
  rw [Nat.sub_self, Nat.sub_self] at hs
  exact hs
end
/-! NoSuchElementException, thrown by GoatCourt.put -/
theorem nse_words {G : Gx} {s : State} {args : Array Value} (h0 : G0 G) (hgi : GI G s) (hts : ∀ w ∈ lw_all, w.before args s = true) (hU : vx_Zq Bundle.tN "UNASSIGNED_STACK" Bundle.steD (wA G) s s.heap) (hN : vx_Zq Bundle.tN "SUPPRESSED_SENTINEL" Bundle.listD (wA G) s s.heap) : ∀ w ∈ Bundle.ownAtoms0 "GoatCourt" 458 "java/util/NoSuchElementException" ["java/lang/RuntimeException", "java/lang/Exception"], w.before args s = true := by
  have hT : ∀ w ∈ Bundle.throwableAtoms, w.before args s = true := (vx_c (hts _ q169) (vx_c (hts _ q238) (vx_c (hts _ q247) (vx_c (hts _ q250) (vx_c (hts _ q253) (vx_c (hts _ q255) (vx_c (hts _ q239) (vx_c (hts _ q240) (vx_c (hts _ q208) (vx_c (hts _ q209) (vx_c (hts _ q241) (vx_c (hts _ q246) (vx_c (hts _ q251) (vx_c (hts _ q274) (vx_c (hts _ q228) (vx_c (hts _ q275) (vx_c (hts _ q230) (vx_c (hts _ q276) (vx_c (hts _ q232) (vx_c (hts _ q242) (vx_c hU.2.word (vx_c (hts _ q244) (vx_c hN.2.word (vx_c (hts _ q234) vx_n))))))))))))))))))))))))
  have h1 : ∀ w ∈ Bundle.passAtoms "java/util/NoSuchElementException" "java/lang/RuntimeException" 1 Bundle.five, w.before args s = true := (vx_c (hts _ q1872) (vx_c (hts _ q1873) (vx_c (hts _ q1874) (vx_c (hts _ q1875) (vx_c (va_Nw.use rfl (va_Nw.warmD hgi.1 (h0.2.1 _ q219 rfl))) vx_n)))))
  have h2 : ∀ w ∈ Bundle.passAtoms "java/lang/RuntimeException" "java/lang/Exception" 1 Bundle.five, w.before args s = true := (vx_c (hts _ q1875) (vx_c (hts _ q1876) (vx_c (hts _ q1877) (vx_c (hts _ q1878) (vx_c (va_Nw.use rfl (va_Nw.warmD hgi.1 (h0.2.1 _ q221 rfl))) vx_n)))))
  have h3 : ∀ w ∈ Bundle.passAtoms "java/lang/Exception" Bundle.tN 1 Bundle.five, w.before args s = true := (vx_c (hts _ q1878) (vx_c (hts _ q1879) (vx_c (hts _ q1880) (vx_c (hts _ q239) (vx_c (va_Nw.use rfl (va_Nw.warmD hgi.1 (h0.2.1 _ q223 rfl))) vx_n)))))
  intro w hw
  rcases List.mem_append.mp hw with h | h
  · rcases List.mem_append.mp h with h | h
    · exact hT w h
    · rcases List.mem_append.mp h with h | h
      · exact h1 w h
      · rcases List.mem_append.mp h with h | h
        · exact h2 w h
        · exact h3 w h
  · exact (vx_c (hts _ q1871) (vx_c (hts _ q1863) (vx_c (va_Nw.use rfl (va_Nw.warmC hgi.1 (h0.2.1 _ q1864 rfl))) (vx_c (hts _ q1865) (vx_c (hts _ q249) (vx_c (hts _ q1866) (vx_c (hts _ q1867) (vx_c (hts _ q1868) (vx_c (hts _ q1869) (vx_c (vx_isRefq hU.1) (vx_c (vx_isRefq hN.1) (vx_c (hts _ q237) (vx_c (hts _ q236) (vx_c (hts _ q1870) vx_n)))))))))))))) w h
theorem r_nse {G : Gx} {M : Mth} {α : Type} {ρ : α → Out} {σ : Mem} {pc : Nat} {L : List (Option LV)} {st : List LV} (hM : (mY M).cls = "GoatCourt") (hh : mHH M = []) (hf : 6 ≤ mRf M) (hlo : (st.map lvc).sum + 81 ≤ mRl M)
    (d0 : decode (mCc M) pc = .ok (.new 456, 3)) (d3 : decode (mCc M) (pc + 3) = .ok (.dup, 1)) (d4 : decode (mCc M) (pc + 4) = .ok (.invokespecial 458, 3)) (d7 : decode (mCc M) (pc + 7) = .ok (.athrow, 1)) : Runs G M (rhoX ρ) σ pc L st (some (.inr (m_N σ, "java/util/NoSuchElementException"), s_New σ 0 0 6)) := by
  intro r σf hr
  cases hr
  refine ⟨⟨Nat.le_succ _, Nat.le_add_right _ _⟩, ?_⟩
  intro p e R s m args below meth c n0 s0 C h1 h2 h3 h4 H locs ls hl hm hS
  have hRf := C.2.2.2.2.2.2.2.2.2.1
  have hRl := C.2.2.2.2.2.2.2.2.2.2.1
  have k3 : m_N σ + 1 - n0 ≤ R.cells := h3
  have k4 : m_S σ + 6 - s0 ≤ R.slots := h4
  have h0 := C.g0
  have hgi := C.gi
  obtain ⟨-, -, -, -, -, -, -, -, -, -, g1, g2, g3⟩ := h0
  have hU : vx_Zq Bundle.tN "UNASSIGNED_STACK" Bundle.steD (wA G) s s.heap := (vx_Zq.moved hgi.1.alike g2).kept (fun a ha hA => hgi.2.2 a ha)
  have hN : vx_Zq Bundle.tN "SUPPRESSED_SENTINEL" Bundle.listD (wA G) s s.heap := (vx_Zq.moved hgi.1.alike g3).kept (fun a ha hA => hgi.2.2 a ha)
  have hw := nse_words C.g0 hgi C.ts hU hN
  have had : ad G (m_N σ) = H.size := by
    rw [ad_hi hm.2.1]
    have := hm.1
    have := hm.2.1
    omega
  refine vx_throw0 (own := "GoatCourt") (cls := "java/util/NoSuchElementException") (names := ["java/lang/RuntimeException", "java/lang/Exception"]) (ik := 456) (ic := 458) (A := wA G) C.1 C.2.1 g1 (by rw [← hM]; exact C.own) (by decide +kernel) (by decide +kernel) (C.ts _ q1862) (C.ts _ q201) (fun w h => hw w (List.mem_filter.mp h).1) (by decide +kernel) hU hN hS (by rw [C.2.2.1]; exact hl.1) d0 d3 d4 d7 ?_ (by show 2 + 3 < _; omega) (by show _ + 81 ≤ _; rw [val_cats]; omega) (by omega) (by omega) C.2.2.2.2.2.2.1 ?_ hS.2.2 (by show _ ≤ m_N σ + 1 - n0; omega) (by show _ ≤ m_S σ + 6 - s0; omega)
  · intro x hx
    rw [C.2.2.2.2.2.2.2.2.1, hh] at hx
    cases hx
  · intro t ha hz hq
    refine ⟨⟨m_N σ, rfl, had⟩, mSt_new C.g0 hm hz hq (fun h => absurd rfl h), ⟨by have := hS.1; omega, fun q q1 q2 => (hq q (Nat.lt_of_lt_of_le q1 hS.1)).trans (hS.2.1 q q1 q2)⟩⟩

