set_option maxRecDepth 100000
/-! THE JUDGEMENT: if the pure expression f has a value, the machine comes to it -/
def Fx (G : Gx) (M : Mth) (p : Program) (R : Room) (s : State) (m : MethodId) (args : Array Value) (meth : Method) (c : Code) : Prop :=
  p.tables.exec = Jvm.exec ∧ c.code = mCc M ∧ c.maxLocals = mNL M ∧ s.vm.findClass (mY M).cls = some m.cls ∧ (∀ w ∈ lw_all, w.before args s = true) ∧ meth.sig.returnType = mRet M ∧ meth.locks = false ∧ meth.name = (mY M).name ∧ c.exceptionTable.toList = tableOf (mHH M) ∧ mRf M ≤ R.frames ∧ mRl M ≤ R.locals ∧ G0 G ∧ GI G s
def QcO (G : Gx) (o : Out) (σf : Mem) : Array Value → State → Outcome → State → Prop := fun _ st oc t => (∃ v : Option LV, o = .inl v ∧ oc = .returned (v.map (val G))) ∧ mSt G σf t.heap ∧ va_F (wA G) st t
def XCO (G : Gx) (o : Out) (σf : Mem) : Addr → String → State → State → Prop := fun q E st t => (∃ a : Nat, o = .inr (a, E) ∧ ad G a = q) ∧ mSt G σf t.heap ∧ va_F (wA G) st t
def RW (G : Gx) (M : Mth) (o : Out) (σf σ : Mem) (pc : Nat) (L : List (Option LV)) (st : List LV) : Prop :=
  ∀ (p : Program) (e : Env) (R : Room) (s : State) (m : MethodId) (args : Array Value) (below : List Frame) (meth : Method) (c : Code) (n0 s0 : Nat),
    Fx G M p R s m args meth c → n0 ≤ m_N σ → s0 ≤ m_S σ → m_N σf - n0 ≤ R.cells → m_S σf - s0 ≤ R.slots →
    ∀ (H : Heap) (locs : List Loc) (ls : Array Slot), lOK G (mNL M) ls L → mSt G σ H → va_S (wA G) s.heap H locs →
      W p (gL G) e R s m args below meth c H locs (m_N σ - n0) (m_S σ - s0) (vx_MQ below (QcO G o σf) (XCO G o σf) args s (m_N σf - n0) (m_S σf - s0) (wA G)) (F0 m pc ls (st.map (val G)))
def Le (σ σf : Mem) : Prop := m_N σ ≤ m_N σf ∧ m_S σ ≤ m_S σf
theorem Le.rf (σ : Mem) : Le σ σ := ⟨Nat.le_refl _, Nat.le_refl _⟩
theorem Le.tr {a b c : Mem} (h : Le a b) (k : Le b c) : Le a c := ⟨Nat.le_trans h.1 k.1, Nat.le_trans h.2 k.2⟩
def Runs (G : Gx) (M : Mth) {α : Type} (ρ : α → Out) (σ : Mem) (pc : Nat) (L : List (Option LV)) (st : List LV) (f : Option (α × Mem)) : Prop :=
  ∀ r σf, f = some (r, σf) → Le σ σf ∧ RW G M (ρ r) σf σ pc L st
/-- the words of a method's contract -/
def wsM (M : Mth) : List Cond := match mHH M with
  | [] => ws_ (mY M) (mCc M) (mNL M) (mRet M)
  | h :: t => wsW_ (mY M) (mCc M) (mNL M) (mRet M) (h :: t)
def PcO (G : Gx) (As : List LV) (σ : Mem) : Array Value → State → Prop := va_Pc (As.map (val G)) (fun U => GI G U ∧ mSt G σ U.heap)
def MC (G : Gx) (M : Mth) (As : List LV) (σ : Mem) (o : Out) (σf : Mem) : Prop :=
  vx_Met (gL G) (mY M) (wsM M) { frames := mRf M, cells := m_N σf - m_N σ, slots := m_S σf - m_S σ, locals := mRl M } (PcO G As σ) (QcO G o σf) (XCO G o σf) (m_N σf - m_N σ) (m_S σf - m_S σ) (wA G)
/-- a contract -/
def Ct (G : Gx) (M : Mth) {α : Type} (ρ : α → Out) (As : List LV) (σ : Mem) (f : Option (α × Mem)) : Prop :=
  ∀ r σf, f = some (r, σf) → Le σ σf ∧ MC G M As σ (ρ r) σf
def rhoI (x : Int32) : Out := .inl (some (vI x))
def rhoL (x : Int64) : Out := .inl (some (vL x))
def rhoR (o : Option Nat) : Out := .inl (some (vR o))
def rhoV (_ : Unit) : Out := .inl none
def rhoX {α : Type} (ρ : α → Out) : α ⊕ Ex → Out := fun r => match r with
  | .inl a => ρ a
  | .inr e => .inr e
section
variable {G : Gx} {M : Mth} {α : Type} {ρ : α → Out} {σ : Mem} {pc : Nat} {L : List (Option LV)} {st : List LV} {f : Option (α × Mem)}
theorem Runs.mapW {pc' : Nat} {L' : List (Option LV)} {st' : List LV} (h : ∀ o σf, RW G M o σf σ pc' L' st' → RW G M o σf σ pc L st) (k : Runs G M ρ σ pc' L' st' f) : Runs G M ρ σ pc L st f :=
  fun r σf hf => ⟨(k r σf hf).1, h _ _ (k r σf hf).2⟩
theorem r_none : Runs G M ρ σ pc L st (none : Option (α × Mem)) := fun _ _ h => nomatch h
theorem r_ob {β : Type} {x : Option β} {F : β → Option (α × Mem)} (k : ∀ a, x = some a → Runs G M ρ σ pc L st (F a)) : Runs G M ρ σ pc L st (ob x F) := by
  intro r σf hf
  obtain ⟨a, h1, h2⟩ := ob_eq hf
  exact k a h1 r σf h2
theorem r_ite {c : Prop} [Decidable c] {f1 f2 : Option (α × Mem)} (k1 : c → Runs G M ρ σ pc L st f1) (k2 : ¬ c → Runs G M ρ σ pc L st f2) : Runs G M ρ σ pc L st (if c then f1 else f2) := by
  by_cases h : c
  · rw [if_pos h]; exact k1 h
  · rw [if_neg h]; exact k2 h
/-- less is known of the locals -/
theorem r_le {L' : List (Option LV)} (k : Runs G M ρ σ pc L' st f) (hl : L'.length ≤ L.length) (hk : lle L' L) : Runs G M ρ σ pc L st f := by
  refine Runs.mapW (fun o σf k => ?_) k
  intro p e R s m args below meth c n0 s0 C h1 h2 h3 h4 H locs ls hl2 hm hS
  exact k p e R s m args below meth c n0 s0 C h1 h2 h3 h4 H locs ls (hl2.le hl hk) hm hS
theorem r_iadd {q : Nat} {x y : Int32} (d : decode (mCc M) pc = .ok (.iadd, 1)) (hq : pc + 1 = q)  (k : Runs G M ρ σ q L (vI (x + y) :: st) f) : Runs G M ρ σ pc L (vI y :: vI x :: st) f := by
  subst hq
  refine Runs.mapW (fun o σf k => ?_) k
  intro p e R s m args below meth c n0 s0 C h1 h2 h3 h4 H locs ls hl hm hS
  exact lv_iadd C.1 C.2.1  d  (k p e R s m args below meth c n0 s0 C h1 h2 h3 h4 H locs ls hl hm hS)
theorem r_isub {q : Nat} {x y : Int32} (d : decode (mCc M) pc = .ok (.isub, 1)) (hq : pc + 1 = q)  (k : Runs G M ρ σ q L (vI (x - y) :: st) f) : Runs G M ρ σ pc L (vI y :: vI x :: st) f := by
  subst hq
  refine Runs.mapW (fun o σf k => ?_) k
  intro p e R s m args below meth c n0 s0 C h1 h2 h3 h4 H locs ls hl hm hS
  exact lv_isub C.1 C.2.1  d  (k p e R s m args below meth c n0 s0 C h1 h2 h3 h4 H locs ls hl hm hS)
theorem r_imul {q : Nat} {x y : Int32} (d : decode (mCc M) pc = .ok (.imul, 1)) (hq : pc + 1 = q)  (k : Runs G M ρ σ q L (vI (x * y) :: st) f) : Runs G M ρ σ pc L (vI y :: vI x :: st) f := by
  subst hq
  refine Runs.mapW (fun o σf k => ?_) k
  intro p e R s m args below meth c n0 s0 C h1 h2 h3 h4 H locs ls hl hm hS
  exact lv_imul C.1 C.2.1  d  (k p e R s m args below meth c n0 s0 C h1 h2 h3 h4 H locs ls hl hm hS)
theorem r_iand {q : Nat} {x y : Int32} (d : decode (mCc M) pc = .ok (.iand, 1)) (hq : pc + 1 = q)  (k : Runs G M ρ σ q L (vI (x &&& y) :: st) f) : Runs G M ρ σ pc L (vI y :: vI x :: st) f := by
  subst hq
  refine Runs.mapW (fun o σf k => ?_) k
  intro p e R s m args below meth c n0 s0 C h1 h2 h3 h4 H locs ls hl hm hS
  exact lv_iand C.1 C.2.1  d  (k p e R s m args below meth c n0 s0 C h1 h2 h3 h4 H locs ls hl hm hS)
theorem r_ior {q : Nat} {x y : Int32} (d : decode (mCc M) pc = .ok (.ior, 1)) (hq : pc + 1 = q)  (k : Runs G M ρ σ q L (vI (x ||| y) :: st) f) : Runs G M ρ σ pc L (vI y :: vI x :: st) f := by
  subst hq
  refine Runs.mapW (fun o σf k => ?_) k
  intro p e R s m args below meth c n0 s0 C h1 h2 h3 h4 H locs ls hl hm hS
  exact lv_ior C.1 C.2.1  d  (k p e R s m args below meth c n0 s0 C h1 h2 h3 h4 H locs ls hl hm hS)
theorem r_ixor {q : Nat} {x y : Int32} (d : decode (mCc M) pc = .ok (.ixor, 1)) (hq : pc + 1 = q)  (k : Runs G M ρ σ q L (vI (x ^^^ y) :: st) f) : Runs G M ρ σ pc L (vI y :: vI x :: st) f := by
  subst hq
  refine Runs.mapW (fun o σf k => ?_) k
  intro p e R s m args below meth c n0 s0 C h1 h2 h3 h4 H locs ls hl hm hS
  exact lv_ixor C.1 C.2.1  d  (k p e R s m args below meth c n0 s0 C h1 h2 h3 h4 H locs ls hl hm hS)
theorem r_ishl {q : Nat} {x y : Int32} (d : decode (mCc M) pc = .ok (.ishl, 1)) (hq : pc + 1 = q)  (k : Runs G M ρ σ q L (vI (x <<< (y &&& 31)) :: st) f) : Runs G M ρ σ pc L (vI y :: vI x :: st) f := by
  subst hq
  refine Runs.mapW (fun o σf k => ?_) k
  intro p e R s m args below meth c n0 s0 C h1 h2 h3 h4 H locs ls hl hm hS
  exact lv_ishl C.1 C.2.1  d  (k p e R s m args below meth c n0 s0 C h1 h2 h3 h4 H locs ls hl hm hS)
theorem r_ishr {q : Nat} {x y : Int32} (d : decode (mCc M) pc = .ok (.ishr, 1)) (hq : pc + 1 = q)  (k : Runs G M ρ σ q L (vI (x >>> (y &&& 31)) :: st) f) : Runs G M ρ σ pc L (vI y :: vI x :: st) f := by
  subst hq
  refine Runs.mapW (fun o σf k => ?_) k
  intro p e R s m args below meth c n0 s0 C h1 h2 h3 h4 H locs ls hl hm hS
  exact lv_ishr C.1 C.2.1  d  (k p e R s m args below meth c n0 s0 C h1 h2 h3 h4 H locs ls hl hm hS)
theorem r_ladd {q : Nat} {x y : Int64} (d : decode (mCc M) pc = .ok (.ladd, 1)) (hq : pc + 1 = q)  (k : Runs G M ρ σ q L (vL (x + y) :: st) f) : Runs G M ρ σ pc L (vL y :: vL x :: st) f := by
  subst hq
  refine Runs.mapW (fun o σf k => ?_) k
  intro p e R s m args below meth c n0 s0 C h1 h2 h3 h4 H locs ls hl hm hS
  exact lv_ladd C.1 C.2.1  d  (k p e R s m args below meth c n0 s0 C h1 h2 h3 h4 H locs ls hl hm hS)
theorem r_lmul {q : Nat} {x y : Int64} (d : decode (mCc M) pc = .ok (.lmul, 1)) (hq : pc + 1 = q)  (k : Runs G M ρ σ q L (vL (x * y) :: st) f) : Runs G M ρ σ pc L (vL y :: vL x :: st) f := by
  subst hq
  refine Runs.mapW (fun o σf k => ?_) k
  intro p e R s m args below meth c n0 s0 C h1 h2 h3 h4 H locs ls hl hm hS
  exact lv_lmul C.1 C.2.1  d  (k p e R s m args below meth c n0 s0 C h1 h2 h3 h4 H locs ls hl hm hS)
theorem r_iushr {q : Nat} {x y : Int32} (d : decode (mCc M) pc = .ok (.iushr, 1)) (hq : pc + 1 = q)  (k : Runs G M ρ σ q L (vI ((x.toUInt32 >>> (y.toUInt32 &&& Int32.toUInt32 31)).toInt32) :: st) f) : Runs G M ρ σ pc L (vI y :: vI x :: st) f := by
  subst hq
  refine Runs.mapW (fun o σf k => ?_) k
  intro p e R s m args below meth c n0 s0 C h1 h2 h3 h4 H locs ls hl hm hS
  exact lv_iushr C.1 C.2.1  d rfl (k p e R s m args below meth c n0 s0 C h1 h2 h3 h4 H locs ls hl hm hS)
theorem r_lcmp {q : Nat} {x y : Int64} (d : decode (mCc M) pc = .ok (.lcmp, 1)) (hq : pc + 1 = q)  (k : Runs G M ρ σ q L (vI (lg_cmp x y) :: st) f) : Runs G M ρ σ pc L (vL y :: vL x :: st) f := by
  subst hq
  refine Runs.mapW (fun o σf k => ?_) k
  intro p e R s m args below meth c n0 s0 C h1 h2 h3 h4 H locs ls hl hm hS
  exact W.lcmp C.1 C.2.1  d  (k p e R s m args below meth c n0 s0 C h1 h2 h3 h4 H locs ls hl hm hS)
theorem r_i2l {q : Nat} {x : Int32} (d : decode (mCc M) pc = .ok (.i2l, 1)) (hq : pc + 1 = q)  (k : Runs G M ρ σ q L (vL (x.toInt64) :: st) f) : Runs G M ρ σ pc L (vI x :: st) f := by
  subst hq
  refine Runs.mapW (fun o σf k => ?_) k
  intro p e R s m args below meth c n0 s0 C h1 h2 h3 h4 H locs ls hl hm hS
  exact lv_i2l C.1 C.2.1  d rfl (k p e R s m args below meth c n0 s0 C h1 h2 h3 h4 H locs ls hl hm hS)
theorem r_i2b {q : Nat} {x : Int32} (d : decode (mCc M) pc = .ok (.i2b, 1)) (hq : pc + 1 = q)  (k : Runs G M ρ σ q L (vI (x.toInt8.toInt32) :: st) f) : Runs G M ρ σ pc L (vI x :: st) f := by
  subst hq
  refine Runs.mapW (fun o σf k => ?_) k
  intro p e R s m args below meth c n0 s0 C h1 h2 h3 h4 H locs ls hl hm hS
  exact lv_i2b C.1 C.2.1  d rfl (k p e R s m args below meth c n0 s0 C h1 h2 h3 h4 H locs ls hl hm hS)
theorem r_i2c {q : Nat} {x : Int32} (d : decode (mCc M) pc = .ok (.i2c, 1)) (hq : pc + 1 = q)  (k : Runs G M ρ σ q L (vI ((x.toUInt32 % 65536).toInt32) :: st) f) : Runs G M ρ σ pc L (vI x :: st) f := by
  subst hq
  refine Runs.mapW (fun o σf k => ?_) k
  intro p e R s m args below meth c n0 s0 C h1 h2 h3 h4 H locs ls hl hm hS
  exact lv_i2c C.1 C.2.1  d rfl (k p e R s m args below meth c n0 s0 C h1 h2 h3 h4 H locs ls hl hm hS)
theorem r_iconst {q : Nat} {n : Int} {v : Int32} (d : decode (mCc M) pc = .ok (.iconst n, 1)) (hq : pc + 1 = q) (hv : Int32.ofInt n = v) (k : Runs G M ρ σ q L (vI v :: st) f) : Runs G M ρ σ pc L (st) f := by
  subst hq
  refine Runs.mapW (fun o σf k => ?_) k
  intro p e R s m args below meth c n0 s0 C h1 h2 h3 h4 H locs ls hl hm hS
  exact lv_iconst C.1 C.2.1  d hv (k p e R s m args below meth c n0 s0 C h1 h2 h3 h4 H locs ls hl hm hS)
theorem r_bipush {q : Nat} {n : Int} {v : Int32} (d : decode (mCc M) pc = .ok (.bipush n, 2)) (hq : pc + 2 = q) (hv : (Int8.ofInt n).toInt32 = v) (k : Runs G M ρ σ q L (vI v :: st) f) : Runs G M ρ σ pc L (st) f := by
  subst hq
  refine Runs.mapW (fun o σf k => ?_) k
  intro p e R s m args below meth c n0 s0 C h1 h2 h3 h4 H locs ls hl hm hS
  exact lv_bipush C.1 C.2.1  d hv (k p e R s m args below meth c n0 s0 C h1 h2 h3 h4 H locs ls hl hm hS)
theorem r_sipush {q : Nat} {n : Int} {v : Int32} (d : decode (mCc M) pc = .ok (.sipush n, 3)) (hq : pc + 3 = q) (hv : (Int16.ofInt n).toInt32 = v) (k : Runs G M ρ σ q L (vI v :: st) f) : Runs G M ρ σ pc L (st) f := by
  subst hq
  refine Runs.mapW (fun o σf k => ?_) k
  intro p e R s m args below meth c n0 s0 C h1 h2 h3 h4 H locs ls hl hm hS
  exact lv_sipush C.1 C.2.1  d hv (k p e R s m args below meth c n0 s0 C h1 h2 h3 h4 H locs ls hl hm hS)
theorem r_lconst {q : Nat} {n : Fin 2} {v : Int64} (d : decode (mCc M) pc = .ok (.lconst n, 1)) (hq : pc + 1 = q) (hv : Int64.ofNat (n : Nat) = v) (k : Runs G M ρ σ q L (vL v :: st) f) : Runs G M ρ σ pc L (st) f := by
  subst hq
  refine Runs.mapW (fun o σf k => ?_) k
  intro p e R s m args below meth c n0 s0 C h1 h2 h3 h4 H locs ls hl hm hS
  exact lv_lconst C.1 C.2.1  d hv (k p e R s m args below meth c n0 s0 C h1 h2 h3 h4 H locs ls hl hm hS)
theorem r_null {q : Nat}  (d : decode (mCc M) pc = .ok (.aconst_null, 1)) (hq : pc + 1 = q)  (k : Runs G M ρ σ q L (vR none :: st) f) : Runs G M ρ σ pc L (st) f := by
  subst hq
  refine Runs.mapW (fun o σf k => ?_) k
  intro p e R s m args below meth c n0 s0 C h1 h2 h3 h4 H locs ls hl hm hS
  exact lv_null C.1 C.2.1  d  (k p e R s m args below meth c n0 s0 C h1 h2 h3 h4 H locs ls hl hm hS)
theorem r_dup {q : Nat} {v : LV} (d : decode (mCc M) pc = .ok (.dup, 1)) (hq : pc + 1 = q) (hc : lvc v = 1) (k : Runs G M ρ σ q L (v :: v :: st) f) : Runs G M ρ σ pc L (v :: st) f := by
  subst hq
  refine Runs.mapW (fun o σf k => ?_) k
  intro p e R s m args below meth c n0 s0 C h1 h2 h3 h4 H locs ls hl hm hS
  exact lv_dup C.1 C.2.1  d ((val_cat G v).trans hc) (k p e R s m args below meth c n0 s0 C h1 h2 h3 h4 H locs ls hl hm hS)
theorem r_pop {q : Nat} {v : LV} (d : decode (mCc M) pc = .ok (.pop, 1)) (hq : pc + 1 = q) (hc : lvc v = 1) (k : Runs G M ρ σ q L (st) f) : Runs G M ρ σ pc L (v :: st) f := by
  subst hq
  refine Runs.mapW (fun o σf k => ?_) k
  intro p e R s m args below meth c n0 s0 C h1 h2 h3 h4 H locs ls hl hm hS
  exact lv_pop C.1 C.2.1  d ((val_cat G v).trans hc) (k p e R s m args below meth c n0 s0 C h1 h2 h3 h4 H locs ls hl hm hS)
theorem r_dup2 {q : Nat} {v w : LV} (d : decode (mCc M) pc = .ok (.dup2, 1)) (hq : pc + 1 = q) (hc : lvc v = 1) (hc2 : lvc w = 1) (k : Runs G M ρ σ q L (w :: v :: w :: v :: st) f) : Runs G M ρ σ pc L (w :: v :: st) f := by
  subst hq
  refine Runs.mapW (fun o σf k => ?_) k
  intro p e R s m args below meth c n0 s0 C h1 h2 h3 h4 H locs ls hl hm hS
  exact lv_dup2_11 C.1 C.2.1  d ((val_cat G w).trans hc2) ((val_cat G v).trans hc) (k p e R s m args below meth c n0 s0 C h1 h2 h3 h4 H locs ls hl hm hS)
theorem r_pop2 {q : Nat} {v : Int64} (d : decode (mCc M) pc = .ok (.pop2, 1)) (hq : pc + 1 = q)  (k : Runs G M ρ σ q L (st) f) : Runs G M ρ σ pc L (vL v :: st) f := by
  subst hq
  refine Runs.mapW (fun o σf k => ?_) k
  intro p e R s m args below meth c n0 s0 C h1 h2 h3 h4 H locs ls hl hm hS
  exact lv_pop2_2 C.1 C.2.1  d rfl (k p e R s m args below meth c n0 s0 C h1 h2 h3 h4 H locs ls hl hm hS)
theorem r_iload_n {q : Nat} {n : Fin 4} {i : Nat} {x : Int32} (d : decode (mCc M) pc = .ok (.iload_n n, 1)) (hq : pc + 1 = q) (hi : (n : Nat) = i) (hL : lget L i = some (vI x)) (k : Runs G M ρ σ q L (vI x :: st) f) : Runs G M ρ σ pc L (st) f := by
  subst hq
  refine Runs.mapW (fun o σf k => ?_) k
  intro p e R s m args below meth c n0 s0 C h1 h2 h3 h4 H locs ls hl hm hS
  exact lv_iload_n C.1 C.2.1  d hi (hl.2.2 _ _ hL) (k p e R s m args below meth c n0 s0 C h1 h2 h3 h4 H locs ls hl hm hS)
theorem r_iload {q : Nat} {i : Nat} {x : Int32} (d : decode (mCc M) pc = .ok (.iload i, 2)) (hq : pc + 2 = q) (hL : lget L i = some (vI x)) (k : Runs G M ρ σ q L (vI x :: st) f) : Runs G M ρ σ pc L (st) f := by
  subst hq
  refine Runs.mapW (fun o σf k => ?_) k
  intro p e R s m args below meth c n0 s0 C h1 h2 h3 h4 H locs ls hl hm hS
  exact lv_iload C.1 C.2.1  d (hl.2.2 _ _ hL) (k p e R s m args below meth c n0 s0 C h1 h2 h3 h4 H locs ls hl hm hS)
theorem r_lload_n {q : Nat} {n : Fin 4} {i : Nat} {x : Int64} (d : decode (mCc M) pc = .ok (.lload_n n, 1)) (hq : pc + 1 = q) (hi : (n : Nat) = i) (hL : lget L i = some (vL x)) (k : Runs G M ρ σ q L (vL x :: st) f) : Runs G M ρ σ pc L (st) f := by
  subst hq
  refine Runs.mapW (fun o σf k => ?_) k
  intro p e R s m args below meth c n0 s0 C h1 h2 h3 h4 H locs ls hl hm hS
  exact lv_lload_n C.1 C.2.1  d hi (hl.2.2 _ _ hL) (k p e R s m args below meth c n0 s0 C h1 h2 h3 h4 H locs ls hl hm hS)
theorem r_lload {q : Nat} {i : Nat} {x : Int64} (d : decode (mCc M) pc = .ok (.lload i, 2)) (hq : pc + 2 = q) (hL : lget L i = some (vL x)) (k : Runs G M ρ σ q L (vL x :: st) f) : Runs G M ρ σ pc L (st) f := by
  subst hq
  refine Runs.mapW (fun o σf k => ?_) k
  intro p e R s m args below meth c n0 s0 C h1 h2 h3 h4 H locs ls hl hm hS
  exact lv_lload C.1 C.2.1  d (hl.2.2 _ _ hL) (k p e R s m args below meth c n0 s0 C h1 h2 h3 h4 H locs ls hl hm hS)
theorem r_aload_n {q : Nat} {n : Fin 4} {i : Nat} {x : Option Nat} (d : decode (mCc M) pc = .ok (.aload_n n, 1)) (hq : pc + 1 = q) (hi : (n : Nat) = i) (hL : lget L i = some (vR x)) (k : Runs G M ρ σ q L (vR x :: st) f) : Runs G M ρ σ pc L st f := by
  subst hq
  refine Runs.mapW (fun o σf k => ?_) k
  intro p e R s m args below meth c n0 s0 C h1 h2 h3 h4 H locs ls hl hm hS
  cases x with
  | none => exact lv_aload_nN C.1 C.2.1 d hi (hl.2.2 _ _ hL) (k p e R s m args below meth c n0 s0 C h1 h2 h3 h4 H locs ls hl hm hS)
  | some x => exact lv_aload_n C.1 C.2.1 d hi (hl.2.2 _ _ hL) (k p e R s m args below meth c n0 s0 C h1 h2 h3 h4 H locs ls hl hm hS)
theorem r_aload {q : Nat} {i : Nat} {x : Option Nat} (d : decode (mCc M) pc = .ok (.aload i, 2)) (hq : pc + 2 = q) (hL : lget L i = some (vR x)) (k : Runs G M ρ σ q L (vR x :: st) f) : Runs G M ρ σ pc L st f := by
  subst hq
  refine Runs.mapW (fun o σf k => ?_) k
  intro p e R s m args below meth c n0 s0 C h1 h2 h3 h4 H locs ls hl hm hS
  cases x with
  | none => exact lv_aloadN C.1 C.2.1 d (hl.2.2 _ _ hL) (k p e R s m args below meth c n0 s0 C h1 h2 h3 h4 H locs ls hl hm hS)
  | some x => exact lv_aload C.1 C.2.1 d (hl.2.2 _ _ hL) (k p e R s m args below meth c n0 s0 C h1 h2 h3 h4 H locs ls hl hm hS)
theorem r_istore_n {q : Nat} {L2 : List (Option LV)} {n : Fin 4} {i : Nat} {x : Int32} (d : decode (mCc M) pc = .ok (.istore_n n, 1)) (hq : pc + 1 = q) (hi : (n : Nat) = i) (hn : i < mNL M) (hL : lset L i (vI x) = L2) (k : Runs G M ρ σ q L2 st f) : Runs G M ρ σ pc L (vI x :: st) f := by
  subst hL
  subst hq
  refine Runs.mapW (fun o σf k => ?_) k
  intro p e R s m args below meth c n0 s0 C h1 h2 h3 h4 H locs ls hl hm hS
  exact lv_istore_n C.1 C.2.1 d hi hl.has hn rfl (fun ls h => k p e R s m args below meth c n0 s0 C h1 h2 h3 h4 H locs ls (lOK.set h) hm hS)
theorem r_istore {q : Nat} {L2 : List (Option LV)} {i : Nat} {x : Int32} (d : decode (mCc M) pc = .ok (.istore i, 2)) (hq : pc + 2 = q) (hn : i < mNL M) (hL : lset L i (vI x) = L2) (k : Runs G M ρ σ q L2 st f) : Runs G M ρ σ pc L (vI x :: st) f := by
  subst hL
  subst hq
  refine Runs.mapW (fun o σf k => ?_) k
  intro p e R s m args below meth c n0 s0 C h1 h2 h3 h4 H locs ls hl hm hS
  exact lv_istore C.1 C.2.1 d hl.has hn rfl (fun ls h => k p e R s m args below meth c n0 s0 C h1 h2 h3 h4 H locs ls (lOK.set h) hm hS)
theorem r_lstore_n {q : Nat} {L2 : List (Option LV)} {n : Fin 4} {i : Nat} {x : Int64} (d : decode (mCc M) pc = .ok (.lstore_n n, 1)) (hq : pc + 1 = q) (hi : (n : Nat) = i) (hn : i + 1 < mNL M) (hL : lsetL L i (vL x) = L2) (k : Runs G M ρ σ q L2 st f) : Runs G M ρ σ pc L (vL x :: st) f := by
  subst hL
  subst hq
  refine Runs.mapW (fun o σf k => ?_) k
  intro p e R s m args below meth c n0 s0 C h1 h2 h3 h4 H locs ls hl hm hS
  exact lv_lstore_n C.1 C.2.1 d hi hl.has hn rfl (fun ls h => k p e R s m args below meth c n0 s0 C h1 h2 h3 h4 H locs ls (lOK.setL h) hm hS)
theorem r_lstore {q : Nat} {L2 : List (Option LV)} {i : Nat} {x : Int64} (d : decode (mCc M) pc = .ok (.lstore i, 2)) (hq : pc + 2 = q) (hn : i + 1 < mNL M) (hL : lsetL L i (vL x) = L2) (k : Runs G M ρ σ q L2 st f) : Runs G M ρ σ pc L (vL x :: st) f := by
  subst hL
  subst hq
  refine Runs.mapW (fun o σf k => ?_) k
  intro p e R s m args below meth c n0 s0 C h1 h2 h3 h4 H locs ls hl hm hS
  exact lv_lstore C.1 C.2.1 d hl.has hn rfl (fun ls h => k p e R s m args below meth c n0 s0 C h1 h2 h3 h4 H locs ls (lOK.setL h) hm hS)
theorem r_astore_n {q : Nat} {L2 : List (Option LV)} {n : Fin 4} {i : Nat} {x : Option Nat} (d : decode (mCc M) pc = .ok (.astore_n n, 1)) (hq : pc + 1 = q) (hi : (n : Nat) = i) (hn : i < mNL M) (hL : lset L i (vR x) = L2) (k : Runs G M ρ σ q L2 st f) : Runs G M ρ σ pc L (vR x :: st) f := by
  subst hL
  subst hq
  refine Runs.mapW (fun o σf k => ?_) k
  intro p e R s m args below meth c n0 s0 C h1 h2 h3 h4 H locs ls hl hm hS
  cases x with
  | none => exact lv_astore_nN C.1 C.2.1 d hi hl.has hn rfl (fun ls h => k p e R s m args below meth c n0 s0 C h1 h2 h3 h4 H locs ls (lOK.set (v := vR none) h) hm hS)
  | some x => exact lv_astore_n C.1 C.2.1 d hi hl.has hn rfl (fun ls h => k p e R s m args below meth c n0 s0 C h1 h2 h3 h4 H locs ls (lOK.set (v := vR (some x)) h) hm hS)
theorem r_astore {q : Nat} {L2 : List (Option LV)} {i : Nat} {x : Option Nat} (d : decode (mCc M) pc = .ok (.astore i, 2)) (hq : pc + 2 = q) (hn : i < mNL M) (hL : lset L i (vR x) = L2) (k : Runs G M ρ σ q L2 st f) : Runs G M ρ σ pc L (vR x :: st) f := by
  subst hL
  subst hq
  refine Runs.mapW (fun o σf k => ?_) k
  intro p e R s m args below meth c n0 s0 C h1 h2 h3 h4 H locs ls hl hm hS
  cases x with
  | none => exact lv_astoreN C.1 C.2.1 d hl.has hn rfl (fun ls h => k p e R s m args below meth c n0 s0 C h1 h2 h3 h4 H locs ls (lOK.set (v := vR none) h) hm hS)
  | some x => exact lv_astore C.1 C.2.1 d hl.has hn rfl (fun ls h => k p e R s m args below meth c n0 s0 C h1 h2 h3 h4 H locs ls (lOK.set (v := vR (some x)) h) hm hS)
theorem r_iinc {q : Nat} {L2 : List (Option LV)} {i : Nat} {n : Int} {x v : Int32} (d : decode (mCc M) pc = .ok (.iinc i n, 3)) (hq : pc + 3 = q) (hx : lget L i = some (vI x)) (hv : Int32.ofInt n = v) (hn : i < mNL M) (hL : lset L i (vI (x + v)) = L2) (k : Runs G M ρ σ q L2 st f) : Runs G M ρ σ pc L st f := by
  subst hL
  subst hv
  subst hq
  refine Runs.mapW (fun o σf k => ?_) k
  intro p e R s m args below meth c n0 s0 C h1 h2 h3 h4 H locs ls hl hm hS
  obtain ⟨k9, hk9⟩ := List.getElem?_of_mem (lasc_mem (G := G) (q := (i, val G (vI x))) |>.mpr ⟨_, hx, rfl⟩)
  exact lv_iinc (k := k9) C.1 C.2.1 d hl.has hk9 rfl hn rfl (fun ls h => k p e R s m args below meth c n0 s0 C h1 h2 h3 h4 H locs ls (lOK.set h) hm hS)
theorem r_goto {q : Nat} {off : Int} (d : decode (mCc M) pc = .ok (.goto off, 3)) (ht : (pc : Int) + off = (q : Int)) (k : Runs G M ρ σ q L st f) : Runs G M ρ σ pc L st f := by
  refine Runs.mapW (fun o σf k => ?_) k
  intro p e R s m args below meth c n0 s0 C h1 h2 h3 h4 H locs ls hl hm hS
  exact lv_goto C.1 C.2.1 d ht (k p e R s m args below meth c n0 s0 C h1 h2 h3 h4 H locs ls hl hm hS)
theorem r_icmp_eq {q t : Nat} {off : Int} {x y : Int32} {f1 f2 : Option (α × Mem)} (d : decode (mCc M) pc = .ok (.if_icmp .eq off, 3)) (hq : pc + 3 = q) (ht : (pc : Int) + off = (t : Int)) (kt : x = y → Runs G M ρ σ t L st f1) (kf : ¬ (x = y) → Runs G M ρ σ q L st f2) : Runs G M ρ σ pc L (vI y :: vI x :: st) (if x = y then f1 else f2) := by
  subst hq
  by_cases hc : x = y
  · rw [if_pos hc]
    refine Runs.mapW (fun o σf k => ?_) (kt hc)
    intro p e R s m args below meth c n0 s0 C h1 h2 h3 h4 H locs ls hl hm hS
    exact lv_icmp_eq C.1 C.2.1 d ht (fun _ => (k p e R s m args below meth c n0 s0 C h1 h2 h3 h4 H locs ls hl hm hS)) (fun h => absurd hc h)
  · rw [if_neg hc]
    refine Runs.mapW (fun o σf k => ?_) (kf hc)
    intro p e R s m args below meth c n0 s0 C h1 h2 h3 h4 H locs ls hl hm hS
    exact lv_icmp_eq C.1 C.2.1 d ht (fun h => absurd h hc) (fun _ => (k p e R s m args below meth c n0 s0 C h1 h2 h3 h4 H locs ls hl hm hS))
theorem r_icmp_lt {q t : Nat} {off : Int} {x y : Int32} {f1 f2 : Option (α × Mem)} (d : decode (mCc M) pc = .ok (.if_icmp .lt off, 3)) (hq : pc + 3 = q) (ht : (pc : Int) + off = (t : Int)) (kt : x < y → Runs G M ρ σ t L st f1) (kf : ¬ (x < y) → Runs G M ρ σ q L st f2) : Runs G M ρ σ pc L (vI y :: vI x :: st) (if x < y then f1 else f2) := by
  subst hq
  by_cases hc : x < y
  · rw [if_pos hc]
    refine Runs.mapW (fun o σf k => ?_) (kt hc)
    intro p e R s m args below meth c n0 s0 C h1 h2 h3 h4 H locs ls hl hm hS
    exact lv_icmp_lt C.1 C.2.1 d ht (fun _ => (k p e R s m args below meth c n0 s0 C h1 h2 h3 h4 H locs ls hl hm hS)) (fun h => absurd hc h)
  · rw [if_neg hc]
    refine Runs.mapW (fun o σf k => ?_) (kf hc)
    intro p e R s m args below meth c n0 s0 C h1 h2 h3 h4 H locs ls hl hm hS
    exact lv_icmp_lt C.1 C.2.1 d ht (fun h => absurd h hc) (fun _ => (k p e R s m args below meth c n0 s0 C h1 h2 h3 h4 H locs ls hl hm hS))
theorem r_icmp_ge {q t : Nat} {off : Int} {x y : Int32} {f1 f2 : Option (α × Mem)} (d : decode (mCc M) pc = .ok (.if_icmp .ge off, 3)) (hq : pc + 3 = q) (ht : (pc : Int) + off = (t : Int)) (kt : y ≤ x → Runs G M ρ σ t L st f1) (kf : ¬ (y ≤ x) → Runs G M ρ σ q L st f2) : Runs G M ρ σ pc L (vI y :: vI x :: st) (if y ≤ x then f1 else f2) := by
  subst hq
  by_cases hc : y ≤ x
  · rw [if_pos hc]
    refine Runs.mapW (fun o σf k => ?_) (kt hc)
    intro p e R s m args below meth c n0 s0 C h1 h2 h3 h4 H locs ls hl hm hS
    exact lv_icmp_ge C.1 C.2.1 d ht (fun _ => (k p e R s m args below meth c n0 s0 C h1 h2 h3 h4 H locs ls hl hm hS)) (fun h => absurd hc h)
  · rw [if_neg hc]
    refine Runs.mapW (fun o σf k => ?_) (kf hc)
    intro p e R s m args below meth c n0 s0 C h1 h2 h3 h4 H locs ls hl hm hS
    exact lv_icmp_ge C.1 C.2.1 d ht (fun h => absurd h hc) (fun _ => (k p e R s m args below meth c n0 s0 C h1 h2 h3 h4 H locs ls hl hm hS))
theorem r_icmp_gt {q t : Nat} {off : Int} {x y : Int32} {f1 f2 : Option (α × Mem)} (d : decode (mCc M) pc = .ok (.if_icmp .gt off, 3)) (hq : pc + 3 = q) (ht : (pc : Int) + off = (t : Int)) (kt : y < x → Runs G M ρ σ t L st f1) (kf : ¬ (y < x) → Runs G M ρ σ q L st f2) : Runs G M ρ σ pc L (vI y :: vI x :: st) (if y < x then f1 else f2) := by
  subst hq
  by_cases hc : y < x
  · rw [if_pos hc]
    refine Runs.mapW (fun o σf k => ?_) (kt hc)
    intro p e R s m args below meth c n0 s0 C h1 h2 h3 h4 H locs ls hl hm hS
    exact lv_icmp_gt C.1 C.2.1 d ht (fun _ => (k p e R s m args below meth c n0 s0 C h1 h2 h3 h4 H locs ls hl hm hS)) (fun h => absurd hc h)
  · rw [if_neg hc]
    refine Runs.mapW (fun o σf k => ?_) (kf hc)
    intro p e R s m args below meth c n0 s0 C h1 h2 h3 h4 H locs ls hl hm hS
    exact lv_icmp_gt C.1 C.2.1 d ht (fun h => absurd h hc) (fun _ => (k p e R s m args below meth c n0 s0 C h1 h2 h3 h4 H locs ls hl hm hS))
theorem r_icmp_le {q t : Nat} {off : Int} {x y : Int32} {f1 f2 : Option (α × Mem)} (d : decode (mCc M) pc = .ok (.if_icmp .le off, 3)) (hq : pc + 3 = q) (ht : (pc : Int) + off = (t : Int)) (kt : x ≤ y → Runs G M ρ σ t L st f1) (kf : ¬ (x ≤ y) → Runs G M ρ σ q L st f2) : Runs G M ρ σ pc L (vI y :: vI x :: st) (if x ≤ y then f1 else f2) := by
  subst hq
  by_cases hc : x ≤ y
  · rw [if_pos hc]
    refine Runs.mapW (fun o σf k => ?_) (kt hc)
    intro p e R s m args below meth c n0 s0 C h1 h2 h3 h4 H locs ls hl hm hS
    exact lv_icmp_le C.1 C.2.1 d ht (fun _ => (k p e R s m args below meth c n0 s0 C h1 h2 h3 h4 H locs ls hl hm hS)) (fun h => absurd hc h)
  · rw [if_neg hc]
    refine Runs.mapW (fun o σf k => ?_) (kf hc)
    intro p e R s m args below meth c n0 s0 C h1 h2 h3 h4 H locs ls hl hm hS
    exact lv_icmp_le C.1 C.2.1 d ht (fun h => absurd h hc) (fun _ => (k p e R s m args below meth c n0 s0 C h1 h2 h3 h4 H locs ls hl hm hS))
theorem r_if_eq {q t : Nat} {off : Int} {x : Int32} {f1 f2 : Option (α × Mem)} (d : decode (mCc M) pc = .ok (.ifCond .eq off, 3)) (hq : pc + 3 = q) (ht : (pc : Int) + off = (t : Int)) (kt : x = 0 → Runs G M ρ σ t L st f1) (kf : ¬ (x = 0) → Runs G M ρ σ q L st f2) : Runs G M ρ σ pc L (vI x :: st) (if x = 0 then f1 else f2) := by
  subst hq
  by_cases hc : x = 0
  · rw [if_pos hc]
    refine Runs.mapW (fun o σf k => ?_) (kt hc)
    intro p e R s m args below meth c n0 s0 C h1 h2 h3 h4 H locs ls hl hm hS
    exact lv_if_eq C.1 C.2.1 d ht (fun _ => (k p e R s m args below meth c n0 s0 C h1 h2 h3 h4 H locs ls hl hm hS)) (fun h => absurd hc h)
  · rw [if_neg hc]
    refine Runs.mapW (fun o σf k => ?_) (kf hc)
    intro p e R s m args below meth c n0 s0 C h1 h2 h3 h4 H locs ls hl hm hS
    exact lv_if_eq C.1 C.2.1 d ht (fun h => absurd h hc) (fun _ => (k p e R s m args below meth c n0 s0 C h1 h2 h3 h4 H locs ls hl hm hS))
theorem r_if_lt {q t : Nat} {off : Int} {x : Int32} {f1 f2 : Option (α × Mem)} (d : decode (mCc M) pc = .ok (.ifCond .lt off, 3)) (hq : pc + 3 = q) (ht : (pc : Int) + off = (t : Int)) (kt : x < 0 → Runs G M ρ σ t L st f1) (kf : ¬ (x < 0) → Runs G M ρ σ q L st f2) : Runs G M ρ σ pc L (vI x :: st) (if x < 0 then f1 else f2) := by
  subst hq
  by_cases hc : x < 0
  · rw [if_pos hc]
    refine Runs.mapW (fun o σf k => ?_) (kt hc)
    intro p e R s m args below meth c n0 s0 C h1 h2 h3 h4 H locs ls hl hm hS
    exact lv_if_lt C.1 C.2.1 d ht (fun _ => (k p e R s m args below meth c n0 s0 C h1 h2 h3 h4 H locs ls hl hm hS)) (fun h => absurd hc h)
  · rw [if_neg hc]
    refine Runs.mapW (fun o σf k => ?_) (kf hc)
    intro p e R s m args below meth c n0 s0 C h1 h2 h3 h4 H locs ls hl hm hS
    exact lv_if_lt C.1 C.2.1 d ht (fun h => absurd h hc) (fun _ => (k p e R s m args below meth c n0 s0 C h1 h2 h3 h4 H locs ls hl hm hS))
theorem r_if_ge {q t : Nat} {off : Int} {x : Int32} {f1 f2 : Option (α × Mem)} (d : decode (mCc M) pc = .ok (.ifCond .ge off, 3)) (hq : pc + 3 = q) (ht : (pc : Int) + off = (t : Int)) (kt : 0 ≤ x → Runs G M ρ σ t L st f1) (kf : ¬ (0 ≤ x) → Runs G M ρ σ q L st f2) : Runs G M ρ σ pc L (vI x :: st) (if 0 ≤ x then f1 else f2) := by
  subst hq
  by_cases hc : 0 ≤ x
  · rw [if_pos hc]
    refine Runs.mapW (fun o σf k => ?_) (kt hc)
    intro p e R s m args below meth c n0 s0 C h1 h2 h3 h4 H locs ls hl hm hS
    exact lv_if_ge C.1 C.2.1 d ht (fun _ => (k p e R s m args below meth c n0 s0 C h1 h2 h3 h4 H locs ls hl hm hS)) (fun h => absurd hc h)
  · rw [if_neg hc]
    refine Runs.mapW (fun o σf k => ?_) (kf hc)
    intro p e R s m args below meth c n0 s0 C h1 h2 h3 h4 H locs ls hl hm hS
    exact lv_if_ge C.1 C.2.1 d ht (fun h => absurd h hc) (fun _ => (k p e R s m args below meth c n0 s0 C h1 h2 h3 h4 H locs ls hl hm hS))
theorem r_if_gt {q t : Nat} {off : Int} {x : Int32} {f1 f2 : Option (α × Mem)} (d : decode (mCc M) pc = .ok (.ifCond .gt off, 3)) (hq : pc + 3 = q) (ht : (pc : Int) + off = (t : Int)) (kt : 0 < x → Runs G M ρ σ t L st f1) (kf : ¬ (0 < x) → Runs G M ρ σ q L st f2) : Runs G M ρ σ pc L (vI x :: st) (if 0 < x then f1 else f2) := by
  subst hq
  by_cases hc : 0 < x
  · rw [if_pos hc]
    refine Runs.mapW (fun o σf k => ?_) (kt hc)
    intro p e R s m args below meth c n0 s0 C h1 h2 h3 h4 H locs ls hl hm hS
    exact lv_if_gt C.1 C.2.1 d ht (fun _ => (k p e R s m args below meth c n0 s0 C h1 h2 h3 h4 H locs ls hl hm hS)) (fun h => absurd hc h)
  · rw [if_neg hc]
    refine Runs.mapW (fun o σf k => ?_) (kf hc)
    intro p e R s m args below meth c n0 s0 C h1 h2 h3 h4 H locs ls hl hm hS
    exact lv_if_gt C.1 C.2.1 d ht (fun h => absurd h hc) (fun _ => (k p e R s m args below meth c n0 s0 C h1 h2 h3 h4 H locs ls hl hm hS))
theorem r_if_le {q t : Nat} {off : Int} {x : Int32} {f1 f2 : Option (α × Mem)} (d : decode (mCc M) pc = .ok (.ifCond .le off, 3)) (hq : pc + 3 = q) (ht : (pc : Int) + off = (t : Int)) (kt : x ≤ 0 → Runs G M ρ σ t L st f1) (kf : ¬ (x ≤ 0) → Runs G M ρ σ q L st f2) : Runs G M ρ σ pc L (vI x :: st) (if x ≤ 0 then f1 else f2) := by
  subst hq
  by_cases hc : x ≤ 0
  · rw [if_pos hc]
    refine Runs.mapW (fun o σf k => ?_) (kt hc)
    intro p e R s m args below meth c n0 s0 C h1 h2 h3 h4 H locs ls hl hm hS
    exact lv_if_le C.1 C.2.1 d ht (fun _ => (k p e R s m args below meth c n0 s0 C h1 h2 h3 h4 H locs ls hl hm hS)) (fun h => absurd hc h)
  · rw [if_neg hc]
    refine Runs.mapW (fun o σf k => ?_) (kf hc)
    intro p e R s m args below meth c n0 s0 C h1 h2 h3 h4 H locs ls hl hm hS
    exact lv_if_le C.1 C.2.1 d ht (fun h => absurd h hc) (fun _ => (k p e R s m args below meth c n0 s0 C h1 h2 h3 h4 H locs ls hl hm hS))
theorem r_icmp_ne {q t : Nat} {off : Int} {x y : Int32} {f1 f2 : Option (α × Mem)} (d : decode (mCc M) pc = .ok (.if_icmp .ne off, 3)) (hq : pc + 3 = q) (ht : (pc : Int) + off = (t : Int)) (kf : x = y → Runs G M ρ σ q L st f1) (kt : ¬ (x = y) → Runs G M ρ σ t L st f2) : Runs G M ρ σ pc L (vI y :: vI x :: st) (if x = y then f1 else f2) := by
  subst hq
  by_cases hc : x = y
  · rw [if_pos hc]
    refine Runs.mapW (fun o σf k => ?_) (kf hc)
    intro p e R s m args below meth c n0 s0 C h1 h2 h3 h4 H locs ls hl hm hS
    exact lv_icmp_ne C.1 C.2.1 d ht (fun h => absurd hc h) (fun _ => (k p e R s m args below meth c n0 s0 C h1 h2 h3 h4 H locs ls hl hm hS))
  · rw [if_neg hc]
    refine Runs.mapW (fun o σf k => ?_) (kt hc)
    intro p e R s m args below meth c n0 s0 C h1 h2 h3 h4 H locs ls hl hm hS
    exact lv_icmp_ne C.1 C.2.1 d ht (fun _ => (k p e R s m args below meth c n0 s0 C h1 h2 h3 h4 H locs ls hl hm hS)) (fun h => absurd h hc)
theorem r_if_ne {q t : Nat} {off : Int} {x : Int32} {f1 f2 : Option (α × Mem)} (d : decode (mCc M) pc = .ok (.ifCond .ne off, 3)) (hq : pc + 3 = q) (ht : (pc : Int) + off = (t : Int)) (kf : x = 0 → Runs G M ρ σ q L st f1) (kt : ¬ (x = 0) → Runs G M ρ σ t L st f2) : Runs G M ρ σ pc L (vI x :: st) (if x = 0 then f1 else f2) := by
  subst hq
  by_cases hc : x = 0
  · rw [if_pos hc]
    refine Runs.mapW (fun o σf k => ?_) (kf hc)
    intro p e R s m args below meth c n0 s0 C h1 h2 h3 h4 H locs ls hl hm hS
    exact lv_if_ne C.1 C.2.1 d ht (fun h => absurd hc h) (fun _ => (k p e R s m args below meth c n0 s0 C h1 h2 h3 h4 H locs ls hl hm hS))
  · rw [if_neg hc]
    refine Runs.mapW (fun o σf k => ?_) (kt hc)
    intro p e R s m args below meth c n0 s0 C h1 h2 h3 h4 H locs ls hl hm hS
    exact lv_if_ne C.1 C.2.1 d ht (fun _ => (k p e R s m args below meth c n0 s0 C h1 h2 h3 h4 H locs ls hl hm hS)) (fun h => absurd h hc)
theorem r_ifnull {q t : Nat} {off : Int} {x : Option Nat} {f1 f2 : Option (α × Mem)} (d : decode (mCc M) pc = .ok (.ifnull off, 3)) (hq : pc + 3 = q) (ht : (pc : Int) + off = (t : Int)) (kt : x = none → Runs G M ρ σ t L st f1) (kf : ¬ (x = none) → Runs G M ρ σ q L st f2) : Runs G M ρ σ pc L (vR x :: st) (if x = none then f1 else f2) := by
  subst hq
  cases x with
  | none =>
    rw [if_pos rfl]
    refine Runs.mapW (fun o σf k => ?_) (kt rfl)
    intro p e R s m args below meth c n0 s0 C h1 h2 h3 h4 H locs ls hl hm hS
    exact lv_ifnullN C.1 C.2.1 d ht (k p e R s m args below meth c n0 s0 C h1 h2 h3 h4 H locs ls hl hm hS)
  | some x =>
    rw [if_neg (fun h => nomatch h)]
    refine Runs.mapW (fun o σf k => ?_) (kf (fun h => nomatch h))
    intro p e R s m args below meth c n0 s0 C h1 h2 h3 h4 H locs ls hl hm hS
    exact lv_ifnull C.1 C.2.1 d (k p e R s m args below meth c n0 s0 C h1 h2 h3 h4 H locs ls hl hm hS)
theorem r_ifnonnull {q t : Nat} {off : Int} {x : Option Nat} {f1 f2 : Option (α × Mem)} (d : decode (mCc M) pc = .ok (.ifnonnull off, 3)) (hq : pc + 3 = q) (ht : (pc : Int) + off = (t : Int)) (kf : x = none → Runs G M ρ σ q L st f1) (kt : ¬ (x = none) → Runs G M ρ σ t L st f2) : Runs G M ρ σ pc L (vR x :: st) (if x = none then f1 else f2) := by
  subst hq
  cases x with
  | none =>
    rw [if_pos rfl]
    refine Runs.mapW (fun o σf k => ?_) (kf rfl)
    intro p e R s m args below meth c n0 s0 C h1 h2 h3 h4 H locs ls hl hm hS
    exact lv_ifnonnullN C.1 C.2.1 d (k p e R s m args below meth c n0 s0 C h1 h2 h3 h4 H locs ls hl hm hS)
  | some x =>
    rw [if_neg (fun h => nomatch h)]
    refine Runs.mapW (fun o σf k => ?_) (kt (fun h => nomatch h))
    intro p e R s m args below meth c n0 s0 C h1 h2 h3 h4 H locs ls hl hm hS
    exact lv_ifnonnull C.1 C.2.1 d ht (k p e R s m args below meth c n0 s0 C h1 h2 h3 h4 H locs ls hl hm hS)
theorem r_idiv {q : Nat} {x y : Int32} {F : Int32 → Option (α × Mem)} (d : decode (mCc M) pc = .ok (.idiv, 1)) (hq : pc + 1 = q) (k : ∀ z, o_div x y = some z → Runs G M ρ σ q L (vI z :: st) (F z)) : Runs G M ρ σ pc L (vI y :: vI x :: st) (ob (o_div x y) F) := by
  refine r_ob fun z hz => ?_
  have k := k z hz
  unfold o_div at hz
  split at hz
  · cases hz
  rename_i hne
  cases hz
  subst hq
  refine Runs.mapW (fun o σf k => ?_) k
  intro p e R s m args below meth c n0 s0 C h1 h2 h3 h4 H locs ls hl hm hS
  exact lv_idiv C.1 C.2.1 d hne (k p e R s m args below meth c n0 s0 C h1 h2 h3 h4 H locs ls hl hm hS)
theorem r_irem {q : Nat} {x y : Int32} {F : Int32 → Option (α × Mem)} (d : decode (mCc M) pc = .ok (.irem, 1)) (hq : pc + 1 = q) (k : ∀ z, o_rem x y = some z → Runs G M ρ σ q L (vI z :: st) (F z)) : Runs G M ρ σ pc L (vI y :: vI x :: st) (ob (o_rem x y) F) := by
  refine r_ob fun z hz => ?_
  have k := k z hz
  unfold o_rem at hz
  split at hz
  · cases hz
  rename_i hne
  cases hz
  subst hq
  refine Runs.mapW (fun o σf k => ?_) k
  intro p e R s m args below meth c n0 s0 C h1 h2 h3 h4 H locs ls hl hm hS
  exact lv_irem C.1 C.2.1 d hne (k p e R s m args below meth c n0 s0 C h1 h2 h3 h4 H locs ls hl hm hS)
theorem r_tswC {t : Nat} {dflt lo hi off : Int} {offs : Array Int} {len : Nat} {x c0 : Int32} {f1 f2 : Option (α × Mem)} (d : decode (mCc M) pc = .ok (.tableswitch dflt lo hi offs, len)) (h1 : ¬ c0.toInt < lo) (h2 : ¬ hi < c0.toInt) (ho : offs[(c0.toInt - lo).toNat]? = some off) (ht : (pc : Int) + off = (t : Int)) (kt : Runs G M ρ σ t L st f1) (kf : ¬ x = c0 → Runs G M ρ σ pc L (vI x :: st) f2) : Runs G M ρ σ pc L (vI x :: st) (if x = c0 then f1 else f2) := by
  by_cases hc : x = c0
  · rw [if_pos hc]
    subst hc
    refine Runs.mapW (fun o σf k => ?_) kt
    intro p e R s m args below meth c n0 s0 C q1 q2 q3 q4 H locs ls hl hm hS
    exact lv_tableIn C.1 C.2.1 d h1 h2 ho ht (k p e R s m args below meth c n0 s0 C q1 q2 q3 q4 H locs ls hl hm hS)
  · rw [if_neg hc]
    exact kf hc
theorem r_tswD {t : Nat} {dflt lo hi : Int} {offs : Array Int} {len : Nat} {x : Int32} (d : decode (mCc M) pc = .ok (.tableswitch dflt lo hi offs, len)) (h : x.toInt < lo ∨ hi < x.toInt) (ht : (pc : Int) + dflt = (t : Int)) (k : Runs G M ρ σ t L st f) : Runs G M ρ σ pc L (vI x :: st) f := by
  refine Runs.mapW (fun o σf k => ?_) k
  intro p e R s m args below meth c n0 s0 C h1 h2 h3 h4 H locs ls hl hm hS
  exact lv_tableOut C.1 C.2.1 d h ht (k p e R s m args below meth c n0 s0 C h1 h2 h3 h4 H locs ls hl hm hS)
theorem r_lswC {t : Nat} {dflt off : Int} {ps : Array (Int × Int)} {len : Nat} {x c0 : Int32} {f1 f2 : Option (α × Mem)} (d : decode (mCc M) pc = .ok (.lookupswitch dflt ps, len)) (hp : (ps.toList.zip (ps.toList.drop 1)).all (fun (a, next) => a.1 < next.1) = true) (ho : Op.lookupswitch.offset ps.toList dflt c0.toInt = off) (ht : (pc : Int) + off = (t : Int)) (kt : Runs G M ρ σ t L st f1) (kf : ¬ x = c0 → Runs G M ρ σ pc L (vI x :: st) f2) : Runs G M ρ σ pc L (vI x :: st) (if x = c0 then f1 else f2) := by
  by_cases hc : x = c0
  · rw [if_pos hc]
    subst hc
    refine Runs.mapW (fun o σf k => ?_) kt
    intro p e R s m args below meth c n0 s0 C q1 q2 q3 q4 H locs ls hl hm hS
    exact lv_lookup C.1 C.2.1 d hp ho ht (k p e R s m args below meth c n0 s0 C q1 q2 q3 q4 H locs ls hl hm hS)
  · rw [if_neg hc]
    exact kf hc
theorem r_lswD {t : Nat} {dflt : Int} {ps : Array (Int × Int)} {len : Nat} {x : Int32} (d : decode (mCc M) pc = .ok (.lookupswitch dflt ps, len)) (hp : (ps.toList.zip (ps.toList.drop 1)).all (fun (a, next) => a.1 < next.1) = true) (ho : Op.lookupswitch.offset ps.toList dflt x.toInt = dflt) (ht : (pc : Int) + dflt = (t : Int)) (k : Runs G M ρ σ t L st f) : Runs G M ρ σ pc L (vI x :: st) f := by
  refine Runs.mapW (fun o σf k => ?_) k
  intro p e R s m args below meth c n0 s0 C h1 h2 h3 h4 H locs ls hl hm hS
  exact lv_lookup C.1 C.2.1 d hp ho ht (k p e R s m args below meth c n0 s0 C h1 h2 h3 h4 H locs ls hl hm hS)
theorem r_ldc {q idx : Nat} {v : Int32} (d : decode (mCc M) pc = .ok (.ldc idx, 2)) (hq : pc + 2 = q) (hw : Jvm.Cond.constant (mY M).cls idx v ∈ lw_all) (k : Runs G M ρ σ q L (vI v :: st) f) : Runs G M ρ σ pc L st f := by
  subst hq
  refine Runs.mapW (fun o σf k => ?_) k
  intro p e R s m args below meth c n0 s0 C h1 h2 h3 h4 H locs ls hl hm hS
  exact lv_ldc C.1 C.2.1 C.2.2.2.1 (C.2.2.2.2.1 _ hw) d (k p e R s m args below meth c n0 s0 C h1 h2 h3 h4 H locs ls hl hm hS)
theorem r_ldc2 {q idx : Nat} {v : Int64} (d : decode (mCc M) pc = .ok (.ldc2_w idx, 3)) (hq : pc + 3 = q) (hw : Jvm.Cond.constantLong (mY M).cls idx v ∈ lw_all) (k : Runs G M ρ σ q L (vL v :: st) f) : Runs G M ρ σ pc L st f := by
  subst hq
  refine Runs.mapW (fun o σf k => ?_) k
  intro p e R s m args below meth c n0 s0 C h1 h2 h3 h4 H locs ls hl hm hS
  exact lv_ldc2 C.1 C.2.1 C.2.2.2.1 (C.2.2.2.2.1 _ hw) d (k p e R s m args below meth c n0 s0 C h1 h2 h3 h4 H locs ls hl hm hS)
end

