set_option maxRecDepth 100000
/-! CALLS -/
/-- at this place a call of My can be made: any contract of it runs -/
def CL (G : Gx) (M : Mth) (σ : Mem) (pc : Nat) (stk rest : List LV) (My : Mth) (As : List LV) : Prop :=
  ∀ (o : Out) (σ1 : Mem), MC G My As σ o σ1 → ∀ (p : Program) (e : Env) (R : Room) (s : State) (m : MethodId) (args : Array Value) (below : List Frame) (meth : Method) (c : Code) (cells slots : Nat),
    Fx G M p R s m args meth c → cells + (m_N σ1 - m_N σ) ≤ R.cells → slots + (m_S σ1 - m_S σ) ≤ R.slots →
    ∀ (H : Heap) (locs : List Loc) (ls : Array Slot), ls.size = mNL M → mSt G σ H → va_S (wA G) s.heap H locs → ∃ as : Array Value,
      vx_Run p (gL G) e R s m args below meth c H locs cells slots (m_N σ1 - m_N σ) (m_S σ1 - m_S σ) (F0 m pc ls (stk.map (val G))) (rest.map (val G)) (QcO G o σ1 as) (XCO G o σ1) (wA G)
section
variable {G : Gx} {M : Mth} {σ : Mem} {pc : Nat}
theorem PcO.blind {As : List LV} {σ : Mem} : FrameBlind (PcO G As σ) := fun _ _ _ _ q => q
theorem wsM_nil {My : Mth} (h : mHH My = []) : wsM My = ws_ (mY My) (mCc My) (mNL My) (mRet My) := by unfold wsM; rw [h]
theorem pre_state {p : Program} {R : Room} {s : State} {m : MethodId} {args : Array Value} {meth : Method} {c : Code} {H : Heap} {locs : List Loc} {As : List LV} (C : Fx G M p R s m args meth c) (hm : mSt G σ H) (hS : va_S (wA G) s.heap H locs) : ∀ U : State, U.heap = H → s.WarmedH U.vm → PcO G As σ (As.map (val G)).toArray U :=
  fun U hU hW => ⟨rfl, C.gi.warm hW (by rw [hU]; exact hS.1) (fun q h1 h2 => by rw [hU]; exact hS.2.1 q h1 h2), by rw [hU]; exact hm⟩
/-- room for a callee -/
def RmOK (M My : Mth) : Prop := mRf My + 1 ≤ mRf M ∧ 8 + (mNL My + 11) + mRl My ≤ mRl M
def HdOK (My : Mth) (n : Nat) : Prop := (mY My).cls ≠ "java/lang/invoke/MethodHandle" ∧ (mY My).cls ≠ "java/lang/invoke/VarHandle" ∧ (parseMethodDescriptor (mY My).desc).map (fun d => d.parameters.length) = some n
theorem rcv_of {p : Program} {R : Room} {s : State} {m : MethodId} {args : Array Value} {meth : Method} {c : Code} {H : Heap} {locs : List Loc} {a ci : Nat} {r : vw_C} (C : Fx G M p R s m args meth c) (hm : mSt G σ H) (hS : va_S (wA G) s.heap H locs) (hk : (m_T σ a).1 = 20 + ci) (hc : clsL[ci]? = some r) : ∃ cell : Cell, H[ad G a]? = some cell ∧ cell.vm.isStatics = false ∧ s.vm.findClass r.1 = some cell.cls := by
  obtain ⟨cell, v1, v2, v3, v4, v5⟩ := rdO_of C hm hS hk hc
  exact ⟨cell, v1, v4, by rw [v2]; exact (C.K.1 ci r hc).2.1⟩
theorem cl_V {My : Mth} {idx n a ci : Nat} {As rest : List LV} {stk : List LV} {r : vw_C} (hst : stk = As.reverse ++ vR (some a) :: rest) (hh : mHH My = []) (hg : GoodIn lw_all (wsV (mY M).cls idx (mY My).cls (mY My) (ws_ (mY My) (mCc My) (mNL My) (mRet My)))) (hd : HdOK My n) (hR : RmOK M My) (hk : (m_T σ a).1 = 20 + ci) (hc : clsL[ci]? = some r) (hr : r.1 = (mY My).cls) (hn : As.length = n) (hcat : (rest.map lvc).sum ≤ 8) (d : decode (mCc M) pc = .ok (.invokevirtual idx, 3)) : CL G M σ pc stk rest My (vR (some a) :: As) := by
  subst hst
  intro o σ1 hM p e R s m args below meth c cells slots C hf1 hf2 H locs ls hls hm hS
  unfold MC at hM
  rw [wsM_nil hh] at hM
  obtain ⟨cell, v1, v2, v3⟩ := rcv_of C hm hS hk hc
  have hRf := C.2.2.2.2.2.2.2.2.2.1
  have hRl := C.2.2.2.2.2.2.2.2.2.2.1
  obtain ⟨r1, r2⟩ := hR
  refine ⟨(Value.ref (ad G a) :: As.map (val G)).toArray, vx_runV (b := ad G a) (C := (mY My).cls) (As := As.map (val G)) (rest := rest.map (val G)) ⟨C.1, C.2.1, C.2.2.1, C.own, C.ts⟩ hM (cwV n C.ts hg rfl rfl rfl ⟨rfl, hd⟩ ⟨by show mRf My + 1 ≤ _; omega, by show _ + mRl My ≤ _; omega⟩) ⟨PcO.blind, ⟨cell, v1, v2, by rw [← hr]; exact v3⟩, pre_state C hm hS⟩ rfl (by rw [List.length_map]; exact hn) hls ?_ ?_ d ⟨hf1, hf2⟩⟩
  · show (As.reverse ++ vR (some a) :: rest).map (val G) = _
    rw [List.map_append, List.map_reverse]
    rfl
  · show 2 * 0 + _ ≤ 8
    rw [val_cats]
    omega
theorem cl_VN {My : Mth} {idx n a ci : Nat} {host : String} {As rest : List LV} {stk : List LV} {r : vw_C} (hst : stk = As.reverse ++ vR (some a) :: rest) (hh : mHH My = []) (hw : Cond.methodLinkNest (mY M).cls idx (mY My) host ∈ lw_tbl) (w2 : Cond.instanceMethod (mY My) ∈ lw_all) (w3 : Cond.selects (mY My).cls (mY My) (mY My) ∈ lw_all) (w4 : Cond.initialized (mY My).cls ∈ lw_all) (w5 : Cond.code (mY My) (mCc My) (mNL My) (mRet My) ∈ lw_all) (hd : HdOK My n) (hR : RmOK M My) (hk : (m_T σ a).1 = 20 + ci) (hc : clsL[ci]? = some r) (hr : r.1 = (mY My).cls) (hn : As.length = n) (hcat : (rest.map lvc).sum ≤ 8) (d : decode (mCc M) pc = .ok (.invokevirtual idx, 3)) : CL G M σ pc stk rest My (vR (some a) :: As) := by
  subst hst
  intro o σ1 hM p e R s m args below meth c cells slots C hf1 hf2 H locs ls hls hm hS
  unfold MC at hM
  rw [wsM_nil hh] at hM
  obtain ⟨cell, v1, v2, v3⟩ := rcv_of C hm hS hk hc
  have hRf := C.2.2.2.2.2.2.2.2.2.1
  have hRl := C.2.2.2.2.2.2.2.2.2.2.1
  obtain ⟨r1, r2⟩ := hR
  have hl := va_Nw.warmM C.gi.1 (C.g0.2.1 _ hw rfl)
  refine ⟨(Value.ref (ad G a) :: As.map (val G)).toArray, vx_runVN (b := ad G a) (C := (mY My).cls) (As := As.map (val G)) (rest := rest.map (val G)) (host := host) ⟨C.1, C.2.1, C.2.2.1, C.own, C.ts⟩ hM ⟨va_cnB n C.ts (lw_meth w5) rfl rfl rfl hl (C.ts _ w4) hd ⟨by show mRf My + 1 ≤ _; omega, by show _ + mRl My ≤ _; omega⟩, C.ts _ w2, C.ts _ w3⟩ ⟨PcO.blind, ⟨cell, v1, v2, by rw [← hr]; exact v3⟩, pre_state C hm hS⟩ rfl (by rw [List.length_map]; exact hn) hls ?_ ?_ d ⟨hf1, hf2⟩⟩
  · show (As.reverse ++ vR (some a) :: rest).map (val G) = _
    rw [List.map_append, List.map_reverse]
    rfl
  · show 2 * 0 + _ ≤ 8
    rw [val_cats]
    omega
theorem cl_S {My : Mth} {idx n : Nat} {As rest : List LV} {stk : List LV} (hst : stk = As.reverse ++ rest) (hh : mHH My = []) (hg : GoodIn lw_all (va_wsS (mY M).cls idx (mY My) (ws_ (mY My) (mCc My) (mNL My) (mRet My)))) (hd : HdOK My n) (hR : RmOK M My) (hn : As.length = n) (hcat : (rest.map lvc).sum ≤ 8) (d : decode (mCc M) pc = .ok (.invokestatic idx, 3)) : CL G M σ pc stk rest My As := by
  subst hst
  intro o σ1 hM p e R s m args below meth c cells slots C hf1 hf2 H locs ls hls hm hS
  unfold MC at hM
  rw [wsM_nil hh] at hM
  have hRf := C.2.2.2.2.2.2.2.2.2.1
  have hRl := C.2.2.2.2.2.2.2.2.2.2.1
  obtain ⟨r1, r2⟩ := hR
  refine ⟨(As.map (val G)).toArray, vx_runS (As := As.map (val G)) (rest := rest.map (val G)) ⟨C.1, C.2.1, C.2.2.1, C.own, C.ts⟩ hM (va_cwS n C.ts hg rfl rfl rfl hd ⟨by show mRf My + 1 ≤ _; omega, by show _ + mRl My ≤ _; omega⟩) ⟨PcO.blind, pre_state C hm hS⟩ rfl (by rw [List.length_map]; exact hn) hls ?_ ?_ d ⟨hf1, hf2⟩⟩
  · show (As.reverse ++ rest).map (val G) = _
    rw [List.map_append, List.map_reverse]
  · show 2 * 0 + _ ≤ 8
    rw [val_cats]
    omega
theorem cl_SN {My : Mth} {idx n : Nat} {host : String} {As rest : List LV} {stk : List LV} (hst : stk = As.reverse ++ rest) (hh : mHH My = []) (hw : Cond.methodLinkNest (mY M).cls idx (mY My) host ∈ lw_tbl) (w2 : Cond.static (mY My) ∈ lw_all) (w4 : Cond.initialized (mY My).cls ∈ lw_all) (w5 : Cond.code (mY My) (mCc My) (mNL My) (mRet My) ∈ lw_all) (hd : HdOK My n) (hR : RmOK M My) (hn : As.length = n) (hcat : (rest.map lvc).sum ≤ 8) (d : decode (mCc M) pc = .ok (.invokestatic idx, 3)) : CL G M σ pc stk rest My As := by
  subst hst
  intro o σ1 hM p e R s m args below meth c cells slots C hf1 hf2 H locs ls hls hm hS
  unfold MC at hM
  rw [wsM_nil hh] at hM
  have hRf := C.2.2.2.2.2.2.2.2.2.1
  have hRl := C.2.2.2.2.2.2.2.2.2.2.1
  obtain ⟨r1, r2⟩ := hR
  have hl := va_Nw.warmM C.gi.1 (C.g0.2.1 _ hw rfl)
  refine ⟨(As.map (val G)).toArray, vx_runSN (As := As.map (val G)) (rest := rest.map (val G)) (host := host) ⟨C.1, C.2.1, C.2.2.1, C.own, C.ts⟩ hM ⟨va_cnB n C.ts (lw_meth w5) rfl rfl rfl hl (C.ts _ w4) hd ⟨by show mRf My + 1 ≤ _; omega, by show _ + mRl My ≤ _; omega⟩, C.ts _ w2, trivial⟩ ⟨PcO.blind, pre_state C hm hS⟩ rfl (by rw [List.length_map]; exact hn) hls ?_ ?_ d ⟨hf1, hf2⟩⟩
  · show (As.reverse ++ rest).map (val G) = _
    rw [List.map_append, List.map_reverse]
  · show 2 * 0 + _ ≤ 8
    rw [val_cats]
    omega
theorem cl_I {My : Mth} {idx n a : Nat} {As rest : List LV} {stk : List LV} (hst : stk = As.reverse ++ vR (some a) :: rest) (hh : mHH My = []) (hy : (mY My).name = "<init>") (hret : mRet My = none) (w1 : Cond.methodLink (mY M).cls idx (mY My) ∈ lw_all) (w2 : Cond.instanceMethod (mY My) ∈ lw_all) (w4 : Cond.initialized (mY My).cls ∈ lw_all) (w5 : Cond.code (mY My) (mCc My) (mNL My) (mRet My) ∈ lw_all) (hd : HdOK My n) (hR : RmOK M My) (hn : As.length = n) (hcat : (rest.map lvc).sum ≤ 8) (d : decode (mCc M) pc = .ok (.invokespecial idx, 3)) : CL G M σ pc stk rest My (vR (some a) :: As) := by
  subst hst
  intro o σ1 hM p e R s m args below meth c cells slots C hf1 hf2 H locs ls hls hm hS
  unfold MC at hM
  rw [wsM_nil hh, hret] at hM
  rw [hret] at w5
  have hRf := C.2.2.2.2.2.2.2.2.2.1
  have hRl := C.2.2.2.2.2.2.2.2.2.2.1
  obtain ⟨r1, r2⟩ := hR
  refine ⟨(Value.ref (ad G a) :: As.map (val G)).toArray, vx_runI (b := ad G a) (As := As.map (val G)) (rest := rest.map (val G)) ⟨C.1, C.2.1, C.2.2.1, C.own, C.ts⟩ hM (cwI n C.ts (lw_meth w5) rfl rfl rfl (C.ts _ w4) (C.ts _ w1) (C.ts _ w2) hy hd ⟨by show mRf My + 1 ≤ _; omega, by show _ + mRl My ≤ _; omega⟩) ⟨PcO.blind, pre_state C hm hS⟩ rfl (by rw [List.length_map]; exact hn) hls ?_ ?_ d ⟨hf1, hf2⟩⟩
  · show (As.reverse ++ vR (some a) :: rest).map (val G) = _
    rw [List.map_append, List.map_reverse]
    rfl
  · show 2 * 0 + _ ≤ 8
    rw [val_cats]
    omega
theorem cl_IN {My : Mth} {idx n a : Nat} {host : String} {As rest : List LV} {stk : List LV} (hst : stk = As.reverse ++ vR (some a) :: rest) (hh : mHH My = []) (hy : (mY My).name = "<init>") (hret : mRet My = none) (hw : Cond.methodLinkNest (mY M).cls idx (mY My) host ∈ lw_tbl) (w2 : Cond.instanceMethod (mY My) ∈ lw_all) (w4 : Cond.initialized (mY My).cls ∈ lw_all) (w5 : Cond.code (mY My) (mCc My) (mNL My) (mRet My) ∈ lw_all) (hd : HdOK My n) (hR : RmOK M My) (hn : As.length = n) (hcat : (rest.map lvc).sum ≤ 8) (d : decode (mCc M) pc = .ok (.invokespecial idx, 3)) : CL G M σ pc stk rest My (vR (some a) :: As) := by
  subst hst
  intro o σ1 hM p e R s m args below meth c cells slots C hf1 hf2 H locs ls hls hm hS
  unfold MC at hM
  rw [wsM_nil hh, hret] at hM
  rw [hret] at w5
  have hRf := C.2.2.2.2.2.2.2.2.2.1
  have hRl := C.2.2.2.2.2.2.2.2.2.2.1
  obtain ⟨r1, r2⟩ := hR
  have hl := va_Nw.warmM C.gi.1 (C.g0.2.1 _ hw rfl)
  refine ⟨(Value.ref (ad G a) :: As.map (val G)).toArray, vx_runIN (b := ad G a) (As := As.map (val G)) (rest := rest.map (val G)) (host := host) ⟨C.1, C.2.1, C.2.2.1, C.own, C.ts⟩ hM ⟨va_cnB n C.ts (lw_meth w5) rfl rfl rfl hl (C.ts _ w4) hd ⟨by show mRf My + 1 ≤ _; omega, by show _ + mRl My ≤ _; omega⟩, hy, C.ts _ w2⟩ ⟨PcO.blind, pre_state C hm hS⟩ rfl (by rw [List.length_map]; exact hn) hls ?_ ?_ d ⟨hf1, hf2⟩⟩
  · show (As.reverse ++ vR (some a) :: rest).map (val G) = _
    rw [List.map_append, List.map_reverse]
    rfl
  · show 2 * 0 + _ ≤ 8
    rw [val_cats]
    omega
end
section
variable {G : Gx} {M : Mth} {σ : Mem} {pc : Nat}
/-- a method by its receiver's class: x is what the entry names, declared in owner, y what the class C selects -/
theorem cl_U {My : Mth} {idx n a ci : Nat} {x : MethodName} {owner : String} {As rest : List LV} {stk : List LV} {r : vw_C} (hst : stk = As.reverse ++ vR (some a) :: rest) (hh : mHH My = []) (w1 : Cond.methodLink (mY M).cls idx x ∈ lw_all) (w2 : Cond.sameMethod x.cls owner x.name x.desc ∈ lw_all)
    (hD : Cond.declares ⟨owner, x.name, x.desc⟩ ∈ lw_tbl ∨ ∃ b m0 r0, Cond.instanceMethod ⟨owner, x.name, x.desc⟩ ∈ lw_all ∧ Cond.code ⟨owner, x.name, x.desc⟩ b m0 r0 ∈ lw_all)
    (w3 : Cond.selects r.1 x (mY My) ∈ lw_all) (w4 : Cond.instanceMethod (mY My) ∈ lw_all) (w5 : Cond.initialized (mY My).cls ∈ lw_all) (w6 : Cond.code (mY My) (mCc My) (mNL My) (mRet My) ∈ lw_all) (hd : owner ≠ "java/lang/invoke/MethodHandle" ∧ owner ≠ "java/lang/invoke/VarHandle" ∧ (parseMethodDescriptor x.desc).map (fun d => d.parameters.length) = some n) (hR : RmOK M My) (hk : (m_T σ a).1 = 20 + ci) (hc : clsL[ci]? = some r) (hn : As.length = n) (hcat : (rest.map lvc).sum ≤ 8) (d : decode (mCc M) pc = .ok (.invokevirtual idx, 3)) : CL G M σ pc stk rest My (vR (some a) :: As) := by
  subst hst
  intro o σ1 hM p e R s m args below meth c cells slots C hf1 hf2 H locs ls hls hm hS
  unfold MC at hM
  rw [wsM_nil hh] at hM
  obtain ⟨cell, v1, v2, v3⟩ := rcv_of C hm hS hk hc
  have hRf := C.2.2.2.2.2.2.2.2.2.1
  have hRl := C.2.2.2.2.2.2.2.2.2.2.1
  obtain ⟨r1, r2⟩ := hR
  have hdecl : va_Decl s ⟨owner, x.name, x.desc⟩ := by
    rcases hD with hD | ⟨b, m0, r0, hD1, hD2⟩
    · exact va_Decl.abs (va_Nw.warmD C.gi.1 (C.g0.2.1 _ hD rfl))
    · exact va_Decl.of (C.ts _ hD1) (C.ts _ hD2)
  have hCU : va_CU R s args (mY M).cls r.1 owner idx x (mY My) (mCc My) (mNL My) (mRet My) (ws_ (mY My) (mCc My) (mNL My) (mRet My)) { frames := mRf My, cells := m_N σ1 - m_N σ, slots := m_S σ1 - m_S σ, locals := mRl My } (m_N σ1 - m_N σ) (m_S σ1 - m_S σ) n := by
    refine ⟨⟨rfl, rfl, by show mRf My + 1 ≤ _; omega, by show _ + mRl My ≤ _; omega, pay_in C.ts (lw_meth w6), List.mem_cons_self⟩, C.ts _ w6, C.ts _ w5, ⟨hd.1, hd.2.1⟩, fun sig h => ?_, C.ts _ w1, C.ts _ w2, hdecl, C.ts _ w3, C.ts _ w4⟩
    have h2 := hd.2.2
    rw [h] at h2
    exact (Option.some.inj h2).symm
  refine ⟨(Value.ref (ad G a) :: As.map (val G)).toArray, vx_runU (b := ad G a) (C := r.1) (owner := owner) (x := x) (As := As.map (val G)) (rest := rest.map (val G)) ⟨C.1, C.2.1, C.2.2.1, C.own, C.ts⟩ hM hCU ⟨PcO.blind, ⟨cell, v1, v2, v3⟩, pre_state C hm hS⟩ rfl (by rw [List.length_map]; exact hn) hls ?_ ?_ d ⟨hf1, hf2⟩⟩
  · show (As.reverse ++ vR (some a) :: rest).map (val G) = _
    rw [List.map_append, List.map_reverse]
    rfl
  · show 2 * 0 + _ ≤ 8
    rw [val_cats]
    omega
theorem c_call {p : Program} {l : Launch} {e : Env} {R : Room} {s : State} {m : MethodId} {args : Array Value} {below : List Frame} {meth : Method} {c : Code} {H : Heap} {locs : List Loc} {cells slots mc ms : Nat} {ls : Array Slot} {st0 rest : List Value} {as : Array Value} {v : Option LV} {σ1 : Mem} {Q : State → Prop}
    (hr : vx_Run p l e R s m args below meth c H locs cells slots mc ms (F0 m pc ls st0) rest (QcO G (.inl v) σ1 as) (XCO G (.inl v) σ1) (wA G)) (hS : va_S (wA G) s.heap H locs)
    (kk : ∀ (H1 : Heap) (locs1 : List Loc), mSt G σ1 H1 → va_S (wA G) s.heap H1 locs1 → W p l e R s m args below meth c H1 locs1 (cells + mc) (slots + ms) Q (F0 m (pc + 3) ls ((v.map (val G)).toList ++ rest))) : W p l e R s m args below meth c H locs cells slots Q (F0 m pc ls st0) := by
  intro T hT X
  rcases hr T hT X with ⟨v', st₀, t, T', L, h0, X', hL, e1, e2, ⟨⟨v2, hv2, hv⟩, hm, hF⟩, st⟩ | ⟨q, st₀, t, T', L, E, ce, h0, X', hL, e1, e2, ⟨⟨a, ha, -⟩, -⟩, -⟩
  · cases hv2
    cases hv
    obtain ⟨-, -, k3⟩ := vx_keep h0 e1 hS (fun _ _ h => h) (fun _ h => h) hL hF
    obtain ⟨t2, a1, b1⟩ := kk T'.heap (locs ++ L) (by rw [e1]; exact hm) k3 T' rfl X'
    exact ⟨t2, st t2 a1, b1⟩
  · cases ha
theorem c_thr {p : Program} {l : Launch} {e : Env} {R : Room} {s : State} {m : MethodId} {args : Array Value} {below : List Frame} {meth : Method} {c : Code} {H : Heap} {locs : List Loc} {cells slots mc ms : Nat} {ls : Array Slot} {st0 rest : List Value} {as : Array Value} {ex : Ex} {σ1 : Mem} {Q : State → Prop}
    (hr : vx_Run p l e R s m args below meth c H locs cells slots mc ms (F0 m pc ls st0) rest (QcO G (.inr ex) σ1 as) (XCO G (.inr ex) σ1) (wA G)) (hS : va_S (wA G) s.heap H locs)
    (kk : ∀ (H1 : Heap) (locs1 : List Loc) (ce : Cell), mSt G σ1 H1 → va_S (wA G) s.heap H1 locs1 → H1[ad G ex.1]? = some ce → ce.vm = .none → s.vm.findClass ex.2 = some ce.cls → vx_W p l e R s m args below meth c H1 locs1 (cells + mc) (slots + ms) Q (F0 m pc ls rest) (ad G ex.1)) : W p l e R s m args below meth c H locs cells slots Q (F0 m pc ls st0) := by
  intro T hT X
  rcases hr T hT X with ⟨v', st₀, t, T', L, h0, X', hL, e1, e2, ⟨⟨v2, hv2, hv⟩, hm, hF⟩, st⟩ | ⟨q, st₀, t, T', L, E, ce, h0, X', hL, e1, e2, ⟨⟨a, ha, had⟩, hm, hF⟩, hce, hcv, hcl, st⟩
  · cases hv2
  · cases ha
    subst had
    obtain ⟨-, -, k3⟩ := vx_keep h0 e1 hS (fun _ _ h => h) (fun _ h => h) hL hF
    obtain ⟨t2, a1, b1⟩ := kk T'.heap (locs ++ L) ce (by rw [e1]; exact hm) k3 (by rw [e1]; exact hce) hcv hcl T' rfl X'
    exact ⟨t2, st.trans a1, b1⟩
end
section
variable {G : Gx} {M : Mth} {α β : Type} {ρ : α → Out} {ρ1 : β → Out} {σ : Mem} {pc q : Nat} {L : List (Option LV)} {stk rest : List LV} {My : Mth} {As : List LV} {fy : Option (β × Mem)}
/-- a call that returns: v is pushed -/
theorem c_bd {r0 : β} {σ1 : Mem} {v : Option LV} {f : Option (α × Mem)} (hc : Ct G My ρ1 As σ fy) (hcl : CL G M σ pc stk rest My As) (hf : fy = some (r0, σ1)) (hv : ρ1 r0 = .inl v) (k : Runs G M ρ σ1 (pc + 3) L (v.toList ++ rest) f) : Runs G M ρ σ pc L stk f := by
  intro r σf hf2
  obtain ⟨k1, k2⟩ := k r σf hf2
  obtain ⟨c1, c2⟩ := hc r0 σ1 hf
  have l1 := c1.1
  have l2 := c1.2
  have l3 := k1.1
  have l4 := k1.2
  refine ⟨Le.tr c1 k1, ?_⟩
  intro p e R s m args below meth c n0 s0 C h1 h2 h3 h4 H locs ls hl hm hS
  rw [hv] at c2
  obtain ⟨as, hr⟩ := hcl _ _ c2 p e R s m args below meth c (m_N σ - n0) (m_S σ - s0) C (by omega) (by omega) H locs ls hl.1 hm hS
  refine c_call hr hS fun H1 locs1 hm1 hS1 => ?_
  have := k2 p e R s m args below meth c n0 s0 C (by omega) (by omega) h3 h4 H1 locs1 ls hl hm1 hS1
  rw [show m_N σ1 - n0 = m_N σ - n0 + (m_N σ1 - m_N σ) by omega, show m_S σ1 - s0 = m_S σ - s0 + (m_S σ1 - m_S σ) by omega] at this
  rw [show (v.toList ++ rest).map (val G) = (v.map (val G)).toList ++ rest.map (val G) by cases v <;> rfl] at this
  exact this
/-- a call that throws, nothing here to catch it -/
theorem c_bt {ρ1 : β ⊕ Ex → Out} {fy : Option ((β ⊕ Ex) × Mem)} {ex : Ex} {σ1 : Mem} (hc : Ct G My ρ1 As σ fy) (hcl : CL G M σ pc stk rest My As) (hf : fy = some (.inr ex, σ1)) (hv : ρ1 (.inr ex) = .inr ex) (hh : mHH M = []) : Runs G M (rhoX ρ) σ pc L stk (some (.inr ex, σ1)) := by
  intro r σf hf2
  cases hf2
  obtain ⟨c1, c2⟩ := hc _ _ hf
  have l1 := c1.1
  have l2 := c1.2
  refine ⟨c1, ?_⟩
  intro p e R s m args below meth c n0 s0 C h1 h2 h3 h4 H locs ls hl hm hS
  rw [hv] at c2
  obtain ⟨as, hr⟩ := hcl _ _ c2 p e R s m args below meth c (m_N σ - n0) (m_S σ - s0) C (by omega) (by omega) H locs ls hl.1 hm hS
  refine c_thr hr hS fun H1 locs1 ce hm1 hS1 hce hcv hfc => ?_
  refine vx_out (E := ex.2) (ce := ce) ?_ C.2.2.2.2.2.2.1 hce hcv hfc (fun t ht _ => ⟨⟨ex.1, rfl, rfl⟩, by rw [ht]; exact hm1, hS1.F ht⟩) hS1.2.2 (by omega) (by omega)
  intro x hx
  rw [C.2.2.2.2.2.2.2.2.1, hh] at hx
  cases hx
theorem bd_some' {x : Option (β × Mem)} {k : β → Mem → Option (α × Mem)} : (∃ a σ1, x = some (a, σ1) ∧ bd x k = k a σ1) ∨ bd x k = none := by
  cases x with
  | none => exact Or.inr rfl
  | some a => exact Or.inl ⟨a.1, a.2, rfl, rfl⟩
theorem r_callI {fy : Option (Int32 × Mem)} {k : Int32 → Mem → Option (α × Mem)} (hc : Ct G My rhoI As σ fy) (hcl : CL G M σ pc stk rest My As) (hq : pc + 3 = q) (kk : ∀ r σ1, Runs G M ρ σ1 q L (vI r :: rest) (k r σ1)) : Runs G M ρ σ pc L stk (bd fy k) := by
  subst hq
  cases fy with
  | none => exact r_none
  | some z =>
    obtain ⟨r0, σ1⟩ := z
    exact c_bd hc hcl rfl (v := some (vI r0)) rfl (kk r0 σ1)
theorem r_callXI {fy : Option ((Int32 ⊕ Ex) × Mem)} {k : Int32 → Mem → Option ((α ⊕ Ex) × Mem)} (hc : Ct G My (rhoX rhoI) As σ fy) (hcl : CL G M σ pc stk rest My As) (hh : mHH M = []) (hq : pc + 3 = q) (kk : ∀ r σ1, Runs G M (rhoX ρ) σ1 q L (vI r :: rest) (k r σ1)) : Runs G M (rhoX ρ) σ pc L stk (bx fy k) := by
  subst hq
  cases fy with
  | none => exact r_none
  | some z =>
    obtain ⟨r0 | ex, σ1⟩ := z
    · exact c_bd hc hcl rfl (v := some (vI r0)) rfl (kk r0 σ1)
    · exact c_bt hc hcl rfl rfl hh
theorem r_callL {fy : Option (Int64 × Mem)} {k : Int64 → Mem → Option (α × Mem)} (hc : Ct G My rhoL As σ fy) (hcl : CL G M σ pc stk rest My As) (hq : pc + 3 = q) (kk : ∀ r σ1, Runs G M ρ σ1 q L (vL r :: rest) (k r σ1)) : Runs G M ρ σ pc L stk (bd fy k) := by
  subst hq
  cases fy with
  | none => exact r_none
  | some z =>
    obtain ⟨r0, σ1⟩ := z
    exact c_bd hc hcl rfl (v := some (vL r0)) rfl (kk r0 σ1)
theorem r_callXL {fy : Option ((Int64 ⊕ Ex) × Mem)} {k : Int64 → Mem → Option ((α ⊕ Ex) × Mem)} (hc : Ct G My (rhoX rhoL) As σ fy) (hcl : CL G M σ pc stk rest My As) (hh : mHH M = []) (hq : pc + 3 = q) (kk : ∀ r σ1, Runs G M (rhoX ρ) σ1 q L (vL r :: rest) (k r σ1)) : Runs G M (rhoX ρ) σ pc L stk (bx fy k) := by
  subst hq
  cases fy with
  | none => exact r_none
  | some z =>
    obtain ⟨r0 | ex, σ1⟩ := z
    · exact c_bd hc hcl rfl (v := some (vL r0)) rfl (kk r0 σ1)
    · exact c_bt hc hcl rfl rfl hh
theorem r_callR {fy : Option ((Option Nat) × Mem)} {k : (Option Nat) → Mem → Option (α × Mem)} (hc : Ct G My rhoR As σ fy) (hcl : CL G M σ pc stk rest My As) (hq : pc + 3 = q) (kk : ∀ r σ1, Runs G M ρ σ1 q L (vR r :: rest) (k r σ1)) : Runs G M ρ σ pc L stk (bd fy k) := by
  subst hq
  cases fy with
  | none => exact r_none
  | some z =>
    obtain ⟨r0, σ1⟩ := z
    exact c_bd hc hcl rfl (v := some (vR r0)) rfl (kk r0 σ1)
theorem r_callXR {fy : Option (((Option Nat) ⊕ Ex) × Mem)} {k : (Option Nat) → Mem → Option ((α ⊕ Ex) × Mem)} (hc : Ct G My (rhoX rhoR) As σ fy) (hcl : CL G M σ pc stk rest My As) (hh : mHH M = []) (hq : pc + 3 = q) (kk : ∀ r σ1, Runs G M (rhoX ρ) σ1 q L (vR r :: rest) (k r σ1)) : Runs G M (rhoX ρ) σ pc L stk (bx fy k) := by
  subst hq
  cases fy with
  | none => exact r_none
  | some z =>
    obtain ⟨r0 | ex, σ1⟩ := z
    · exact c_bd hc hcl rfl (v := some (vR r0)) rfl (kk r0 σ1)
    · exact c_bt hc hcl rfl rfl hh
theorem r_callV {fy : Option (Unit × Mem)} {k : Unit → Mem → Option (α × Mem)} (hc : Ct G My rhoV As σ fy) (hcl : CL G M σ pc stk rest My As) (hq : pc + 3 = q) (kk : ∀ r σ1, Runs G M ρ σ1 q L (rest) (k r σ1)) : Runs G M ρ σ pc L stk (bd fy k) := by
  subst hq
  cases fy with
  | none => exact r_none
  | some z =>
    obtain ⟨r0, σ1⟩ := z
    exact c_bd hc hcl rfl (v := none) rfl (kk r0 σ1)
theorem r_callXV {fy : Option ((Unit ⊕ Ex) × Mem)} {k : Unit → Mem → Option ((α ⊕ Ex) × Mem)} (hc : Ct G My (rhoX rhoV) As σ fy) (hcl : CL G M σ pc stk rest My As) (hh : mHH M = []) (hq : pc + 3 = q) (kk : ∀ r σ1, Runs G M (rhoX ρ) σ1 q L (rest) (k r σ1)) : Runs G M (rhoX ρ) σ pc L stk (bx fy k) := by
  subst hq
  cases fy with
  | none => exact r_none
  | some z =>
    obtain ⟨r0 | ex, σ1⟩ := z
    · exact c_bd hc hcl rfl (v := none) rfl (kk r0 σ1)
    · exact c_bt hc hcl rfl rfl hh
end
section
variable {G : Gx} {M : Mth} {α : Type} {ρ : α → Out} {σ : Mem} {L : List (Option LV)} {As : List LV} {f : Option (α × Mem)}
/-- Object.<init> does nothing -/
theorem r_objInit {pc q idx a : Nat} {st : List LV} (w1 : Cond.methodLink (mY M).cls idx Lib.objectInit ∈ lw_all) (w2 : Cond.instanceMethod Lib.objectInit ∈ lw_all) (w3 : Cond.code Lib.objectInit ⟨#[0xb1]⟩ 1 none ∈ lw_all) (hf : 1 ≤ mRf M) (hlo : (st.map lvc).sum + 12 ≤ mRl M) (d : decode (mCc M) pc = .ok (.invokespecial idx, 3)) (hq : pc + 3 = q) (k : Runs G M ρ σ q L st f) : Runs G M ρ σ pc L (vR (some a) :: st) f := by
  subst hq
  refine Runs.mapW (fun o σf k => ?_) k
  intro p e R s m args below meth c n0 s0 C h1 h2 h3 h4 H locs ls hl hm hS
  have hRf := C.2.2.2.2.2.2.2.2.2.1
  have hRl := C.2.2.2.2.2.2.2.2.2.2.1
  exact W.objInit C.1 C.2.1 C.own (C.ts _ w1) (C.ts _ w2) (C.ts _ w3) rfl (by rw [C.2.2.1]; exact hl.1) rfl d (by omega) (by show 2 * 0 + _ + 12 ≤ _; rw [val_cats]; omega) (k p e R s m args below meth c n0 s0 C h1 h2 h3 h4 H locs ls hl hm hS)
def lpad (L : List (Option LV)) (n : Nat) : List (Option LV) := L ++ List.replicate (n - L.length) none
theorem lget_pad (L : List (Option LV)) (k i : Nat) (v : LV) (h : lget (L ++ List.replicate k none) i = some v) : lget L i = some v := by
  induction L generalizing i with
  | nil =>
    exfalso
    induction k generalizing i with
    | zero => cases h
    | succ k ih =>
      cases i with
      | zero => cases h
      | succ i => exact ih i h
  | cons x l ih =>
    cases i with
    | zero => exact h
    | succ i => exact ih i h
theorem lOK.pad {G : Gx} {nL : Nat} {ls : Array Slot} {L : List (Option LV)} (h : lOK G nL ls L) (n : Nat) : lOK G nL ls (lpad L n) := ⟨h.1, h.2.1, fun i v g => h.2.2 i v (lget_pad L _ i v g)⟩
theorem Ct_of (h0 : G0 G) (hy : plainName (mY M).cls = true) (hh : mHH M = []) (hA : (As.map lvc).sum ≤ mNL M) {L0 : List (Option LV)} (hL0 : lpad (largs As) (mNL M) = L0) (k : Runs G M ρ σ 0 L0 [] f) : Ct G M ρ As σ f := by
  intro r σf hf
  subst hL0
  obtain ⟨k1, k2⟩ := k r σf hf
  refine ⟨k1, ?_⟩
  unfold MC
  rw [wsM_nil hh]
  refine vx_ofW (cc := mCc M) (maxL := mNL M) (ret := mRet M) hy rfl ?_
  intro p e s m args below meth c s₁ B hml hex hv
  obtain ⟨rfl, hgi, hm⟩ := hv
  have hts := atoms_spec (ws := ws_ (mY M) (mCc M) (mNL M) (mRet M)) B.pre
  have hl := lOK.entry G As hA
  rw [lg_entry_eq]
  have hs := k2 p e (headSpec (ws_ (mY M) (mCc M) (mNL M) (mRet M)) { frames := mRf M, cells := m_N σf - m_N σ, slots := m_S σf - m_S σ, locals := mRl M }).room s m _ below meth c (m_N σ) (m_S σ) ⟨B.exec, B.bytes, hml, findClass_of_methodNamed B.named, fun w h => hts w (List.mem_cons_of_mem _ h), B.returns, B.notSynchronized, (name_of_methodNamed B.named B.method).1, by rw [hh]; exact List.eq_nil_iff_forall_not_mem.mpr (fun x hx => hex x hx), Nat.le_refl _, Nat.le_refl _, h0, hgi⟩ (Nat.le_refl _) (Nat.le_refl _) (Nat.le_refl _) (Nat.le_refl _) s.heap [] _ (hl.pad _) hm va_S.rf
  rw [Nat.sub_self, Nat.sub_self] at hs
  exact hs
end

