set_option maxRecDepth 100000
/-! READING AND WRITING THE MEMORY -/
section
variable {G : Gx} {M : Mth} {σ : Mem} {p : Program} {R : Room} {s : State} {m : MethodId} {args : Array Value} {meth : Method} {c : Code} {H : Heap} {locs : List Loc}
theorem Fx.K (C : Fx G M p R s m args meth c) : va_K (gD G) clsL (tyL G) s := va_K.moved C.2.2.2.2.2.2.2.2.2.2.2.2.1.alike C.2.2.2.2.2.2.2.2.2.2.2.1.1
theorem Fx.g0 (C : Fx G M p R s m args meth c) : G0 G := C.2.2.2.2.2.2.2.2.2.2.2.1
theorem Fx.gi (C : Fx G M p R s m args meth c) : GI G s := C.2.2.2.2.2.2.2.2.2.2.2.2
theorem Fx.ts (C : Fx G M p R s m args meth c) : ∀ w ∈ lw_all, w.before args s = true := C.2.2.2.2.1
theorem Fx.own (C : Fx G M p R s m args meth c) : s.vm.findClass (mY M).cls = some m.cls := C.2.2.2.1
/-- the start's cells are still there -/
theorem old_at (C : Fx G M p R s m args meth c) (hS : va_S (wA G) s.heap H locs) {q : Nat} (hq : q < gb G) : H[q]? = (gs G).heap[q]? := by
  have h := C.gi
  rw [hS.2.1 q (Nat.lt_of_lt_of_le hq h.2.1) (Nat.not_le.mpr hq)]
  exact h.2.2 q hq
theorem kT_kind {a : Nat} : (kTg G a).1 = 0 ∨ (kTg G a).1 = 41 ∨ (kTg G a).1 = 1 ∨ (kTg G a).1 = 2 := by
  unfold kTg kT
  split
  · exact Or.inr (Or.inr (Or.inl rfl))
  · split
    · split
      · exact Or.inr (Or.inl rfl)
      · exact Or.inr (Or.inr (Or.inr rfl))
    · exact Or.inl rfl
theorem kT_lt {a : Nat} (h : (kTg G a).1 ≠ 0) : a < 999 := by
  unfold kTg kT at h
  have h9 : 2 * kStrs.length ≤ 999 := by decide
  split at h
  · omega
  · split at h
    · omega
    · exact absurd rfl h
/-- an object of ours or a constant, to be read -/
theorem rdO_of (C : Fx G M p R s m args meth c) (hm : mSt G σ H) (hS : va_S (wA G) s.heap H locs) {a ci : Nat} {r : vw_C} (hk : (m_T σ a).1 = 20 + ci) (hc : clsL[ci]? = some r) : rdO G σ H a ci r.2.2 := by
  rcases Nat.lt_or_ge a 1000 with ha | ha
  · obtain ⟨e1, e2⟩ := hm.2.2.2 a ha
    have hk2 : (kTg G a).1 = 20 + ci := by rw [← e1]; exact hk
    have h41 : (kTg G a).1 = 41 := by
      rcases kT_kind (G := G) (a := a) with h | h | h | h
      · omega
      · exact h
      · omega
      · omega
    have hci : ci = 21 := by omega
    subst hci
    cases hc
    have ha9 : a < 999 := kT_lt (G := G) (by omega)
    obtain ⟨cell, h1, h2, h3, h4, h5⟩ := (C.g0.2.2.2.1 a ha).1 h41
    refine ⟨cell, ?_, h2, h3, h4, fun k hk => ?_⟩
    · rw [ad_lo ha, old_at C hS (C.g0.2.2.1 a)]
      exact h1
    · have hk : k < 4 := hk
      rw [h5 k hk]
      match k, hk with
      | 0, _ =>
        show some (va_rf ((kR a 0).map (gk G))) = some (va_rf ((m_R σ a 0).map (ad G)))
        rw [(e2 0).1]
        unfold kRg
        rw [if_neg (by omega)]
        congr 2
        unfold kR
        split
        · rename_i h6
          show some (gk G (a + 1)) = some (ad G (a + 1))
          rw [ad_lo (by omega)]
        · rfl
      | 1, _ =>
        show some (Value.int (kIg G a 1)) = some (Value.int (m_I σ a 1))
        rw [(e2 1).2]
      | 2, _ =>
        show some (Value.int (kIg G a 2)) = some (Value.int (m_I σ a 2))
        rw [(e2 2).2]
      | 3, _ =>
        show some (Value.int (kIg G a 3)) = some (Value.int (m_I σ a 3))
        rw [(e2 3).2]
  · obtain ⟨-, h1⟩ := hm.2.2.1 a ha (by omega)
    obtain ⟨r2, h2, cell, h3, h4, h5, h6⟩ := h1.2 (by omega)
    rw [hk, Nat.add_sub_cancel_left] at h2 h4 h6
    cases hc.symm.trans h2
    exact ⟨cell, h3, h4, (by rw [h5]; exact fun q => nomatch q), (by rw [h5]; rfl), h6⟩
/-- an array cell of ours or a constant's, to be read -/
theorem rdA_of (C : Fx G M p R s m args meth c) (hm : mSt G σ H) (hS : va_S (wA G) s.heap H locs) {a k : Nat} (hk : (m_T σ a).1 = k) (h1 : 1 ≤ k) (h2 : k ≤ 12) : ∃ cell : Cell, H[ad G a]? = some cell ∧ s.isArrayOf cell (kTy k) ∧ cell.vm ≠ .unknown ∧ cell.vm.isStatics = false ∧ cell.slots.size = (m_T σ a).2 ∧ ∀ j, j < (m_T σ a).2 → cell.slots[j]? = some (elV G σ a k j) := by
  rcases Nat.lt_or_ge a 1000 with ha | ha
  · obtain ⟨e1, e2⟩ := hm.2.2.2 a ha
    have hk2 : k = 1 ∨ k = 2 := by
      rcases kT_kind (G := G) (a := a) with h | h | h | h
      · rw [← e1] at h; omega
      · rw [← e1] at h; omega
      · rw [← e1] at h; omega
      · rw [← e1] at h; omega
    obtain ⟨cell, g1, g2, g3, g4, g5, g6⟩ := (C.g0.2.2.2.1 a ha).2 k hk2 (by rw [← e1]; exact hk)
    refine ⟨cell, ?_, State.isArrayOf_alike C.gi.1.alike g2, g3, g4, by rw [e1]; exact g5, fun j hj => ?_⟩
    · rw [ad_lo ha, old_at C hS (C.g0.2.2.1 a)]
      exact g1
    · rw [e1] at hj
      rw [g6 j hj]
      unfold elV
      rw [if_pos (by omega), (e2 j).2]
  · obtain ⟨-, g1⟩ := hm.2.2.1 a ha (by omega)
    obtain ⟨-, -, g2⟩ := g1.1 (by omega)
    rw [hk] at g2
    refine ⟨_, g2, ?_, (fun q => by cases q), rfl, arrV_size _ _ _, fun j hj => arrV_read _ _ hj⟩
    exact (C.K.2 (k - 1) _ (tyL_at G h1 h2)).1 _ _
/-- the rest of the memory stays -/
theorem mSt_set (h0 : G0 G) {σ' : Mem} {H1 : Heap} {a : Nat} (h : mSt G σ H) (ha : 1000 ≤ a) (hz : H1.size = H.size) (oq : ∀ q, q ≠ ad G a → H1[q]? = H[q]?) (hT : ∀ b, m_T σ' b = m_T σ b) (hN : m_N σ' = m_N σ) (ho : ∀ b, b ≠ a → ∀ j, m_R σ' b j = m_R σ b j ∧ m_I σ' b j = m_I σ b j ∧ m_J σ' b j = m_J σ b j) (hnew : okAt G σ' H1 a) : mSt G σ' H1 := by
  refine ⟨by rw [hz, hN]; exact h.1, by rw [hN]; exact h.2.1, fun b hb hk => ?_, fun b hb => ?_⟩
  · rw [hT] at hk
    obtain ⟨g1, g2⟩ := h.2.2.1 b hb hk
    refine ⟨by rw [hN]; exact g1, ?_⟩
    by_cases hba : b = a
    · rw [hba]; exact hnew
    · have e := oq (ad G b) (ad_ne h0 ha hba)
      have hr : m_R σ' b = m_R σ b := funext fun j => (ho b hba j).1
      have hi : m_I σ' b = m_I σ b := funext fun j => (ho b hba j).2.1
      have hj : m_J σ' b = m_J σ b := funext fun j => (ho b hba j).2.2
      unfold okAt okO elV fvv at g2 ⊢
      rw [hT, hr, hi, hj, e]
      refine ⟨g2.1, fun h20 => ?_⟩
      obtain ⟨r, q1, q2⟩ := g2.2 h20
      exact ⟨r, q1, q2.kept e⟩
  · have hba : b ≠ a := by omega
    refine ⟨by rw [hT]; exact (h.2.2.2 b hb).1, fun j => ?_⟩
    rw [(ho b hba j).1, (ho b hba j).2.1]
    exact (h.2.2.2 b hb).2 j
/-- one cell more -/
theorem mSt_new (h0 : G0 G) {H1 : Heap} {kd len sl : Nat} (h : mSt G σ H) (hz : H1.size = H.size + 1) (oq : ∀ q, q < H.size → H1[q]? = H[q]?) (hnew : kd ≠ 0 → okAt G (s_New σ kd len sl) H1 (m_N σ)) : mSt G (s_New σ kd len sl) H1 := by
  have hN : m_N (s_New σ kd len sl) = m_N σ + 1 := rfl
  have had : ad G (m_N σ) = H.size := by
    rw [ad_hi h.2.1]
    have := h.1
    have := h.2.1
    omega
  refine ⟨by rw [hz, hN]; have := h.1; omega, by rw [hN]; exact Nat.le_succ_of_le h.2.1, fun b hb hk => ?_, fun b hb => ?_⟩
  · by_cases hbn : b = m_N σ
    · subst hbn
      refine ⟨Nat.lt_succ_self _, hnew ?_⟩
      rw [m_T_s_New, if_pos rfl] at hk
      exact hk
    · have hT : m_T (s_New σ kd len sl) b = m_T σ b := if_neg hbn
      rw [hT] at hk
      obtain ⟨g1, g2⟩ := h.2.2.1 b hb hk
      refine ⟨by rw [hN]; omega, ?_⟩
      have e : H1[ad G b]? = H[ad G b]? := oq _ (by rw [ad_hi hb]; have := h.1; omega)
      have hr : m_R (s_New σ kd len sl) b = m_R σ b := funext fun j => if_neg hbn
      have hi : m_I (s_New σ kd len sl) b = m_I σ b := funext fun j => if_neg hbn
      have hj : m_J (s_New σ kd len sl) b = m_J σ b := funext fun j => if_neg hbn
      unfold okAt okO elV fvv at g2 ⊢
      rw [hT, hr, hi, hj, e]
      refine ⟨g2.1, fun h20 => ?_⟩
      obtain ⟨r, q1, q2⟩ := g2.2 h20
      exact ⟨r, q1, q2.kept e⟩
  · have hbn : b ≠ m_N σ := by have := h.2.1; omega
    refine ⟨(if_neg hbn : m_T (s_New σ kd len sl) b = m_T σ b).trans (h.2.2.2 b hb).1, fun j => ?_⟩
    rw [show m_R (s_New σ kd len sl) b j = m_R σ b j from if_neg hbn, show m_I (s_New σ kd len sl) b j = m_I σ b j from if_neg hbn]
    exact (h.2.2.2 b hb).2 j
end
/-- the word of a field's entry -/
def LinkOK (own : String) (idx : Nat) (ref n d : String) : Prop := Cond.fieldLink own idx ref n d ∈ lw_all ∨ ∃ host, Cond.fieldLinkNest own idx ref n d host ∈ lw_tbl
def SameOK (ref o n d : String) : Prop := ref = o ∨ Cond.sameField ref o n d ∈ lw_all
/-- the entry idx of the class own is, in objects of the kinds ks, the field j, of this type -/
def FL (own : String) (idx : Nat) (ks : List Nat) (j : Nat) (ty : FieldType) : Prop :=
  ∀ kd ∈ ks, ∃ (ci : Nat) (r : vw_C) (k : Nat) (ref : String), kd = 20 + ci ∧ clsL[ci]? = some r ∧ k < r.2.2 ∧ fidC ci k = j ∧ tyC ci k = ty ∧ LinkOK own idx ref (r.2.1 k).2.1 (r.2.1 k).2.2.1 ∧ SameOK ref (r.2.1 k).1 (r.2.1 k).2.1 (r.2.1 k).2.2.1
/-- .. and may be written here -/
def FP (M : Mth) (idx : Nat) (ks : List Nat) (j : Nat) (ty : FieldType) : Prop :=
  ∀ kd ∈ ks, ∃ (ci : Nat) (r : vw_C) (k : Nat) (ref : String), kd = 20 + ci ∧ clsL[ci]? = some r ∧ k < r.2.2 ∧ fidC ci k = j ∧ tyC ci k = ty ∧ SameOK ref (r.2.1 k).1 (r.2.1 k).2.1 (r.2.1 k).2.2.1 ∧
    (((r.2.1 k).2.2.2 = false ∧ LinkOK (mY M).cls idx ref (r.2.1 k).2.1 (r.2.1 k).2.2.1) ∨ ((r.2.1 k).2.2.2 = true ∧ Cond.fieldLink (mY M).cls idx ref (r.2.1 k).2.1 (r.2.1 k).2.2.1 ∈ lw_all ∧ (mY M).name = "<init>" ∧ (r.2.1 k).1 = (mY M).cls))
section
variable {s : State} {args : Array Value}
theorem same_of {ref o n d : String} (hts : ∀ w ∈ lw_all, w.before args s = true) (h : SameOK ref o n d) : ∀ x, s.fieldFound? o n d = some x → s.fieldFound? ref n d = some x := by
  intro x hx
  rcases h with h | h
  · rw [h]; exact hx
  · exact u_same (hts _ h) x hx
end
section
variable {G : Gx} {M : Mth} {σ : Mem} {p : Program} {l : Launch} {e : Env} {R : Room} {s : State} {m : MethodId} {args : Array Value} {below : List Frame} {meth : Method} {c : Code} {H : Heap} {locs : List Loc} {cells slots : Nat} {Q : State → Prop} {pc : Nat} {ls : Array Slot} {rest : List Value}
theorem c_getf {idx j a : Nat} {ks : List Nat} {ty : FieldType} (C : Fx G M p R s m args meth c) (hm : mSt G σ H) (hS : va_S (wA G) s.heap H locs) (hF : FL (mY M).cls idx ks j ty) (hk : (m_T σ a).1 ∈ ks) (d : decode (mCc M) pc = .ok (.getfield idx, 3))
    (kk : W p l e R s m args below meth c H locs cells slots Q (F0 m (pc + 3) ls (fvv G σ a (tcode ty) j :: rest))) : W p l e R s m args below meth c H locs cells slots Q (F0 m pc ls (.ref (ad G a) :: rest)) := by
  obtain ⟨ci, r, k, ref, h1, h2, h3, h4, h5, h6, h7⟩ := hF _ hk
  obtain ⟨cell, g1, g2, g3, g4, g5⟩ := rdO_of C hm hS h1 h2
  obtain ⟨hin, -⟩ := clsOK ci r h2
  obtain ⟨hSl, hfc, kC, hkC, hkind⟩ := C.K.1 ci r h2
  obtain ⟨cf, kf, fi, f, hi, hsl⟩ := hSl k h3
  have hslot : cell.slots[f.slot]? = some (fvv G σ a (tcode ty) j) := by
    rw [hsl, g5 k h3, h4, h5]
  have hst := (u_facts hfc hkC (u_lays C.ts hin h3) hi).1
  rcases h6 with h6 | ⟨host, h6⟩
  · exact W.getf C.1 C.2.1 C.own (C.ts _ h6) (same_of C.ts h7 _ hi) hst g1 g3 hslot rfl rfl d kk
  · exact va_Wgetf C.1 C.2.1 C.own (va_Nw.use (A := args) rfl (va_Nw.warmF C.gi.1 (C.g0.2.1 _ h6 rfl))) (same_of C.ts h7 _ hi) hst g1 g3 hslot rfl rfl d kk
theorem c_putf {idx j a t : Nat} {ks : List Nat} {ty : FieldType} {v : Value} {σ' : Mem} (C : Fx G M p R s m args meth c) (hm : mSt G σ H) (hS : va_S (wA G) s.heap H locs) (hF : FP M idx ks j ty) (hk : (m_T σ a).1 ∈ ks) (ha : 1000 ≤ a) (hn : narrow ty v = v) (hfit : fits ty v = true)
    (hT : ∀ b, m_T σ' b = m_T σ b) (hN : m_N σ' = m_N σ) (ho : ∀ b i, ¬ (b = a ∧ i = j) → m_R σ' b i = m_R σ b i ∧ m_I σ' b i = m_I σ b i ∧ m_J σ' b i = m_J σ b i) (hv : fvv G σ' a (tcode ty) j = v) (d : decode (mCc M) pc = .ok (.putfield idx, 3))
    (kk : ∀ (H1 : Heap) (locs1 : List Loc), mSt G σ' H1 → va_S (wA G) s.heap H1 locs1 → W p l e R s m args below meth c H1 locs1 cells slots Q (F0 m (pc + 3) ls rest)) : W p l e R s m args below meth c H locs cells slots Q (F0 m pc ls (v :: .ref (ad G a) :: rest)) := by
  obtain ⟨ci, r, k, ref, h1, h2, h3, h4, h5, h7, h6⟩ := hF _ hk
  obtain ⟨hin, hty, hnm, hfd, -⟩ := clsOK ci r h2
  have hok := (hm.2.2.1 a ha (by omega)).2.2 (by omega)
  rw [h1, Nat.add_sub_cancel_left] at hok
  obtain ⟨r2, q0, cell, q1, q2, q3, q4⟩ := hok
  cases h2.symm.trans q0
  have hK := C.K
  have hap := va_apart (own := (mY M).cls) C.ts hin (tyC ci) hty hnm hK h2
  obtain ⟨hSl, hfc, kC, hkC, hkind⟩ := hK.1 ci r h2
  obtain ⟨cf, kf, fi, f, hi, hsl⟩ := hSl k h3
  have hst := (u_facts hfc hkC (u_lays C.ts hin h3) hi).1
  have hd : parseFieldDescriptor (r.2.1 k).2.2.1 = some ty := by rw [hty k h3, h5]
  have hnew : ∀ H1 : Heap, H1[ad G a]? = some (cell.setSlot ((gD G).2 ci k) v) → okAt G σ' H1 a := by
    intro H1 e1
    refine ⟨fun h => absurd h (by rw [hT]; omega), fun _ => ⟨r, by rw [hT, h1, Nat.add_sub_cancel_left]; exact h2, ?_⟩⟩
    rw [hT, h1, Nat.add_sub_cancel_left]
    refine t_OB.to (V := updV (fun k => fvv G σ a (tcode (tyC ci k)) (fidC ci k)) k v) ⟨_, e1, q2, q3, t_set q4 hap h3 v⟩ (fun i hi => ?_)
    unfold updV
    by_cases hik : i = k
    · subst hik
      rw [if_pos rfl, h4, h5, hv]
    · rw [if_neg hik]
      have hf := hfd i hi k h3 hik
      rw [h4] at hf
      obtain ⟨o1, o2, o3⟩ := ho a (fidC ci i) (fun q => hf q.2)
      show fvv G σ a (tcode (tyC ci i)) (fidC ci i) = fvv G σ' a (tcode (tyC ci i)) (fidC ci i)
      unfold fvv
      rw [o1, o2, o3]
  have hlt : f.slot < cell.slots.size := by rw [hsl]; exact k2_hasslot (q4 k h3)
  rcases h6 with ⟨hfin, h6⟩ | ⟨hfin, h6, h8, h9⟩
  · have hlay := C.ts _ (hin _ (u_in_lay h3))
    unfold u_lay at hlay
    rw [if_neg (by rw [hfin]; decide)] at hlay
    have hsd := u_store hfc hkC hkind hlay hi hd hn hfit
    rcases h6 with h6 | ⟨host, h6⟩
    · refine W.putK C.1 C.2.1 (f := f) ⟨C.own, C.ts _ h6, ⟨_, _, _, same_of C.ts h7 _ hi⟩, hst⟩ (by rw [q2]; exact hsd) q1 q3 hlt rfl rfl d fun H1 e1 e2 e3 => ?_
      rw [hsl] at e1 ⊢
      exact kk H1 _ (mSt_set C.g0 hm ha e2 e3 hT hN (fun b hb i => ho b i (fun q => hb q.1)) (hnew H1 e1)) (hS.put e2 e3 (ad_wA ha))
    · refine va_WputK C.1 C.2.1 (f := f) C.own (va_Nw.use (A := args) rfl (va_Nw.warmF C.gi.1 (C.g0.2.1 _ h6 rfl))) (same_of C.ts h7 _ hi) hst (by rw [q2]; exact hsd) q1 q3 hlt rfl rfl d fun H1 e1 e2 e3 => ?_
      rw [hsl] at e1 ⊢
      exact kk H1 _ (mSt_set C.g0 hm ha e2 e3 hT hN (fun b hb i => ho b i (fun q => hb q.1)) (hnew H1 e1)) (hS.put e2 e3 (ad_wA ha))
  · have hlay := C.ts _ (hin _ (u_in_lay h3))
    unfold u_lay at hlay
    rw [if_pos hfin] at hlay
    have hcf : m.cls = cf := by
      obtain ⟨_, _, c', _, _, _, -, -, hf', -, -, -, hown2, -⟩ := Cond.laysFinal_spec hlay
      have e1 : c' = cf := by have := hi.symm.trans hf'; simp at this; exact this.1.symm
      rw [h9] at hown2
      rw [← e1]
      exact Option.some.inj (C.own.symm.trans hown2)
    have hsd := u_fits hfc hkC hkind (Or.inr hlay) hi hd hn hfit
    refine W.putFinK C.1 C.2.1 C.own (C.ts _ h6) (same_of C.ts h7 _ hi) hst hcf (C.2.2.2.2.2.2.2.1.trans h8) (by rw [q2]; exact hsd) q1 q3 hlt rfl rfl d fun H1 e1 e2 e3 => ?_
    rw [hsl] at e1 ⊢
    exact kk H1 _ (mSt_set C.g0 hm ha e2 e3 hT hN (fun b hb i => ho b i (fun q => hb q.1)) (hnew H1 e1)) (hS.put e2 e3 (ad_wA ha))
end
theorem o_pI_eq {σ σ' : Mem} {t j : Nat} {ks : List Nat} {o : Option Nat} {v : Int32} (h : o_pI σ t ks j o v = some σ') : ∃ a, o = some a ∧ (m_T σ a).1 ∈ ks ∧ 1000 ≤ a ∧ nok t v = true ∧ σ' = s_I σ a j v := by
  obtain ⟨a, h1, h2⟩ := ob_eq h
  obtain ⟨rfl, h3⟩ := o_at_eq h1
  split at h2
  · rename_i h4
    exact ⟨a, rfl, h3, h4.1, h4.2, (Option.some.inj h2).symm⟩
  · cases h2
theorem o_pJ_eq {σ σ' : Mem} {j : Nat} {ks : List Nat} {o : Option Nat} {v : Int64} (h : o_pJ σ ks j o v = some σ') : ∃ a, o = some a ∧ (m_T σ a).1 ∈ ks ∧ 1000 ≤ a ∧ σ' = s_J σ a j v := by
  obtain ⟨a, h1, h2⟩ := ob_eq h
  obtain ⟨rfl, h3⟩ := o_at_eq h1
  split at h2
  · rename_i h4
    exact ⟨a, rfl, h3, h4, (Option.some.inj h2).symm⟩
  · cases h2
theorem o_pR_eq {σ σ' : Mem} {j : Nat} {ks : List Nat} {o v : Option Nat} (h : o_pR σ ks j o v = some σ') : ∃ a, o = some a ∧ (m_T σ a).1 ∈ ks ∧ 1000 ≤ a ∧ σ' = s_R σ a j v := by
  obtain ⟨a, h1, h2⟩ := ob_eq h
  obtain ⟨rfl, h3⟩ := o_at_eq h1
  split at h2
  · rename_i h4
    exact ⟨a, rfl, h3, h4, (Option.some.inj h2).symm⟩
  · cases h2
theorem o_el_eq {σ : Mem} {k : Nat} {o : Option Nat} {i : Int32} {q : Nat × Nat} (h : o_el σ k o i = some q) : ∃ a, o = some a ∧ (m_T σ a).1 = k ∧ vp_in i (m_T σ a).2 ∧ q = (a, i.toNatClampNeg) := by
  obtain ⟨a, h1, h2⟩ := ob_eq h
  obtain ⟨rfl, h3⟩ := o_at_eq h1
  split at h2
  · rename_i h4
    exact ⟨a, rfl, List.mem_singleton.mp h3, inb_in h4, (Option.some.inj h2).symm⟩
  · cases h2
theorem up2_ne {α : Type} {f : Nat → Nat → α} {a k b j : Nat} {v : α} (h : ¬ (b = a ∧ j = k)) : up2 f a k v b j = f b j := if_neg h
theorem up2_eq {α : Type} {f : Nat → Nat → α} {a k : Nat} {v : α} : up2 f a k v a k = v := if_pos ⟨rfl, rfl⟩
def tyOf (t : Nat) : FieldType := match t with
  | 0 => .int
  | 1 => .boolean
  | _ => .byte
theorem nok_ok {t : Nat} {v : Int32} (h : nok t v = true) : narrow (tyOf t) (.int v) = .int v ∧ fits (tyOf t) (.int v) = true := by
  match t, h with
  | 0, _ => exact ⟨rfl, rfl⟩
  | 1, h =>
    have h : v = 0 ∨ v = 1 := by
      have : (decide (v = 0) || decide (v = 1)) = true := h
      simpa using this
    rcases h with h | h <;> subst h <;> exact ⟨by decide, by decide⟩
  | t + 2, h =>
    have h : v.toInt8.toInt32 = v := by
      have : decide (v.toInt8.toInt32 = v) = true := h
      simpa using this
    refine ⟨?_, ?_⟩
    · show Value.int v.toInt8.toInt32 = Value.int v
      rw [h]
    · show fits .byte (.int v) = true
      rw [← h]
      exact pk_fb v
section
variable {G : Gx} {M : Mth} {α : Type} {ρ : α → Out} {σ : Mem} {pc q : Nat} {L : List (Option LV)} {st : List LV} {f : Option (α × Mem)}
theorem r_gI {idx j : Nat} {ks : List Nat} {o : Option Nat} {t : Nat} {F : Int32 → Option (α × Mem)} (hF : FL (mY M).cls idx ks j (tyOf t)) (d : decode (mCc M) pc = .ok (.getfield idx, 3)) (hq : pc + 3 = q) (k : ∀ x, Runs G M ρ σ q L (vI x :: st) (F x)) : Runs G M ρ σ pc L (vR o :: st) (ob (o_gI σ ks j o) F) := by
  subst hq
  refine r_ob fun x hx => ?_
  obtain ⟨a, g1, g2⟩ := ob_eq hx
  obtain ⟨rfl, g3⟩ := o_at_eq g1
  cases g2
  refine Runs.mapW (fun o σf k => ?_) (k (m_I σ a j))
  intro p e R s m args below meth c n0 s0 C h1 h2 h3 h4 H locs ls hl hm hS
  refine c_getf C hm hS hF g3 d ?_
  rw [show tcode (tyOf t) = 0 by match t with | 0 => rfl | 1 => rfl | t + 2 => rfl]
  exact k p e R s m args below meth c n0 s0 C h1 h2 h3 h4 H locs ls hl hm hS
theorem r_gJ {idx j : Nat} {ks : List Nat} {o : Option Nat} {F : Int64 → Option (α × Mem)} (hF : FL (mY M).cls idx ks j .long) (d : decode (mCc M) pc = .ok (.getfield idx, 3)) (hq : pc + 3 = q) (k : ∀ x, Runs G M ρ σ q L (vL x :: st) (F x)) : Runs G M ρ σ pc L (vR o :: st) (ob (o_gJ σ ks j o) F) := by
  subst hq
  refine r_ob fun x hx => ?_
  obtain ⟨a, g1, g2⟩ := ob_eq hx
  obtain ⟨rfl, g3⟩ := o_at_eq g1
  cases g2
  refine Runs.mapW (fun o σf k => ?_) (k (m_J σ a j))
  intro p e R s m args below meth c n0 s0 C h1 h2 h3 h4 H locs ls hl hm hS
  exact c_getf C hm hS hF g3 d (k p e R s m args below meth c n0 s0 C h1 h2 h3 h4 H locs ls hl hm hS)
theorem r_gR {idx j : Nat} {ks : List Nat} {o : Option Nat} {ty : FieldType} {F : Option Nat → Option (α × Mem)} (hF : FL (mY M).cls idx ks j ty) (ht : tcode ty = 2) (d : decode (mCc M) pc = .ok (.getfield idx, 3)) (hq : pc + 3 = q) (k : ∀ x, Runs G M ρ σ q L (vR x :: st) (F x)) : Runs G M ρ σ pc L (vR o :: st) (ob (o_gR σ ks j o) F) := by
  subst hq
  refine r_ob fun x hx => ?_
  obtain ⟨a, g1, g2⟩ := ob_eq hx
  obtain ⟨rfl, g3⟩ := o_at_eq g1
  cases g2
  refine Runs.mapW (fun o σf k => ?_) (k (m_R σ a j))
  intro p e R s m args below meth c n0 s0 C h1 h2 h3 h4 H locs ls hl hm hS
  refine c_getf C hm hS hF g3 d ?_
  rw [ht]
  exact k p e R s m args below meth c n0 s0 C h1 h2 h3 h4 H locs ls hl hm hS
theorem r_pI {idx j t : Nat} {ks : List Nat} {o : Option Nat} {v : Int32} {F : Mem → Option (α × Mem)} (hF : FP M idx ks j (tyOf t)) (d : decode (mCc M) pc = .ok (.putfield idx, 3)) (hq : pc + 3 = q) (k : ∀ σ', Runs G M ρ σ' q L st (F σ')) : Runs G M ρ σ pc L (vI v :: vR o :: st) (ob (o_pI σ t ks j o v) F) := by
  subst hq
  refine r_ob fun σ' hx => ?_
  obtain ⟨a, rfl, g3, g4, g5, rfl⟩ := o_pI_eq hx
  intro r σf hf
  obtain ⟨k1, k2⟩ := k _ r σf hf
  refine ⟨k1, ?_⟩
  intro p e R s m args below meth c n0 s0 C h1 h2 h3 h4 H locs ls hl hm hS
  refine c_putf C hm hS (σ' := s_I σ a j v) (t := 0) hF g3 g4 (nok_ok g5).1 (nok_ok g5).2 (fun b => rfl) rfl (fun b i h => ⟨rfl, up2_ne h, rfl⟩) ?_ d fun H1 locs1 hm1 hS1 => k2 p e R s m args below meth c n0 s0 C h1 h2 h3 h4 H1 locs1 ls hl hm1 hS1
  rw [show tcode (tyOf t) = 0 by match t with | 0 => rfl | 1 => rfl | t + 2 => rfl]
  show Value.int (m_I (s_I σ a j v) a j) = Value.int v
  rw [m_I_s_I, if_pos ⟨rfl, rfl⟩]
theorem r_pJ {idx j : Nat} {ks : List Nat} {o : Option Nat} {v : Int64} {F : Mem → Option (α × Mem)} (hF : FP M idx ks j .long) (d : decode (mCc M) pc = .ok (.putfield idx, 3)) (hq : pc + 3 = q) (k : ∀ σ', Runs G M ρ σ' q L st (F σ')) : Runs G M ρ σ pc L (vL v :: vR o :: st) (ob (o_pJ σ ks j o v) F) := by
  subst hq
  refine r_ob fun σ' hx => ?_
  obtain ⟨a, rfl, g3, g4, rfl⟩ := o_pJ_eq hx
  intro r σf hf
  obtain ⟨k1, k2⟩ := k _ r σf hf
  refine ⟨k1, ?_⟩
  intro p e R s m args below meth c n0 s0 C h1 h2 h3 h4 H locs ls hl hm hS
  refine c_putf C hm hS (σ' := s_J σ a j v) (t := 0) hF g3 g4 rfl rfl (fun b => rfl) rfl (fun b i h => ⟨rfl, rfl, up2_ne h⟩) ?_ d fun H1 locs1 hm1 hS1 => k2 p e R s m args below meth c n0 s0 C h1 h2 h3 h4 H1 locs1 ls hl hm1 hS1
  show Value.long (m_J (s_J σ a j v) a j) = Value.long v
  rw [m_J_s_J, if_pos ⟨rfl, rfl⟩]
theorem rf_fits {ty : FieldType} (ht : tcode ty = 2) (o : Option Nat) : narrow ty (va_rf o) = va_rf o ∧ fits ty (va_rf o) = true := by
  cases ty <;> first | (cases ht; done) | (cases o <;> exact ⟨rfl, rfl⟩)
theorem r_pR {idx j : Nat} {ks : List Nat} {o v : Option Nat} {ty : FieldType} {F : Mem → Option (α × Mem)} (hF : FP M idx ks j ty) (ht : tcode ty = 2) (d : decode (mCc M) pc = .ok (.putfield idx, 3)) (hq : pc + 3 = q) (k : ∀ σ', Runs G M ρ σ' q L st (F σ')) : Runs G M ρ σ pc L (vR v :: vR o :: st) (ob (o_pR σ ks j o v) F) := by
  subst hq
  refine r_ob fun σ' hx => ?_
  obtain ⟨a, rfl, g3, g4, rfl⟩ := o_pR_eq hx
  intro r σf hf
  obtain ⟨k1, k2⟩ := k _ r σf hf
  refine ⟨k1, ?_⟩
  intro p e R s m args below meth c n0 s0 C h1 h2 h3 h4 H locs ls hl hm hS
  refine c_putf C hm hS (σ' := s_R σ a j v) (t := 0) (v := va_rf (v.map (ad G))) hF g3 g4 (rf_fits ht _).1 (rf_fits ht _).2 (fun b => rfl) rfl (fun b i h => ⟨up2_ne h, rfl, rfl⟩) ?_ d fun H1 locs1 hm1 hS1 => k2 p e R s m args below meth c n0 s0 C h1 h2 h3 h4 H1 locs1 ls hl hm1 hS1
  rw [ht]
  show va_rf ((m_R (s_R σ a j v) a j).map (ad G)) = va_rf (v.map (ad G))
  rw [m_R_s_R, if_pos ⟨rfl, rfl⟩]
/-! arrays -/
theorem r_len {o : Option Nat} {F : Int32 → Option (α × Mem)} (d : decode (mCc M) pc = .ok (.arraylength, 1)) (hq : pc + 1 = q) (k : ∀ x, Runs G M ρ σ q L (vI x :: st) (F x)) : Runs G M ρ σ pc L (vR o :: st) (ob (o_len σ o) F) := by
  subst hq
  refine r_ob fun x hx => ?_
  obtain ⟨a, g1, g2⟩ := ob_eq hx
  obtain ⟨rfl, g3⟩ := o_at_eq g1
  cases g2
  have g4 : 1 ≤ (m_T σ a).1 ∧ (m_T σ a).1 ≤ 12 := by
    simp only [List.mem_cons, List.not_mem_nil, or_false] at g3
    omega
  refine Runs.mapW (fun o σf k => ?_) (k (Int32.ofNat (m_T σ a).2))
  intro p e R s m args below meth c n0 s0 C h1 h2 h3 h4 H locs ls hl hm hS
  obtain ⟨cell, q1, q2, q3, q4, q5, q6⟩ := rdA_of C hm hS rfl g4.1 g4.2
  exact W.alen (n := Int32.ofNat (m_T σ a).2) C.1 C.2.1 q1 q2 (by rw [q5]) rfl rfl d (k p e R s m args below meth c n0 s0 C h1 h2 h3 h4 H locs ls hl hm hS)
theorem r_iaload {o : Option Nat} {i : Int32} {F : Int32 → Option (α × Mem)} (d : decode (mCc M) pc = .ok (.iaload, 1)) (hq : pc + 1 = q) (k : ∀ x, Runs G M ρ σ q L (vI x :: st) (F x)) : Runs G M ρ σ pc L (vI i :: vR o :: st) (ob (o_aI σ 1 o i) F) := by
  subst hq
  refine r_ob fun x hx => ?_
  obtain ⟨y, g1, g2⟩ := ob_eq hx
  obtain ⟨a, rfl, g3, g4, rfl⟩ := o_el_eq g1
  cases g2
  refine Runs.mapW (fun o σf k => ?_) (k (m_I σ a i.toNatClampNeg))
  intro p e R s m args below meth c n0 s0 C h1 h2 h3 h4 H locs ls hl hm hS
  obtain ⟨cell, q1, q2, q3, q4, q5, q6⟩ := rdA_of C hm hS g3 (by omega) (by omega)
  have hlt : i.toNatClampNeg < (m_T σ a).2 := Nat.not_le.mp fun q => g4 (Or.inr q)
  exact W.iald (v := Value.int (m_I σ a i.toNatClampNeg)) C.1 C.2.1 q1 q2 q3 (by rw [q5]; exact g4) (by rw [q6 _ hlt]; rfl) rfl rfl d (k p e R s m args below meth c n0 s0 C h1 h2 h3 h4 H locs ls hl hm hS)
theorem r_baload {o : Option Nat} {i : Int32} {F : Int32 → Option (α × Mem)} (d : decode (mCc M) pc = .ok (.baload, 1)) (hq : pc + 1 = q) (k : ∀ x, Runs G M ρ σ q L (vI x :: st) (F x)) : Runs G M ρ σ pc L (vI i :: vR o :: st) (ob (o_aI σ 2 o i) F) := by
  subst hq
  refine r_ob fun x hx => ?_
  obtain ⟨y, g1, g2⟩ := ob_eq hx
  obtain ⟨a, rfl, g3, g4, rfl⟩ := o_el_eq g1
  cases g2
  refine Runs.mapW (fun o σf k => ?_) (k (m_I σ a i.toNatClampNeg))
  intro p e R s m args below meth c n0 s0 C h1 h2 h3 h4 H locs ls hl hm hS
  obtain ⟨cell, q1, q2, q3, q4, q5, q6⟩ := rdA_of C hm hS g3 (by omega) (by omega)
  have hlt : i.toNatClampNeg < (m_T σ a).2 := Nat.not_le.mp fun q => g4 (Or.inr q)
  exact W.bald (v := Value.int (m_I σ a i.toNatClampNeg)) C.1 C.2.1 q1 q2 q3 (by rw [q5]; exact g4) (by rw [q6 _ hlt]; rfl) rfl rfl d (k p e R s m args below meth c n0 s0 C h1 h2 h3 h4 H locs ls hl hm hS)
theorem r_caload {o : Option Nat} {i : Int32} {F : Int32 → Option (α × Mem)} (d : decode (mCc M) pc = .ok (.caload, 1)) (hq : pc + 1 = q) (k : ∀ x, Runs G M ρ σ q L (vI x :: st) (F x)) : Runs G M ρ σ pc L (vI i :: vR o :: st) (ob (o_aI σ 3 o i) F) := by
  subst hq
  refine r_ob fun x hx => ?_
  obtain ⟨y, g1, g2⟩ := ob_eq hx
  obtain ⟨a, rfl, g3, g4, rfl⟩ := o_el_eq g1
  cases g2
  refine Runs.mapW (fun o σf k => ?_) (k (m_I σ a i.toNatClampNeg))
  intro p e R s m args below meth c n0 s0 C h1 h2 h3 h4 H locs ls hl hm hS
  obtain ⟨cell, q1, q2, q3, q4, q5, q6⟩ := rdA_of C hm hS g3 (by omega) (by omega)
  have hlt : i.toNatClampNeg < (m_T σ a).2 := Nat.not_le.mp fun q => g4 (Or.inr q)
  exact W.cald (v := Value.int (m_I σ a i.toNatClampNeg)) C.1 C.2.1 q1 q2 q3 (by rw [q5]; exact g4) (by rw [q6 _ hlt]; rfl) rfl rfl d (k p e R s m args below meth c n0 s0 C h1 h2 h3 h4 H locs ls hl hm hS)
theorem r_laload {o : Option Nat} {i : Int32} {F : Int64 → Option (α × Mem)} (d : decode (mCc M) pc = .ok (.laload, 1)) (hq : pc + 1 = q) (k : ∀ x, Runs G M ρ σ q L (vL x :: st) (F x)) : Runs G M ρ σ pc L (vI i :: vR o :: st) (ob (o_aJ σ 4 o i) F) := by
  subst hq
  refine r_ob fun x hx => ?_
  obtain ⟨y, g1, g2⟩ := ob_eq hx
  obtain ⟨a, rfl, g3, g4, rfl⟩ := o_el_eq g1
  cases g2
  refine Runs.mapW (fun o σf k => ?_) (k (m_J σ a i.toNatClampNeg))
  intro p e R s m args below meth c n0 s0 C h1 h2 h3 h4 H locs ls hl hm hS
  obtain ⟨cell, q1, q2, q3, q4, q5, q6⟩ := rdA_of C hm hS g3 (by omega) (by omega)
  have hlt : i.toNatClampNeg < (m_T σ a).2 := Nat.not_le.mp fun q => g4 (Or.inr q)
  exact W.lald (v := Value.long (m_J σ a i.toNatClampNeg)) C.1 C.2.1 q1 q2 q3 (by rw [q5]; exact g4) (by rw [q6 _ hlt]; rfl) rfl rfl d (k p e R s m args below meth c n0 s0 C h1 h2 h3 h4 H locs ls hl hm hS)
theorem o_sI_eq1 {σ σ' : Mem} {o : Option Nat} {i : Int32} {v : Int32} (h : o_sI σ 1 o i v = some σ') : ∃ a, o = some a ∧ (m_T σ a).1 = 1 ∧ vp_in i (m_T σ a).2 ∧ 1000 ≤ a ∧ σ' = s_I σ a i.toNatClampNeg (nar 1 v) := by
  obtain ⟨y, h1, h2⟩ := ob_eq h
  obtain ⟨a, rfl, g3, g4, rfl⟩ := o_el_eq h1
  split at h2
  · rename_i h4
    exact ⟨a, rfl, g3, g4, h4, (Option.some.inj h2).symm⟩
  · cases h2
theorem r_iastore {o : Option Nat} {i : Int32} {v : Int32} {F : Mem → Option (α × Mem)} (d : decode (mCc M) pc = .ok (.iastore, 1)) (hq : pc + 1 = q) (k : ∀ σ', Runs G M ρ σ' q L st (F σ')) : Runs G M ρ σ pc L (vI v :: vI i :: vR o :: st) (ob (o_sI σ 1 o i v) F) := by
  subst hq
  refine r_ob fun σ' hx => ?_
  obtain ⟨a, rfl, g3, g4, g5, rfl⟩ := o_sI_eq1 hx
  intro r0 σf hf
  obtain ⟨k1, k2⟩ := k _ r0 σf hf
  refine ⟨k1, ?_⟩
  intro p e R s m args below meth c n0 s0 C h1 h2 h3 h4 H locs ls hl hm hS
  obtain ⟨-, -, hcell⟩ := (hm.2.2.1 a g5 (by omega)).2.1 (by omega)
  rw [g3] at hcell
  refine W.iast C.1 C.2.1 hcell ((C.K.2 0 _ (tyL_at G (k := 1) (by omega) (by omega))).1 _ _) (fun h => by cases h) (by rw [arrV_size]; exact g4) rfl rfl d fun H1 e1 z oq => ?_
  refine k2 p e R s m args below meth c n0 s0 C h1 h2 h3 h4 H1 _ ls hl (mSt_set C.g0 hm g5 z oq (fun b => rfl) rfl (fun b hb j => ?_) ?_) (hS.put z oq (ad_wA g5))
  · exact ⟨rfl, up2_ne (fun q => hb q.1), rfl⟩
  refine ⟨fun _ => ⟨by show 1 ≤ (m_T σ a).1; omega, by show (m_T σ a).1 ≤ 12; omega, ?_⟩, fun h => ?_⟩
  · show H1[ad G a]? = some (arrV (gA G (m_T σ a).1) (m_T σ a).2 (elV G (s_I σ a i.toNatClampNeg (nar 1 v)) a (m_T σ a).1))
    rw [e1, arrV_store, g3]
    congr 2
    funext j
    show updV (elV G σ a 1) _ _ j = Value.int (m_I (s_I σ a i.toNatClampNeg (nar 1 v)) a j)
    rw [m_I_s_I]
    unfold updV
    by_cases hj : j = i.toNatClampNeg
    · rw [if_pos hj, if_pos ⟨rfl, hj⟩]; rfl
    · rw [if_neg hj, if_neg (fun q => hj q.2)]; rfl
  · have : 20 ≤ (m_T σ a).1 := h
    omega
theorem o_sI_eq2 {σ σ' : Mem} {o : Option Nat} {i : Int32} {v : Int32} (h : o_sI σ 2 o i v = some σ') : ∃ a, o = some a ∧ (m_T σ a).1 = 2 ∧ vp_in i (m_T σ a).2 ∧ 1000 ≤ a ∧ σ' = s_I σ a i.toNatClampNeg (nar 2 v) := by
  obtain ⟨y, h1, h2⟩ := ob_eq h
  obtain ⟨a, rfl, g3, g4, rfl⟩ := o_el_eq h1
  split at h2
  · rename_i h4
    exact ⟨a, rfl, g3, g4, h4, (Option.some.inj h2).symm⟩
  · cases h2
theorem r_bastore {o : Option Nat} {i : Int32} {v : Int32} {F : Mem → Option (α × Mem)} (d : decode (mCc M) pc = .ok (.bastore, 1)) (hq : pc + 1 = q) (k : ∀ σ', Runs G M ρ σ' q L st (F σ')) : Runs G M ρ σ pc L (vI v :: vI i :: vR o :: st) (ob (o_sI σ 2 o i v) F) := by
  subst hq
  refine r_ob fun σ' hx => ?_
  obtain ⟨a, rfl, g3, g4, g5, rfl⟩ := o_sI_eq2 hx
  intro r0 σf hf
  obtain ⟨k1, k2⟩ := k _ r0 σf hf
  refine ⟨k1, ?_⟩
  intro p e R s m args below meth c n0 s0 C h1 h2 h3 h4 H locs ls hl hm hS
  obtain ⟨-, -, hcell⟩ := (hm.2.2.1 a g5 (by omega)).2.1 (by omega)
  rw [g3] at hcell
  refine W.bast C.1 C.2.1 hcell ((C.K.2 1 _ (tyL_at G (k := 2) (by omega) (by omega))).1 _ _) (fun h => by cases h) (by rw [arrV_size]; exact g4) rfl rfl d fun H1 e1 z oq => ?_
  refine k2 p e R s m args below meth c n0 s0 C h1 h2 h3 h4 H1 _ ls hl (mSt_set C.g0 hm g5 z oq (fun b => rfl) rfl (fun b hb j => ?_) ?_) (hS.put z oq (ad_wA g5))
  · exact ⟨rfl, up2_ne (fun q => hb q.1), rfl⟩
  refine ⟨fun _ => ⟨by show 1 ≤ (m_T σ a).1; omega, by show (m_T σ a).1 ≤ 12; omega, ?_⟩, fun h => ?_⟩
  · show H1[ad G a]? = some (arrV (gA G (m_T σ a).1) (m_T σ a).2 (elV G (s_I σ a i.toNatClampNeg (nar 2 v)) a (m_T σ a).1))
    rw [e1, arrV_store, g3]
    congr 2
    funext j
    show updV (elV G σ a 2) _ _ j = Value.int (m_I (s_I σ a i.toNatClampNeg (nar 2 v)) a j)
    rw [m_I_s_I]
    unfold updV
    by_cases hj : j = i.toNatClampNeg
    · rw [if_pos hj, if_pos ⟨rfl, hj⟩]; rfl
    · rw [if_neg hj, if_neg (fun q => hj q.2)]; rfl
  · have : 20 ≤ (m_T σ a).1 := h
    omega
theorem o_sI_eq3 {σ σ' : Mem} {o : Option Nat} {i : Int32} {v : Int32} (h : o_sI σ 3 o i v = some σ') : ∃ a, o = some a ∧ (m_T σ a).1 = 3 ∧ vp_in i (m_T σ a).2 ∧ 1000 ≤ a ∧ σ' = s_I σ a i.toNatClampNeg (nar 3 v) := by
  obtain ⟨y, h1, h2⟩ := ob_eq h
  obtain ⟨a, rfl, g3, g4, rfl⟩ := o_el_eq h1
  split at h2
  · rename_i h4
    exact ⟨a, rfl, g3, g4, h4, (Option.some.inj h2).symm⟩
  · cases h2
theorem r_castore {o : Option Nat} {i : Int32} {v : Int32} {F : Mem → Option (α × Mem)} (d : decode (mCc M) pc = .ok (.castore, 1)) (hq : pc + 1 = q) (k : ∀ σ', Runs G M ρ σ' q L st (F σ')) : Runs G M ρ σ pc L (vI v :: vI i :: vR o :: st) (ob (o_sI σ 3 o i v) F) := by
  subst hq
  refine r_ob fun σ' hx => ?_
  obtain ⟨a, rfl, g3, g4, g5, rfl⟩ := o_sI_eq3 hx
  intro r0 σf hf
  obtain ⟨k1, k2⟩ := k _ r0 σf hf
  refine ⟨k1, ?_⟩
  intro p e R s m args below meth c n0 s0 C h1 h2 h3 h4 H locs ls hl hm hS
  obtain ⟨-, -, hcell⟩ := (hm.2.2.1 a g5 (by omega)).2.1 (by omega)
  rw [g3] at hcell
  refine W.cast C.1 C.2.1 hcell ((C.K.2 2 _ (tyL_at G (k := 3) (by omega) (by omega))).1 _ _) (fun h => by cases h) (by rw [arrV_size]; exact g4) rfl rfl d fun H1 e1 z oq => ?_
  refine k2 p e R s m args below meth c n0 s0 C h1 h2 h3 h4 H1 _ ls hl (mSt_set C.g0 hm g5 z oq (fun b => rfl) rfl (fun b hb j => ?_) ?_) (hS.put z oq (ad_wA g5))
  · exact ⟨rfl, up2_ne (fun q => hb q.1), rfl⟩
  refine ⟨fun _ => ⟨by show 1 ≤ (m_T σ a).1; omega, by show (m_T σ a).1 ≤ 12; omega, ?_⟩, fun h => ?_⟩
  · show H1[ad G a]? = some (arrV (gA G (m_T σ a).1) (m_T σ a).2 (elV G (s_I σ a i.toNatClampNeg (nar 3 v)) a (m_T σ a).1))
    rw [e1, arrV_store, g3]
    congr 2
    funext j
    show updV (elV G σ a 3) _ _ j = Value.int (m_I (s_I σ a i.toNatClampNeg (nar 3 v)) a j)
    rw [m_I_s_I]
    unfold updV
    by_cases hj : j = i.toNatClampNeg
    · rw [if_pos hj, if_pos ⟨rfl, hj⟩]; rfl
    · rw [if_neg hj, if_neg (fun q => hj q.2)]; rfl
  · have : 20 ≤ (m_T σ a).1 := h
    omega
theorem o_sJ_eq4 {σ σ' : Mem} {o : Option Nat} {i : Int32} {v : Int64} (h : o_sJ σ 4 o i v = some σ') : ∃ a, o = some a ∧ (m_T σ a).1 = 4 ∧ vp_in i (m_T σ a).2 ∧ 1000 ≤ a ∧ σ' = s_J σ a i.toNatClampNeg (v) := by
  obtain ⟨y, h1, h2⟩ := ob_eq h
  obtain ⟨a, rfl, g3, g4, rfl⟩ := o_el_eq h1
  split at h2
  · rename_i h4
    exact ⟨a, rfl, g3, g4, h4, (Option.some.inj h2).symm⟩
  · cases h2
theorem r_lastore {o : Option Nat} {i : Int32} {v : Int64} {F : Mem → Option (α × Mem)} (d : decode (mCc M) pc = .ok (.lastore, 1)) (hq : pc + 1 = q) (k : ∀ σ', Runs G M ρ σ' q L st (F σ')) : Runs G M ρ σ pc L (vL v :: vI i :: vR o :: st) (ob (o_sJ σ 4 o i v) F) := by
  subst hq
  refine r_ob fun σ' hx => ?_
  obtain ⟨a, rfl, g3, g4, g5, rfl⟩ := o_sJ_eq4 hx
  intro r0 σf hf
  obtain ⟨k1, k2⟩ := k _ r0 σf hf
  refine ⟨k1, ?_⟩
  intro p e R s m args below meth c n0 s0 C h1 h2 h3 h4 H locs ls hl hm hS
  obtain ⟨-, -, hcell⟩ := (hm.2.2.1 a g5 (by omega)).2.1 (by omega)
  rw [g3] at hcell
  refine W.last C.1 C.2.1 hcell ((C.K.2 3 _ (tyL_at G (k := 4) (by omega) (by omega))).1 _ _) (fun h => by cases h) (by rw [arrV_size]; exact g4) rfl rfl d fun H1 e1 z oq => ?_
  refine k2 p e R s m args below meth c n0 s0 C h1 h2 h3 h4 H1 _ ls hl (mSt_set C.g0 hm g5 z oq (fun b => rfl) rfl (fun b hb j => ?_) ?_) (hS.put z oq (ad_wA g5))
  · exact ⟨rfl, rfl, up2_ne (fun q => hb q.1)⟩
  refine ⟨fun _ => ⟨by show 1 ≤ (m_T σ a).1; omega, by show (m_T σ a).1 ≤ 12; omega, ?_⟩, fun h => ?_⟩
  · show H1[ad G a]? = some (arrV (gA G (m_T σ a).1) (m_T σ a).2 (elV G (s_J σ a i.toNatClampNeg (v)) a (m_T σ a).1))
    rw [e1, arrV_store, g3]
    congr 2
    funext j
    show updV (elV G σ a 4) _ _ j = Value.long (m_J (s_J σ a i.toNatClampNeg (v)) a j)
    rw [m_J_s_J]
    unfold updV
    by_cases hj : j = i.toNatClampNeg
    · rw [if_pos hj, if_pos ⟨rfl, hj⟩]
    · rw [if_neg hj, if_neg (fun q => hj q.2)]; rfl
  · have : 20 ≤ (m_T σ a).1 := h
    omega
end

