set_option maxRecDepth 100000
section
variable {G : Gx} {M : Mth} {α : Type} {ρ : α → Out} {σ : Mem} {pc q : Nat} {L : List (Option LV)} {st : List LV} {f : Option (α × Mem)}
theorem kTy_obj {k : Nat} (h : 5 ≤ k) : ∃ E, kTy k = .object E := by
  unfold kTy
  split <;> first | omega | exact ⟨_, rfl⟩
theorem kTy_cb {k : Nat} (h1 : 1 ≤ k) (h2 : k ≤ 4) : componentBytes (kTy k) ≤ 8 := by
  match k, h1, h2 with
  | 1, _, _ => decide
  | 2, _, _ => decide
  | 3, _, _ => decide
  | 4, _, _ => decide
theorem va_RA_cls {U : State} {cA : ClassId} {ty : FieldType} (h : va_RA U cA ty) : U.vm.findClass ("[" ++ ty.toString) = some cA := by
  cases ty with
  | object C => exact h.elim fun _ h => h.elim fun _ h => h.2.2.2
  | _ => exact h
theorem kTy_def {k : Nat} (h1 : 1 ≤ k) (h2 : k ≤ 4) : defaultValue (kTy k) = (if k ≤ 3 then .int 0 else if k = 4 then .long 0 else va_rf ((none : Option Nat).map fun x => x)) := by
  match k, h1, h2 with
  | 1, _, _ => rfl
  | 2, _, _ => rfl
  | 3, _, _ => rfl
  | 4, _, _ => rfl
theorem r_aaload {k0 : Nat} {o : Option Nat} {i : Int32} {F : Option Nat → Option (α × Mem)} (hk : 5 ≤ k0 ∧ k0 ≤ 12) (d : decode (mCc M) pc = .ok (.aaload, 1)) (hq : pc + 1 = q) (k : ∀ x, Runs G M ρ σ q L (vR x :: st) (F x)) : Runs G M ρ σ pc L (vI i :: vR o :: st) (ob (o_aR σ k0 o i) F) := by
  subst hq
  refine r_ob fun x hx => ?_
  obtain ⟨y, g1, g2⟩ := ob_eq hx
  obtain ⟨a, rfl, g3, g4, rfl⟩ := o_el_eq g1
  cases g2
  refine Runs.mapW (fun o σf k => ?_) (k (m_R σ a i.toNatClampNeg))
  intro p e R s m args below meth c n0 s0 C h1 h2 h3 h4 H locs ls hl hm hS
  obtain ⟨cell, q1, q2, q3, q4, q5, q6⟩ := rdA_of C hm hS g3 (by omega) hk.2
  have hlt : i.toNatClampNeg < (m_T σ a).2 := Nat.not_le.mp fun q => g4 (Or.inr q)
  refine W.aald (v := va_rf ((m_R σ a i.toNatClampNeg).map (ad G))) (ty := kTy k0) C.1 C.2.1 q1 q2 ?_ q3 (by rw [q5]; exact g4) ?_ rfl rfl d (k p e R s m args below meth c n0 s0 C h1 h2 h3 h4 H locs ls hl hm hS)
  · obtain ⟨E, hE⟩ := kTy_obj hk.1
    rw [hE]
    rfl
  · rw [q6 _ hlt]
    unfold elV
    rw [if_neg (by omega), if_neg (by omega)]
theorem r_aaloadM {ks : List Nat} {o : Option Nat} {i : Int32} {F : Option Nat → Option (α × Mem)} (hk : ∀ k ∈ ks, 5 ≤ k ∧ k ≤ 12) (d : decode (mCc M) pc = .ok (.aaload, 1)) (hq : pc + 1 = q) (k : ∀ x, Runs G M ρ σ q L (vR x :: st) (F x)) : Runs G M ρ σ pc L (vI i :: vR o :: st) (ob (o_aRm σ ks o i) F) := by
  refine r_ob fun x hx => ?_
  obtain ⟨a, g1, g2⟩ := ob_eq hx
  obtain ⟨rfl, g3⟩ := o_at_eq g1
  have h2 : o_aR σ (m_T σ a).1 (some a) i = some x := by
    unfold o_aR o_el
    rw [o_at_some (List.mem_singleton.mpr rfl), ob_some]
    split at g2
    · rename_i h4
      rw [if_pos h4, ob_some]
      exact g2
    · cases g2
  have := r_aaload (o := some a) (i := i) (st := st) (F := F) (hk _ g3) d hq k
  rw [h2, ob_some] at this
  exact this
theorem o_sR_eq {σ σ' : Mem} {k : Nat} {ks : List Nat} {o v : Option Nat} {i : Int32} (h : o_sR σ k ks o i v = some σ') : ∃ a b, o = some a ∧ v = some b ∧ (m_T σ a).1 = k ∧ vp_in i (m_T σ a).2 ∧ 1000 ≤ a ∧ 1000 ≤ b ∧ (m_T σ b).1 ∈ ks ∧ σ' = s_R σ a i.toNatClampNeg (some b) := by
  obtain ⟨y, h1, h2⟩ := ob_eq h
  obtain ⟨a, rfl, g3, g4, rfl⟩ := o_el_eq h1
  split at h2
  · rename_i h4
    cases v with
    | none => cases h4.2
    | some b =>
      have h5 := h4.2
      unfold o_vok at h5
      simp only [Bool.and_eq_true, decide_eq_true_eq] at h5
      exact ⟨a, b, rfl, rfl, g3, g4, h4.1, h5.1, h5.2, (Option.some.inj h2).symm⟩
  · cases h2
/-- objects of the kinds ks go into an array of kind k -/
def AaOK (k : Nat) (ks : List Nat) : Prop := ∀ kd ∈ ks, ∃ (ci : Nat) (r : vw_C) (E : String), kd = 20 + ci ∧ clsL[ci]? = some r ∧ kTy k = .object E ∧ (r.1 = E ∨ Cond.castable r.1 E ∈ lw_tbl)
theorem r_aastore {k0 : Nat} {ks : List Nat} {o v : Option Nat} {i : Int32} {F : Mem → Option (α × Mem)} (hk : 5 ≤ k0 ∧ k0 ≤ 12) (hA : AaOK k0 ks) (d : decode (mCc M) pc = .ok (.aastore, 1)) (hq : pc + 1 = q) (k : ∀ σ', Runs G M ρ σ' q L st (F σ')) : Runs G M ρ σ pc L (vR v :: vI i :: vR o :: st) (ob (o_sR σ k0 ks o i v) F) := by
  subst hq
  refine r_ob fun σ' hx => ?_
  obtain ⟨a, b, rfl, rfl, g3, g4, g5, g6, g7, rfl⟩ := o_sR_eq hx
  intro r0 σf hf
  obtain ⟨k1, k2⟩ := k _ r0 σf hf
  refine ⟨k1, ?_⟩
  intro p e R s m args below meth c n0 s0 C h1 h2 h3 h4 H locs ls hl hm hS
  obtain ⟨ci, r, E, t1, t2, t3, t4⟩ := hA _ g7
  obtain ⟨-, -, hcell⟩ := (hm.2.2.1 a g5 (by omega)).2.1 (by omega)
  rw [g3] at hcell
  have hK := C.K
  obtain ⟨hArr, hRA⟩ := hK.2 (k0 - 1) _ (tyL_at G (by omega) hk.2)
  rw [t3] at hArr hRA
  obtain ⟨kA, comp, f1, f2, f3, f4⟩ := hRA
  obtain ⟨cellV, v1, v2, v3, v4, v5⟩ := rdO_of C hm hS t1 t2
  obtain ⟨-, hfc, kC, hkC, hkind⟩ := hK.1 ci r t2
  obtain ⟨kE, hkE, -⟩ := Vm.findClass_spec f3
  have hasg : s.vm.assignable ((gD G).1 ci) comp = true := by
    rcases t4 with t4 | t4
    · rw [t4] at hfc
      cases hfc.symm.trans f3
      exact va_asg _ _
    · obtain ⟨c0, c1, w1, w2, w3⟩ := Cond.castable_spec (va_Nw.use (A := args) rfl (va_Nw.warmC C.gi.1 (C.g0.2.1 _ t4 rfl)))
      cases hfc.symm.trans w1
      cases f3.symm.trans w2
      exact w3
  have hlt : i.toNatClampNeg < (m_T σ a).2 := Nat.not_le.mp fun q => g4 (Or.inr q)
  have h0 : ¬ i < 0 := fun q => g4 (Or.inl q)
  refine W.aast C.1 C.2.1 hcell (fun q h => by cases h) (fun h => by cases h) f1 f2 rfl hkE ⟨h0, by rw [arrV_size]; exact hlt⟩ v1 (fun q h => by rw [h] at v4; cases v4) (by rw [v2]; exact hkC) (by rw [v2]; exact hasg) rfl rfl d fun H1 e1 z oq => ?_
  refine k2 p e R s m args below meth c n0 s0 C h1 h2 h3 h4 H1 _ ls hl (mSt_set C.g0 hm g5 z oq (fun b => rfl) rfl (fun b hb j => ⟨up2_ne (fun q => hb q.1), rfl, rfl⟩) ?_) (hS.put z oq (ad_wA g5))
  refine ⟨fun _ => ⟨by show 1 ≤ (m_T σ a).1; omega, by show (m_T σ a).1 ≤ 12; omega, ?_⟩, fun h => ?_⟩
  · show H1[ad G a]? = some (arrV (gA G (m_T σ a).1) (m_T σ a).2 (elV G (s_R σ a i.toNatClampNeg (some b)) a (m_T σ a).1))
    rw [e1, arrV_store, g3]
    congr 2
    funext j
    unfold updV elV
    rw [if_neg (show ¬ k0 ≤ 3 by omega), if_neg (show ¬ k0 ≤ 3 by omega), if_neg (show ¬ k0 = 4 by omega), if_neg (show ¬ k0 = 4 by omega), m_R_s_R]
    by_cases hj : j = i.toNatClampNeg
    · rw [if_pos hj, if_pos ⟨rfl, hj⟩]; rfl
    · rw [if_neg hj, if_neg (fun q => hj q.2)]
  · have : 20 ≤ (m_T σ a).1 := h
    omega
/-! new cells -/
theorem r_new {idx ci N : Nat} {r : vw_C} {F : Nat → Mem → Option (α × Mem)} (hc : clsL[ci]? = some r) (hN : r.2.2 = N) (w1 : Cond.classLink (mY M).cls idx r.1 ∈ lw_all) (w2 : Cond.instantiable r.1 N ∈ lw_all) (w3 : Cond.initialized r.1 ∈ lw_all) (d : decode (mCc M) pc = .ok (.new idx, 3)) (hq : pc + 3 = q) (k : ∀ a σ', Runs G M ρ σ' q L (vR (some a) :: st) (F a σ')) : Runs G M ρ σ pc L st (o_no σ (20 + ci) N F) := by
  subst hq
  subst hN
  intro r0 σf hf
  obtain ⟨k1, k2⟩ := k _ _ r0 σf hf
  have k3 : m_N σ + 1 ≤ m_N σf := k1.1
  have k4 : m_S σ + r.2.2 ≤ m_S σf := k1.2
  refine ⟨⟨by omega, by omega⟩, ?_⟩
  intro p e R s m args below meth c n0 s0 C h1 h2 h3 h4 H locs ls hl hm hS
  obtain ⟨hin, hty, -, -, hdef⟩ := clsOK ci r hc
  have hKn := C.K.1 ci r hc
  have had : ad G (m_N σ) = H.size := by
    rw [ad_hi hm.2.1]
    have := hm.1
    have := hm.2.1
    omega
  refine W.newcK C.1 C.2.1 C.own (C.ts _ w1) (C.ts _ w2) (C.ts _ w3) rfl d (by omega) (by omega) hKn.2.1 rfl fun H1 kC hkC e1 z1 o1 => ?_
  have hm1 : mSt G (s_New σ (20 + ci) 0 r.2.2) H1 := by
    refine mSt_new C.g0 hm z1 o1 fun _ => ⟨fun h => ?_, fun _ => ⟨r, ?_, ?_⟩⟩
    · rw [m_T_s_New, if_pos rfl] at h
      have : 20 + ci < 20 := h
      omega
    · rw [m_T_s_New, if_pos rfl]
      show clsL[20 + ci - 20]? = some r
      rw [Nat.add_sub_cancel_left]
      exact hc
    · rw [m_T_s_New, if_pos rfl]
      show okO G _ H1 _ (20 + ci - 20) r.2.2
      rw [Nat.add_sub_cancel_left]
      unfold okO
      rw [had]
      refine (u_born (tyC ci) C.ts hin hKn hkC e1 hty).to fun j hj => ?_
      rw [hdef j hj]
      unfold fvv
      rw [m_R_s_New, m_I_s_New, m_J_s_New, if_pos rfl, if_pos rfl, if_pos rfl]
      have ht : tcode (tyC ci j) = 0 ∨ tcode (tyC ci j) = 1 ∨ tcode (tyC ci j) = 2 := by
        unfold tcode
        split
        · exact Or.inr (Or.inl rfl)
        · exact Or.inr (Or.inr rfl)
        · exact Or.inr (Or.inr rfl)
        · exact Or.inl rfl
      rcases ht with ht | ht | ht <;> rw [ht] <;> rfl
  have := k2 p e R s m args below meth c n0 s0 C (Nat.le_succ_of_le h1) (Nat.le_trans h2 (Nat.le_add_right _ _)) h3 h4 H1 locs ls hl hm1 ⟨by have := hS.1; omega, fun x q1 q2 => (o1 x (Nat.lt_of_lt_of_le q1 hS.1)).trans (hS.2.1 x q1 q2), hS.2.2⟩
  have en : m_N (s_New σ (20 + ci) 0 r.2.2) - n0 = m_N σ - n0 + 1 := by
    show m_N σ + 1 - n0 = _
    omega
  have es : m_S (s_New σ (20 + ci) 0 r.2.2) - s0 = m_S σ - s0 + r.2.2 := by
    show m_S σ + r.2.2 - s0 = _
    omega
  rw [en, es] at this
  have hv : val G (vR (some (m_N σ))) = .ref H.size := by
    show Value.ref (ad G (m_N σ)) = _
    rw [had]
  have e9 : (vR (some (m_N σ)) :: st).map (val G) = .ref H.size :: st.map (val G) := by rw [List.map_cons, hv]
  rw [e9] at this
  exact this
theorem r_newarray {k0 : Nat} {at0 : ArrayType} {n : Int32} {F : Nat → Mem → Option (α × Mem)} (hk : 1 ≤ k0 ∧ k0 ≤ 4) (hat : newarray.typeOf at0 = kTy k0) (w1 : Cond.arrayClass (kTy k0) ∈ lw_all) (d : decode (mCc M) pc = .ok (.newarray at0, 2)) (hq : pc + 2 = q) (k : ∀ a σ', Runs G M ρ σ' q L (vR (some a) :: st) (F a σ')) : Runs G M ρ σ pc L (vI n :: st) (o_na σ k0 n F) := by
  subst hq
  intro r0 σf hf
  unfold o_na at hf
  split at hf
  case isFalse => cases hf
  rename_i hn
  obtain ⟨hn1, hn2⟩ := hn
  obtain ⟨k1, k2⟩ := k _ _ r0 σf hf
  have k3 : m_N σ + 1 ≤ m_N σf := k1.1
  have k4 : m_S σ + n.toNatClampNeg ≤ m_S σf := k1.2
  refine ⟨⟨by omega, by omega⟩, ?_⟩
  intro p e R s m args below meth c n0 s0 C h1 h2 h3 h4 H locs ls hl hm hS
  have had : ad G (m_N σ) = H.size := by
    rw [ad_hi hm.2.1]
    have := hm.1
    have := hm.2.1
    omega
  have hcb : componentBytes (newarray.typeOf at0) ≤ 8 := by
    rw [hat]
    exact kTy_cb hk.1 hk.2
  refine va_newaK C.1 C.2.1 (atype := at0) (by rw [hat]; exact C.ts _ w1) rfl d rfl hn1 rfl (by have := Nat.mul_le_mul hn2 hcb; omega) (by omega) (by omega) rfl fun H1 cA e1 z1 o1 hAr hNm => ?_
  have hcA : cA = gA G k0 := by
    have h9 := (C.K.2 (k0 - 1) _ (tyL_at G hk.1 (by omega))).2
    rw [hat] at hNm
    exact Option.some.inj (hNm.symm.trans (va_RA_cls h9))
  subst hcA
  have hm1 : mSt G (s_New σ k0 n.toNatClampNeg n.toNatClampNeg) H1 := by
    refine mSt_new C.g0 hm z1 o1 fun _ => ⟨fun _ => ?_, fun h => ?_⟩
    · rw [m_T_s_New, if_pos rfl]
      refine ⟨hk.1, by show k0 ≤ 12; omega, ?_⟩
      rw [had, e1]
      congr 2
      funext j
      unfold elV
      rw [m_R_s_New, m_I_s_New, m_J_s_New, if_pos rfl, if_pos rfl, if_pos rfl, hat, kTy_def hk.1 hk.2]
      rfl
    · rw [m_T_s_New, if_pos rfl] at h
      have : 20 ≤ k0 := h
      omega
  have := k2 p e R s m args below meth c n0 s0 C (Nat.le_succ_of_le h1) (Nat.le_trans h2 (Nat.le_add_right _ _)) h3 h4 H1 locs ls hl hm1 ⟨by have := hS.1; omega, fun x q1 q2 => (o1 x (Nat.lt_of_lt_of_le q1 hS.1)).trans (hS.2.1 x q1 q2), hS.2.2⟩
  have en : m_N (s_New σ k0 n.toNatClampNeg n.toNatClampNeg) - n0 = m_N σ - n0 + 1 := by
    show m_N σ + 1 - n0 = _
    omega
  have es : m_S (s_New σ k0 n.toNatClampNeg n.toNatClampNeg) - s0 = m_S σ - s0 + n.toNatClampNeg := by
    show m_S σ + n.toNatClampNeg - s0 = _
    omega
  rw [en, es] at this
  have hv : val G (vR (some (m_N σ))) = .ref H.size := by
    show Value.ref (ad G (m_N σ)) = _
    rw [had]
  have e9 : (vR (some (m_N σ)) :: st).map (val G) = .ref H.size :: st.map (val G) := by rw [List.map_cons, hv]
  rw [e9] at this
  exact this
theorem r_anewarray {k0 idx : Nat} {E : String} {n : Int32} {F : Nat → Mem → Option (α × Mem)} (hk : 5 ≤ k0 ∧ k0 ≤ 12) (hE : kTy k0 = .object E) (w1 : Cond.classLink (mY M).cls idx E ∈ lw_all) (w2 : E ∈ ["GoatCourt$Ground", "GoatCourt$Place", "GoatCourt$Person", "GoatCourt$Goat", "GoatCourt$Clue", "GoatCourt$Fact", "GoatCourt$Rule", "GoatCourt$Court"]) (d : decode (mCc M) pc = .ok (.anewarray idx, 3)) (hq : pc + 3 = q) (k : ∀ a σ', Runs G M ρ σ' q L (vR (some a) :: st) (F a σ')) : Runs G M ρ σ pc L (vI n :: st) (o_na σ k0 n F) := by
  subst hq
  intro r0 σf hf
  unfold o_na at hf
  split at hf
  case isFalse => cases hf
  rename_i hn
  obtain ⟨hn1, hn2⟩ := hn
  obtain ⟨k1, k2⟩ := k _ _ r0 σf hf
  have k3 : m_N σ + 1 ≤ m_N σf := k1.1
  have k4 : m_S σ + n.toNatClampNeg ≤ m_S σf := k1.2
  refine ⟨⟨by omega, by omega⟩, ?_⟩
  intro p e R s m args below meth c n0 s0 C h1 h2 h3 h4 H locs ls hl hm hS
  have had : ad G (m_N σ) = H.size := by
    rw [ad_hi hm.2.1]
    have := hm.1
    have := hm.2.1
    omega
  have hAO : va_AO E s := va_AO.moved C.gi.1.alike (C.g0.2.2.2.2.1 E w2)
  refine W.anew C.1 C.2.1 C.own (C.ts _ w1) (va_AO.use hAO) rfl d rfl hn1 (by omega) (by omega) (by omega) fun cA kA comp f1 f2 f3 f4 => ?_
  have hcA : cA = gA G k0 := by
    have h9 := (C.K.2 (k0 - 1) _ (tyL_at G (by omega) hk.2)).2
    rw [hE] at h9
    obtain ⟨kA2, comp2, -, -, -, g9⟩ := h9
    exact Option.some.inj (f1.symm.trans g9)
  subst hcA
  generalize hH1 : H.push ({ cls := gA G k0, slots := Array.replicate n.toNatClampNeg .null, vm := .none } : Cell) = H1
  have z1 : H1.size = H.size + 1 := by rw [← hH1, Array.size_push]
  have e1 : H1[H.size]? = some (arrV (gA G k0) n.toNatClampNeg (fun _ => .null)) := by rw [← hH1, Array.getElem?_push_size, ← arrV_new]
  have o1 : ∀ q : Nat, q < H.size → H1[q]? = H[q]? := fun q hq => by rw [← hH1, Array.getElem?_push, if_neg (Nat.ne_of_lt hq)]
  have hm1 : mSt G (s_New σ k0 n.toNatClampNeg n.toNatClampNeg) H1 := by
    refine mSt_new C.g0 hm z1 o1 fun _ => ⟨fun _ => ?_, fun h => ?_⟩
    · rw [m_T_s_New, if_pos rfl]
      refine ⟨by show 1 ≤ k0; omega, hk.2, ?_⟩
      rw [had, e1]
      congr 2
      funext j
      unfold elV
      rw [m_R_s_New, m_I_s_New, m_J_s_New, if_pos rfl, if_pos rfl, if_pos rfl, if_neg (show ¬ k0 ≤ 3 by omega), if_neg (show ¬ k0 = 4 by omega)]
      rfl
    · rw [m_T_s_New, if_pos rfl] at h
      have : 20 ≤ k0 := h
      omega
  have := k2 p e R s m args below meth c n0 s0 C (Nat.le_succ_of_le h1) (Nat.le_trans h2 (Nat.le_add_right _ _)) h3 h4 H1 locs ls hl hm1 ⟨by have := hS.1; omega, fun x q1 q2 => (o1 x (Nat.lt_of_lt_of_le q1 hS.1)).trans (hS.2.1 x q1 q2), hS.2.2⟩
  have en : m_N (s_New σ k0 n.toNatClampNeg n.toNatClampNeg) - n0 = m_N σ - n0 + 1 := by
    show m_N σ + 1 - n0 = _
    omega
  have es : m_S (s_New σ k0 n.toNatClampNeg n.toNatClampNeg) - s0 = m_S σ - s0 + n.toNatClampNeg := by
    show m_S σ + n.toNatClampNeg - s0 = _
    omega
  rw [en, es] at this
  have hv : val G (vR (some (m_N σ))) = .ref H.size := by
    show Value.ref (ad G (m_N σ)) = _
    rw [had]
  have e9 : (vR (some (m_N σ)) :: st).map (val G) = .ref H.size :: st.map (val G) := by rw [List.map_cons, hv]
  rw [e9] at this
  exact this
/-! references compared, tested, cast -/
theorem r_acmp_eq {t : Nat} {off : Int} {x y : Option Nat} {f1 f2 : Option (α × Mem)} (d : decode (mCc M) pc = .ok (.if_acmp .eq off, 3)) (hq : pc + 3 = q) (ht : (pc : Int) + off = (t : Int)) (kt : Runs G M ρ σ t L st f1) (kf : Runs G M ρ σ q L st f2) : Runs G M ρ σ pc L (vR y :: vR x :: st) (ob (o_eq x y) fun z => if z = true then f1 else f2) := by
  subst hq
  refine r_ob fun z hz => ?_
  cases z with
  | true =>
    show Runs G M ρ σ pc L _ (if true = true then f1 else f2)
    rw [if_pos rfl]
    have hxy : x = y := by
      unfold o_eq at hz
      split at hz
      · split at hz
        · rename_i h; rw [h]
        · split at hz <;> cases hz
      · rfl
      · cases hz
    subst hxy
    refine Runs.mapW (fun o σf k => ?_) kt
    intro p e R s m args below meth c n0 s0 C h1 h2 h3 h4 H locs ls hl hm hS
    exact lv_acmp_eq C.1 C.2.1 d ht (fun _ => k p e R s m args below meth c n0 s0 C h1 h2 h3 h4 H locs ls hl hm hS) (fun h => absurd rfl h)
  | false =>
    show Runs G M ρ σ pc L _ (if false = true then f1 else f2)
    rw [if_neg (by decide)]
    refine Runs.mapW (fun o σf k => ?_) kf
    intro p e R s m args below meth c n0 s0 C h1 h2 h3 h4 H locs ls hl hm hS
    have hne : ¬ x.map (ad G) = y.map (ad G) := by
      unfold o_eq at hz
      split at hz
      · rename_i a b
        split at hz
        · cases hz
        · rename_i hab
          split at hz
          · rename_i h5
            intro h6
            have h6 : ad G a = ad G b := Option.some.inj h6
            rcases h5 with h5 | h5
            · exact ad_ne C.g0 h5 (fun q => hab q.symm) h6.symm
            · exact ad_ne C.g0 h5 hab h6
          · cases hz
      · cases hz
      · rename_i h5 h6
        cases x with
        | none => cases y with
          | none => exact absurd rfl (h6 rfl)
          | some b => exact fun h => nomatch h
        | some a => cases y with
          | none => exact fun h => nomatch h
          | some b => exact absurd rfl (h5 a b rfl)
    exact lv_acmp_eq C.1 C.2.1 d ht (fun h => absurd h hne) (fun _ => k p e R s m args below meth c n0 s0 C h1 h2 h3 h4 H locs ls hl hm hS)
theorem r_acmp_ne {t : Nat} {off : Int} {x y : Option Nat} {f1 f2 : Option (α × Mem)} (d : decode (mCc M) pc = .ok (.if_acmp .ne off, 3)) (hq : pc + 3 = q) (ht : (pc : Int) + off = (t : Int)) (kf : Runs G M ρ σ q L st f1) (kt : Runs G M ρ σ t L st f2) : Runs G M ρ σ pc L (vR y :: vR x :: st) (ob (o_eq x y) fun z => if z = true then f1 else f2) := by
  subst hq
  refine r_ob fun z hz => ?_
  cases z with
  | true =>
    show Runs G M ρ σ pc L _ (if true = true then f1 else f2)
    rw [if_pos rfl]
    have hxy : x = y := by
      unfold o_eq at hz
      split at hz
      · split at hz
        · rename_i h; rw [h]
        · split at hz <;> cases hz
      · rfl
      · cases hz
    subst hxy
    refine Runs.mapW (fun o σf k => ?_) kf
    intro p e R s m args below meth c n0 s0 C h1 h2 h3 h4 H locs ls hl hm hS
    exact lv_acmp_ne C.1 C.2.1 d ht (fun h => absurd rfl h) (fun _ => k p e R s m args below meth c n0 s0 C h1 h2 h3 h4 H locs ls hl hm hS)
  | false =>
    show Runs G M ρ σ pc L _ (if false = true then f1 else f2)
    rw [if_neg (by decide)]
    refine Runs.mapW (fun o σf k => ?_) kt
    intro p e R s m args below meth c n0 s0 C h1 h2 h3 h4 H locs ls hl hm hS
    have hne : ¬ x.map (ad G) = y.map (ad G) := by
      unfold o_eq at hz
      split at hz
      · rename_i a b
        split at hz
        · cases hz
        · rename_i hab
          split at hz
          · rename_i h5
            intro h6
            have h6 : ad G a = ad G b := Option.some.inj h6
            rcases h5 with h5 | h5
            · exact ad_ne C.g0 h5 (fun q => hab q.symm) h6.symm
            · exact ad_ne C.g0 h5 hab h6
          · cases hz
      · cases hz
      · rename_i h5 h6
        cases x with
        | none => cases y with
          | none => exact absurd rfl (h6 rfl)
          | some b => exact fun h => nomatch h
        | some a => cases y with
          | none => exact fun h => nomatch h
          | some b => exact absurd rfl (h5 a b rfl)
    exact lv_acmp_ne C.1 C.2.1 d ht (fun _ => k p e R s m args below meth c n0 s0 C h1 h2 h3 h4 H locs ls hl hm hS) (fun h => absurd h hne)
/-- objects of the kinds ks are of the class E -/
def IsOK (E : String) (ks : List Nat) : Prop := ∀ kd ∈ ks, ∃ (ci : Nat) (r : vw_C), kd = 20 + ci ∧ clsL[ci]? = some r ∧ (r.1 = E ∨ Cond.castable r.1 E ∈ lw_tbl)
def NoOK (E : String) (ks : List Nat) : Prop := ∀ kd ∈ ks, ∃ (ci : Nat) (r : vw_C), kd = 20 + ci ∧ clsL[ci]? = some r ∧ (r.1, E) ∈ kNc
theorem r_inst {idx : Nat} {E : String} {ks ns : List Nat} {o : Option Nat} {F : Int32 → Option (α × Mem)} (hY : IsOK E ks) (hN : NoOK E ns) (w : Cond.classLink (mY M).cls idx E ∈ lw_all) (d : decode (mCc M) pc = .ok (.instanceof idx, 3)) (hq : pc + 3 = q) (k : ∀ x, Runs G M ρ σ q L (vI x :: st) (F x)) : Runs G M ρ σ pc L (vR o :: st) (ob (o_is σ ks ns o) F) := by
  subst hq
  refine r_ob fun x hx => ?_
  refine Runs.mapW (fun o σf k => ?_) (k x)
  intro p e R s m args below meth c n0 s0 C h1 h2 h3 h4 H locs ls hl hm hS
  have kk := k p e R s m args below meth c n0 s0 C h1 h2 h3 h4 H locs ls hl hm hS
  unfold o_is at hx
  split at hx
  · cases hx
    exact lv_instN C.1 C.2.1 d kk
  · rename_i a
    split at hx
    · rename_i g
      cases hx
      obtain ⟨ci, r, t1, t2, t3⟩ := hY _ g
      obtain ⟨cell, v1, v2, v3, v4, v5⟩ := rdO_of C hm hS t1 t2
      have hfc := (C.K.1 ci r t2).2.1
      rw [← v2] at hfc
      rcases t3 with t3 | t3
      · subst t3
        exact va_instE C.1 C.2.1 C.own (C.ts _ w) ⟨cell, v1, v4, hfc⟩ d kk
      · exact va_instY C.1 C.2.1 C.own (C.ts _ w) (va_Nw.warmC C.gi.1 (C.g0.2.1 _ t3 rfl)) ⟨cell, v1, v4, hfc⟩ d kk
    · split at hx
      · rename_i g
        cases hx
        obtain ⟨ci, r, t1, t2, t3⟩ := hN _ g
        obtain ⟨cell, v1, v2, v3, v4, v5⟩ := rdO_of C hm hS t1 t2
        have hfc := (C.K.1 ci r t2).2.1
        rw [← v2] at hfc
        exact va_instNo C.1 C.2.1 C.own (C.ts _ w) (va_Nc.moved C.gi.1.alike (C.g0.2.2.2.2.2.1 _ t3)) ⟨cell, v1, v4, hfc⟩ d kk
      · cases hx
theorem r_cast {idx : Nat} {E : String} {ks : List Nat} {o : Option Nat} {F : Option Nat → Option (α × Mem)} (hY : IsOK E ks) (w : Cond.classLink (mY M).cls idx E ∈ lw_all) (d : decode (mCc M) pc = .ok (.checkcast idx, 3)) (hq : pc + 3 = q) (k : ∀ x, Runs G M ρ σ q L (vR x :: st) (F x)) : Runs G M ρ σ pc L (vR o :: st) (ob (o_cc σ ks o) F) := by
  subst hq
  refine r_ob fun x hx => ?_
  refine Runs.mapW (fun o σf k => ?_) (k x)
  intro p e R s m args below meth c n0 s0 C h1 h2 h3 h4 H locs ls hl hm hS
  have kk := k p e R s m args below meth c n0 s0 C h1 h2 h3 h4 H locs ls hl hm hS
  unfold o_cc at hx
  split at hx
  · cases hx
    exact lv_castN C.1 C.2.1 d kk
  · rename_i a
    split at hx
    · rename_i g
      cases hx
      obtain ⟨ci, r, t1, t2, t3⟩ := hY _ g
      obtain ⟨cell, v1, v2, v3, v4, v5⟩ := rdO_of C hm hS t1 t2
      have hfc := (C.K.1 ci r t2).2.1
      rw [← v2] at hfc
      rcases t3 with t3 | t3
      · subst t3
        exact va_castE C.1 C.2.1 C.own (C.ts _ w) ⟨cell, v1, v4, hfc⟩ d kk
      · exact va_castY C.1 C.2.1 C.own (C.ts _ w) (va_Nw.warmC C.gi.1 (C.g0.2.1 _ t3 rfl)) ⟨cell, v1, v4, hfc⟩ d kk
    · cases hx
/-- (byte[]) x, of an array of ours -/
def o_cb (σ : Mem) (o : Option Nat) : Option (Option Nat) := ob (o_at σ [2] o) fun a => if 1000 ≤ a then some (some a) else none
theorem r_castB {idx : Nat} {o : Option Nat} {F : Option Nat → Option (α × Mem)} (w : Cond.classLink (mY M).cls idx "[B" ∈ lw_all) (d : decode (mCc M) pc = .ok (.checkcast idx, 3)) (hq : pc + 3 = q) (k : ∀ x, Runs G M ρ σ q L (vR x :: st) (F x)) : Runs G M ρ σ pc L (vR o :: st) (ob (o_cb σ o) F) := by
  subst hq
  refine r_ob fun x hx => ?_
  obtain ⟨a, g1, g2⟩ := ob_eq hx
  obtain ⟨rfl, g3⟩ := o_at_eq g1
  split at g2
  · rename_i ha
    cases g2
    refine Runs.mapW (fun o σf k => ?_) (k (some a))
    intro p e R s m args below meth c n0 s0 C h1 h2 h3 h4 H locs ls hl hm hS
    have kk := k p e R s m args below meth c n0 s0 C h1 h2 h3 h4 H locs ls hl hm hS
    have g4 : (m_T σ a).1 = 2 := List.mem_singleton.mp g3
    obtain ⟨-, -, hcell⟩ := (hm.2.2.1 a ha (by omega)).2.1 (by omega)
    rw [g4] at hcell
    have hnm : s.vm.findClass "[B" = some (gA G 2) := by
      have h9 := (C.K.2 1 _ (tyL_at G (k := 2) (by omega) (by omega))).2
      have e9 : "[" ++ FieldType.byte.toString = "[B" := by decide +kernel
      rw [← e9]
      exact h9
    intro T hT X
    obtain ⟨vm', X', st9⟩ := X.checkcastYes C.1 C.own (C.ts _ w) (by rw [hT]; exact hcell) rfl hnm (va_asg _ _) (g := F0 m pc ls (.ref (ad G a) :: st.map (val G))) rfl rfl (by rw [C.2.1]; exact d)
    obtain ⟨t, a1, b1⟩ := kk (T.setVm vm') hT X'
    exact ⟨t, st9 t a1, b1⟩
  · cases g2
/-! constants and statics -/
theorem r_ldcS {idx cd : Nat} {tx : String} (hw : ((mY M).cls, idx, tx, cd) ∈ kLdc) (hcd : cd < 1000) (d : decode (mCc M) pc = .ok (.ldc idx, 2)) (hq : pc + 2 = q) (k : Runs G M ρ σ q L (vR (some cd) :: st) f) : Runs G M ρ σ pc L st f := by
  subst hq
  refine Runs.mapW (fun o σf k => ?_) k
  intro p e R s m args below meth c n0 s0 C h1 h2 h3 h4 H locs ls hl hm hS
  have kk := k p e R s m args below meth c n0 s0 C h1 h2 h3 h4 H locs ls hl hm hS
  have hv : (vR (some cd) :: st).map (val G) = .ref (gk G cd) :: st.map (val G) := by
    show Value.ref (ad G cd) :: _ = _
    rw [ad_lo hcd]
  rw [hv] at kk
  exact va_ldcS C.1 C.2.1 C.own (vk_R.warm C.gi.1 (C.g0.2.2.2.2.2.2.1 _ hw)) d kk
theorem r_ldcWS {idx cd : Nat} {tx : String} (hw : ((mY M).cls, idx, tx, cd) ∈ kLdc) (hcd : cd < 1000) (d : decode (mCc M) pc = .ok (.ldc_w idx, 3)) (hq : pc + 3 = q) (k : Runs G M ρ σ q L (vR (some cd) :: st) f) : Runs G M ρ σ pc L st f := by
  subst hq
  refine Runs.mapW (fun o σf k => ?_) k
  intro p e R s m args below meth c n0 s0 C h1 h2 h3 h4 H locs ls hl hm hS
  have kk := k p e R s m args below meth c n0 s0 C h1 h2 h3 h4 H locs ls hl hm hS
  have hv : (vR (some cd) :: st).map (val G) = .ref (gk G cd) :: st.map (val G) := by
    show Value.ref (ad G cd) :: _ = _
    rw [ad_lo hcd]
  rw [hv] at kk
  have hZ := vk_R.warm C.gi.1 (C.g0.2.2.2.2.2.2.1 _ hw)
  intro T hT X
  obtain ⟨t, a1, b1⟩ := kk T hT X
  exact ⟨t, X.ldcStringW C.1 (own := (mY M).cls) (text := tx) (index := idx) (a := gk G cd) C.own hZ.1 hZ.2 (g := F0 m pc ls (st.map (val G))) rfl (by rw [C.2.1]; exact d) t a1, b1⟩
theorem r_gsI {idx : Nat} {cn n dd ref : String} {v : Int32} (hw : (cn, n, dd, v) ∈ kSi) (w : Cond.fieldLink (mY M).cls idx ref n dd ∈ lw_all) (hs : SameOK ref cn n dd) (d : decode (mCc M) pc = .ok (.getstatic idx, 3)) (hq : pc + 3 = q) (k : Runs G M ρ σ q L (vI v :: st) f) : Runs G M ρ σ pc L st f := by
  subst hq
  refine Runs.mapW (fun o σf k => ?_) k
  intro p e R s m args below meth c n0 s0 C h1 h2 h3 h4 H locs ls hl hm hS
  have kk := k p e R s m args below meth c n0 s0 C h1 h2 h3 h4 H locs ls hl hm hS
  have hZ := va_Z.moved C.gi.1.alike ((C.g0.2.2.2.2.2.2.2.1 _ hw).kept (H1 := s.heap) (fun a h9 h8 => C.gi.2.2 a h9))
  exact va_gets C.1 C.2.1 hZ hS C.own (C.ts _ w) (same_of C.ts hs) d kk
theorem r_gsR {idx j : Nat} {cn n dd ref : String} (hw : kSt[j]? = some (cn, n, dd)) (w : Cond.fieldLink (mY M).cls idx ref n dd ∈ lw_all) (hs : SameOK ref cn n dd) (d : decode (mCc M) pc = .ok (.getstatic idx, 3)) (hq : pc + 3 = q) (k : Runs G M ρ σ q L (vR (m_R σ 999 j) :: st) f) : Runs G M ρ σ pc L st f := by
  subst hq
  refine Runs.mapW (fun o σf k => ?_) k
  intro p e R s m args below meth c n0 s0 C h1 h2 h3 h4 H locs ls hl hm hS
  have kk := k p e R s m args below meth c n0 s0 C h1 h2 h3 h4 H locs ls hl hm hS
  have hr : m_R σ 999 j = gst G j := ((hm.2.2.2 999 (by omega)).2 j).1.trans (if_pos rfl)
  rw [hr] at kk
  have hZ := va_Z.moved C.gi.1.alike ((C.g0.2.2.2.2.2.2.2.2.1 j _ hw).kept (H1 := s.heap) (fun a h9 h8 => C.gi.2.2 a h9))
  exact va_gets C.1 C.2.1 hZ hS C.own (C.ts _ w) (same_of C.ts hs) d kk
/-! ends -/
theorem c_ret {p : Program} {e : Env} {R : Room} {s : State} {m : MethodId} {args : Array Value} {below : List Frame} {meth : Method} {c : Code} {H : Heap} {locs : List Loc} {cells slots : Nat} {g : JFrame} {v : Option LV}
    (h : (∀ t : State, t.heap = H → s.WarmedH t.vm → QcO G (.inl v) σ args s (.returned (v.map (val G))) t) → W p (gL G) e R s m args below meth c H locs cells slots (MQ below (QcO G (.inl v) σ) args s cells slots (wA G)) g)
    (hm : mSt G σ H) (hS : va_S (wA G) s.heap H locs) : W p (gL G) e R s m args below meth c H locs cells slots (vx_MQ below (QcO G (.inl v) σ) (XCO G (.inl v) σ) args s cells slots (wA G)) g :=
  vx_ret (h fun t ht _ => ⟨⟨v, rfl, rfl⟩, by rw [ht]; exact hm, hS.F ht⟩)
theorem r_ireturn {v : Int32} {ty : FieldType} (hr : mRet M = some ty) (hn : narrow ty (.int v) = .int v) (d : decode (mCc M) pc = .ok (.ireturn, 1)) : Runs G M rhoI σ pc L [vI v] (some (v, σ)) := by
  intro r σf hf
  cases hf
  refine ⟨Le.rf _, ?_⟩
  intro p e R s m args below meth c n0 s0 C h1 h2 h3 h4 H locs ls hl hm hS
  exact c_ret (v := some (vI v)) (fun hq => W.zret C.1 C.2.1 (C.2.2.2.2.2.1.trans hr) hn hq hS.2.2 d C.2.2.2.2.2.2.1) hm hS
theorem r_ireturnX {v : Int32} {ty : FieldType} (hr : mRet M = some ty) (hn : narrow ty (.int v) = .int v) (d : decode (mCc M) pc = .ok (.ireturn, 1)) : Runs G M (rhoX rhoI) σ pc L [vI v] (some (.inl v, σ)) := by
  intro r σf hf
  cases hf
  exact r_ireturn hr hn d v _ rfl
theorem r_lreturn {v : Int64} (hr : mRet M = some .long) (d : decode (mCc M) pc = .ok (.lreturn, 1)) : Runs G M rhoL σ pc L [vL v] (some (v, σ)) := by
  intro r σf hf
  cases hf
  refine ⟨Le.rf _, ?_⟩
  intro p e R s m args below meth c n0 s0 C h1 h2 h3 h4 H locs ls hl hm hS
  exact c_ret (v := some (vL v)) (fun hq => W.lret C.1 C.2.1 (C.2.2.2.2.2.1.trans hr) hq hS.2.2 d C.2.2.2.2.2.2.1) hm hS
theorem r_areturn {v : Option Nat} {ty : FieldType} (hr : mRet M = some ty) (hty : (∃ n, ty = .object n) ∨ ∃ t, ty = .array t) (d : decode (mCc M) pc = .ok (.areturn, 1)) : Runs G M rhoR σ pc L [vR v] (some (v, σ)) := by
  intro r σf hf
  cases hf
  refine ⟨Le.rf _, ?_⟩
  intro p e R s m args below meth c n0 s0 C h1 h2 h3 h4 H locs ls hl hm hS
  exact c_ret (v := some (vR v)) (fun hq => W.aret C.1 C.2.1 (C.2.2.2.2.2.1.trans hr) hty (by cases v; exact Or.inl rfl; exact Or.inr ⟨_, rfl⟩) hq hS.2.2 d C.2.2.2.2.2.2.1) hm hS
theorem r_areturnX {v : Option Nat} {ty : FieldType} (hr : mRet M = some ty) (hty : (∃ n, ty = .object n) ∨ ∃ t, ty = .array t) (d : decode (mCc M) pc = .ok (.areturn, 1)) : Runs G M (rhoX rhoR) σ pc L [vR v] (some (.inl v, σ)) := by
  intro r σf hf
  cases hf
  exact r_areturn hr hty d v _ rfl
theorem r_return (hr : mRet M = none) (d : decode (mCc M) pc = .ok (.return_, 1)) : Runs G M rhoV σ pc L [] (some ((), σ)) := by
  intro r σf hf
  cases hf
  refine ⟨Le.rf _, ?_⟩
  intro p e R s m args below meth c n0 s0 C h1 h2 h3 h4 H locs ls hl hm hS
  exact c_ret (v := none) (fun hq => W.vret C.1 C.2.1 (C.2.2.2.2.2.1.trans hr) hq hS.2.2 d C.2.2.2.2.2.2.1) hm hS
theorem r_returnX (hr : mRet M = none) (d : decode (mCc M) pc = .ok (.return_, 1)) : Runs G M (rhoX rhoV) σ pc L [] (some (.inl (), σ)) := by
  intro r σf hf
  cases hf
  exact r_return hr d () _ rfl
/-- throw an object of ours of the class number ci -/
def o_th {α : Type} (σ : Mem) (ci : Nat) (E : String) (o : Option Nat) : Option ((α ⊕ Ex) × Mem) := ob (o_at σ [20 + ci] o) fun a => if 1000 ≤ a then some (.inr (a, E), σ) else none
theorem r_athrow {ci : Nat} {r0 : vw_C} {o : Option Nat} (hc : clsL[ci]? = some r0) (hh : mHH M = []) (d : decode (mCc M) pc = .ok (.athrow, 1)) : Runs G M (rhoX ρ) σ pc L (vR o :: st) (o_th σ ci r0.1 o) := by
  intro r σf hf
  obtain ⟨a, g1, g2⟩ := ob_eq hf
  obtain ⟨rfl, g3⟩ := o_at_eq g1
  split at g2
  · rename_i ha
    cases g2
    refine ⟨Le.rf _, ?_⟩
    intro p e R s m args below meth c n0 s0 C h1 h2 h3 h4 H locs ls hl hm hS
    have g4 : (m_T σ a).1 = 20 + ci := List.mem_singleton.mp g3
    obtain ⟨r2, q0, cell, q1, q2, q3, q4⟩ := (hm.2.2.1 a ha (by omega)).2.2 (by omega)
    rw [g4, Nat.add_sub_cancel_left] at q0 q2 q4
    refine vx_athrow C.1 C.2.1 d (vx_out (E := r0.1) (ce := cell) ?_ C.2.2.2.2.2.2.1 q1 q3 ?_ (fun t ht _ => ⟨⟨a, rfl, rfl⟩, by rw [ht]; exact hm, hS.F ht⟩) hS.2.2 (Nat.le_refl _) (Nat.le_refl _))
    · intro x hx
      rw [C.2.2.2.2.2.2.2.2.1, hh] at hx
      cases hx
    · rw [q2]
      exact (C.K.1 ci r0 hc).2.1
  · cases g2
end

