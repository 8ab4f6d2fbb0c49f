/-! ===== the pure machine's steps are the machine's own ===== -/
theorem mm_in_vp {x : Int32} {n : Nat} (h : mm_in x n = true) : vp_in x n := by
  unfold mm_in at h
  simp only [Bool.and_eq_true, decide_eq_true_eq] at h
  intro q
  rcases q with q | q
  · exact absurd q (Int32.not_lt.mpr h.1)
  · omega
theorem mm_in_pos {x : Int32} {n : Nat} (h : mm_in x n = true) : n ≠ 0 := by
  unfold mm_in at h
  simp only [Bool.and_eq_true, decide_eq_true_eq] at h
  omega
theorem mt_ty_le (k : Nat) : mt_ty k ≤ 2 := by
  unfold mt_ty
  split <;> omega
theorem TX8_cls : ∀ k, k < 119 → (TX8 k).1 = RX8 := by decide +kernel
def mm_St (D : va_G) (c3 : Nat → ClassId) (ad : Nat → Nat) (s0 : State) (s : mm_S) (H : Heap) (locs : List Loc) : Prop := va_P D mm_cl (mm_ws c3 ad s) H ∧ va_D (mm_A ad s0.heap.size) (mm_ws c3 ad s) ∧ va_S (mm_A ad s0.heap.size) s0.heap H locs
def mm_Fx (p : Program) (s0 : State) (m : MethodId) (args : Array Value) (meth : Method) (c : Code) (D : va_G) (c3 : Nat → ClassId) (f : Nat) : Prop := p.tables.exec = Jvm.exec ∧ c.code = mby_ f ∧ meth.sig.returnType = mrt_ f ∧ meth.locks = false ∧ c.maxLocals = mt_nL f ∧ s0.vm.findClass RX8 = some m.cls ∧ (∀ w ∈ lw_all, w.before args s0 = true) ∧ va_K D mm_cl (mm_tys c3) s0 ∧ mm_mok f
section msW
variable {p : Program} {l : Launch} {e : Env} {R : Room} {s0 : State} {m : MethodId} {args : Array Value} {below : List Frame} {meth : Method} {c : Code} {Q : State → Prop} {D : va_G} {c3 : Nat → ClassId} {ad : Nat → Nat} {f : Nat} {s : mm_S} {H : Heap} {locs : List Loc} {pc : Nat} {la : Array Slot} {rest : List Value}
theorem mm_getW (X : mm_Fx p s0 m args meth c D c3 f) (S : mm_St D c3 ad s0 s H locs) {k j : Nat} (hd : decode (mby_ f) pc = .ok (.getfield j, 3)) (hm : (j, k) ∈ mf_fi) (kk : W p l e R s0 m args below meth c H locs 0 0 Q (F0 m (pc + 3) la (mm_fv ad s k :: rest))) : W p l e R s0 m args below meth c H locs 0 0 Q (F0 m pc la (.ref (ad 0) :: rest)) := by
  obtain ⟨hx, hb, -, -, -, hown, hts, hK, -⟩ := X
  obtain ⟨hk, hl⟩ := mf_fi_ok _ hm
  exact va_get (D := D) (ci := 0) (C := RX8) (T := TX8) (N := 119) hx hb hts in_X8 hown hK S.1 0 rfl rfl k hk (hts _ hl) (fun _ h9 => by rw [TX8_cls k hk] at h9; exact h9) (mm_fs_at hk) hd kk
theorem mm_putW (X : mm_Fx p s0 m args meth c D c3 f) (S : mm_St D c3 ad s0 s H locs) {k j : Nat} {x : Int32} (hd : decode (mby_ f) pc = .ok (.putfield j, 3)) (hm : (j, k) ∈ mf_fi) (hfin : (TX8 k).2.2.2 = false) (h0 : mt_ln k = 0) {ty : FieldType} (hty : tyX8 k = ty) (hnw : narrow ty (.int x) = .int x) (hfit : fits ty (.int x) = true) (kk : ∀ H1 locs1, mm_St D c3 ad s0 (mm_u s 0 k x) H1 locs1 → W p l e R s0 m args below meth c H1 locs1 0 0 Q (F0 m (pc + 3) la rest)) : W p l e R s0 m args below meth c H locs 0 0 Q (F0 m pc la (.int x :: .ref (ad 0) :: rest)) := by
  obtain ⟨hx, hb, -, -, -, hown, hts, hK, -⟩ := X
  obtain ⟨hk, hl⟩ := mf_fi_ok _ hm
  have hd2 : parseFieldDescriptor (TX8 k).2.2.1 = some ty := by rw [tyX8_ok k hk, hty]
  refine va_put (D := D) (ci := 0) (v := .int x) (ty := ty) (C := RX8) (T := TX8) (N := 119) hx hb hts in_X8 tyX8 tyX8_ok nmX8 hown hK S.1 S.2.1 S.2.2 0 rfl rfl k hk (hts _ hl) (fun _ h9 => by rw [TX8_cls k hk] at h9; exact h9) hfin hd2 hnw hfit (by rw [mm_fs_len]; exact hk) hd (fun H1 locs1 hP hD hS => kk H1 locs1 ?_)
  have ew := mm_ws_fld (c3 := c3) (ad := ad) (s := s) (x := x) h0
  unfold mm_St
  rw [← ew]
  exact ⟨hP, hD, hS⟩
theorem mm_ty_ok : ∀ k, k < 119 → mt_ln k = 0 → tyX8 k = (if mt_ty k = 0 then FieldType.int else FieldType.boolean) := by decide +kernel
theorem mm_01_n {x : Int32} (h : mm_01 x = true) : narrow .boolean (.int x) = .int x := by
  unfold mm_01 at h
  simp only [Bool.or_eq_true, decide_eq_true_eq] at h
  rcases h with rfl | rfl <;> rfl
theorem mm_arr {k : Nat} (h : mt_ln k ≠ 0) : ∃ j : Nat, mm_ar[j]? = some k := List.getElem?_of_mem (mm_ar_mem.mpr h)
theorem mm_ialW (X : mm_Fx p s0 m args meth c D c3 f) (S : mm_St D c3 ad s0 s H locs) {k : Nat} {x : Int32} (hd : decode (mby_ f) pc = .ok (.iaload, 1)) (ht : mt_ty k = 0) (hin : mm_in x (mt_ln k) = true) (kk : W p l e R s0 m args below meth c H locs 0 0 Q (F0 m (pc + 1) la (.int (s k x.toNatClampNeg) :: rest))) : W p l e R s0 m args below meth c H locs 0 0 Q (F0 m pc la (.int x :: .ref (ad k) :: rest)) := by
  obtain ⟨hx, hb, -, -, -, hown, hts, hK, -⟩ := X
  obtain ⟨j, hj⟩ := mm_arr (mm_in_pos hin)
  exact va_iald (n := mt_ln k) (cA := c3 (mt_ty k)) hx hb hK S.1 (j + 1) 0 (mm_ws_at hj) (by rw [ht]; rfl) (mm_in_vp hin) hd kk
theorem mm_balW (X : mm_Fx p s0 m args meth c D c3 f) (S : mm_St D c3 ad s0 s H locs) {k : Nat} {x : Int32} (hd : decode (mby_ f) pc = .ok (.baload, 1)) (ht : mt_ty k ≠ 0) (hin : mm_in x (mt_ln k) = true) (kk : W p l e R s0 m args below meth c H locs 0 0 Q (F0 m (pc + 1) la (.int (s k x.toNatClampNeg) :: rest))) : W p l e R s0 m args below meth c H locs 0 0 Q (F0 m pc la (.int x :: .ref (ad k) :: rest)) := by
  obtain ⟨hx, hb, -, -, -, hown, hts, hK, -⟩ := X
  obtain ⟨j, hj⟩ := mm_arr (mm_in_pos hin)
  have h2 := mt_ty_le k
  rcases (show mt_ty k = 1 ∨ mt_ty k = 2 by omega) with h | h
  · exact va_bald (n := mt_ln k) (cA := c3 (mt_ty k)) hx hb hK S.1 (j + 1) 1 (mm_ws_at hj) (by rw [h]; rfl) (mm_in_vp hin) hd kk
  · exact va_zald (n := mt_ln k) (cA := c3 (mt_ty k)) hx hb hK S.1 (j + 1) 2 (mm_ws_at hj) (by rw [h]; rfl) (mm_in_vp hin) hd kk
theorem mm_iasW (X : mm_Fx p s0 m args meth c D c3 f) (S : mm_St D c3 ad s0 s H locs) {k : Nat} {x y : Int32} (hd : decode (mby_ f) pc = .ok (.iastore, 1)) (ht : mt_ty k = 0) (hin : mm_in x (mt_ln k) = true) (kk : ∀ H1 locs1, mm_St D c3 ad s0 (mm_u s k x.toNatClampNeg y) H1 locs1 → W p l e R s0 m args below meth c H1 locs1 0 0 Q (F0 m (pc + 1) la rest)) : W p l e R s0 m args below meth c H locs 0 0 Q (F0 m pc la (.int y :: .int x :: .ref (ad k) :: rest)) := by
  obtain ⟨hx, hb, -, -, -, hown, hts, hK, -⟩ := X
  obtain ⟨j, hj⟩ := mm_arr (mm_in_pos hin)
  refine va_iast (n := mt_ln k) (cA := c3 (mt_ty k)) hx hb hK S.1 S.2.1 S.2.2 (j + 1) 0 (mm_ws_at hj) (by rw [ht]; rfl) (mm_in_vp hin) hd (fun H1 locs1 hP hD hS => kk H1 locs1 ?_)
  have ew := mm_ws_arr (c3 := c3) (ad := ad) (s := s) (i := x.toNatClampNeg) (x := y) (mm_in_pos hin) hj
  unfold mm_St
  rw [← ew]
  exact ⟨hP, hD, hS⟩
theorem mm_basW (X : mm_Fx p s0 m args meth c D c3 f) (S : mm_St D c3 ad s0 s H locs) {k : Nat} {x y : Int32} (hd : decode (mby_ f) pc = .ok (.bastore, 1)) (ht : mt_ty k = 1) (hin : mm_in x (mt_ln k) = true) (kk : ∀ H1 locs1, mm_St D c3 ad s0 (mm_u s k x.toNatClampNeg y.toInt8.toInt32) H1 locs1 → W p l e R s0 m args below meth c H1 locs1 0 0 Q (F0 m (pc + 1) la rest)) : W p l e R s0 m args below meth c H locs 0 0 Q (F0 m pc la (.int y :: .int x :: .ref (ad k) :: rest)) := by
  obtain ⟨hx, hb, -, -, -, hown, hts, hK, -⟩ := X
  obtain ⟨j, hj⟩ := mm_arr (mm_in_pos hin)
  refine va_bast (n := mt_ln k) (cA := c3 (mt_ty k)) hx hb hK S.1 S.2.1 S.2.2 (j + 1) 1 (mm_ws_at hj) (by rw [ht]; rfl) (mm_in_vp hin) hd (fun H1 locs1 hP hD hS => kk H1 locs1 ?_)
  have ew := mm_ws_arr (c3 := c3) (ad := ad) (s := s) (i := x.toNatClampNeg) (x := y.toInt8.toInt32) (mm_in_pos hin) hj
  unfold mm_St
  rw [← ew]
  exact ⟨hP, hD, hS⟩
theorem mm_zasW (X : mm_Fx p s0 m args meth c D c3 f) (S : mm_St D c3 ad s0 s H locs) {k : Nat} {x y : Int32} (hd : decode (mby_ f) pc = .ok (.bastore, 1)) (ht : mt_ty k = 2) (hin : mm_in x (mt_ln k) = true) (kk : ∀ H1 locs1, mm_St D c3 ad s0 (mm_u s k x.toNatClampNeg (y &&& 1)) H1 locs1 → W p l e R s0 m args below meth c H1 locs1 0 0 Q (F0 m (pc + 1) la rest)) : W p l e R s0 m args below meth c H locs 0 0 Q (F0 m pc la (.int y :: .int x :: .ref (ad k) :: rest)) := by
  obtain ⟨hx, hb, -, -, -, hown, hts, hK, -⟩ := X
  obtain ⟨j, hj⟩ := mm_arr (mm_in_pos hin)
  refine va_zast (n := mt_ln k) (cA := c3 (mt_ty k)) hx hb hK S.1 S.2.1 S.2.2 (j + 1) 2 (mm_ws_at hj) (by rw [ht]; rfl) (mm_in_vp hin) hd (fun H1 locs1 hP hD hS => kk H1 locs1 ?_)
  have ew := mm_ws_arr (c3 := c3) (ad := ad) (s := s) (i := x.toNatClampNeg) (x := y &&& 1) (mm_in_pos hin) hj
  unfold mm_St
  rw [← ew]
  exact ⟨hP, hD, hS⟩
theorem mm_alnW (X : mm_Fx p s0 m args meth c D c3 f) (S : mm_St D c3 ad s0 s H locs) {k : Nat} (hd : decode (mby_ f) pc = .ok (.arraylength, 1)) (hn : mt_ln k ≠ 0) (kk : W p l e R s0 m args below meth c H locs 0 0 Q (F0 m (pc + 1) la (.int (Int32.ofNat (mt_ln k)) :: rest))) : W p l e R s0 m args below meth c H locs 0 0 Q (F0 m pc la (.ref (ad k) :: rest)) := by
  obtain ⟨hx, hb, -, -, -, hown, hts, hK, -⟩ := X
  obtain ⟨j, hj⟩ := mm_arr hn
  have h2 := mt_ty_le k
  rcases (show mt_ty k = 0 ∨ mt_ty k = 1 ∨ mt_ty k = 2 by omega) with h | h | h
  · exact va_alen (ty := .int) hx hb hK S.1 (j + 1) 0 (mm_ws_at hj) (by rw [h]; rfl) rfl hd kk
  · exact va_alen (ty := .byte) hx hb hK S.1 (j + 1) 1 (mm_ws_at hj) (by rw [h]; rfl) rfl hd kk
  · exact va_alen (ty := .boolean) hx hb hK S.1 (j + 1) 2 (mm_ws_at hj) (by rw [h]; rfl) rfl hd kk
theorem pj_zret {cc : ByteArray} {H : Heap} {cells slots : Nat} {s : State} {Qc : Array Value → State → Outcome → State → Prop} {free : Addr → Prop} {x v : Int32} {ty : FieldType} (hexec : p.tables.exec = Jvm.exec) (hb : c.code = cc) (hr : meth.sig.returnType = some ty) (hn : narrow ty (.int x) = .int v) (hlocks : meth.locks = false)
    (hq : ∀ t : State, t.heap = H → s.WarmedH t.vm → Qc args s (.returned (some (.int v))) t) (hf : ∀ q ∈ locs, free q.base)
    {pc : Nat} {ls : Array Slot} (hdg : decode cc pc = .ok (.ireturn, 1)) : W p l e R s m args below meth c H locs cells slots (MQ below Qc args s cells slots free) (F0 m pc ls [.int x]) := by
  intro T hT X
  obtain ⟨fs, hret, hrun, hended, hW, hframe⟩ := X.leave (v := some (.int v)) (hlocks := hlocks) (fun h => by rw [hr] at h; cases h)
  have hmeth' : T.vm.method? m = some meth := X.method'
  refine ⟨T.setFrames fs, ?_, .returned (some (.int v)), hrun, hended, hq _ hT hW, locs, ⟨⟨_, rfl⟩, hW, hframe⟩, hf⟩
  jvm_step X.here [X.here.top, hexec, hb, hdg, hmeth', hr, hn]
  (try refine ⟨rfl, ?_⟩); (try refine ⟨rfl, ?_⟩)
  first | (intro acts; rw [hret _ acts rfl rfl rfl]) | rw [hret _ _ rfl rfl rfl]
  exact Steps.refl _
/-- the end of a method that answers an int or a boolean -/
theorem mm_iretW (X : mm_Fx p s0 m args meth c D c3 f) (S : mm_St D c3 ad s0 s H locs) {x v : Int32} {ty : FieldType} (hr : mrt_ f = some ty) (hn : narrow ty (.int x) = .int v) (hd : decode (mby_ f) pc = .ok (.ireturn, 1)) : W p l e R s0 m args below meth c H locs 0 0 (MQ below (mm_Qc D c3 ad s0.heap.size (some (vi_ v)) s) args s0 0 0 (mm_A ad s0.heap.size)) (F0 m pc la [.int x]) := by
  obtain ⟨hx, hb, hrt, hlk, -, hown, hts, hK, -⟩ := X
  obtain ⟨hP, hD, hS⟩ := S
  refine pj_zret hx hb (hrt.trans hr) hn hlk (fun t ht hW => ?_) hS.2.2 hd
  exact ⟨⟨v, s, rfl, ⟨rfl, rfl⟩, by rw [ht]; exact hP, va_K.moved hW.alike hK, hD.weaken (fun _ _ _ _ => trivial)⟩, hS.F ht⟩
theorem mm_vretW (X : mm_Fx p s0 m args meth c D c3 f) (S : mm_St D c3 ad s0 s H locs) (hr : mrt_ f = none) (hd : decode (mby_ f) pc = .ok (.return_, 1)) : W p l e R s0 m args below meth c H locs 0 0 (MQ below (mm_Qc D c3 ad s0.heap.size none s) args s0 0 0 (mm_A ad s0.heap.size)) (F0 m pc la []) := by
  obtain ⟨hx, hb, hrt, hlk, -, hown, hts, hK, -⟩ := X
  obtain ⟨hP, hD, hS⟩ := S
  refine W.vret hx hb (hrt.trans hr) (fun t ht hW => ?_) hS.2.2 hd hlk
  exact ⟨⟨s, rfl, rfl, by rw [ht]; exact hP, va_K.moved hW.alike hK, hD.weaken (fun _ _ _ _ => trivial)⟩, hS.F ht⟩
/-! calls -/
def mm_Cal (l : Launch) (D : va_G) (c3 : Nat → ClassId) (ad : Nat → Nat) (d k : Nat) (as : List pj_V) (s : mm_S) (r : Option pj_V) (s' : mm_S) : Prop := ∀ sz, Met l (my_ k) (ws_ (my_ k) (mby_ k) (mt_nL k) (mrt_ k)) (mm_rm d) (mm_Pc D c3 ad s sz as) (mm_Qc D c3 ad sz r s') 0 0 (mm_A ad sz)
theorem mm_blind {k : Nat} {as : List pj_V} {sz : Nat} : FrameBlind (mm_Pc D c3 ad s sz as) := fun a U g mk q => by
  obtain ⟨q0, q1, qP, qK, qD⟩ := q
  exact ⟨q0, q1, qP, va_K.moved (u := U) (U := U.calling g mk a) (Vm.Alike.refl U.vm) qK, qD⟩
theorem mm_A_in {sz : Nat} (hz : s0.heap.size ≤ sz) (q : Nat) (h : mm_A ad sz q) : mm_A ad s0.heap.size q := by
  rcases h with h | h | h
  · exact Or.inl h
  · exact Or.inr (Or.inl h)
  · exact Or.inr (Or.inr (Nat.le_trans hz h))
theorem pj_wt_sum : ∀ st : List pj_V, ((st.map (pj_v ad)).map fun v => v.category).sum = pj_wt st
  | [] => rfl
  | .inl x :: r => by
    exact congrArg (1 + ·) (pj_wt_sum r)
  | .inr (.inl x) :: r => by
    exact congrArg (2 + ·) (pj_wt_sum r)
  | .inr (.inr (.inl x)) :: r => by
    show (va_rf _).category + _ = 1 + _
    rw [pj_rf_cat]
    exact congrArg (1 + ·) (pj_wt_sum r)
  | .inr (.inr (.inr x)) :: r => by
    exact congrArg (1 + ·) (pj_wt_sum r)
theorem mm_run {d k n : Nat} {ls : pj_Ls} {st : List pj_V} {r : Option pj_V} {s' : mm_S} (X : mm_Fx p s0 m args meth c D c3 f) (S : mm_St D c3 ad s0 s H locs) (hl : pj_L ad (mt_nL f) ls la) {j : Nat} (hd : (decode (mby_ f) pc = .ok (.invokevirtual j, 3) ∧ mt_st k = false) ∨ (decode (mby_ f) pc = .ok (.invokestatic j, 3) ∧ mt_st k = true)) (hm : (j, k) ∈ mf_mi) (hn : (mt_sg k).1 = n) (hg : (pj_rm n st && (mt_st k || pj_rc n st)) = true)
    (hc : mm_Cal l D c3 ad d k (st.take n).reverse s r s') : va_Run p l e (mm_rm (d + 1)) s0 m args below meth c H locs 0 0 0 0 (F0 m pc la (st.map (pj_v ad))) ((st.drop n).map (pj_v ad)) (mm_Qc D c3 ad H.size r s' ((st.take n).reverse.map (pj_v ad)).toArray) (mm_A ad H.size) := by
  obtain ⟨hx, hb, -, -, hml, hown, hts, hK, -⟩ := X
  obtain ⟨hP, hD, hS⟩ := S
  obtain ⟨hlk, hmo⟩ := mf_mi_ok _ hm
  obtain ⟨hcode, hcls, -, hpar, hret, hinst, hstat⟩ := hmo
  simp only [Bool.and_eq_true, Bool.or_eq_true] at hg
  obtain ⟨hrm, hrc⟩ := hg
  unfold pj_rm at hrm
  simp only [Bool.and_eq_true] at hrm
  have hlen : n ≤ st.length := Nat.le_of_ble_eq_true hrm.1
  have hwt : pj_wt (st.drop n) ≤ 8 := Nat.le_of_ble_eq_true hrm.2
  have hL := mt_nL_le k
  have hroom : (mm_rm d).frames + 1 ≤ (mm_rm (d + 1)).frames ∧ 8 + (mt_nL k + 11) + (mm_rm d).locals ≤ (mm_rm (d + 1)).locals := by
    refine ⟨Nat.le_refl _, ?_⟩
    show 8 + (mt_nL k + 11) + 64 * d ≤ 64 * (d + 1)
    omega
  have hpre : ∀ U : State, U.heap = H → s0.WarmedH U.vm → mm_Pc D c3 ad s H.size (st.take n).reverse ((st.take n).reverse.map (pj_v ad)).toArray U := fun U hU hW => ⟨rfl, by rw [hU], by rw [hU]; exact hP, va_K.moved hW.alike hK, hD.weaken (fun _ _ _ _ => trivial)⟩
  have hsplit : st.map (pj_v ad) = ((st.take n).reverse.map (pj_v ad)).reverse ++ (st.drop n).map (pj_v ad) := by
    rw [List.map_reverse, List.reverse_reverse, ← List.map_append, List.take_append_drop]
  have hW : 2 * (F0 m pc la (st.map (pj_v ad))).monitorRoom + (((st.drop n).map (pj_v ad)).map fun v => v.category).sum ≤ 8 := by
    rw [pj_wt_sum]
    show 2 * 0 + _ ≤ 8
    omega
  have hlen2 : ((st.take n).reverse.map (pj_v ad)).length = n := by
    rw [List.length_map, List.length_reverse, List.length_take]
    omega
  have hne : (my_ k).cls ≠ "java/lang/invoke/MethodHandle" ∧ (my_ k).cls ≠ "java/lang/invoke/VarHandle" := by
    rw [hcls]
    decide
  rcases hd with ⟨hd, hst⟩ | ⟨hd, hst⟩
  · obtain ⟨hi, hse⟩ := hinst hst
    rw [hst] at hrc hpar
    have hrc : pj_rc n st = true := by simpa using hrc
    unfold pj_rc at hrc
    obtain ⟨As, hAs⟩ : ∃ As, (st.take n).reverse = vr_ (some 0) :: As := by
      rw [← List.head?_reverse] at hrc
      cases hq : (st.take n).reverse with
      | nil => rw [hq] at hrc; cases hrc
      | cons a As =>
        rw [hq] at hrc
        simp only [List.head?_cons] at hrc
        split at hrc
        · rename_i he
          cases he
          exact ⟨As, rfl⟩
        · cases hrc
    have e1 : (st.take n).reverse.map (pj_v ad) = Value.ref (ad 0) :: As.map (pj_v ad) := by rw [hAs]; rfl
    rw [e1] at hlen2 hsplit
    have hn1 : (As.map (pj_v ad)).length + 1 = n := hlen2
    have hpar2 : (parseMethodDescriptor (my_ k).desc).map (fun d => d.parameters.length) = some (As.map (pj_v ad)).length := by
      cases hq : parseMethodDescriptor (my_ k).desc with
      | none => rw [hq] at hpar; cases hpar
      | some sg =>
        rw [hq] at hpar
        have h9 : sg.parameters.length + 1 = (mt_sg k).1 := Option.some.inj hpar
        show some sg.parameters.length = some _
        congr 1
        omega
    have cw := cwV (rm := mm_rm d) (R := mm_rm (d + 1)) (C := RX8) (mc := 0) (ms := 0) (As.map (pj_v ad)).length hts (lw_V hlk hi hse q282 hcode) rfl rfl rfl ⟨hcls, hne.1, hne.2, hpar2⟩ hroom
    have hp : PreV s0 H RX8 (ad 0) (mm_Pc D c3 ad s H.size (st.take n).reverse) (As.map (pj_v ad)) := ⟨mm_blind (k := k), va_recv hK hP (ci := 0) (q0 := 0) (q := (RX8, TX8, 119)) rfl rfl, fun U hU hW => by
      have := hpre U hU hW
      rw [e1] at this
      exact this⟩
    rw [e1]
    exact va_runV (As := As.map (pj_v ad)) (rest := (st.drop n).map (pj_v ad)) ⟨hx, hb, hml, hown, hts⟩ (hc H.size) cw hp rfl rfl hl.1 (by
      show st.map (pj_v ad) = _
      rw [hsplit]
      simp) hW hd ⟨Nat.le_refl _, Nat.le_refl _⟩
  · have hs := hstat hst
    rw [hst] at hpar
    have hpar2 : (parseMethodDescriptor (my_ k).desc).map (fun d => d.parameters.length) = some n := by
      cases hq : parseMethodDescriptor (my_ k).desc with
      | none => rw [hq] at hpar; cases hpar
      | some sg =>
        rw [hq] at hpar
        have h9 : sg.parameters.length + 0 = (mt_sg k).1 := Option.some.inj hpar
        show some sg.parameters.length = some _
        congr 1
        omega
    have q9 : Cond.initialized (my_ k).cls ∈ lw_all := by rw [hcls]; exact q282
    have cw := va_cwS (rm := mm_rm d) (R := mm_rm (d + 1)) (mc := 0) (ms := 0) n hts (lw_S hlk hs q9 hcode) rfl rfl rfl ⟨hne.1, hne.2, hpar2⟩ hroom
    exact va_runS (As := (st.take n).reverse.map (pj_v ad)) (rest := (st.drop n).map (pj_v ad)) ⟨hx, hb, hml, hown, hts⟩ (hc H.size) cw ⟨mm_blind (k := k), hpre⟩ rfl hlen2 hl.1 hsplit hW hd ⟨Nat.le_refl _, Nat.le_refl _⟩
theorem mm_St_after {s' : mm_S} {t : State} {H1 : Heap} {locs1 : List Loc} (ht : t.heap = H1) (hB : mm_W1 D c3 ad s' t) (hS : va_S (mm_A ad s0.heap.size) s0.heap H1 locs1) : mm_St D c3 ad s0 s' H1 locs1 := by
  obtain ⟨hP, -, hD⟩ := hB
  rw [ht] at hP
  exact ⟨hP, mm_D_A hD, hS⟩
end msW
