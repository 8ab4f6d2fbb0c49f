/-! ===== the reference's object and arrays as the kit's world; its pure machine is the machine's own ===== -/
theorem mt_ln_lt {k : Nat} (h : mt_ln k ≠ 0) : k < 119 := by
  unfold mt_ln at h
  split at h <;> first | omega | exact absurd rfl h
theorem mt_nL_le (f : Nat) : mt_nL f ≤ 45 := by
  unfold mt_nL
  split <;> omega
def mm_cl : List vw_C := [(RX8, TX8, 119)]
def mm_tys (c3 : Nat → ClassId) : List (ClassId × FieldType) := [(c3 0, .int), (c3 1, .byte), (c3 2, .boolean)]
def mm_fv (ad : Nat → Nat) (s : mm_S) (k : Nat) : Value := if mt_ln k = 0 then Value.int (s 0 k) else Value.ref (ad k)
def mm_fs (ad : Nat → Nat) (s : mm_S) : List Value := (List.range 119).map (mm_fv ad s)
def mm_ar : List Nat := (List.range 119).filter fun k => decide (mt_ln k ≠ 0)
def mm_ce (c3 : Nat → ClassId) (ad : Nat → Nat) (s : mm_S) (k : Nat) : Nat × va_E := (ad k, .inl (c3 (mt_ty k), mt_ln k, .inl (s k)))
def mm_ws (c3 : Nat → ClassId) (ad : Nat → Nat) (s : mm_S) : va_W := (ad 0, .inr (0, mm_fs ad s)) :: mm_ar.map (mm_ce c3 ad s)
theorem mm_ar_mem {k : Nat} : k ∈ mm_ar ↔ mt_ln k ≠ 0 := by
  unfold mm_ar
  rw [List.mem_filter, List.mem_range]
  constructor
  · rintro ⟨-, h⟩
    exact of_decide_eq_true h
  · intro h
    exact ⟨mt_ln_lt h, decide_eq_true h⟩
theorem mm_ar_nd : mm_ar.Nodup := List.Pairwise.filter _ List.nodup_range
theorem mm_ar_0 {k : Nat} (h : k ∈ mm_ar) : k ≠ 0 := by
  intro q
  subst q
  exact mm_ar_mem.mp h rfl
theorem mm_fs_at {ad : Nat → Nat} {s : mm_S} {k : Nat} (h : k < 119) : (mm_fs ad s)[k]? = some (mm_fv ad s k) := by
  unfold mm_fs
  simp [List.getElem?_map, h]
theorem mm_fs_len {ad : Nat → Nat} {s : mm_S} : (mm_fs ad s).length = 119 := by simp [mm_fs]
theorem mm_fs_set {ad : Nat → Nat} {s : mm_S} {k : Nat} {x : Int32} (hk : mt_ln k = 0) : (mm_fs ad s).set k (.int x) = mm_fs ad (mm_u s 0 k x) := by
  apply List.ext_getElem?
  intro i
  by_cases hi : i < 119
  · rw [mm_fs_at hi, List.getElem?_set]
    by_cases e : k = i
    · subst e
      rw [if_pos rfl, if_pos (by rw [mm_fs_len]; exact hi)]
      simp [mm_fv, hk, mm_u]
    · rw [if_neg e, mm_fs_at hi]
      have e' : ¬ i = k := fun q => e q.symm
      simp [mm_fv, mm_u, e']
  · rw [List.getElem?_eq_none (by rw [List.length_set, mm_fs_len]; omega), List.getElem?_eq_none (by rw [mm_fs_len]; omega)]
theorem mm_fs_arr {ad : Nat → Nat} {s : mm_S} {k i : Nat} {x : Int32} (hk : k ≠ 0) : mm_fs ad (mm_u s k i x) = mm_fs ad s := by
  unfold mm_fs
  apply List.map_congr_left
  intro j _
  have e : ¬ (0 : Nat) = k := fun q => hk q.symm
  simp [mm_fv, mm_u, e]
theorem mm_ce_fld {c3 : Nat → ClassId} {ad : Nat → Nat} {s : mm_S} {k j : Nat} {x : Int32} (hj : j ≠ 0) : mm_ce c3 ad (mm_u s 0 k x) j = mm_ce c3 ad s j := by
  have e : mm_u s 0 k x j = s j := by
    funext b
    simp [mm_u, hj]
  simp [mm_ce, e]
theorem mm_ce_ne {c3 : Nat → ClassId} {ad : Nat → Nat} {s : mm_S} {k i j : Nat} {x : Int32} (hj : j ≠ k) : mm_ce c3 ad (mm_u s k i x) j = mm_ce c3 ad s j := by
  have e : mm_u s k i x j = s j := by
    funext b
    simp [mm_u, hj]
  simp [mm_ce, e]
theorem mm_ce_eq {c3 : Nat → ClassId} {ad : Nat → Nat} {s : mm_S} {k i : Nat} {x : Int32} : mm_ce c3 ad (mm_u s k i x) k = (ad k, .inl (c3 (mt_ty k), mt_ln k, .inl (upd (s k) i x))) := by
  have e : mm_u s k i x k = upd (s k) i x := by
    funext b
    simp [mm_u, upd]
  simp [mm_ce, e]
theorem pj_map_set {α : Type} {l : List Nat} {f f' : Nat → α} {j k : Nat} (hn : l.Nodup) (hj : l[j]? = some k) (ho : ∀ k' ∈ l, k' ≠ k → f' k' = f k') : (l.map f).set j (f' k) = l.map f' := by
  apply List.ext_getElem?
  intro i
  rw [List.getElem?_set]
  by_cases e : j = i
  · subst e
    rw [if_pos rfl]
    have hlt : j < l.length := (List.getElem?_eq_some_iff.mp hj).1
    rw [if_pos (by rw [List.length_map]; exact hlt), List.getElem?_map, hj]
    rfl
  · rw [if_neg e, List.getElem?_map, List.getElem?_map]
    cases hi : l[i]? with
    | none => rfl
    | some k' =>
      have : k' ≠ k := by
        intro q
        subst q
        obtain ⟨a1, b1⟩ := List.getElem?_eq_some_iff.mp hi
        obtain ⟨a2, b2⟩ := List.getElem?_eq_some_iff.mp hj
        have hp := List.pairwise_iff_getElem.mp hn
        rcases Nat.lt_trichotomy i j with z | z | z
        · exact hp i j a1 a2 z (b1.trans b2.symm)
        · exact e z.symm
        · exact hp j i a2 a1 z (b2.trans b1.symm)
      show some (f k') = some (f' k')
      rw [ho k' (List.mem_of_getElem? hi) this]
theorem mm_ws_fld {c3 : Nat → ClassId} {ad : Nat → Nat} {s : mm_S} {k : Nat} {x : Int32} (hk : mt_ln k = 0) : (mm_ws c3 ad s).set 0 (ad 0, .inr (0, (mm_fs ad s).set k (.int x))) = mm_ws c3 ad (mm_u s 0 k x) := by
  unfold mm_ws
  rw [mm_fs_set hk, List.set_cons_zero, List.map_congr_left (fun j hj => mm_ce_fld (c3 := c3) (ad := ad) (s := s) (k := k) (x := x) (mm_ar_0 hj))]
theorem mm_ws_arr {c3 : Nat → ClassId} {ad : Nat → Nat} {s : mm_S} {k i j : Nat} {x : Int32} (hk : mt_ln k ≠ 0) (hj : mm_ar[j]? = some k) : (mm_ws c3 ad s).set (j + 1) (ad k, .inl (c3 (mt_ty k), mt_ln k, .inl (upd (s k) i x))) = mm_ws c3 ad (mm_u s k i x) := by
  unfold mm_ws
  rw [mm_fs_arr (mm_ar_0 (mm_ar_mem.mpr hk)), ← mm_ce_eq]
  show _ :: _ = _ :: _
  congr 1
  exact pj_map_set mm_ar_nd hj (fun k' _ h => mm_ce_ne h)
theorem mm_ws_at {c3 : Nat → ClassId} {ad : Nat → Nat} {s : mm_S} {k j : Nat} (hj : mm_ar[j]? = some k) : (mm_ws c3 ad s)[j + 1]? = some (ad k, .inl (c3 (mt_ty k), mt_ln k, .inl (s k))) := by
  show (mm_ar.map (mm_ce c3 ad s))[j]? = _
  rw [List.getElem?_map, hj]
  rfl
/-- the addresses that the reference's methods may write -/
def mm_A (ad : Nat → Nat) (sz : Nat) : Nat → Prop := fun q => q = ad 0 ∨ (∃ k ∈ mm_ar, q = ad k) ∨ sz ≤ q
theorem mm_ws_ad {c3 : Nat → ClassId} {ad : Nat → Nat} {s : mm_S} {i : Nat} {q : Nat × va_E} (h : (mm_ws c3 ad s)[i]? = some q) : q.1 = ad 0 ∨ ∃ k ∈ mm_ar, q.1 = ad k := by
  cases i with
  | zero => cases h; exact Or.inl rfl
  | succ i =>
    have h : (mm_ar.map (mm_ce c3 ad s))[i]? = some q := h
    rw [List.getElem?_map] at h
    cases hi : mm_ar[i]? with
    | none => rw [hi] at h; cases h
    | some k =>
      rw [hi] at h
      cases h
      exact Or.inr ⟨k, List.mem_of_getElem? hi, rfl⟩
theorem mm_D_A {c3 : Nat → ClassId} {ad : Nat → Nat} {s : mm_S} {A : Nat → Prop} {sz : Nat} (h : va_D A (mm_ws c3 ad s)) : va_D (mm_A ad sz) (mm_ws c3 ad s) :=
  ⟨h.1, fun k q hq => by
    rcases mm_ws_ad hq with e | ⟨k', a, e⟩
    · exact Or.inl e
    · exact Or.inr (Or.inl ⟨k', a, e⟩)⟩
def mm_W1 (D : va_G) (c3 : Nat → ClassId) (ad : Nat → Nat) (s2 : mm_S) (t : State) : Prop := va_P D mm_cl (mm_ws c3 ad s2) t.heap ∧ va_K D mm_cl (mm_tys c3) t ∧ va_D (fun _ => True) (mm_ws c3 ad s2)
def mm_Pc (D : va_G) (c3 : Nat → ClassId) (ad : Nat → Nat) (s : mm_S) (sz : Nat) (as : List pj_V) : Array Value → State → Prop := va_Pc (as.map (pj_v ad)) (fun U => U.heap.size = sz ∧ mm_W1 D c3 ad s U)
def mm_Qc (D : va_G) (c3 : Nat → ClassId) (ad : Nat → Nat) (sz : Nat) (r : Option pj_V) (s' : mm_S) : Array Value → State → Outcome → State → Prop := match r with
  | none => va_Qv (fun s2 => s2 = s') (mm_W1 D c3 ad) (mm_A ad sz)
  | some (.inl x) => va_Qi (fun y s2 => y = x ∧ s2 = s') (mm_W1 D c3 ad) (mm_A ad sz)
  | _ => fun _ _ _ _ => False
def mm_rm (d : Nat) : Room := { frames := d, cells := 0, slots := 0, locals := 64 * d }
