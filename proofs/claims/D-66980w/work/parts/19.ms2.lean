/-! ===== locals at an entry and at a jump ===== -/
theorem pj_g_st : ∀ (l : pj_Ls) (i : Nat) (v : pj_V) (j : Nat) (w : pj_V), pj_g (pj_st l i v) j = some w → (j = i ∧ w = v) ∨ pj_g l j = some w
  | [], i, v, j, w, h => by cases h
  | x :: r, 0, v, 0, w, h => by cases h; exact Or.inl ⟨rfl, rfl⟩
  | x :: r, 0, v, j + 1, w, h => Or.inr h
  | x :: r, i + 1, v, 0, w, h => Or.inr h
  | x :: r, i + 1, v, j + 1, w, h => by
    rcases pj_g_st r i v j w h with ⟨a, b⟩ | a
    · exact Or.inl ⟨by omega, b⟩
    · exact Or.inr a
theorem pj_g_rep : ∀ (n j : Nat), pj_g (List.replicate n none) j = none
  | 0, j => rfl
  | n + 1, 0 => rfl
  | n + 1, j + 1 => pj_g_rep n j
theorem pj_mk_g {ls : pj_Ls} {n : Nat} : ∀ (lv : List Nat) (vs : List pj_V) (j : Nat) (w : pj_V), pj_pk ls lv = some vs → pj_g (pj_mk n lv vs) j = some w → pj_g ls j = some w
  | [], vs, j, w, h, g => by
    unfold pj_mk at g
    rw [pj_g_rep] at g
    cases g
  | i :: is, vs, j, w, h, g => by
    unfold pj_pk at h
    cases hi : pj_g ls i with
    | none => rw [hi] at h; cases h
    | some v =>
      rw [hi] at h
      cases hp : pj_pk ls is with
      | none => rw [hp] at h; cases h
      | some vs' =>
        rw [hp] at h
        cases h
        rcases pj_g_st _ _ _ _ _ g with ⟨rfl, rfl⟩ | g
        · exact hi
        · exact pj_mk_g is vs' j w hp g
theorem pj_L.pick {ad : Nat → Nat} {nL : Nat} {ls : pj_Ls} {la : Array Slot} {lv : List Nat} {vs : List pj_V} (h : pj_L ad nL ls la) (hp : pj_pk ls lv = some vs) : pj_L ad nL (pj_mk nL lv vs) la :=
  ⟨h.1, h.2.1, fun j w hw => h.2.2 j w (pj_mk_g lv vs j w hp hw)⟩
theorem pj_lg1 {v : Value} {r : List Value} (h : v.category = 1) : lg_sl (v :: r) = .val v :: lg_sl r := by
  have h2 : ¬ v.category = 2 := by omega
  simp [lg_sl, h2]
theorem pj_lg2 {v : Value} {r : List Value} (h : v.category = 2) : lg_sl (v :: r) = .val v :: .second :: lg_sl r := by
  simp [lg_sl, h]
theorem pj_sl_len {ad : Nat → Nat} : ∀ as : List pj_V, (lg_sl (as.map (pj_v ad))).length = (pj_sl as).length
  | [] => rfl
  | .inl x :: r => by
    rw [List.map_cons, pj_lg1 rfl]
    show _ + 1 = _ + 1
    rw [pj_sl_len r]
  | .inr (.inl x) :: r => by
    rw [List.map_cons, pj_lg2 rfl]
    show _ + 1 + 1 = _ + 1 + 1
    rw [pj_sl_len r]
  | .inr (.inr (.inl x)) :: r => by
    rw [List.map_cons, pj_lg1 (v := pj_v ad (.inr (.inr (.inl x)))) (pj_rf_cat _)]
    show _ + 1 = _ + 1
    rw [pj_sl_len r]
  | .inr (.inr (.inr x)) :: r => by
    rw [List.map_cons, pj_lg1 rfl]
    show _ + 1 = _ + 1
    rw [pj_sl_len r]
theorem pj_sl_at {ad : Nat → Nat} : ∀ (as : List pj_V) (i : Nat) (v : pj_V), pj_g (pj_sl as) i = some v → (lg_sl (as.map (pj_v ad)))[i]? = some (.val (pj_v ad v))
  | [], i, v, h => by cases h
  | .inl x :: r, 0, v, h => by
    cases h
    rw [List.map_cons, pj_lg1 rfl]
    rfl
  | .inl x :: r, i + 1, v, h => by
    rw [List.map_cons, pj_lg1 rfl]
    exact pj_sl_at r i v h
  | .inr (.inl x) :: r, 0, v, h => by
    cases h
    rw [List.map_cons, pj_lg2 rfl]
    rfl
  | .inr (.inl x) :: r, 1, v, h => by cases h
  | .inr (.inl x) :: r, i + 2, v, h => by
    rw [List.map_cons, pj_lg2 rfl]
    exact pj_sl_at r i v h
  | .inr (.inr (.inl x)) :: r, 0, v, h => by
    cases h
    rw [List.map_cons, pj_lg1 (v := pj_v ad (.inr (.inr (.inl x)))) (pj_rf_cat _)]
    rfl
  | .inr (.inr (.inl x)) :: r, i + 1, v, h => by
    rw [List.map_cons, pj_lg1 (v := pj_v ad (.inr (.inr (.inl x)))) (pj_rf_cat _)]
    exact pj_sl_at r i v h
  | .inr (.inr (.inr x)) :: r, 0, v, h => by
    cases h
    rw [List.map_cons, pj_lg1 rfl]
    rfl
  | .inr (.inr (.inr x)) :: r, i + 1, v, h => by
    rw [List.map_cons, pj_lg1 rfl]
    exact pj_sl_at r i v h
theorem pj_g_app : ∀ (a : pj_Ls) (n i : Nat) (v : pj_V), pj_g (a ++ List.replicate n none) i = some v → pj_g a i = some v
  | [], n, i, v, h => by
    rw [List.nil_append, pj_g_rep] at h
    cases h
  | x :: r, n, 0, v, h => h
  | x :: r, n, i + 1, v, h => pj_g_app r n i v h
theorem pj_L.entry {ad : Nat → Nat} {n : Nat} {as : List pj_V} (h : (pj_sl as).length ≤ n) : pj_L ad n (pj_en n as) (lg_sl (as.map (pj_v ad)) ++ List.replicate (n - (lg_sl (as.map (pj_v ad))).length) Slot.unset).toArray := by
  have hl := lv_entry (as.map (pj_v ad)) (n := n) (by rw [pj_sl_len]; exact h)
  refine ⟨hl.1, hl.2.1, fun i v hv => ?_⟩
  have h1 := pj_sl_at (ad := ad) as i v (pj_g_app _ _ _ _ hv)
  have h2 : i < (lg_sl (as.map (pj_v ad))).length := (List.getElem?_eq_some_iff.mp h1).1
  rw [List.getElem?_toArray, List.getElem?_append_left h2]
  exact h1
/-! ===== tables: suffixes, the rows at a pc ===== -/
theorem mm_al_app {cc : ByteArray} {nL : Nat} : ∀ (pre rows : List pj_E), mm_al cc nL (pre ++ rows) → mm_al cc nL rows
  | [], rows, h => h
  | (pc, i, nx, im, ct) :: pre, rows, h => mm_al_app pre rows h.2.2.2
theorem mm_al_lt {cc : ByteArray} {nL : Nat} : ∀ (pre : List pj_E) (e0 : pj_E) (e : pj_E) (r : List pj_E), mm_al cc nL (e0 :: pre ++ e :: r) → e0.1 < e.1
  | [], (pc, i, nx, im, ct), e, r, h => by
    have := h.2.2.1 e r rfl
    have := h.2.1
    show pc < e.1
    omega
  | (pc1, i1, nx1, im1, ct1) :: pre, (pc, i, nx, im, ct), e, r, h => by
    have h1 : pc1 = nx := h.2.2.1 _ _ rfl
    have h2 := h.2.1
    have h3 := mm_al_lt pre (pc1, i1, nx1, im1, ct1) e r h.2.2.2
    show pc < e.1
    have h3 : pc1 < e.1 := h3
    omega
theorem mm_at_sfx {cc : ByteArray} {nL : Nat} : ∀ (pre : List pj_E) (e : pj_E) (r : List pj_E), mm_al cc nL (pre ++ e :: r) → pj_at (pre ++ e :: r) e.1 = e :: r
  | [], (pc, i), r, h => by
    show (if pc = pc then _ else _) = _
    rw [if_pos rfl]
  | (pc0, i0) :: pre, e, r, h => by
    have h1 : pc0 < e.1 := mm_al_lt pre (pc0, i0) e r h
    show (if pc0 = e.1 then _ else pj_at (pre ++ e :: r) e.1) = _
    rw [if_neg (by omega)]
    exact mm_at_sfx pre e r (mm_al_app [(pc0, i0)] _ h)
theorem pj_at_sfx : ∀ (code : List pj_E) (pc : Nat), ∃ pre, code = pre ++ pj_at code pc
  | [], pc => ⟨[], rfl⟩
  | (q, i) :: r, pc => by
    unfold pj_at
    split
    · exact ⟨[], rfl⟩
    · obtain ⟨pre, h⟩ := pj_at_sfx r pc
      exact ⟨(q, i) :: pre, by rw [List.cons_append, ← h]⟩
theorem pj_at_hd : ∀ (code : List pj_E) (pc : Nat), pj_hd (pj_at code pc) pc
  | [], pc => fun e r' h => by cases h
  | (q, i) :: r, pc => by
    unfold pj_at
    split
    · rename_i e
      intro e' r' h
      cases h
      exact e
    · exact pj_at_hd r pc
