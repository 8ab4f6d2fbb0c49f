/-! ===== the component's parser: tests, faults ===== -/
/-- the fault's kind at a place -/
def tkf (T : List tk_) (eo : Option Nat) (p : Nat) : Int32 := if tkk T eo p = 6 then 1 else 2
/-- a misreading is thrown -/
def WR (c z : Nat) (M : Nat → Prop) (s : as_) (o : cx_O as_) (pl f : Int32) : Prop := ∃ s' i, o = some (.inr i, s') ∧ aN_ s ≤ i ∧ Mis s' i pl f ∧ Kp M s s' ∧ Rm c z s s'
section cpar2
variable {s s' : as_} {x TL IL GS SL p dp iE n : Nat} {ids : List Nat} {T : List tk_} {eo : Option Nat} {M : Nat → Prop}
theorem cw_sg : ((List.range 37).all fun k => decide (k < 10) || decide (cw_ (k, 0, 0, []) = (3, sgt_ k, []))) = true := by decide +kernel
theorem cw_kw : (KW_.all fun w => decide (cw_ (kw_ w, 0, 0, w) = (4, w, [])) && decide (10 ≤ kw_ w)) = true := by decide +kernel
theorem cw_cs {y : tk_} (h : Vt y) : (y.1 = 1 ∧ (cw_ y).1 = 0) ∨ (y.1 = 2 ∧ (cw_ y).1 = 1) ∨ (y.1 = 4 ∧ (cw_ y).1 = 2) ∨ (10 ≤ y.1 ∧ y.1 ≤ 36 ∧ (cw_ y).1 = 3 ∧ (cw_ y).2.1 = sgt_ y.1) ∨ (y.2.2.2 ∈ KW_ ∧ 10 ≤ y.1 ∧ y.1 = kw_ y.2.2.2 ∧ (cw_ y).1 = 4 ∧ (cw_ y).2.1 = y.2.2.2) := by
  obtain ⟨k, p, v, w⟩ := y
  obtain ⟨_, h⟩ := h
  dsimp only at h ⊢
  rcases h with ⟨rfl, h1, h2⟩ | ⟨rfl, rfl⟩ | rfl | ⟨h1, h2, h3⟩ | ⟨h1, rfl⟩
  · have e : cw_ (1, p, v, w) = (0, w, []) := by
      unfold cw_
      dsimp only
      rw [if_neg (by decide), if_neg (by decide), if_neg (by decide), if_neg h1, if_pos rfl]
    rw [e]
    exact Or.inl ⟨rfl, rfl⟩
  · exact Or.inr (Or.inl ⟨rfl, rfl⟩)
  · exact Or.inr (Or.inr (Or.inl ⟨rfl, rfl⟩))
  · refine Or.inr (Or.inr (Or.inr (Or.inl ⟨h1, h2, ?_⟩)))
    rcases h3 with rfl | rfl | rfl
    · exact ⟨rfl, rfl⟩
    · exact ⟨rfl, rfl⟩
    · have hs := List.all_eq_true.mp cw_sg k (by simp; omega)
      simp only [Bool.or_eq_true, decide_eq_true_eq] at hs
      have hs : cw_ (k, p, v, []) = (3, sgt_ k, []) := hs.resolve_left (by omega)
      rw [hs]
      exact ⟨rfl, rfl⟩
  · refine Or.inr (Or.inr (Or.inr (Or.inr ⟨h1, ?_⟩)))
    have hs := List.all_eq_true.mp cw_kw w h1
    simp only [Bool.and_eq_true, decide_eq_true_eq] at hs
    have e : cw_ (kw_ w, p, v, w) = (4, w, []) := hs.1
    rw [e]
    exact ⟨hs.2, rfl, rfl, rfl⟩
theorem tk_v (hT : TA s TL ids iE T eo n) {y : tk_} (hy : T[p]? = some y) : Vt y := by
  have hl := hT.2.2.1.1
  have hp : p < T.length := (List.getElem?_eq_some_iff.mp hy).1
  exact (hT.2.2.1.2 p _ y (List.getElem?_eq_getElem (by omega)) hy).1
theorem eK_n (eo : Option Nat) : eK_ eo = 5 ∨ eK_ eo = 6 := by cases eo; exact Or.inl rfl; exact Or.inr rfl
theorem is_ok (hT : TA s TL ids iE T eo n) {c k : Nat} (hg : gdk_ c k = true) : ((tkk T eo p = 3 ∨ tkk T eo p = 4) ∧ tkx T p = ak_S c) = (Kn T p = k) := by
  unfold gdk_ at hg
  simp only [Bool.and_eq_true, decide_eq_true_eq] at hg
  obtain ⟨⟨g1, g2⟩, g3⟩ := hg
  unfold tkk tkx Kn
  cases hy : T[p]? with
  | none =>
    dsimp only
    apply propext
    constructor
    · rintro ⟨q, _⟩
      rcases eK_n eo with e | e <;> rw [e] at q <;> exact absurd q (by decide)
    · intro q; omega
  | some y =>
    dsimp only
    rcases cw_cs (tk_v hT hy) with ⟨e1, e2⟩ | ⟨e1, e2⟩ | ⟨e1, e2⟩ | ⟨e1, e2, e3, e4⟩ | ⟨e1, e2, e3, e4, e5⟩
    · rw [e2, e1]; apply propext; constructor
      · rintro ⟨q, _⟩; exact absurd q (by decide)
      · intro q; omega
    · rw [e2, e1]; apply propext; constructor
      · rintro ⟨q, _⟩; exact absurd q (by decide)
      · intro q; omega
    · rw [e2, e1]; apply propext; constructor
      · rintro ⟨q, _⟩; exact absurd q (by decide)
      · intro q; omega
    · rw [e3, e4]
      have hs := List.all_eq_true.mp g1 y.1 (by simp; omega)
      simp only [Bool.or_eq_true, decide_eq_true_eq] at hs
      have hs := hs.resolve_left (by omega)
      apply propext; constructor
      · rintro ⟨_, q⟩
        rcases hs with h | h
        · exact h.2
        · exact absurd q h.1
      · intro q
        rcases hs with h | h
        · exact ⟨Or.inl rfl, h.1⟩
        · exact absurd q h.2
    · rw [e4, e5]
      have hs := List.all_eq_true.mp g2 _ e1
      simp only [decide_eq_true_eq] at hs
      rw [← e3] at hs
      apply propext; constructor
      · rintro ⟨_, q⟩
        rcases hs with h | h
        · exact h.2
        · exact absurd q h.1
      · intro q
        rcases hs with h | h
        · exact ⟨Or.inr rfl, h.1⟩
        · exact absurd q h.2
/-- is it this one -/
theorem y_is (d : Nat) (h : CP s x TL IL GS SL p dp) (hT : TA s TL ids iE T eo n) (hp : p ≤ T.length) {c k : Nat} (hc : ak_K c = (26, 0)) (hc3 : c < 3000) (hg : gdk_ c k = true) : aE (d + 3) 271 [vr_ (some x), vr_ (some c)] s = some (.inl (some (vi_ (zb_ (decide (Kn T p = k))))), s) := by
  obtain ⟨i, ln, e, t⟩ := y_peek d h hT hp
  have h3 := h.1.2.2
  have ki : (aK_ s i).1 = 14 := by rw [t.1.2.2]
  have hk := is_ok (p := p) hT hg
  obtain ⟨a, ea, z1, z2, z3⟩ := t.2.2.1
  rw [ce_X13_is, f_dp (f := 272) h3 rfl, Option.bind_some, e, cR_k, f_gi (f := 84) ki rfl, Option.bind_some, t.2.1.1]
  have key : (tkk T eo p = 3 ∨ tkk T eo p = 4) → (cx_bI cx_th (aE (d + 2) 99 [vr_ (some a), vr_ (some c)] s) fun v11 s10 => if v11 = 0 then some (.inl (some (vi_ 0)), s10) else some (.inl (some (vi_ 1)), s10)) = some (.inl (some (vi_ (zb_ (decide (Kn T p = k))))), s) := fun q => by
    rw [l_equals, cI_k, ak_key s c hc hc3, z3]
    by_cases c1 : tkx T p = ak_S c
    · have : Kn T p = k := by rw [← hk]; exact ⟨q, c1⟩
      rw [c1]
      simp [this, a_b, zb_]
    · have : ¬ Kn T p = k := by rw [← hk]; exact fun w => c1 w.2
      have c2 : ¬ ak_S c = tkx T p := fun w => c1 w.symm
      simp [this, c2, a_b, zb_]
  by_cases q3 : tkk T eo p = 3
  · rw [if_pos q3, f_dp (f := 272) h3 rfl, Option.bind_some, e, cR_k, f_gr (f := 88) ki rfl, Option.bind_some, ea, f_dp (f := 99) z1 rfl, Option.bind_some]
    exact key (Or.inl q3)
  · rw [if_neg q3, f_dp (f := 272) h3 rfl, Option.bind_some, e, cR_k, f_gi (f := 84) ki rfl, Option.bind_some, t.2.1.1]
    by_cases q4 : tkk T eo p = 4
    · rw [if_pos q4, f_dp (f := 272) h3 rfl, Option.bind_some, e, cR_k, f_gr (f := 88) ki rfl, Option.bind_some, ea, f_dp (f := 99) z1 rfl, Option.bind_some]
      exact key (Or.inr q4)
    · have : ¬ Kn T p = k := by rw [← hk]; exact fun w => w.1.elim q3 q4
      rw [if_neg q4]
      simp [this, zb_]
theorem y_wrong (d : Nat) (h : CP s x TL IL GS SL p dp) (hT : TA s TL ids iE T eo n) (hp : p ≤ T.length) : ∃ s', aE (d + 3) 276 [vr_ (some x)] s = some (.inl (some (vr_ (some (aN_ s)))), s') ∧ Mis s' (aN_ s) (nI (tkp T eo n p)) (tkf T eo p) ∧ Kp (fun _ => False) s s' ∧ Rm 1 8 s s' := by
  have hK : Kp (fun _ => False) s (a_nw 8 s).2 := Kp_new Kp_rf (8, 0)
  have h1 := CP_Kp h hK id
  have hT1 := TA_Kp hT hK (fun _ q => q.elim) id
  have hN : 4000 ≤ aN_ s := by have := h.1; omega
  obtain ⟨i, ln, e, t⟩ := y_peek d h1 hT1 hp
  have h3 := h1.1.2.2
  have ki : (aK_ (a_nw 8 s).2 i).1 = 14 := by rw [t.1.2.2]
  rw [ce_X13_wrong, f_dp (f := 272) h3 rfl, Option.bind_some, e, cR_k, f_gi (f := 85) ki rfl, Option.bind_some, f_dp (f := 272) h3 rfl, Option.bind_some, e, cR_k, f_gi (f := 84) ki rfl, Option.bind_some, t.2.1.1, t.2.1.2.1]
  by_cases c6 : tkk T eo p = 6
  · obtain ⟨s', a1, a2, a3, a4, a5⟩ := x_newMis d (s := s) (pl := nI (tkp T eo n p)) (f := 1) hN
    rw [if_pos c6, a1, cV_k]
    refine ⟨s', rfl, ?_, a3, a4⟩
    unfold tkf
    rw [if_pos c6]
    exact a2
  · obtain ⟨s', a1, a2, a3, a4, a5⟩ := x_newMis d (s := s) (pl := nI (tkp T eo n p)) (f := 2) hN
    rw [if_neg c6, a1, cV_k]
    refine ⟨s', rfl, ?_, a3, a4⟩
    unfold tkf
    rw [if_neg c6]
    exact a2
theorem y_fail (d : Nat) (h : CP s x TL IL GS SL p dp) (hT : TA s TL ids iE T eo n) (hp : p ≤ T.length) : WR 1 8 (fun _ => False) s ((a_dp 276 (some x) s).bind fun m => cx_bR cx_th (aE (d + 3) m [vr_ (some x)] s) fun v s' => cx_at cx_th v s') (nI (tkp T eo n p)) (tkf T eo p) := by
  obtain ⟨s', e, a2, a3, a4⟩ := y_wrong d h hT hp
  rw [f_dp (f := 276) h.1.2.2 rfl, Option.bind_some, e, cR_k]
  exact ⟨s', aN_ s, rfl, Nat.le_refl _, a2, a3, a4⟩
/-- it must be this one -/
theorem y_must (d : Nat) (h : CP s x TL IL GS SL p dp) (hT : TA s TL ids iE T eo n) (hp : p ≤ T.length) {c k : Nat} (hc : ak_K c = (26, 0)) (hc3 : c < 3000) (hg : gdk_ c k = true) : if Kn T p = k then ∃ i ln, aE (d + 4) 278 [vr_ (some x), vr_ (some c)] s = some (.inl (some (vr_ (some i))), awI s x 94 (nI (p + 1))) ∧ CT s i (tkk T eo p) (nI (tkp T eo n p)) ln (tkv T p) (tkx T p) (tkg T p) else WR 1 8 (fun _ => False) s (aE (d + 4) 278 [vr_ (some x), vr_ (some c)] s) (nI (tkp T eo n p)) (tkf T eo p) := by
  have h3 := h.1.2.2
  rw [ce_X13_must, f_dp (f := 271) h3 rfl, Option.bind_some, y_is d h hT hp hc hc3 hg, cI_k]
  by_cases q : Kn T p = k
  · rw [if_pos q]
    obtain ⟨i, ln, e, t⟩ := y_take (d + 1) h hT hp
    refine ⟨i, ln, ?_, t⟩
    have : aE (d + 3) 274 [vr_ (some x)] s = _ := e
    rw [if_neg (by simp [q, zb_]), f_dp (f := 274) h3 rfl, Option.bind_some, this, cR_k]
  · rw [if_neg q, if_pos (by simp [q, zb_])]
    exact y_fail d h hT hp
theorem y_skip (d : Nat) (h : CP s x TL IL GS SL p dp) (hT : TA s TL ids iE T eo n) (hp : p ≤ T.length) {c k : Nat} (hc : ak_K c = (26, 0)) (hc3 : c < 3000) (hg : gdk_ c k = true) : aE (d + 4) 290 [vr_ (some x), vr_ (some c)] s = if Kn T p = k then some (.inl (some (vi_ 1)), awI s x 94 (nI (p + 1))) else some (.inl (some (vi_ 0)), s) := by
  have h3 := h.1.2.2
  rw [ce_X13_skip, f_dp (f := 271) h3 rfl, Option.bind_some, y_is d h hT hp hc hc3 hg, cI_k]
  by_cases q : Kn T p = k
  · rw [if_pos q, if_neg (by simp [q, zb_]), f_gi (f := 94) h3 rfl, Option.bind_some, h.2.2.1, nI_1, f_pi (f := 94) h3 rfl rfl, Option.bind_some]
  · rw [if_neg q, if_pos (by simp [q, zb_])]
theorem y_enter (d : Nat) (h : CP s x TL IL GS SL p dp) (hT : TA s TL ids iE T eo n) (hp : p ≤ T.length) : if dp = 60 then WR 1 8 (fun _ => False) s (aE (d + 4) 275 [vr_ (some x)] s) (nI (tkp T eo n p)) (tkf T eo p) else aE (d + 4) 275 [vr_ (some x)] s = some (.inl none, awI s x 95 (nI (dp + 1))) := by
  have h3 := h.1.2.2
  have b := h.2.2.2.2.2
  rw [ce_X13_enter, f_gi (f := 95) h3 rfl, Option.bind_some, h.2.2.2.1]
  simp only [neq1_ 60 (show dp < 2 ^ 31 by omega) (by decide)]
  by_cases q : dp = 60
  · rw [if_pos q, if_pos q]
    exact y_fail d h hT hp
  · rw [if_neg q, if_neg q, Option.bind_some, nI_1, f_pi (f := 95) h3 rfl rfl, Option.bind_some]
theorem nm_ok (hT : TA s TL ids iE T eo n) : (tkk T eo p = 0) = (Kn T p = 1) := by
  unfold tkk Kn
  cases hy : T[p]? with
  | none =>
    dsimp only
    apply propext
    constructor
    · intro q
      rcases eK_n eo with e | e <;> rw [e] at q <;> exact absurd q (by decide)
    · intro q; omega
  | some y =>
    dsimp only
    rcases cw_cs (tk_v hT hy) with ⟨e1, e2⟩ | ⟨e1, e2⟩ | ⟨e1, e2⟩ | ⟨e1, e2, e3, e4⟩ | ⟨e1, e2, e3, e4, e5⟩
    · rw [e2, e1]; simp
    · rw [e2, e1]; simp
    · rw [e2, e1]; simp
    · rw [e3]; apply propext; constructor
      · intro q; exact absurd q (by decide)
      · intro q; omega
    · rw [e4]; apply propext; constructor
      · intro q; exact absurd q (by decide)
      · intro q; omega
theorem y_name (d : Nat) (h : CP s x TL IL GS SL p dp) (hT : TA s TL ids iE T eo n) (hp : p ≤ T.length) : if Kn T p = 1 then ∃ i ln, aE (d + 4) 279 [vr_ (some x)] s = some (.inl (some (vr_ (some i))), awI s x 94 (nI (p + 1))) ∧ CT s i (tkk T eo p) (nI (tkp T eo n p)) ln (tkv T p) (tkx T p) (tkg T p) else WR 1 8 (fun _ => False) s (aE (d + 4) 279 [vr_ (some x)] s) (nI (tkp T eo n p)) (tkf T eo p) := by
  have h3 := h.1.2.2
  obtain ⟨i, ln, e, t⟩ := y_peek (d + 1) h hT hp
  have e' : aE (d + 3) 272 [vr_ (some x)] s = _ := e
  have ki : (aK_ s i).1 = 14 := by rw [t.1.2.2]
  rw [ce_X13_name, f_dp (f := 272) h3 rfl, Option.bind_some, e', cR_k, f_gi (f := 84) ki rfl, Option.bind_some, t.2.1.1]
  simp only [nm_ok (p := p) hT]
  by_cases q : Kn T p = 1
  · rw [if_pos q, if_pos q]
    obtain ⟨i, ln, e, t⟩ := y_take (d + 1) h hT hp
    have e' : aE (d + 3) 274 [vr_ (some x)] s = _ := e
    exact ⟨i, ln, by rw [f_dp (f := 274) h3 rfl, Option.bind_some, e', cR_k], t⟩
  · rw [if_neg q, if_neg q]
    exact y_fail d h hT hp
end cpar2
