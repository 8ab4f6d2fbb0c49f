/-! ===== the component's scanner: what tokens there are ===== -/
/-- a token that the scanner can give -/
def Vt (y : tk_) : Prop := y.2.2.2.length ≤ 200 ∧ ((y.1 = 1 ∧ y.2.2.2 ≠ [] ∧ kw_ y.2.2.2 = 1) ∨ (y.1 = 2 ∧ y.2.2.2 = []) ∨ y.1 = 4 ∨ (10 ≤ y.1 ∧ y.1 ≤ 36 ∧ (y.1 = 10 ∨ y.1 = 11 ∨ y.2.2.2 = [])) ∨ (y.2.2.2 ∈ KW_ ∧ y.1 = kw_ y.2.2.2))
section clex9
variable {t : Nat → Nat} {n p : Nat}
def sgr_ (g : Nat × Nat) : Prop := g.1 = 0 ∨ (10 ≤ g.1 ∧ g.1 ≤ 36)
theorem sgr_if {P : Prop} [Decidable P] {a b : Nat × Nat} (ha : sgr_ a) (hb : sgr_ b) : sgr_ (if P then a else b) := by split <;> assumption
theorem sg_rr (c d : Nat) : sgr_ (sg_ c d) := by
  unfold sg_
  repeat (refine sgr_if (by unfold sgr_; decide) ?_)
  unfold sgr_
  decide
theorem sr_le : ∀ (m p k : Nat) (r : List Int32 × Nat), p ≤ n → k ≤ 200 → sr_ t n m p k = some r → p < r.2 ∧ r.2 ≤ n ∧ r.1.length + k ≤ 200
  | 0, p, k, r, _, _, h => by cases h
  | m + 1, p, k, r, hp, hk, h => by
    unfold sr_ at h
    by_cases c : tx_ t n p = 34
    · rw [if_pos c] at h
      cases h
      have hpn : p < n := Decidable.byContradiction fun q => by rw [tx_big (by omega)] at c; omega
      exact ⟨by show p < p + 1; omega, hpn, by simp; omega⟩
    · rw [if_neg c] at h
      cases hl : lc_ t n p 34 with
      | none => rw [hl] at h; cases h
      | some q =>
        rw [hl] at h
        have hq := lc_le hl
        dsimp only at h
        by_cases c2 : k = 200
        · rw [if_pos c2] at h; cases h
        · rw [if_neg c2] at h
          cases hs : sr_ t n m q.2 (k + 1) with
          | none => rw [hs] at h; cases h
          | some w =>
            rw [hs] at h
            cases h
            have := sr_le m q.2 (k + 1) w hq.2.1 (by omega) hs
            refine ⟨by show p < w.2; omega, this.2.1, ?_⟩
            simp only [List.length_cons]
            omega
theorem rs_gt (hp : p < n) (hc : cR_ (tx_ t n p) = true) : p < rs_ t n n p := by
  have e : rs_ t n n p = rs_ t n (n - 1 + 1) p := by congr 1; omega
  rw [e]
  unfold rs_
  rw [if_pos hc]
  have := (rs_le (t := t) (n := n) (n - 1) (p + 1) (by omega)).1
  omega
theorem kw_cs (l : List Int32) : kw_ l = 1 ∨ l ∈ KW_ := by
  by_cases h : l ∈ KW_
  · exact Or.inr h
  · exact Or.inl (kw_out h)
theorem on_ok (hp : p < n) {y : tk_} {p' : Nat} (h : on_ t n p = some (y, p')) : Vt y ∧ y.2.1 = p ∧ p < p' ∧ p' ≤ n := by
  unfold on_ at h
  cases hL : cL_ (tx_ t n p) with
  | true =>
    rw [if_pos hL] at h
    have rl := rs_le (t := t) (n := n) n p (by omega)
    have rg := rs_gt (t := t) hp (by unfold cR_; rw [hL]; rfl)
    split at h
    · cases h
    · rename_i hk
      cases h
      have hl := tw_len t (rs_ t n n p - p) p
      refine ⟨⟨by show (tw_ t p (rs_ t n n p - p)).length ≤ 200; omega, ?_⟩, rfl, rg, rl.2⟩
      rcases kw_cs (tw_ t p (rs_ t n n p - p)) with q | q
      · exact Or.inl ⟨q, fun e => by have e : tw_ t p (rs_ t n n p - p) = [] := e; rw [e] at hl; simp at hl; omega, q⟩
      · exact Or.inr (Or.inr (Or.inr (Or.inr ⟨q, rfl⟩)))
  | false =>
    rw [hL, if_neg (by decide)] at h
    have num : ∀ {b q r : Nat} {g : Nat × Nat}, p ≤ q → q ≤ n → b ≤ 16 → dg_ t n b (n + 1) q 0 = g → (if g.2 = q ∨ ¬ g.1 < 4294967296 then none else some ((2, p, nI g.1, []), g.2)) = some (y, p') → Vt y ∧ y.2.1 = p ∧ p < p' ∧ p' ≤ n := fun {b q r g} h1 h2 h3 hg h => by
      have := dg_p (t := t) (n := n) h3 (n + 1) q 0 h2
      rw [hg] at this
      split at h
      · cases h
      · rename_i hk
        cases h
        exact ⟨⟨by simp, Or.inr (Or.inl ⟨rfl, rfl⟩)⟩, rfl, by omega, this.2⟩
    cases hD : cD_ (tx_ t n p) with
    | true =>
      rw [if_pos hD] at h
      exact num (r := 0) (Nat.le_refl _) (by omega) (by omega) rfl h
    | false =>
      rw [hD, if_neg (by decide)] at h
      by_cases c35 : tx_ t n p = 35
      · rw [if_pos c35] at h
        by_cases c88 : tx_ t n (p + 1) = 88
        · rw [if_pos c88] at h
          have : p + 1 < n := Decidable.byContradiction fun q => by rw [tx_big (by omega)] at c88; omega
          exact num (r := 0) (by omega) (by omega) (by omega) rfl h
        · rw [if_neg c88] at h
          exact num (r := 0) (by omega) (by omega) (by omega) rfl h
      rw [if_neg c35] at h
      by_cases c39 : tx_ t n p = 39
      · rw [if_pos c39] at h
        cases hl : lc_ t n (p + 1) 39 with
        | none => rw [hl] at h; cases h
        | some r =>
          rw [hl] at h
          have hr := lc_le hl
          dsimp only at h
          by_cases c : tx_ t n r.2 = 39
          · rw [if_pos c] at h
            cases h
            have : r.2 < n := Decidable.byContradiction fun q => by rw [tx_big (by omega)] at c; omega
            exact ⟨⟨by simp, Or.inr (Or.inl ⟨rfl, rfl⟩)⟩, rfl, by omega, by omega⟩
          · rw [if_neg c] at h; cases h
      rw [if_neg c39] at h
      by_cases c34 : tx_ t n p = 34
      · rw [if_pos c34] at h
        cases hl : sr_ t n (n + 1) (p + 1) 0 with
        | none => rw [hl] at h; cases h
        | some r =>
          rw [hl] at h
          have hr := sr_le (n + 1) (p + 1) 0 r (by omega) (by omega) hl
          cases h
          exact ⟨⟨hr.2.2, Or.inr (Or.inr (Or.inl rfl))⟩, rfl, by omega, hr.2.1⟩
      rw [if_neg c34] at h
      have hr := sg_rr (tx_ t n p) (tx_ t n (p + 1))
      have hgp := (sg_pp (tx_ t n p) (tx_ t n (p + 1))).2
      have hb : (sg_ (tx_ t n p) (tx_ t n (p + 1))).2 = 2 → p + 1 < n := fun h2 => by
        refine Decidable.byContradiction fun q => ?_
        have e0 : tx_ t n (p + 1) = 0 := tx_big (by omega)
        rw [e0, sg_0] at h2
        simp at h2
      generalize sg_ (tx_ t n p) (tx_ t n (p + 1)) = g at *
      unfold sgr_ at hr
      by_cases c0 : g.1 = 0
      · rw [if_pos c0] at h; cases h
      rw [if_neg c0] at h
      have hr : 10 ≤ g.1 ∧ g.1 ≤ 36 := hr.resolve_left c0
      by_cases c10 : g.1 = 10 ∨ g.1 = 11
      · rw [if_pos c10] at h
        have := hb (hgp.1 c10)
        have rl := rs_le (t := t) (n := n) n (p + 2) (by omega)
        split at h
        · cases h
        · cases h
          have hl := tw_len t (rs_ t n n (p + 2) - p - 2) (p + 2)
          refine ⟨⟨by show (tw_ t (p + 2) (rs_ t n n (p + 2) - p - 2)).length ≤ 200; omega, Or.inr (Or.inr (Or.inr (Or.inl ⟨hr.1, hr.2, ?_⟩)))⟩, rfl, by omega, rl.2⟩
          rcases c10 with q | q
          · exact Or.inl q
          · exact Or.inr (Or.inl q)
      · rw [if_neg c10] at h
        cases h
        refine ⟨⟨by simp, Or.inr (Or.inr (Or.inr (Or.inl ⟨hr.1, hr.2, Or.inr (Or.inr rfl)⟩)))⟩, rfl, by omega, ?_⟩
        by_cases q2 : g.2 = 2
        · have := hb q2; omega
        · omega
/-- a line may end behind it, begin with it -/
def el_ (k : Int32) (u : List Int32) : Int32 := if 2 < k then (if k < 5 then (if sg_ends (sx_ u sl_ends) = 0 then 0 else 1) else 0) else 1
def bgn_ (k : Int32) (u : List Int32) : Int32 := if 2 < k then (if k < 5 then (if sg_begins (sx_ u sl_begins) = 0 then 0 else 1) else 0) else 1
theorem el_kw : (KW_.all fun w => decide (el_ (cw_ (kw_ w, 0, 0, w)).1 (cw_ (kw_ w, 0, 0, w)).2.1 = zb_ (eL_ (kw_ w)) ∧ bgn_ (cw_ (kw_ w, 0, 0, w)).1 (cw_ (kw_ w, 0, 0, w)).2.1 = zb_ (bE_ (kw_ w)))) = true := by decide +kernel
theorem el_sg : ((List.range 37).all fun k => decide (k < 10) || decide (el_ (cw_ (k, 0, 0, [])).1 (cw_ (k, 0, 0, [])).2.1 = zb_ (eL_ k) ∧ bgn_ (cw_ (k, 0, 0, [])).1 (cw_ (k, 0, 0, [])).2.1 = zb_ (bE_ k))) = true := by decide +kernel
theorem cw_ir (k p p' : Nat) (v v' : Int32) (w : List Int32) : cw_ (k, p, v, w) = cw_ (k, p', v', w) := rfl
theorem el_ok {y : tk_} (h : Vt y) : el_ (cw_ y).1 (cw_ y).2.1 = zb_ (eL_ y.1) ∧ bgn_ (cw_ y).1 (cw_ y).2.1 = zb_ (bE_ y.1) := by
  obtain ⟨k, p, v, w⟩ := y
  obtain ⟨_, h⟩ := h
  dsimp only at h ⊢
  rcases h with ⟨rfl, h1, h2⟩ | ⟨rfl, rfl⟩ | rfl | ⟨h1, h2, h3⟩ | ⟨h1, rfl⟩
  · have e : cw_ (1, p, v, w) = (0, w, []) := by
      unfold cw_
      dsimp only
      rw [if_neg (by decide), if_neg (by decide), if_neg (by decide), if_neg h1, if_pos rfl]
    rw [e]
    exact ⟨rfl, rfl⟩
  · exact ⟨rfl, rfl⟩
  · exact ⟨rfl, rfl⟩
  · have hs := List.all_eq_true.mp el_sg k (by simp; omega)
    simp only [Bool.or_eq_true, decide_eq_true_eq] at hs
    have hs := hs.resolve_left (by omega)
    rcases h3 with rfl | rfl | rfl
    · exact hs
    · exact hs
    · exact hs
  · have hs := List.all_eq_true.mp el_kw w h1
    simp only [decide_eq_true_eq] at hs
    exact hs
end clex9
